set_option maxRecDepth 100000
abbrev cJ19_checkIndex : ByteArray := prog_60_method_17_code
def yJ19_checkIndex : MethodName := ⟨RJ19, "checkIndex", "(II)I"⟩
def dkwJ19_checkIndex_0 : List UInt8 := [26, 27, 1, 184, 0, 105, 172]
abbrev dktJ19_checkIndex_0 : List UInt8 := dkwJ19_checkIndex_0 ++ []
theorem dksJ19_checkIndex_0 : cJ19_checkIndex.data.toList.drop 0 = dktJ19_checkIndex_0 := by decide +kernel
theorem dJ19_checkIndex_0 : decode cJ19_checkIndex 0 = .ok (.iload_n 0, 1) := dk_26 (dk_at dksJ19_checkIndex_0 0 rfl rfl)
theorem dJ19_checkIndex_1 : decode cJ19_checkIndex 1 = .ok (.iload_n 1, 1) := dk_27 (dk_at dksJ19_checkIndex_0 1 rfl rfl)
theorem dJ19_checkIndex_2 : decode cJ19_checkIndex 2 = .ok (.aconst_null, 1) := dk_1 (dk_at dksJ19_checkIndex_0 2 rfl rfl)
theorem dJ19_checkIndex_3 : decode cJ19_checkIndex 3 = .ok (.invokestatic 105, 3) := dk_184 0 105 (dk_at dksJ19_checkIndex_0 3 rfl rfl)
theorem dJ19_checkIndex_6 : decode cJ19_checkIndex 6 = .ok (.ireturn, 1) := dk_172 (dk_at dksJ19_checkIndex_0 6 rfl rfl)
theorem q166 : (Jvm.Cond.initialized "java/util/Objects") ∈ lw_all := lw_g (lw_at lw_m1 27 rfl) rfl
theorem q768 : (Jvm.Cond.static ({ cls := "java/util/Objects", name := "checkIndex", desc := "(II)I" } : Jvm.MethodName)) ∈ lw_all := lw_g (lw_at lw_m3 149 rfl) rfl
theorem q769 : (Jvm.Cond.code ({ cls := "java/util/Objects", name := "checkIndex", desc := "(II)I" } : Jvm.MethodName) prog_60_method_17_code (2 : Nat) (Option.some Jvm.ClassFile.FieldType.int)) ∈ lw_all := lw_g (lw_at lw_m3 150 rfl) rfl
theorem q770 : (Jvm.Cond.methodLink "java/util/Objects" (105 : Nat) ({ cls := "jdk/internal/util/Preconditions", name := "checkIndex", desc := "(IILjava/util/function/BiFunction;)I" } : Jvm.MethodName)) ∈ lw_all := lw_g (lw_at lw_m3 151 rfl) rfl


/-! java/lang/String -/
set_option maxRecDepth 100000
def RJ2 : String := "java/lang/String"
def TJ2 : u_T := fun k => match k with
  | 0 => ("java/lang/String", "value", "[B", true)
  | 1 => ("java/lang/String", "coder", "B", true)
  | 2 => ("java/lang/String", "hash", "I", false)
  | _ => ("java/lang/String", "hashIsZero", "Z", false)
def tyJ2 : Nat → FieldType := fun k => match k with
  | 0 => .array .byte
  | 1 => .byte
  | 2 => .int
  | _ => .boolean
abbrev wsJ20 : List Cond := u_ws RJ2 TJ2 4
theorem nmJ2 : ∀ a, a < 4 → ∀ b, b < 4 → a ≠ b → (TJ2 a).2.1 ≠ (TJ2 b).2.1 := by decide +kernel
theorem tyJ2_ok : ∀ k, k < 4 → parseFieldDescriptor (TJ2 k).2.2.1 = some (tyJ2 k) := by decide +kernel
abbrev cJ2_checkBoundsBeginEnd : ByteArray := prog_41_method_158_code
def yJ2_checkBoundsBeginEnd : MethodName := ⟨RJ2, "checkBoundsBeginEnd", "(III)V"⟩
def dkwJ2_checkBoundsBeginEnd_0 : List UInt8 := [26, 27, 28, 178, 4, 29, 184, 4, 38, 87, 177]
abbrev dktJ2_checkBoundsBeginEnd_0 : List UInt8 := dkwJ2_checkBoundsBeginEnd_0 ++ []
theorem dksJ2_checkBoundsBeginEnd_0 : cJ2_checkBoundsBeginEnd.data.toList.drop 0 = dktJ2_checkBoundsBeginEnd_0 := by decide +kernel
theorem dJ2_checkBoundsBeginEnd_0 : decode cJ2_checkBoundsBeginEnd 0 = .ok (.iload_n 0, 1) := dk_26 (dk_at dksJ2_checkBoundsBeginEnd_0 0 rfl rfl)
theorem dJ2_checkBoundsBeginEnd_1 : decode cJ2_checkBoundsBeginEnd 1 = .ok (.iload_n 1, 1) := dk_27 (dk_at dksJ2_checkBoundsBeginEnd_0 1 rfl rfl)
theorem dJ2_checkBoundsBeginEnd_2 : decode cJ2_checkBoundsBeginEnd 2 = .ok (.iload_n 2, 1) := dk_28 (dk_at dksJ2_checkBoundsBeginEnd_0 2 rfl rfl)
theorem dJ2_checkBoundsBeginEnd_3 : decode cJ2_checkBoundsBeginEnd 3 = .ok (.getstatic 1053, 3) := dk_178 4 29 (dk_at dksJ2_checkBoundsBeginEnd_0 3 rfl rfl)
theorem dJ2_checkBoundsBeginEnd_6 : decode cJ2_checkBoundsBeginEnd 6 = .ok (.invokestatic 1062, 3) := dk_184 4 38 (dk_at dksJ2_checkBoundsBeginEnd_0 6 rfl rfl)
theorem dJ2_checkBoundsBeginEnd_9 : decode cJ2_checkBoundsBeginEnd 9 = .ok (.pop, 1) := dk_87 (dk_at dksJ2_checkBoundsBeginEnd_0 9 rfl rfl)
theorem dJ2_checkBoundsBeginEnd_10 : decode cJ2_checkBoundsBeginEnd 10 = .ok (.return_, 1) := dk_177 (dk_at dksJ2_checkBoundsBeginEnd_0 10 rfl rfl)
abbrev cJ2_length : ByteArray := prog_41_method_54_code
def yJ2_length : MethodName := ⟨RJ2, "length", "()I"⟩
def dkwJ2_length_0 : List UInt8 := [42, 180, 0, 9, 190, 42, 182, 1, 79, 122, 172]
abbrev dktJ2_length_0 : List UInt8 := dkwJ2_length_0 ++ []
theorem dksJ2_length_0 : cJ2_length.data.toList.drop 0 = dktJ2_length_0 := by decide +kernel
theorem dJ2_length_0 : decode cJ2_length 0 = .ok (.aload_n 0, 1) := dk_42 (dk_at dksJ2_length_0 0 rfl rfl)
theorem dJ2_length_1 : decode cJ2_length 1 = .ok (.getfield 9, 3) := dk_180 0 9 (dk_at dksJ2_length_0 1 rfl rfl)
theorem dJ2_length_4 : decode cJ2_length 4 = .ok (.arraylength, 1) := dk_190 (dk_at dksJ2_length_0 4 rfl rfl)
theorem dJ2_length_5 : decode cJ2_length 5 = .ok (.aload_n 0, 1) := dk_42 (dk_at dksJ2_length_0 5 rfl rfl)
theorem dJ2_length_6 : decode cJ2_length 6 = .ok (.invokevirtual 335, 3) := dk_182 1 79 (dk_at dksJ2_length_0 6 rfl rfl)
theorem dJ2_length_9 : decode cJ2_length 9 = .ok (.ishr, 1) := dk_122 (dk_at dksJ2_length_0 9 rfl rfl)
theorem dJ2_length_10 : decode cJ2_length 10 = .ok (.ireturn, 1) := dk_172 (dk_at dksJ2_length_0 10 rfl rfl)
abbrev cJ2_coder : ByteArray := prog_41_method_152_code
def yJ2_coder : MethodName := ⟨RJ2, "coder", "()B"⟩
def dkwJ2_coder_0 : List UInt8 := [178, 0, 38, 153, 0, 10, 42, 180, 0, 15, 167, 0, 4, 4, 172]
abbrev dktJ2_coder_0 : List UInt8 := dkwJ2_coder_0 ++ []
theorem dksJ2_coder_0 : cJ2_coder.data.toList.drop 0 = dktJ2_coder_0 := by decide +kernel
theorem dJ2_coder_0 : decode cJ2_coder 0 = .ok (.getstatic 38, 3) := dk_178 0 38 (dk_at dksJ2_coder_0 0 rfl rfl)
theorem dJ2_coder_3 : decode cJ2_coder 3 = .ok (.ifCond .eq 10, 3) := dk_153 0 10 (dk_at dksJ2_coder_0 3 rfl rfl)
theorem dJ2_coder_6 : decode cJ2_coder 6 = .ok (.aload_n 0, 1) := dk_42 (dk_at dksJ2_coder_0 6 rfl rfl)
theorem dJ2_coder_7 : decode cJ2_coder 7 = .ok (.getfield 15, 3) := dk_180 0 15 (dk_at dksJ2_coder_0 7 rfl rfl)
theorem dJ2_coder_10 : decode cJ2_coder 10 = .ok (.goto 4, 3) := dk_167 0 4 (dk_at dksJ2_coder_0 10 rfl rfl)
theorem dJ2_coder_13 : decode cJ2_coder 13 = .ok (.iconst 1, 1) := dk_4 (dk_at dksJ2_coder_0 13 rfl rfl)
theorem dJ2_coder_14 : decode cJ2_coder 14 = .ok (.ireturn, 1) := dk_172 (dk_at dksJ2_coder_0 14 rfl rfl)
abbrev cJ2_checkBoundsOffCount : ByteArray := prog_41_method_157_code
def yJ2_checkBoundsOffCount : MethodName := ⟨RJ2, "checkBoundsOffCount", "(III)I"⟩
def dkwJ2_checkBoundsOffCount_0 : List UInt8 := [26, 27, 28, 178, 4, 29, 184, 4, 41, 172]
abbrev dktJ2_checkBoundsOffCount_0 : List UInt8 := dkwJ2_checkBoundsOffCount_0 ++ []
theorem dksJ2_checkBoundsOffCount_0 : cJ2_checkBoundsOffCount.data.toList.drop 0 = dktJ2_checkBoundsOffCount_0 := by decide +kernel
theorem dJ2_checkBoundsOffCount_0 : decode cJ2_checkBoundsOffCount 0 = .ok (.iload_n 0, 1) := dk_26 (dk_at dksJ2_checkBoundsOffCount_0 0 rfl rfl)
theorem dJ2_checkBoundsOffCount_1 : decode cJ2_checkBoundsOffCount 1 = .ok (.iload_n 1, 1) := dk_27 (dk_at dksJ2_checkBoundsOffCount_0 1 rfl rfl)
theorem dJ2_checkBoundsOffCount_2 : decode cJ2_checkBoundsOffCount 2 = .ok (.iload_n 2, 1) := dk_28 (dk_at dksJ2_checkBoundsOffCount_0 2 rfl rfl)
theorem dJ2_checkBoundsOffCount_3 : decode cJ2_checkBoundsOffCount 3 = .ok (.getstatic 1053, 3) := dk_178 4 29 (dk_at dksJ2_checkBoundsOffCount_0 3 rfl rfl)
theorem dJ2_checkBoundsOffCount_6 : decode cJ2_checkBoundsOffCount 6 = .ok (.invokestatic 1065, 3) := dk_184 4 41 (dk_at dksJ2_checkBoundsOffCount_0 6 rfl rfl)
theorem dJ2_checkBoundsOffCount_9 : decode cJ2_checkBoundsOffCount 9 = .ok (.ireturn, 1) := dk_172 (dk_at dksJ2_checkBoundsOffCount_0 9 rfl rfl)
abbrev cJ2_getBytes : ByteArray := prog_41_method_147_code
def yJ2_getBytes : MethodName := ⟨RJ2, "getBytes", "([BIB)V"⟩
def dkwJ2_getBytes_1 : List UInt8 := [184, 0, 212, 167, 0, 18, 42, 180, 0, 9, 3, 43, 28, 42, 180, 0, 9, 190, 184, 0, 106, 177]
abbrev dktJ2_getBytes_1 : List UInt8 := dkwJ2_getBytes_1 ++ []
def dkwJ2_getBytes_0 : List UInt8 := [42, 182, 1, 79, 29, 160, 0, 23, 42, 180, 0, 9, 3, 43, 28, 29, 120, 42, 180, 0, 9, 190]
abbrev dktJ2_getBytes_0 : List UInt8 := dkwJ2_getBytes_0 ++ dktJ2_getBytes_1
theorem dksJ2_getBytes_0 : cJ2_getBytes.data.toList.drop 0 = dktJ2_getBytes_0 := by decide +kernel
theorem dksJ2_getBytes_1 : cJ2_getBytes.data.toList.drop 22 = dktJ2_getBytes_1 := dk_seg dksJ2_getBytes_0 22 rfl rfl
theorem dJ2_getBytes_0 : decode cJ2_getBytes 0 = .ok (.aload_n 0, 1) := dk_42 (dk_at dksJ2_getBytes_0 0 rfl rfl)
theorem dJ2_getBytes_1 : decode cJ2_getBytes 1 = .ok (.invokevirtual 335, 3) := dk_182 1 79 (dk_at dksJ2_getBytes_0 1 rfl rfl)
theorem dJ2_getBytes_4 : decode cJ2_getBytes 4 = .ok (.iload_n 3, 1) := dk_29 (dk_at dksJ2_getBytes_0 4 rfl rfl)
theorem dJ2_getBytes_5 : decode cJ2_getBytes 5 = .ok (.if_icmp .ne 23, 3) := dk_160 0 23 (dk_at dksJ2_getBytes_0 5 rfl rfl)
theorem dJ2_getBytes_8 : decode cJ2_getBytes 8 = .ok (.aload_n 0, 1) := dk_42 (dk_at dksJ2_getBytes_0 8 rfl rfl)
theorem dJ2_getBytes_9 : decode cJ2_getBytes 9 = .ok (.getfield 9, 3) := dk_180 0 9 (dk_at dksJ2_getBytes_0 9 rfl rfl)
theorem dJ2_getBytes_12 : decode cJ2_getBytes 12 = .ok (.iconst 0, 1) := dk_3 (dk_at dksJ2_getBytes_0 12 rfl rfl)
theorem dJ2_getBytes_13 : decode cJ2_getBytes 13 = .ok (.aload_n 1, 1) := dk_43 (dk_at dksJ2_getBytes_0 13 rfl rfl)
theorem dJ2_getBytes_14 : decode cJ2_getBytes 14 = .ok (.iload_n 2, 1) := dk_28 (dk_at dksJ2_getBytes_0 14 rfl rfl)
theorem dJ2_getBytes_15 : decode cJ2_getBytes 15 = .ok (.iload_n 3, 1) := dk_29 (dk_at dksJ2_getBytes_0 15 rfl rfl)
theorem dJ2_getBytes_16 : decode cJ2_getBytes 16 = .ok (.ishl, 1) := dk_120 (dk_at dksJ2_getBytes_0 16 rfl rfl)
theorem dJ2_getBytes_17 : decode cJ2_getBytes 17 = .ok (.aload_n 0, 1) := dk_42 (dk_at dksJ2_getBytes_0 17 rfl rfl)
theorem dJ2_getBytes_18 : decode cJ2_getBytes 18 = .ok (.getfield 9, 3) := dk_180 0 9 (dk_at dksJ2_getBytes_0 18 rfl rfl)
theorem dJ2_getBytes_21 : decode cJ2_getBytes 21 = .ok (.arraylength, 1) := dk_190 (dk_at dksJ2_getBytes_0 21 rfl rfl)
theorem dJ2_getBytes_22 : decode cJ2_getBytes 22 = .ok (.invokestatic 212, 3) := dk_184 0 212 (dk_at dksJ2_getBytes_1 0 rfl rfl)
theorem dJ2_getBytes_25 : decode cJ2_getBytes 25 = .ok (.goto 18, 3) := dk_167 0 18 (dk_at dksJ2_getBytes_1 3 rfl rfl)
theorem dJ2_getBytes_28 : decode cJ2_getBytes 28 = .ok (.aload_n 0, 1) := dk_42 (dk_at dksJ2_getBytes_1 6 rfl rfl)
theorem dJ2_getBytes_29 : decode cJ2_getBytes 29 = .ok (.getfield 9, 3) := dk_180 0 9 (dk_at dksJ2_getBytes_1 7 rfl rfl)
theorem dJ2_getBytes_32 : decode cJ2_getBytes 32 = .ok (.iconst 0, 1) := dk_3 (dk_at dksJ2_getBytes_1 10 rfl rfl)
theorem dJ2_getBytes_33 : decode cJ2_getBytes 33 = .ok (.aload_n 1, 1) := dk_43 (dk_at dksJ2_getBytes_1 11 rfl rfl)
theorem dJ2_getBytes_34 : decode cJ2_getBytes 34 = .ok (.iload_n 2, 1) := dk_28 (dk_at dksJ2_getBytes_1 12 rfl rfl)
theorem dJ2_getBytes_35 : decode cJ2_getBytes 35 = .ok (.aload_n 0, 1) := dk_42 (dk_at dksJ2_getBytes_1 13 rfl rfl)
theorem dJ2_getBytes_36 : decode cJ2_getBytes 36 = .ok (.getfield 9, 3) := dk_180 0 9 (dk_at dksJ2_getBytes_1 14 rfl rfl)
theorem dJ2_getBytes_39 : decode cJ2_getBytes 39 = .ok (.arraylength, 1) := dk_190 (dk_at dksJ2_getBytes_1 17 rfl rfl)
theorem dJ2_getBytes_40 : decode cJ2_getBytes 40 = .ok (.invokestatic 106, 3) := dk_184 0 106 (dk_at dksJ2_getBytes_1 18 rfl rfl)
theorem dJ2_getBytes_43 : decode cJ2_getBytes 43 = .ok (.return_, 1) := dk_177 (dk_at dksJ2_getBytes_1 21 rfl rfl)
abbrev cJ2_init : ByteArray := prog_41_method_53_code
def yJ2_init : MethodName := ⟨RJ2, "<init>", "(Ljava/lang/StringBuilder;)V"⟩
def dkwJ2_init_0 : List UInt8 := [42, 43, 1, 183, 1, 233, 177]
abbrev dktJ2_init_0 : List UInt8 := dkwJ2_init_0 ++ []
theorem dksJ2_init_0 : cJ2_init.data.toList.drop 0 = dktJ2_init_0 := by decide +kernel
theorem dJ2_init_0 : decode cJ2_init 0 = .ok (.aload_n 0, 1) := dk_42 (dk_at dksJ2_init_0 0 rfl rfl)
theorem dJ2_init_1 : decode cJ2_init 1 = .ok (.aload_n 1, 1) := dk_43 (dk_at dksJ2_init_0 1 rfl rfl)
theorem dJ2_init_2 : decode cJ2_init 2 = .ok (.aconst_null, 1) := dk_1 (dk_at dksJ2_init_0 2 rfl rfl)
theorem dJ2_init_3 : decode cJ2_init 3 = .ok (.invokespecial 489, 3) := dk_183 1 233 (dk_at dksJ2_init_0 3 rfl rfl)
theorem dJ2_init_6 : decode cJ2_init 6 = .ok (.return_, 1) := dk_177 (dk_at dksJ2_init_0 6 rfl rfl)
abbrev cJ2_init_2 : ByteArray := prog_41_method_150_code
def yJ2_init_2 : MethodName := ⟨RJ2, "<init>", "(Ljava/lang/AbstractStringBuilder;Ljava/lang/Void;)V"⟩
def dkwJ2_init_2_4 : List UInt8 := [181, 0, 9, 177]
abbrev dktJ2_init_2_4 : List UInt8 := dkwJ2_init_2_4 ++ []
def dkwJ2_init_2_3 : List UInt8 := [184, 0, 47, 181, 0, 15, 177, 42, 4, 181, 0, 15, 42, 45, 3, 21, 4, 4, 120, 184, 0, 54]
abbrev dktJ2_init_2_3 : List UInt8 := dkwJ2_init_2_3 ++ dktJ2_init_2_4
def dkwJ2_init_2_2 : List UInt8 := [180, 4, 24, 153, 0, 28, 42, 45, 3, 21, 4, 184, 4, 27, 181, 0, 9, 42, 42, 180, 0, 9, 21, 4]
abbrev dktJ2_init_2_2 : List UInt8 := dkwJ2_init_2_2 ++ dktJ2_init_2_3
def dkwJ2_init_2_1 : List UInt8 := [181, 0, 15, 42, 45, 3, 21, 4, 184, 0, 54, 181, 0, 9, 167, 0, 59, 178, 0, 38, 153, 0, 35, 43]
abbrev dktJ2_init_2_1 : List UInt8 := dkwJ2_init_2_1 ++ dktJ2_init_2_2
def dkwJ2_init_2_0 : List UInt8 := [42, 183, 0, 1, 43, 182, 2, 40, 78, 43, 182, 2, 37, 54, 4, 43, 182, 4, 23, 153, 0, 22, 42, 3]
abbrev dktJ2_init_2_0 : List UInt8 := dkwJ2_init_2_0 ++ dktJ2_init_2_1
theorem dksJ2_init_2_0 : cJ2_init_2.data.toList.drop 0 = dktJ2_init_2_0 := by decide +kernel
theorem dksJ2_init_2_1 : cJ2_init_2.data.toList.drop 24 = dktJ2_init_2_1 := dk_seg dksJ2_init_2_0 24 rfl rfl
theorem dksJ2_init_2_2 : cJ2_init_2.data.toList.drop 48 = dktJ2_init_2_2 := dk_seg dksJ2_init_2_1 24 rfl rfl
theorem dksJ2_init_2_3 : cJ2_init_2.data.toList.drop 72 = dktJ2_init_2_3 := dk_seg dksJ2_init_2_2 24 rfl rfl
theorem dksJ2_init_2_4 : cJ2_init_2.data.toList.drop 94 = dktJ2_init_2_4 := dk_seg dksJ2_init_2_3 22 rfl rfl
theorem dJ2_init_2_0 : decode cJ2_init_2 0 = .ok (.aload_n 0, 1) := dk_42 (dk_at dksJ2_init_2_0 0 rfl rfl)
theorem dJ2_init_2_1 : decode cJ2_init_2 1 = .ok (.invokespecial 1, 3) := dk_183 0 1 (dk_at dksJ2_init_2_0 1 rfl rfl)
theorem dJ2_init_2_4 : decode cJ2_init_2 4 = .ok (.aload_n 1, 1) := dk_43 (dk_at dksJ2_init_2_0 4 rfl rfl)
theorem dJ2_init_2_5 : decode cJ2_init_2 5 = .ok (.invokevirtual 552, 3) := dk_182 2 40 (dk_at dksJ2_init_2_0 5 rfl rfl)
theorem dJ2_init_2_8 : decode cJ2_init_2 8 = .ok (.astore_n 3, 1) := dk_78 (dk_at dksJ2_init_2_0 8 rfl rfl)
theorem dJ2_init_2_9 : decode cJ2_init_2 9 = .ok (.aload_n 1, 1) := dk_43 (dk_at dksJ2_init_2_0 9 rfl rfl)
theorem dJ2_init_2_10 : decode cJ2_init_2 10 = .ok (.invokevirtual 549, 3) := dk_182 2 37 (dk_at dksJ2_init_2_0 10 rfl rfl)
theorem dJ2_init_2_13 : decode cJ2_init_2 13 = .ok (.istore 4, 2) := dk_54 4 (dk_at dksJ2_init_2_0 13 rfl rfl)
theorem dJ2_init_2_15 : decode cJ2_init_2 15 = .ok (.aload_n 1, 1) := dk_43 (dk_at dksJ2_init_2_0 15 rfl rfl)
theorem dJ2_init_2_16 : decode cJ2_init_2 16 = .ok (.invokevirtual 1047, 3) := dk_182 4 23 (dk_at dksJ2_init_2_0 16 rfl rfl)
theorem dJ2_init_2_19 : decode cJ2_init_2 19 = .ok (.ifCond .eq 22, 3) := dk_153 0 22 (dk_at dksJ2_init_2_0 19 rfl rfl)
theorem dJ2_init_2_22 : decode cJ2_init_2 22 = .ok (.aload_n 0, 1) := dk_42 (dk_at dksJ2_init_2_0 22 rfl rfl)
theorem dJ2_init_2_23 : decode cJ2_init_2 23 = .ok (.iconst 0, 1) := dk_3 (dk_at dksJ2_init_2_0 23 rfl rfl)
theorem dJ2_init_2_24 : decode cJ2_init_2 24 = .ok (.putfield 15, 3) := dk_181 0 15 (dk_at dksJ2_init_2_1 0 rfl rfl)
theorem dJ2_init_2_27 : decode cJ2_init_2 27 = .ok (.aload_n 0, 1) := dk_42 (dk_at dksJ2_init_2_1 3 rfl rfl)
theorem dJ2_init_2_28 : decode cJ2_init_2 28 = .ok (.aload_n 3, 1) := dk_45 (dk_at dksJ2_init_2_1 4 rfl rfl)
theorem dJ2_init_2_29 : decode cJ2_init_2 29 = .ok (.iconst 0, 1) := dk_3 (dk_at dksJ2_init_2_1 5 rfl rfl)
theorem dJ2_init_2_30 : decode cJ2_init_2 30 = .ok (.iload 4, 2) := dk_21 4 (dk_at dksJ2_init_2_1 6 rfl rfl)
theorem dJ2_init_2_32 : decode cJ2_init_2 32 = .ok (.invokestatic 54, 3) := dk_184 0 54 (dk_at dksJ2_init_2_1 8 rfl rfl)
theorem dJ2_init_2_35 : decode cJ2_init_2 35 = .ok (.putfield 9, 3) := dk_181 0 9 (dk_at dksJ2_init_2_1 11 rfl rfl)
theorem dJ2_init_2_38 : decode cJ2_init_2 38 = .ok (.goto 59, 3) := dk_167 0 59 (dk_at dksJ2_init_2_1 14 rfl rfl)
theorem dJ2_init_2_41 : decode cJ2_init_2 41 = .ok (.getstatic 38, 3) := dk_178 0 38 (dk_at dksJ2_init_2_1 17 rfl rfl)
theorem dJ2_init_2_44 : decode cJ2_init_2 44 = .ok (.ifCond .eq 35, 3) := dk_153 0 35 (dk_at dksJ2_init_2_1 20 rfl rfl)
theorem dJ2_init_2_47 : decode cJ2_init_2 47 = .ok (.aload_n 1, 1) := dk_43 (dk_at dksJ2_init_2_1 23 rfl rfl)
theorem dJ2_init_2_48 : decode cJ2_init_2 48 = .ok (.getfield 1048, 3) := dk_180 4 24 (dk_at dksJ2_init_2_2 0 rfl rfl)
theorem dJ2_init_2_51 : decode cJ2_init_2 51 = .ok (.ifCond .eq 28, 3) := dk_153 0 28 (dk_at dksJ2_init_2_2 3 rfl rfl)
theorem dJ2_init_2_54 : decode cJ2_init_2 54 = .ok (.aload_n 0, 1) := dk_42 (dk_at dksJ2_init_2_2 6 rfl rfl)
theorem dJ2_init_2_55 : decode cJ2_init_2 55 = .ok (.aload_n 3, 1) := dk_45 (dk_at dksJ2_init_2_2 7 rfl rfl)
theorem dJ2_init_2_56 : decode cJ2_init_2 56 = .ok (.iconst 0, 1) := dk_3 (dk_at dksJ2_init_2_2 8 rfl rfl)
theorem dJ2_init_2_57 : decode cJ2_init_2 57 = .ok (.iload 4, 2) := dk_21 4 (dk_at dksJ2_init_2_2 9 rfl rfl)
theorem dJ2_init_2_59 : decode cJ2_init_2 59 = .ok (.invokestatic 1051, 3) := dk_184 4 27 (dk_at dksJ2_init_2_2 11 rfl rfl)
theorem dJ2_init_2_62 : decode cJ2_init_2 62 = .ok (.putfield 9, 3) := dk_181 0 9 (dk_at dksJ2_init_2_2 14 rfl rfl)
theorem dJ2_init_2_65 : decode cJ2_init_2 65 = .ok (.aload_n 0, 1) := dk_42 (dk_at dksJ2_init_2_2 17 rfl rfl)
theorem dJ2_init_2_66 : decode cJ2_init_2 66 = .ok (.aload_n 0, 1) := dk_42 (dk_at dksJ2_init_2_2 18 rfl rfl)
theorem dJ2_init_2_67 : decode cJ2_init_2 67 = .ok (.getfield 9, 3) := dk_180 0 9 (dk_at dksJ2_init_2_2 19 rfl rfl)
theorem dJ2_init_2_70 : decode cJ2_init_2 70 = .ok (.iload 4, 2) := dk_21 4 (dk_at dksJ2_init_2_2 22 rfl rfl)
theorem dJ2_init_2_72 : decode cJ2_init_2 72 = .ok (.invokestatic 47, 3) := dk_184 0 47 (dk_at dksJ2_init_2_3 0 rfl rfl)
theorem dJ2_init_2_75 : decode cJ2_init_2 75 = .ok (.putfield 15, 3) := dk_181 0 15 (dk_at dksJ2_init_2_3 3 rfl rfl)
theorem dJ2_init_2_78 : decode cJ2_init_2 78 = .ok (.return_, 1) := dk_177 (dk_at dksJ2_init_2_3 6 rfl rfl)
theorem dJ2_init_2_79 : decode cJ2_init_2 79 = .ok (.aload_n 0, 1) := dk_42 (dk_at dksJ2_init_2_3 7 rfl rfl)
theorem dJ2_init_2_80 : decode cJ2_init_2 80 = .ok (.iconst 1, 1) := dk_4 (dk_at dksJ2_init_2_3 8 rfl rfl)
theorem dJ2_init_2_81 : decode cJ2_init_2 81 = .ok (.putfield 15, 3) := dk_181 0 15 (dk_at dksJ2_init_2_3 9 rfl rfl)
theorem dJ2_init_2_84 : decode cJ2_init_2 84 = .ok (.aload_n 0, 1) := dk_42 (dk_at dksJ2_init_2_3 12 rfl rfl)
theorem dJ2_init_2_85 : decode cJ2_init_2 85 = .ok (.aload_n 3, 1) := dk_45 (dk_at dksJ2_init_2_3 13 rfl rfl)
theorem dJ2_init_2_86 : decode cJ2_init_2 86 = .ok (.iconst 0, 1) := dk_3 (dk_at dksJ2_init_2_3 14 rfl rfl)
theorem dJ2_init_2_87 : decode cJ2_init_2 87 = .ok (.iload 4, 2) := dk_21 4 (dk_at dksJ2_init_2_3 15 rfl rfl)
theorem dJ2_init_2_89 : decode cJ2_init_2 89 = .ok (.iconst 1, 1) := dk_4 (dk_at dksJ2_init_2_3 17 rfl rfl)
theorem dJ2_init_2_90 : decode cJ2_init_2 90 = .ok (.ishl, 1) := dk_120 (dk_at dksJ2_init_2_3 18 rfl rfl)
theorem dJ2_init_2_91 : decode cJ2_init_2 91 = .ok (.invokestatic 54, 3) := dk_184 0 54 (dk_at dksJ2_init_2_3 19 rfl rfl)
theorem dJ2_init_2_94 : decode cJ2_init_2 94 = .ok (.putfield 9, 3) := dk_181 0 9 (dk_at dksJ2_init_2_4 0 rfl rfl)
theorem dJ2_init_2_97 : decode cJ2_init_2 97 = .ok (.return_, 1) := dk_177 (dk_at dksJ2_init_2_4 3 rfl rfl)
abbrev cJ2_checkIndex : ByteArray := prog_41_method_155_code
def yJ2_checkIndex : MethodName := ⟨RJ2, "checkIndex", "(II)V"⟩
def dkwJ2_checkIndex_0 : List UInt8 := [26, 27, 178, 4, 29, 184, 4, 35, 87, 177]
abbrev dktJ2_checkIndex_0 : List UInt8 := dkwJ2_checkIndex_0 ++ []
theorem dksJ2_checkIndex_0 : cJ2_checkIndex.data.toList.drop 0 = dktJ2_checkIndex_0 := by decide +kernel
theorem dJ2_checkIndex_0 : decode cJ2_checkIndex 0 = .ok (.iload_n 0, 1) := dk_26 (dk_at dksJ2_checkIndex_0 0 rfl rfl)
theorem dJ2_checkIndex_1 : decode cJ2_checkIndex 1 = .ok (.iload_n 1, 1) := dk_27 (dk_at dksJ2_checkIndex_0 1 rfl rfl)
theorem dJ2_checkIndex_2 : decode cJ2_checkIndex 2 = .ok (.getstatic 1053, 3) := dk_178 4 29 (dk_at dksJ2_checkIndex_0 2 rfl rfl)
theorem dJ2_checkIndex_5 : decode cJ2_checkIndex 5 = .ok (.invokestatic 1059, 3) := dk_184 4 35 (dk_at dksJ2_checkIndex_0 5 rfl rfl)
theorem dJ2_checkIndex_8 : decode cJ2_checkIndex 8 = .ok (.pop, 1) := dk_87 (dk_at dksJ2_checkIndex_0 8 rfl rfl)
theorem dJ2_checkIndex_9 : decode cJ2_checkIndex 9 = .ok (.return_, 1) := dk_177 (dk_at dksJ2_checkIndex_0 9 rfl rfl)
abbrev cJ2_indexOf : ByteArray := prog_41_method_79_code
def yJ2_indexOf : MethodName := ⟨RJ2, "indexOf", "(I)I"⟩
def dkwJ2_indexOf_0 : List UInt8 := [42, 27, 3, 182, 2, 121, 172]
abbrev dktJ2_indexOf_0 : List UInt8 := dkwJ2_indexOf_0 ++ []
theorem dksJ2_indexOf_0 : cJ2_indexOf.data.toList.drop 0 = dktJ2_indexOf_0 := by decide +kernel
theorem dJ2_indexOf_0 : decode cJ2_indexOf 0 = .ok (.aload_n 0, 1) := dk_42 (dk_at dksJ2_indexOf_0 0 rfl rfl)
theorem dJ2_indexOf_1 : decode cJ2_indexOf 1 = .ok (.iload_n 1, 1) := dk_27 (dk_at dksJ2_indexOf_0 1 rfl rfl)
theorem dJ2_indexOf_2 : decode cJ2_indexOf 2 = .ok (.iconst 0, 1) := dk_3 (dk_at dksJ2_indexOf_0 2 rfl rfl)
theorem dJ2_indexOf_3 : decode cJ2_indexOf 3 = .ok (.invokevirtual 633, 3) := dk_182 2 121 (dk_at dksJ2_indexOf_0 3 rfl rfl)
theorem dJ2_indexOf_6 : decode cJ2_indexOf 6 = .ok (.ireturn, 1) := dk_172 (dk_at dksJ2_indexOf_0 6 rfl rfl)
abbrev cJ2_indexOf_2 : ByteArray := prog_41_method_80_code
def yJ2_indexOf_2 : MethodName := ⟨RJ2, "indexOf", "(II)I"⟩
def dkwJ2_indexOf_2_1 : List UInt8 := [180, 0, 9, 27, 28, 42, 182, 1, 249, 184, 2, 128, 172]
abbrev dktJ2_indexOf_2_1 : List UInt8 := dkwJ2_indexOf_2_1 ++ []
def dkwJ2_indexOf_2_0 : List UInt8 := [42, 182, 1, 236, 153, 0, 19, 42, 180, 0, 9, 27, 28, 42, 182, 1, 249, 184, 2, 125, 167, 0, 16, 42]
abbrev dktJ2_indexOf_2_0 : List UInt8 := dkwJ2_indexOf_2_0 ++ dktJ2_indexOf_2_1
theorem dksJ2_indexOf_2_0 : cJ2_indexOf_2.data.toList.drop 0 = dktJ2_indexOf_2_0 := by decide +kernel
theorem dksJ2_indexOf_2_1 : cJ2_indexOf_2.data.toList.drop 24 = dktJ2_indexOf_2_1 := dk_seg dksJ2_indexOf_2_0 24 rfl rfl
theorem dJ2_indexOf_2_0 : decode cJ2_indexOf_2 0 = .ok (.aload_n 0, 1) := dk_42 (dk_at dksJ2_indexOf_2_0 0 rfl rfl)
theorem dJ2_indexOf_2_1 : decode cJ2_indexOf_2 1 = .ok (.invokevirtual 492, 3) := dk_182 1 236 (dk_at dksJ2_indexOf_2_0 1 rfl rfl)
theorem dJ2_indexOf_2_4 : decode cJ2_indexOf_2 4 = .ok (.ifCond .eq 19, 3) := dk_153 0 19 (dk_at dksJ2_indexOf_2_0 4 rfl rfl)
theorem dJ2_indexOf_2_7 : decode cJ2_indexOf_2 7 = .ok (.aload_n 0, 1) := dk_42 (dk_at dksJ2_indexOf_2_0 7 rfl rfl)
theorem dJ2_indexOf_2_8 : decode cJ2_indexOf_2 8 = .ok (.getfield 9, 3) := dk_180 0 9 (dk_at dksJ2_indexOf_2_0 8 rfl rfl)
theorem dJ2_indexOf_2_11 : decode cJ2_indexOf_2 11 = .ok (.iload_n 1, 1) := dk_27 (dk_at dksJ2_indexOf_2_0 11 rfl rfl)
theorem dJ2_indexOf_2_12 : decode cJ2_indexOf_2 12 = .ok (.iload_n 2, 1) := dk_28 (dk_at dksJ2_indexOf_2_0 12 rfl rfl)
theorem dJ2_indexOf_2_13 : decode cJ2_indexOf_2 13 = .ok (.aload_n 0, 1) := dk_42 (dk_at dksJ2_indexOf_2_0 13 rfl rfl)
theorem dJ2_indexOf_2_14 : decode cJ2_indexOf_2 14 = .ok (.invokevirtual 505, 3) := dk_182 1 249 (dk_at dksJ2_indexOf_2_0 14 rfl rfl)
theorem dJ2_indexOf_2_17 : decode cJ2_indexOf_2 17 = .ok (.invokestatic 637, 3) := dk_184 2 125 (dk_at dksJ2_indexOf_2_0 17 rfl rfl)
theorem dJ2_indexOf_2_20 : decode cJ2_indexOf_2 20 = .ok (.goto 16, 3) := dk_167 0 16 (dk_at dksJ2_indexOf_2_0 20 rfl rfl)
theorem dJ2_indexOf_2_23 : decode cJ2_indexOf_2 23 = .ok (.aload_n 0, 1) := dk_42 (dk_at dksJ2_indexOf_2_0 23 rfl rfl)
theorem dJ2_indexOf_2_24 : decode cJ2_indexOf_2 24 = .ok (.getfield 9, 3) := dk_180 0 9 (dk_at dksJ2_indexOf_2_1 0 rfl rfl)
theorem dJ2_indexOf_2_27 : decode cJ2_indexOf_2 27 = .ok (.iload_n 1, 1) := dk_27 (dk_at dksJ2_indexOf_2_1 3 rfl rfl)
theorem dJ2_indexOf_2_28 : decode cJ2_indexOf_2 28 = .ok (.iload_n 2, 1) := dk_28 (dk_at dksJ2_indexOf_2_1 4 rfl rfl)
theorem dJ2_indexOf_2_29 : decode cJ2_indexOf_2 29 = .ok (.aload_n 0, 1) := dk_42 (dk_at dksJ2_indexOf_2_1 5 rfl rfl)
theorem dJ2_indexOf_2_30 : decode cJ2_indexOf_2 30 = .ok (.invokevirtual 505, 3) := dk_182 1 249 (dk_at dksJ2_indexOf_2_1 6 rfl rfl)
theorem dJ2_indexOf_2_33 : decode cJ2_indexOf_2 33 = .ok (.invokestatic 640, 3) := dk_184 2 128 (dk_at dksJ2_indexOf_2_1 9 rfl rfl)
theorem dJ2_indexOf_2_36 : decode cJ2_indexOf_2 36 = .ok (.ireturn, 1) := dk_172 (dk_at dksJ2_indexOf_2_1 12 rfl rfl)
abbrev cJ2_isLatin1 : ByteArray := prog_41_method_154_code
def yJ2_isLatin1 : MethodName := ⟨RJ2, "isLatin1", "()Z"⟩
def dkwJ2_isLatin1_0 : List UInt8 := [178, 0, 38, 153, 0, 14, 42, 180, 0, 15, 154, 0, 7, 4, 167, 0, 4, 3, 172]
abbrev dktJ2_isLatin1_0 : List UInt8 := dkwJ2_isLatin1_0 ++ []
theorem dksJ2_isLatin1_0 : cJ2_isLatin1.data.toList.drop 0 = dktJ2_isLatin1_0 := by decide +kernel
theorem dJ2_isLatin1_0 : decode cJ2_isLatin1 0 = .ok (.getstatic 38, 3) := dk_178 0 38 (dk_at dksJ2_isLatin1_0 0 rfl rfl)
theorem dJ2_isLatin1_3 : decode cJ2_isLatin1 3 = .ok (.ifCond .eq 14, 3) := dk_153 0 14 (dk_at dksJ2_isLatin1_0 3 rfl rfl)
theorem dJ2_isLatin1_6 : decode cJ2_isLatin1 6 = .ok (.aload_n 0, 1) := dk_42 (dk_at dksJ2_isLatin1_0 6 rfl rfl)
theorem dJ2_isLatin1_7 : decode cJ2_isLatin1 7 = .ok (.getfield 15, 3) := dk_180 0 15 (dk_at dksJ2_isLatin1_0 7 rfl rfl)
theorem dJ2_isLatin1_10 : decode cJ2_isLatin1 10 = .ok (.ifCond .ne 7, 3) := dk_154 0 7 (dk_at dksJ2_isLatin1_0 10 rfl rfl)
theorem dJ2_isLatin1_13 : decode cJ2_isLatin1 13 = .ok (.iconst 1, 1) := dk_4 (dk_at dksJ2_isLatin1_0 13 rfl rfl)
theorem dJ2_isLatin1_14 : decode cJ2_isLatin1 14 = .ok (.goto 4, 3) := dk_167 0 4 (dk_at dksJ2_isLatin1_0 14 rfl rfl)
theorem dJ2_isLatin1_17 : decode cJ2_isLatin1 17 = .ok (.iconst 0, 1) := dk_3 (dk_at dksJ2_isLatin1_0 17 rfl rfl)
theorem dJ2_isLatin1_18 : decode cJ2_isLatin1 18 = .ok (.ireturn, 1) := dk_172 (dk_at dksJ2_isLatin1_0 18 rfl rfl)
abbrev cJ2_valueOf : ByteArray := prog_41_method_139_code
def yJ2_valueOf : MethodName := ⟨RJ2, "valueOf", "(C)Ljava/lang/String;"⟩
def dkwJ2_valueOf_1 : List UInt8 := [183, 0, 209, 176, 187, 0, 10, 89, 26, 184, 3, 253, 4, 183, 0, 209, 176]
abbrev dktJ2_valueOf_1 : List UInt8 := dkwJ2_valueOf_1 ++ []
def dkwJ2_valueOf_0 : List UInt8 := [178, 0, 38, 153, 0, 23, 26, 184, 3, 247, 153, 0, 16, 187, 0, 10, 89, 26, 184, 3, 250, 3]
abbrev dktJ2_valueOf_0 : List UInt8 := dkwJ2_valueOf_0 ++ dktJ2_valueOf_1
theorem dksJ2_valueOf_0 : cJ2_valueOf.data.toList.drop 0 = dktJ2_valueOf_0 := by decide +kernel
theorem dksJ2_valueOf_1 : cJ2_valueOf.data.toList.drop 22 = dktJ2_valueOf_1 := dk_seg dksJ2_valueOf_0 22 rfl rfl
theorem dJ2_valueOf_0 : decode cJ2_valueOf 0 = .ok (.getstatic 38, 3) := dk_178 0 38 (dk_at dksJ2_valueOf_0 0 rfl rfl)
theorem dJ2_valueOf_3 : decode cJ2_valueOf 3 = .ok (.ifCond .eq 23, 3) := dk_153 0 23 (dk_at dksJ2_valueOf_0 3 rfl rfl)
theorem dJ2_valueOf_6 : decode cJ2_valueOf 6 = .ok (.iload_n 0, 1) := dk_26 (dk_at dksJ2_valueOf_0 6 rfl rfl)
theorem dJ2_valueOf_7 : decode cJ2_valueOf 7 = .ok (.invokestatic 1015, 3) := dk_184 3 247 (dk_at dksJ2_valueOf_0 7 rfl rfl)
theorem dJ2_valueOf_10 : decode cJ2_valueOf 10 = .ok (.ifCond .eq 16, 3) := dk_153 0 16 (dk_at dksJ2_valueOf_0 10 rfl rfl)
theorem dJ2_valueOf_13 : decode cJ2_valueOf 13 = .ok (.new 10, 3) := dk_187 0 10 (dk_at dksJ2_valueOf_0 13 rfl rfl)
theorem dJ2_valueOf_16 : decode cJ2_valueOf 16 = .ok (.dup, 1) := dk_89 (dk_at dksJ2_valueOf_0 16 rfl rfl)
theorem dJ2_valueOf_17 : decode cJ2_valueOf 17 = .ok (.iload_n 0, 1) := dk_26 (dk_at dksJ2_valueOf_0 17 rfl rfl)
theorem dJ2_valueOf_18 : decode cJ2_valueOf 18 = .ok (.invokestatic 1018, 3) := dk_184 3 250 (dk_at dksJ2_valueOf_0 18 rfl rfl)
theorem dJ2_valueOf_21 : decode cJ2_valueOf 21 = .ok (.iconst 0, 1) := dk_3 (dk_at dksJ2_valueOf_0 21 rfl rfl)
theorem dJ2_valueOf_22 : decode cJ2_valueOf 22 = .ok (.invokespecial 209, 3) := dk_183 0 209 (dk_at dksJ2_valueOf_1 0 rfl rfl)
theorem dJ2_valueOf_25 : decode cJ2_valueOf 25 = .ok (.areturn, 1) := dk_176 (dk_at dksJ2_valueOf_1 3 rfl rfl)
theorem dJ2_valueOf_26 : decode cJ2_valueOf 26 = .ok (.new 10, 3) := dk_187 0 10 (dk_at dksJ2_valueOf_1 4 rfl rfl)
theorem dJ2_valueOf_29 : decode cJ2_valueOf 29 = .ok (.dup, 1) := dk_89 (dk_at dksJ2_valueOf_1 7 rfl rfl)
theorem dJ2_valueOf_30 : decode cJ2_valueOf 30 = .ok (.iload_n 0, 1) := dk_26 (dk_at dksJ2_valueOf_1 8 rfl rfl)
theorem dJ2_valueOf_31 : decode cJ2_valueOf 31 = .ok (.invokestatic 1021, 3) := dk_184 3 253 (dk_at dksJ2_valueOf_1 9 rfl rfl)
theorem dJ2_valueOf_34 : decode cJ2_valueOf 34 = .ok (.iconst 1, 1) := dk_4 (dk_at dksJ2_valueOf_1 12 rfl rfl)
theorem dJ2_valueOf_35 : decode cJ2_valueOf 35 = .ok (.invokespecial 209, 3) := dk_183 0 209 (dk_at dksJ2_valueOf_1 13 rfl rfl)
theorem dJ2_valueOf_38 : decode cJ2_valueOf 38 = .ok (.areturn, 1) := dk_176 (dk_at dksJ2_valueOf_1 16 rfl rfl)
abbrev cJ2_init_3 : ByteArray := prog_41_method_151_code
def yJ2_init_3 : MethodName := ⟨RJ2, "<init>", "([BB)V"⟩
def dkwJ2_init_3_0 : List UInt8 := [42, 183, 0, 1, 42, 43, 181, 0, 9, 42, 28, 181, 0, 15, 177]
abbrev dktJ2_init_3_0 : List UInt8 := dkwJ2_init_3_0 ++ []
theorem dksJ2_init_3_0 : cJ2_init_3.data.toList.drop 0 = dktJ2_init_3_0 := by decide +kernel
theorem dJ2_init_3_0 : decode cJ2_init_3 0 = .ok (.aload_n 0, 1) := dk_42 (dk_at dksJ2_init_3_0 0 rfl rfl)
theorem dJ2_init_3_1 : decode cJ2_init_3 1 = .ok (.invokespecial 1, 3) := dk_183 0 1 (dk_at dksJ2_init_3_0 1 rfl rfl)
theorem dJ2_init_3_4 : decode cJ2_init_3 4 = .ok (.aload_n 0, 1) := dk_42 (dk_at dksJ2_init_3_0 4 rfl rfl)
theorem dJ2_init_3_5 : decode cJ2_init_3 5 = .ok (.aload_n 1, 1) := dk_43 (dk_at dksJ2_init_3_0 5 rfl rfl)
theorem dJ2_init_3_6 : decode cJ2_init_3 6 = .ok (.putfield 9, 3) := dk_181 0 9 (dk_at dksJ2_init_3_0 6 rfl rfl)
theorem dJ2_init_3_9 : decode cJ2_init_3 9 = .ok (.aload_n 0, 1) := dk_42 (dk_at dksJ2_init_3_0 9 rfl rfl)
theorem dJ2_init_3_10 : decode cJ2_init_3 10 = .ok (.iload_n 2, 1) := dk_28 (dk_at dksJ2_init_3_0 10 rfl rfl)
theorem dJ2_init_3_11 : decode cJ2_init_3 11 = .ok (.putfield 15, 3) := dk_181 0 15 (dk_at dksJ2_init_3_0 11 rfl rfl)
theorem dJ2_init_3_14 : decode cJ2_init_3 14 = .ok (.return_, 1) := dk_177 (dk_at dksJ2_init_3_0 14 rfl rfl)
abbrev cJ2_toString : ByteArray := prog_41_method_126_code
def yJ2_toString : MethodName := ⟨RJ2, "toString", "()Ljava/lang/String;"⟩
theorem dJ2_toString_0 : decode cJ2_toString 0 = .ok (.aload_n 0, 1) := by decide +kernel
theorem dJ2_toString_1 : decode cJ2_toString 1 = .ok (.areturn, 1) := by decide +kernel
abbrev cJ2_equals : ByteArray := prog_41_method_66_code
def yJ2_equals : MethodName := ⟨RJ2, "equals", "(Ljava/lang/Object;)Z"⟩
def dkwJ2_equals_2 : List UInt8 := [184, 2, 29, 153, 0, 7, 4, 167, 0, 4, 3, 172]
abbrev dktJ2_equals_2 : List UInt8 := dkwJ2_equals_2 ++ []
def dkwJ2_equals_1 : List UInt8 := [153, 0, 14, 42, 180, 0, 15, 44, 180, 0, 15, 160, 0, 21, 42, 180, 0, 9, 44, 180, 0, 9]
abbrev dktJ2_equals_1 : List UInt8 := dkwJ2_equals_1 ++ dktJ2_equals_2
def dkwJ2_equals_0 : List UInt8 := [42, 43, 166, 0, 5, 4, 172, 43, 193, 0, 10, 153, 0, 43, 43, 192, 0, 10, 77, 178, 0, 38]
abbrev dktJ2_equals_0 : List UInt8 := dkwJ2_equals_0 ++ dktJ2_equals_1
theorem dksJ2_equals_0 : cJ2_equals.data.toList.drop 0 = dktJ2_equals_0 := by decide +kernel
theorem dksJ2_equals_1 : cJ2_equals.data.toList.drop 22 = dktJ2_equals_1 := dk_seg dksJ2_equals_0 22 rfl rfl
theorem dksJ2_equals_2 : cJ2_equals.data.toList.drop 44 = dktJ2_equals_2 := dk_seg dksJ2_equals_1 22 rfl rfl
theorem dJ2_equals_0 : decode cJ2_equals 0 = .ok (.aload_n 0, 1) := dk_42 (dk_at dksJ2_equals_0 0 rfl rfl)
theorem dJ2_equals_1 : decode cJ2_equals 1 = .ok (.aload_n 1, 1) := dk_43 (dk_at dksJ2_equals_0 1 rfl rfl)
theorem dJ2_equals_2 : decode cJ2_equals 2 = .ok (.if_acmp .ne 5, 3) := dk_166 0 5 (dk_at dksJ2_equals_0 2 rfl rfl)
theorem dJ2_equals_5 : decode cJ2_equals 5 = .ok (.iconst 1, 1) := dk_4 (dk_at dksJ2_equals_0 5 rfl rfl)
theorem dJ2_equals_6 : decode cJ2_equals 6 = .ok (.ireturn, 1) := dk_172 (dk_at dksJ2_equals_0 6 rfl rfl)
theorem dJ2_equals_7 : decode cJ2_equals 7 = .ok (.aload_n 1, 1) := dk_43 (dk_at dksJ2_equals_0 7 rfl rfl)
theorem dJ2_equals_8 : decode cJ2_equals 8 = .ok (.instanceof 10, 3) := dk_193 0 10 (dk_at dksJ2_equals_0 8 rfl rfl)
theorem dJ2_equals_11 : decode cJ2_equals 11 = .ok (.ifCond .eq 43, 3) := dk_153 0 43 (dk_at dksJ2_equals_0 11 rfl rfl)
theorem dJ2_equals_14 : decode cJ2_equals 14 = .ok (.aload_n 1, 1) := dk_43 (dk_at dksJ2_equals_0 14 rfl rfl)
theorem dJ2_equals_15 : decode cJ2_equals 15 = .ok (.checkcast 10, 3) := dk_192 0 10 (dk_at dksJ2_equals_0 15 rfl rfl)
theorem dJ2_equals_18 : decode cJ2_equals 18 = .ok (.astore_n 2, 1) := dk_77 (dk_at dksJ2_equals_0 18 rfl rfl)
theorem dJ2_equals_19 : decode cJ2_equals 19 = .ok (.getstatic 38, 3) := dk_178 0 38 (dk_at dksJ2_equals_0 19 rfl rfl)
theorem dJ2_equals_22 : decode cJ2_equals 22 = .ok (.ifCond .eq 14, 3) := dk_153 0 14 (dk_at dksJ2_equals_1 0 rfl rfl)
theorem dJ2_equals_25 : decode cJ2_equals 25 = .ok (.aload_n 0, 1) := dk_42 (dk_at dksJ2_equals_1 3 rfl rfl)
theorem dJ2_equals_26 : decode cJ2_equals 26 = .ok (.getfield 15, 3) := dk_180 0 15 (dk_at dksJ2_equals_1 4 rfl rfl)
theorem dJ2_equals_29 : decode cJ2_equals 29 = .ok (.aload_n 2, 1) := dk_44 (dk_at dksJ2_equals_1 7 rfl rfl)
theorem dJ2_equals_30 : decode cJ2_equals 30 = .ok (.getfield 15, 3) := dk_180 0 15 (dk_at dksJ2_equals_1 8 rfl rfl)
theorem dJ2_equals_33 : decode cJ2_equals 33 = .ok (.if_icmp .ne 21, 3) := dk_160 0 21 (dk_at dksJ2_equals_1 11 rfl rfl)
theorem dJ2_equals_36 : decode cJ2_equals 36 = .ok (.aload_n 0, 1) := dk_42 (dk_at dksJ2_equals_1 14 rfl rfl)
theorem dJ2_equals_37 : decode cJ2_equals 37 = .ok (.getfield 9, 3) := dk_180 0 9 (dk_at dksJ2_equals_1 15 rfl rfl)
theorem dJ2_equals_40 : decode cJ2_equals 40 = .ok (.aload_n 2, 1) := dk_44 (dk_at dksJ2_equals_1 18 rfl rfl)
theorem dJ2_equals_41 : decode cJ2_equals 41 = .ok (.getfield 9, 3) := dk_180 0 9 (dk_at dksJ2_equals_1 19 rfl rfl)
theorem dJ2_equals_44 : decode cJ2_equals 44 = .ok (.invokestatic 541, 3) := dk_184 2 29 (dk_at dksJ2_equals_2 0 rfl rfl)
theorem dJ2_equals_47 : decode cJ2_equals 47 = .ok (.ifCond .eq 7, 3) := dk_153 0 7 (dk_at dksJ2_equals_2 3 rfl rfl)
theorem dJ2_equals_50 : decode cJ2_equals 50 = .ok (.iconst 1, 1) := dk_4 (dk_at dksJ2_equals_2 6 rfl rfl)
theorem dJ2_equals_51 : decode cJ2_equals 51 = .ok (.goto 4, 3) := dk_167 0 4 (dk_at dksJ2_equals_2 7 rfl rfl)
theorem dJ2_equals_54 : decode cJ2_equals 54 = .ok (.iconst 0, 1) := dk_3 (dk_at dksJ2_equals_2 10 rfl rfl)
theorem dJ2_equals_55 : decode cJ2_equals 55 = .ok (.ireturn, 1) := dk_172 (dk_at dksJ2_equals_2 11 rfl rfl)
abbrev cJ2_hashCode : ByteArray := prog_41_method_78_code
def yJ2_hashCode : MethodName := ⟨RJ2, "hashCode", "()I"⟩
def dkwJ2_hashCode_2 : List UInt8 := [181, 0, 23, 167, 0, 8, 42, 27, 181, 0, 19, 27, 172]
abbrev dktJ2_hashCode_2 : List UInt8 := dkwJ2_hashCode_2 ++ []
def dkwJ2_hashCode_1 : List UInt8 := [180, 0, 9, 184, 2, 116, 167, 0, 10, 42, 180, 0, 9, 184, 2, 120, 60, 27, 154, 0, 11, 42, 4]
abbrev dktJ2_hashCode_1 : List UInt8 := dkwJ2_hashCode_1 ++ dktJ2_hashCode_2
def dkwJ2_hashCode_0 : List UInt8 := [42, 180, 0, 19, 60, 27, 154, 0, 52, 42, 180, 0, 23, 154, 0, 45, 42, 182, 1, 236, 153, 0, 13, 42]
abbrev dktJ2_hashCode_0 : List UInt8 := dkwJ2_hashCode_0 ++ dktJ2_hashCode_1
theorem dksJ2_hashCode_0 : cJ2_hashCode.data.toList.drop 0 = dktJ2_hashCode_0 := by decide +kernel
theorem dksJ2_hashCode_1 : cJ2_hashCode.data.toList.drop 24 = dktJ2_hashCode_1 := dk_seg dksJ2_hashCode_0 24 rfl rfl
theorem dksJ2_hashCode_2 : cJ2_hashCode.data.toList.drop 47 = dktJ2_hashCode_2 := dk_seg dksJ2_hashCode_1 23 rfl rfl
theorem dJ2_hashCode_0 : decode cJ2_hashCode 0 = .ok (.aload_n 0, 1) := dk_42 (dk_at dksJ2_hashCode_0 0 rfl rfl)
theorem dJ2_hashCode_1 : decode cJ2_hashCode 1 = .ok (.getfield 19, 3) := dk_180 0 19 (dk_at dksJ2_hashCode_0 1 rfl rfl)
theorem dJ2_hashCode_4 : decode cJ2_hashCode 4 = .ok (.istore_n 1, 1) := dk_60 (dk_at dksJ2_hashCode_0 4 rfl rfl)
theorem dJ2_hashCode_5 : decode cJ2_hashCode 5 = .ok (.iload_n 1, 1) := dk_27 (dk_at dksJ2_hashCode_0 5 rfl rfl)
theorem dJ2_hashCode_6 : decode cJ2_hashCode 6 = .ok (.ifCond .ne 52, 3) := dk_154 0 52 (dk_at dksJ2_hashCode_0 6 rfl rfl)
theorem dJ2_hashCode_9 : decode cJ2_hashCode 9 = .ok (.aload_n 0, 1) := dk_42 (dk_at dksJ2_hashCode_0 9 rfl rfl)
theorem dJ2_hashCode_10 : decode cJ2_hashCode 10 = .ok (.getfield 23, 3) := dk_180 0 23 (dk_at dksJ2_hashCode_0 10 rfl rfl)
theorem dJ2_hashCode_13 : decode cJ2_hashCode 13 = .ok (.ifCond .ne 45, 3) := dk_154 0 45 (dk_at dksJ2_hashCode_0 13 rfl rfl)
theorem dJ2_hashCode_16 : decode cJ2_hashCode 16 = .ok (.aload_n 0, 1) := dk_42 (dk_at dksJ2_hashCode_0 16 rfl rfl)
theorem dJ2_hashCode_17 : decode cJ2_hashCode 17 = .ok (.invokevirtual 492, 3) := dk_182 1 236 (dk_at dksJ2_hashCode_0 17 rfl rfl)
theorem dJ2_hashCode_20 : decode cJ2_hashCode 20 = .ok (.ifCond .eq 13, 3) := dk_153 0 13 (dk_at dksJ2_hashCode_0 20 rfl rfl)
theorem dJ2_hashCode_23 : decode cJ2_hashCode 23 = .ok (.aload_n 0, 1) := dk_42 (dk_at dksJ2_hashCode_0 23 rfl rfl)
theorem dJ2_hashCode_24 : decode cJ2_hashCode 24 = .ok (.getfield 9, 3) := dk_180 0 9 (dk_at dksJ2_hashCode_1 0 rfl rfl)
theorem dJ2_hashCode_27 : decode cJ2_hashCode 27 = .ok (.invokestatic 628, 3) := dk_184 2 116 (dk_at dksJ2_hashCode_1 3 rfl rfl)
theorem dJ2_hashCode_30 : decode cJ2_hashCode 30 = .ok (.goto 10, 3) := dk_167 0 10 (dk_at dksJ2_hashCode_1 6 rfl rfl)
theorem dJ2_hashCode_33 : decode cJ2_hashCode 33 = .ok (.aload_n 0, 1) := dk_42 (dk_at dksJ2_hashCode_1 9 rfl rfl)
theorem dJ2_hashCode_34 : decode cJ2_hashCode 34 = .ok (.getfield 9, 3) := dk_180 0 9 (dk_at dksJ2_hashCode_1 10 rfl rfl)
theorem dJ2_hashCode_37 : decode cJ2_hashCode 37 = .ok (.invokestatic 632, 3) := dk_184 2 120 (dk_at dksJ2_hashCode_1 13 rfl rfl)
theorem dJ2_hashCode_40 : decode cJ2_hashCode 40 = .ok (.istore_n 1, 1) := dk_60 (dk_at dksJ2_hashCode_1 16 rfl rfl)
theorem dJ2_hashCode_41 : decode cJ2_hashCode 41 = .ok (.iload_n 1, 1) := dk_27 (dk_at dksJ2_hashCode_1 17 rfl rfl)
theorem dJ2_hashCode_42 : decode cJ2_hashCode 42 = .ok (.ifCond .ne 11, 3) := dk_154 0 11 (dk_at dksJ2_hashCode_1 18 rfl rfl)
theorem dJ2_hashCode_45 : decode cJ2_hashCode 45 = .ok (.aload_n 0, 1) := dk_42 (dk_at dksJ2_hashCode_1 21 rfl rfl)
theorem dJ2_hashCode_46 : decode cJ2_hashCode 46 = .ok (.iconst 1, 1) := dk_4 (dk_at dksJ2_hashCode_1 22 rfl rfl)
theorem dJ2_hashCode_47 : decode cJ2_hashCode 47 = .ok (.putfield 23, 3) := dk_181 0 23 (dk_at dksJ2_hashCode_2 0 rfl rfl)
theorem dJ2_hashCode_50 : decode cJ2_hashCode 50 = .ok (.goto 8, 3) := dk_167 0 8 (dk_at dksJ2_hashCode_2 3 rfl rfl)
theorem dJ2_hashCode_53 : decode cJ2_hashCode 53 = .ok (.aload_n 0, 1) := dk_42 (dk_at dksJ2_hashCode_2 6 rfl rfl)
theorem dJ2_hashCode_54 : decode cJ2_hashCode 54 = .ok (.iload_n 1, 1) := dk_27 (dk_at dksJ2_hashCode_2 7 rfl rfl)
theorem dJ2_hashCode_55 : decode cJ2_hashCode 55 = .ok (.putfield 19, 3) := dk_181 0 19 (dk_at dksJ2_hashCode_2 8 rfl rfl)
theorem dJ2_hashCode_58 : decode cJ2_hashCode 58 = .ok (.iload_n 1, 1) := dk_27 (dk_at dksJ2_hashCode_2 11 rfl rfl)
theorem dJ2_hashCode_59 : decode cJ2_hashCode 59 = .ok (.ireturn, 1) := dk_172 (dk_at dksJ2_hashCode_2 12 rfl rfl)
abbrev cJ2_charAt : ByteArray := prog_41_method_56_code
def yJ2_charAt : MethodName := ⟨RJ2, "charAt", "(I)C"⟩
def dkwJ2_charAt_1 : List UInt8 := [172]
abbrev dktJ2_charAt_1 : List UInt8 := dkwJ2_charAt_1 ++ []
def dkwJ2_charAt_0 : List UInt8 := [42, 182, 1, 236, 153, 0, 12, 42, 180, 0, 9, 27, 184, 1, 239, 172, 42, 180, 0, 9, 27, 184, 1, 242]
abbrev dktJ2_charAt_0 : List UInt8 := dkwJ2_charAt_0 ++ dktJ2_charAt_1
theorem dksJ2_charAt_0 : cJ2_charAt.data.toList.drop 0 = dktJ2_charAt_0 := by decide +kernel
theorem dksJ2_charAt_1 : cJ2_charAt.data.toList.drop 24 = dktJ2_charAt_1 := dk_seg dksJ2_charAt_0 24 rfl rfl
theorem dJ2_charAt_0 : decode cJ2_charAt 0 = .ok (.aload_n 0, 1) := dk_42 (dk_at dksJ2_charAt_0 0 rfl rfl)
theorem dJ2_charAt_1 : decode cJ2_charAt 1 = .ok (.invokevirtual 492, 3) := dk_182 1 236 (dk_at dksJ2_charAt_0 1 rfl rfl)
theorem dJ2_charAt_4 : decode cJ2_charAt 4 = .ok (.ifCond .eq 12, 3) := dk_153 0 12 (dk_at dksJ2_charAt_0 4 rfl rfl)
theorem dJ2_charAt_7 : decode cJ2_charAt 7 = .ok (.aload_n 0, 1) := dk_42 (dk_at dksJ2_charAt_0 7 rfl rfl)
theorem dJ2_charAt_8 : decode cJ2_charAt 8 = .ok (.getfield 9, 3) := dk_180 0 9 (dk_at dksJ2_charAt_0 8 rfl rfl)
theorem dJ2_charAt_11 : decode cJ2_charAt 11 = .ok (.iload_n 1, 1) := dk_27 (dk_at dksJ2_charAt_0 11 rfl rfl)
theorem dJ2_charAt_12 : decode cJ2_charAt 12 = .ok (.invokestatic 495, 3) := dk_184 1 239 (dk_at dksJ2_charAt_0 12 rfl rfl)
theorem dJ2_charAt_15 : decode cJ2_charAt 15 = .ok (.ireturn, 1) := dk_172 (dk_at dksJ2_charAt_0 15 rfl rfl)
theorem dJ2_charAt_16 : decode cJ2_charAt 16 = .ok (.aload_n 0, 1) := dk_42 (dk_at dksJ2_charAt_0 16 rfl rfl)
theorem dJ2_charAt_17 : decode cJ2_charAt 17 = .ok (.getfield 9, 3) := dk_180 0 9 (dk_at dksJ2_charAt_0 17 rfl rfl)
theorem dJ2_charAt_20 : decode cJ2_charAt 20 = .ok (.iload_n 1, 1) := dk_27 (dk_at dksJ2_charAt_0 20 rfl rfl)
theorem dJ2_charAt_21 : decode cJ2_charAt 21 = .ok (.invokestatic 498, 3) := dk_184 1 242 (dk_at dksJ2_charAt_0 21 rfl rfl)
theorem dJ2_charAt_24 : decode cJ2_charAt 24 = .ok (.ireturn, 1) := dk_172 (dk_at dksJ2_charAt_1 0 rfl rfl)
abbrev cJ2_compareTo : ByteArray := prog_41_method_162_code
def yJ2_compareTo : MethodName := ⟨RJ2, "compareTo", "(Ljava/lang/Object;)I"⟩
def dkwJ2_compareTo_0 : List UInt8 := [42, 43, 192, 0, 10, 182, 4, 60, 172]
abbrev dktJ2_compareTo_0 : List UInt8 := dkwJ2_compareTo_0 ++ []
theorem dksJ2_compareTo_0 : cJ2_compareTo.data.toList.drop 0 = dktJ2_compareTo_0 := by decide +kernel
theorem dJ2_compareTo_0 : decode cJ2_compareTo 0 = .ok (.aload_n 0, 1) := dk_42 (dk_at dksJ2_compareTo_0 0 rfl rfl)
theorem dJ2_compareTo_1 : decode cJ2_compareTo 1 = .ok (.aload_n 1, 1) := dk_43 (dk_at dksJ2_compareTo_0 1 rfl rfl)
theorem dJ2_compareTo_2 : decode cJ2_compareTo 2 = .ok (.checkcast 10, 3) := dk_192 0 10 (dk_at dksJ2_compareTo_0 2 rfl rfl)
theorem dJ2_compareTo_5 : decode cJ2_compareTo 5 = .ok (.invokevirtual 1084, 3) := dk_182 4 60 (dk_at dksJ2_compareTo_0 5 rfl rfl)
theorem dJ2_compareTo_8 : decode cJ2_compareTo 8 = .ok (.ireturn, 1) := dk_172 (dk_at dksJ2_compareTo_0 8 rfl rfl)
abbrev cJ2_compareTo_2 : ByteArray := prog_41_method_71_code
def yJ2_compareTo_2 : MethodName := ⟨RJ2, "compareTo", "(Ljava/lang/String;)I"⟩
def dkwJ2_compareTo_2_2 : List UInt8 := [154, 0, 11, 44, 45, 184, 2, 79, 167, 0, 8, 44, 45, 184, 2, 82, 172]
abbrev dktJ2_compareTo_2_2 : List UInt8 := dkwJ2_compareTo_2_2 ++ []
def dkwJ2_compareTo_2_1 : List UInt8 := [160, 0, 22, 21, 4, 154, 0, 11, 44, 45, 184, 2, 74, 167, 0, 8, 44, 45, 184, 2, 78, 172, 21, 4]
abbrev dktJ2_compareTo_2_1 : List UInt8 := dkwJ2_compareTo_2_1 ++ dktJ2_compareTo_2_2
def dkwJ2_compareTo_2_0 : List UInt8 := [42, 180, 0, 9, 77, 43, 180, 0, 9, 78, 42, 182, 1, 79, 54, 4, 21, 4, 43, 182, 1, 79]
abbrev dktJ2_compareTo_2_0 : List UInt8 := dkwJ2_compareTo_2_0 ++ dktJ2_compareTo_2_1
theorem dksJ2_compareTo_2_0 : cJ2_compareTo_2.data.toList.drop 0 = dktJ2_compareTo_2_0 := by decide +kernel
theorem dksJ2_compareTo_2_1 : cJ2_compareTo_2.data.toList.drop 22 = dktJ2_compareTo_2_1 := dk_seg dksJ2_compareTo_2_0 22 rfl rfl
theorem dksJ2_compareTo_2_2 : cJ2_compareTo_2.data.toList.drop 46 = dktJ2_compareTo_2_2 := dk_seg dksJ2_compareTo_2_1 24 rfl rfl
theorem dJ2_compareTo_2_0 : decode cJ2_compareTo_2 0 = .ok (.aload_n 0, 1) := dk_42 (dk_at dksJ2_compareTo_2_0 0 rfl rfl)
theorem dJ2_compareTo_2_1 : decode cJ2_compareTo_2 1 = .ok (.getfield 9, 3) := dk_180 0 9 (dk_at dksJ2_compareTo_2_0 1 rfl rfl)
theorem dJ2_compareTo_2_4 : decode cJ2_compareTo_2 4 = .ok (.astore_n 2, 1) := dk_77 (dk_at dksJ2_compareTo_2_0 4 rfl rfl)
theorem dJ2_compareTo_2_5 : decode cJ2_compareTo_2 5 = .ok (.aload_n 1, 1) := dk_43 (dk_at dksJ2_compareTo_2_0 5 rfl rfl)
theorem dJ2_compareTo_2_6 : decode cJ2_compareTo_2 6 = .ok (.getfield 9, 3) := dk_180 0 9 (dk_at dksJ2_compareTo_2_0 6 rfl rfl)
theorem dJ2_compareTo_2_9 : decode cJ2_compareTo_2 9 = .ok (.astore_n 3, 1) := dk_78 (dk_at dksJ2_compareTo_2_0 9 rfl rfl)
theorem dJ2_compareTo_2_10 : decode cJ2_compareTo_2 10 = .ok (.aload_n 0, 1) := dk_42 (dk_at dksJ2_compareTo_2_0 10 rfl rfl)
theorem dJ2_compareTo_2_11 : decode cJ2_compareTo_2 11 = .ok (.invokevirtual 335, 3) := dk_182 1 79 (dk_at dksJ2_compareTo_2_0 11 rfl rfl)
theorem dJ2_compareTo_2_14 : decode cJ2_compareTo_2 14 = .ok (.istore 4, 2) := dk_54 4 (dk_at dksJ2_compareTo_2_0 14 rfl rfl)
theorem dJ2_compareTo_2_16 : decode cJ2_compareTo_2 16 = .ok (.iload 4, 2) := dk_21 4 (dk_at dksJ2_compareTo_2_0 16 rfl rfl)
theorem dJ2_compareTo_2_18 : decode cJ2_compareTo_2 18 = .ok (.aload_n 1, 1) := dk_43 (dk_at dksJ2_compareTo_2_0 18 rfl rfl)
theorem dJ2_compareTo_2_19 : decode cJ2_compareTo_2 19 = .ok (.invokevirtual 335, 3) := dk_182 1 79 (dk_at dksJ2_compareTo_2_0 19 rfl rfl)
theorem dJ2_compareTo_2_22 : decode cJ2_compareTo_2 22 = .ok (.if_icmp .ne 22, 3) := dk_160 0 22 (dk_at dksJ2_compareTo_2_1 0 rfl rfl)
theorem dJ2_compareTo_2_25 : decode cJ2_compareTo_2 25 = .ok (.iload 4, 2) := dk_21 4 (dk_at dksJ2_compareTo_2_1 3 rfl rfl)
theorem dJ2_compareTo_2_27 : decode cJ2_compareTo_2 27 = .ok (.ifCond .ne 11, 3) := dk_154 0 11 (dk_at dksJ2_compareTo_2_1 5 rfl rfl)
theorem dJ2_compareTo_2_30 : decode cJ2_compareTo_2 30 = .ok (.aload_n 2, 1) := dk_44 (dk_at dksJ2_compareTo_2_1 8 rfl rfl)
theorem dJ2_compareTo_2_31 : decode cJ2_compareTo_2 31 = .ok (.aload_n 3, 1) := dk_45 (dk_at dksJ2_compareTo_2_1 9 rfl rfl)
theorem dJ2_compareTo_2_32 : decode cJ2_compareTo_2 32 = .ok (.invokestatic 586, 3) := dk_184 2 74 (dk_at dksJ2_compareTo_2_1 10 rfl rfl)
theorem dJ2_compareTo_2_35 : decode cJ2_compareTo_2 35 = .ok (.goto 8, 3) := dk_167 0 8 (dk_at dksJ2_compareTo_2_1 13 rfl rfl)
theorem dJ2_compareTo_2_38 : decode cJ2_compareTo_2 38 = .ok (.aload_n 2, 1) := dk_44 (dk_at dksJ2_compareTo_2_1 16 rfl rfl)
theorem dJ2_compareTo_2_39 : decode cJ2_compareTo_2 39 = .ok (.aload_n 3, 1) := dk_45 (dk_at dksJ2_compareTo_2_1 17 rfl rfl)
theorem dJ2_compareTo_2_40 : decode cJ2_compareTo_2 40 = .ok (.invokestatic 590, 3) := dk_184 2 78 (dk_at dksJ2_compareTo_2_1 18 rfl rfl)
theorem dJ2_compareTo_2_43 : decode cJ2_compareTo_2 43 = .ok (.ireturn, 1) := dk_172 (dk_at dksJ2_compareTo_2_1 21 rfl rfl)
theorem dJ2_compareTo_2_44 : decode cJ2_compareTo_2 44 = .ok (.iload 4, 2) := dk_21 4 (dk_at dksJ2_compareTo_2_1 22 rfl rfl)
theorem dJ2_compareTo_2_46 : decode cJ2_compareTo_2 46 = .ok (.ifCond .ne 11, 3) := dk_154 0 11 (dk_at dksJ2_compareTo_2_2 0 rfl rfl)
theorem dJ2_compareTo_2_49 : decode cJ2_compareTo_2 49 = .ok (.aload_n 2, 1) := dk_44 (dk_at dksJ2_compareTo_2_2 3 rfl rfl)
theorem dJ2_compareTo_2_50 : decode cJ2_compareTo_2 50 = .ok (.aload_n 3, 1) := dk_45 (dk_at dksJ2_compareTo_2_2 4 rfl rfl)
theorem dJ2_compareTo_2_51 : decode cJ2_compareTo_2 51 = .ok (.invokestatic 591, 3) := dk_184 2 79 (dk_at dksJ2_compareTo_2_2 5 rfl rfl)
theorem dJ2_compareTo_2_54 : decode cJ2_compareTo_2 54 = .ok (.goto 8, 3) := dk_167 0 8 (dk_at dksJ2_compareTo_2_2 8 rfl rfl)
theorem dJ2_compareTo_2_57 : decode cJ2_compareTo_2 57 = .ok (.aload_n 2, 1) := dk_44 (dk_at dksJ2_compareTo_2_2 11 rfl rfl)
theorem dJ2_compareTo_2_58 : decode cJ2_compareTo_2 58 = .ok (.aload_n 3, 1) := dk_45 (dk_at dksJ2_compareTo_2_2 12 rfl rfl)
theorem dJ2_compareTo_2_59 : decode cJ2_compareTo_2 59 = .ok (.invokestatic 594, 3) := dk_184 2 82 (dk_at dksJ2_compareTo_2_2 13 rfl rfl)
theorem dJ2_compareTo_2_62 : decode cJ2_compareTo_2 62 = .ok (.ireturn, 1) := dk_172 (dk_at dksJ2_compareTo_2_2 16 rfl rfl)
abbrev cJ2_checkOffset : ByteArray := prog_41_method_156_code
def yJ2_checkOffset : MethodName := ⟨RJ2, "checkOffset", "(II)V"⟩
def dkwJ2_checkOffset_0 : List UInt8 := [26, 27, 27, 178, 4, 29, 184, 4, 38, 87, 177]
abbrev dktJ2_checkOffset_0 : List UInt8 := dkwJ2_checkOffset_0 ++ []
theorem dksJ2_checkOffset_0 : cJ2_checkOffset.data.toList.drop 0 = dktJ2_checkOffset_0 := by decide +kernel
theorem dJ2_checkOffset_0 : decode cJ2_checkOffset 0 = .ok (.iload_n 0, 1) := dk_26 (dk_at dksJ2_checkOffset_0 0 rfl rfl)
theorem dJ2_checkOffset_1 : decode cJ2_checkOffset 1 = .ok (.iload_n 1, 1) := dk_27 (dk_at dksJ2_checkOffset_0 1 rfl rfl)
theorem dJ2_checkOffset_2 : decode cJ2_checkOffset 2 = .ok (.iload_n 1, 1) := dk_27 (dk_at dksJ2_checkOffset_0 2 rfl rfl)
theorem dJ2_checkOffset_3 : decode cJ2_checkOffset 3 = .ok (.getstatic 1053, 3) := dk_178 4 29 (dk_at dksJ2_checkOffset_0 3 rfl rfl)
theorem dJ2_checkOffset_6 : decode cJ2_checkOffset 6 = .ok (.invokestatic 1062, 3) := dk_184 4 38 (dk_at dksJ2_checkOffset_0 6 rfl rfl)
theorem dJ2_checkOffset_9 : decode cJ2_checkOffset 9 = .ok (.pop, 1) := dk_87 (dk_at dksJ2_checkOffset_0 9 rfl rfl)
theorem dJ2_checkOffset_10 : decode cJ2_checkOffset 10 = .ok (.return_, 1) := dk_177 (dk_at dksJ2_checkOffset_0 10 rfl rfl)
theorem q143 : (Jvm.Cond.initialized "java/lang/String") ∈ lw_all := lw_g (lw_at lw_m1 4 rfl) rfl
theorem q208 : (Jvm.Cond.laysStatic "java/lang/String" "COMPACT_STRINGS" "Z") ∈ lw_tbl := lw_at lw_m1 69 rfl
theorem q219 : (Jvm.Cond.fieldLink "java/lang/String" (1048 : Nat) "java/lang/AbstractStringBuilder" "maybeLatin1" "Z") ∈ lw_all := lw_g (lw_at lw_m1 80 rfl) rfl
theorem q438 : (Jvm.Cond.instantiable "java/lang/String" (4 : Nat)) ∈ lw_all := lw_g (lw_at lw_m2 59 rfl) rfl
theorem q439 : (Jvm.Cond.laysFinal "java/lang/String" "java/lang/String" "value" "[B") ∈ lw_all := lw_g (lw_at lw_m2 60 rfl) rfl
theorem q440 : (Jvm.Cond.soleField "java/lang/String" "value") ∈ lw_all := lw_g (lw_at lw_m2 61 rfl) rfl
theorem q441 : (Jvm.Cond.laysFinal "java/lang/String" "java/lang/String" "coder" "B") ∈ lw_all := lw_g (lw_at lw_m2 62 rfl) rfl
theorem q442 : (Jvm.Cond.soleField "java/lang/String" "coder") ∈ lw_all := lw_g (lw_at lw_m2 63 rfl) rfl
theorem q571 : (Jvm.Cond.static ({ cls := "java/lang/String", name := "checkBoundsBeginEnd", desc := "(III)V" } : Jvm.MethodName)) ∈ lw_all := lw_g (lw_at lw_m2 192 rfl) rfl
theorem q572 : (Jvm.Cond.code ({ cls := "java/lang/String", name := "checkBoundsBeginEnd", desc := "(III)V" } : Jvm.MethodName) prog_41_method_158_code (3 : Nat) (Option.none : Option Jvm.ClassFile.FieldType)) ∈ lw_all := lw_g (lw_at lw_m2 193 rfl) rfl
theorem q573 : (Jvm.Cond.fieldLink "java/lang/String" (1053 : Nat) "jdk/internal/util/Preconditions" "SIOOBE_FORMATTER" "Ljava/util/function/BiFunction;") ∈ lw_all := lw_g (lw_at lw_m2 194 rfl) rfl
theorem q575 : (Jvm.Cond.methodLink "java/lang/String" (1062 : Nat) ({ cls := "jdk/internal/util/Preconditions", name := "checkFromToIndex", desc := "(IIILjava/util/function/BiFunction;)I" } : Jvm.MethodName)) ∈ lw_all := lw_g (lw_at lw_m2 196 rfl) rfl
theorem q588 : (Jvm.Cond.instanceMethod ({ cls := "java/lang/String", name := "length", desc := "()I" } : Jvm.MethodName)) ∈ lw_all := lw_g (lw_at lw_m2 209 rfl) rfl
theorem q589 : (Jvm.Cond.selects "java/lang/String" ({ cls := "java/lang/String", name := "length", desc := "()I" } : Jvm.MethodName) ({ cls := "java/lang/String", name := "length", desc := "()I" } : Jvm.MethodName)) ∈ lw_all := lw_g (lw_at lw_m2 210 rfl) rfl
theorem q590 : (Jvm.Cond.code ({ cls := "java/lang/String", name := "length", desc := "()I" } : Jvm.MethodName) prog_41_method_54_code (1 : Nat) (Option.some Jvm.ClassFile.FieldType.int)) ∈ lw_all := lw_g (lw_at lw_m2 211 rfl) rfl
theorem q591 : (Jvm.Cond.methodLink "java/lang/String" (335 : Nat) ({ cls := "java/lang/String", name := "coder", desc := "()B" } : Jvm.MethodName)) ∈ lw_all := lw_g (lw_at lw_m2 212 rfl) rfl
theorem q592 : (Jvm.Cond.instanceMethod ({ cls := "java/lang/String", name := "coder", desc := "()B" } : Jvm.MethodName)) ∈ lw_all := lw_g (lw_at lw_m2 213 rfl) rfl
theorem q593 : (Jvm.Cond.selects "java/lang/String" ({ cls := "java/lang/String", name := "coder", desc := "()B" } : Jvm.MethodName) ({ cls := "java/lang/String", name := "coder", desc := "()B" } : Jvm.MethodName)) ∈ lw_all := lw_g (lw_at lw_m2 214 rfl) rfl
theorem q594 : (Jvm.Cond.code ({ cls := "java/lang/String", name := "coder", desc := "()B" } : Jvm.MethodName) prog_41_method_152_code (1 : Nat) (Option.some Jvm.ClassFile.FieldType.byte)) ∈ lw_all := lw_g (lw_at lw_m2 215 rfl) rfl
theorem q595 : (Jvm.Cond.fieldLink "java/lang/String" (38 : Nat) "java/lang/String" "COMPACT_STRINGS" "Z") ∈ lw_all := lw_g (lw_at lw_m2 216 rfl) rfl
theorem q619 : (Jvm.Cond.static ({ cls := "java/lang/String", name := "checkBoundsOffCount", desc := "(III)I" } : Jvm.MethodName)) ∈ lw_all := lw_g (lw_at lw_m3 0 rfl) rfl
theorem q620 : (Jvm.Cond.code ({ cls := "java/lang/String", name := "checkBoundsOffCount", desc := "(III)I" } : Jvm.MethodName) prog_41_method_157_code (3 : Nat) (Option.some Jvm.ClassFile.FieldType.int)) ∈ lw_all := lw_g (lw_at lw_m3 1 rfl) rfl
theorem q621 : (Jvm.Cond.methodLink "java/lang/String" (1065 : Nat) ({ cls := "jdk/internal/util/Preconditions", name := "checkFromIndexSize", desc := "(IIILjava/util/function/BiFunction;)I" } : Jvm.MethodName)) ∈ lw_all := lw_g (lw_at lw_m3 2 rfl) rfl
theorem q625 : (Jvm.Cond.instanceMethod ({ cls := "java/lang/String", name := "getBytes", desc := "([BIB)V" } : Jvm.MethodName)) ∈ lw_all := lw_g (lw_at lw_m3 6 rfl) rfl
theorem q626 : (Jvm.Cond.selects "java/lang/String" ({ cls := "java/lang/String", name := "getBytes", desc := "([BIB)V" } : Jvm.MethodName) ({ cls := "java/lang/String", name := "getBytes", desc := "([BIB)V" } : Jvm.MethodName)) ∈ lw_all := lw_g (lw_at lw_m3 7 rfl) rfl
theorem q627 : (Jvm.Cond.code ({ cls := "java/lang/String", name := "getBytes", desc := "([BIB)V" } : Jvm.MethodName) prog_41_method_147_code (4 : Nat) (Option.none : Option Jvm.ClassFile.FieldType)) ∈ lw_all := lw_g (lw_at lw_m3 8 rfl) rfl
theorem q628 : (Jvm.Cond.methodLink "java/lang/String" (212 : Nat) ({ cls := "java/lang/System", name := "arraycopy", desc := "(Ljava/lang/Object;ILjava/lang/Object;II)V" } : Jvm.MethodName)) ∈ lw_all := lw_g (lw_at lw_m3 9 rfl) rfl
theorem q629 : (Jvm.Cond.methodLink "java/lang/String" (106 : Nat) ({ cls := "java/lang/StringLatin1", name := "inflate", desc := "([BI[BII)V" } : Jvm.MethodName)) ∈ lw_all := lw_g (lw_at lw_m3 10 rfl) rfl
theorem q661 : (Jvm.Cond.instanceMethod ({ cls := "java/lang/String", name := "<init>", desc := "(Ljava/lang/StringBuilder;)V" } : Jvm.MethodName)) ∈ lw_all := lw_g (lw_at lw_m3 42 rfl) rfl
theorem q662 : (Jvm.Cond.code ({ cls := "java/lang/String", name := "<init>", desc := "(Ljava/lang/StringBuilder;)V" } : Jvm.MethodName) prog_41_method_53_code (2 : Nat) (Option.none : Option Jvm.ClassFile.FieldType)) ∈ lw_all := lw_g (lw_at lw_m3 43 rfl) rfl
theorem q663 : (Jvm.Cond.methodLink "java/lang/String" (489 : Nat) ({ cls := "java/lang/String", name := "<init>", desc := "(Ljava/lang/AbstractStringBuilder;Ljava/lang/Void;)V" } : Jvm.MethodName)) ∈ lw_all := lw_g (lw_at lw_m3 44 rfl) rfl
theorem q664 : (Jvm.Cond.instanceMethod ({ cls := "java/lang/String", name := "<init>", desc := "(Ljava/lang/AbstractStringBuilder;Ljava/lang/Void;)V" } : Jvm.MethodName)) ∈ lw_all := lw_g (lw_at lw_m3 45 rfl) rfl
theorem q665 : (Jvm.Cond.code ({ cls := "java/lang/String", name := "<init>", desc := "(Ljava/lang/AbstractStringBuilder;Ljava/lang/Void;)V" } : Jvm.MethodName) prog_41_method_150_code (5 : Nat) (Option.none : Option Jvm.ClassFile.FieldType)) ∈ lw_all := lw_g (lw_at lw_m3 46 rfl) rfl
theorem q666 : (Jvm.Cond.methodLink "java/lang/String" (1 : Nat) ({ cls := "java/lang/Object", name := "<init>", desc := "()V" } : Jvm.MethodName)) ∈ lw_all := lw_g (lw_at lw_m3 47 rfl) rfl
theorem q667 : (Jvm.Cond.methodLink "java/lang/String" (552 : Nat) ({ cls := "java/lang/AbstractStringBuilder", name := "getValue", desc := "()[B" } : Jvm.MethodName)) ∈ lw_all := lw_g (lw_at lw_m3 48 rfl) rfl
theorem q672 : (Jvm.Cond.methodLink "java/lang/String" (549 : Nat) ({ cls := "java/lang/AbstractStringBuilder", name := "length", desc := "()I" } : Jvm.MethodName)) ∈ lw_all := lw_g (lw_at lw_m3 53 rfl) rfl
theorem q680 : (Jvm.Cond.methodLink "java/lang/String" (1047 : Nat) ({ cls := "java/lang/AbstractStringBuilder", name := "isLatin1", desc := "()Z" } : Jvm.MethodName)) ∈ lw_all := lw_g (lw_at lw_m3 61 rfl) rfl
theorem q681 : (Jvm.Cond.methodLink "java/lang/String" (54 : Nat) ({ cls := "java/util/Arrays", name := "copyOfRange", desc := "([BII)[B" } : Jvm.MethodName)) ∈ lw_all := lw_g (lw_at lw_m3 62 rfl) rfl
theorem q703 : (Jvm.Cond.methodLink "java/lang/String" (1051 : Nat) ({ cls := "java/lang/StringUTF16", name := "compress", desc := "([BII)[B" } : Jvm.MethodName)) ∈ lw_all := lw_g (lw_at lw_m3 84 rfl) rfl
theorem q713 : (Jvm.Cond.methodLink "java/lang/String" (47 : Nat) ({ cls := "java/lang/StringUTF16", name := "coderFromArrayLen", desc := "([BI)B" } : Jvm.MethodName)) ∈ lw_all := lw_g (lw_at lw_m3 94 rfl) rfl
theorem q716 : (Jvm.Cond.fieldLink "java/lang/String" (9 : Nat) "java/lang/String" "value" "[B") ∈ lw_all := lw_g (lw_at lw_m3 97 rfl) rfl
theorem q717 : (Jvm.Cond.fieldLink "java/lang/String" (15 : Nat) "java/lang/String" "coder" "B") ∈ lw_all := lw_g (lw_at lw_m3 98 rfl) rfl
theorem q718 : (Jvm.Cond.fieldLink "java/lang/String" (19 : Nat) "java/lang/String" "hash" "I") ∈ lw_all := lw_g (lw_at lw_m3 99 rfl) rfl
theorem q719 : (Jvm.Cond.fieldLink "java/lang/String" (23 : Nat) "java/lang/String" "hashIsZero" "Z") ∈ lw_all := lw_g (lw_at lw_m3 100 rfl) rfl
theorem q720 : (Jvm.Cond.lays "java/lang/String" "java/lang/String" "hash" "I") ∈ lw_all := lw_g (lw_at lw_m3 101 rfl) rfl
theorem q721 : (Jvm.Cond.soleField "java/lang/String" "hash") ∈ lw_all := lw_g (lw_at lw_m3 102 rfl) rfl
theorem q722 : (Jvm.Cond.lays "java/lang/String" "java/lang/String" "hashIsZero" "Z") ∈ lw_all := lw_g (lw_at lw_m3 103 rfl) rfl
theorem q723 : (Jvm.Cond.soleField "java/lang/String" "hashIsZero") ∈ lw_all := lw_g (lw_at lw_m3 104 rfl) rfl
theorem q724 : (Jvm.Cond.superclass "java/lang/String" "java/lang/Object") ∈ lw_all := lw_g (lw_at lw_m3 105 rfl) rfl
theorem q890 : (Jvm.Cond.selects "java/lang/String" ({ cls := "java/lang/Object", name := "getClass", desc := "()Ljava/lang/Class;" } : Jvm.MethodName) ({ cls := "java/lang/Object", name := "getClass", desc := "()Ljava/lang/Class;" } : Jvm.MethodName)) ∈ lw_all := lw_g (lw_at lw_m4 31 rfl) rfl
theorem q1141 : (Jvm.Cond.static ({ cls := "java/lang/String", name := "checkIndex", desc := "(II)V" } : Jvm.MethodName)) ∈ lw_all := lw_g (lw_at lw_m5 42 rfl) rfl
theorem q1142 : (Jvm.Cond.code ({ cls := "java/lang/String", name := "checkIndex", desc := "(II)V" } : Jvm.MethodName) prog_41_method_155_code (2 : Nat) (Option.none : Option Jvm.ClassFile.FieldType)) ∈ lw_all := lw_g (lw_at lw_m5 43 rfl) rfl
theorem q1143 : (Jvm.Cond.methodLink "java/lang/String" (1059 : Nat) ({ cls := "jdk/internal/util/Preconditions", name := "checkIndex", desc := "(IILjava/util/function/BiFunction;)I" } : Jvm.MethodName)) ∈ lw_all := lw_g (lw_at lw_m5 44 rfl) rfl
theorem q1152 : (Jvm.Cond.instanceMethod ({ cls := "java/lang/String", name := "indexOf", desc := "(I)I" } : Jvm.MethodName)) ∈ lw_all := lw_g (lw_at lw_m5 53 rfl) rfl
theorem q1153 : (Jvm.Cond.selects "java/lang/String" ({ cls := "java/lang/String", name := "indexOf", desc := "(I)I" } : Jvm.MethodName) ({ cls := "java/lang/String", name := "indexOf", desc := "(I)I" } : Jvm.MethodName)) ∈ lw_all := lw_g (lw_at lw_m5 54 rfl) rfl
theorem q1154 : (Jvm.Cond.code ({ cls := "java/lang/String", name := "indexOf", desc := "(I)I" } : Jvm.MethodName) prog_41_method_79_code (2 : Nat) (Option.some Jvm.ClassFile.FieldType.int)) ∈ lw_all := lw_g (lw_at lw_m5 55 rfl) rfl
theorem q1155 : (Jvm.Cond.methodLink "java/lang/String" (633 : Nat) ({ cls := "java/lang/String", name := "indexOf", desc := "(II)I" } : Jvm.MethodName)) ∈ lw_all := lw_g (lw_at lw_m5 56 rfl) rfl
theorem q1156 : (Jvm.Cond.instanceMethod ({ cls := "java/lang/String", name := "indexOf", desc := "(II)I" } : Jvm.MethodName)) ∈ lw_all := lw_g (lw_at lw_m5 57 rfl) rfl
theorem q1157 : (Jvm.Cond.selects "java/lang/String" ({ cls := "java/lang/String", name := "indexOf", desc := "(II)I" } : Jvm.MethodName) ({ cls := "java/lang/String", name := "indexOf", desc := "(II)I" } : Jvm.MethodName)) ∈ lw_all := lw_g (lw_at lw_m5 58 rfl) rfl
theorem q1158 : (Jvm.Cond.code ({ cls := "java/lang/String", name := "indexOf", desc := "(II)I" } : Jvm.MethodName) prog_41_method_80_code (3 : Nat) (Option.some Jvm.ClassFile.FieldType.int)) ∈ lw_all := lw_g (lw_at lw_m5 59 rfl) rfl
theorem q1159 : (Jvm.Cond.methodLink "java/lang/String" (492 : Nat) ({ cls := "java/lang/String", name := "isLatin1", desc := "()Z" } : Jvm.MethodName)) ∈ lw_all := lw_g (lw_at lw_m5 60 rfl) rfl
theorem q1160 : (Jvm.Cond.instanceMethod ({ cls := "java/lang/String", name := "isLatin1", desc := "()Z" } : Jvm.MethodName)) ∈ lw_all := lw_g (lw_at lw_m5 61 rfl) rfl
theorem q1161 : (Jvm.Cond.selects "java/lang/String" ({ cls := "java/lang/String", name := "isLatin1", desc := "()Z" } : Jvm.MethodName) ({ cls := "java/lang/String", name := "isLatin1", desc := "()Z" } : Jvm.MethodName)) ∈ lw_all := lw_g (lw_at lw_m5 62 rfl) rfl
theorem q1162 : (Jvm.Cond.code ({ cls := "java/lang/String", name := "isLatin1", desc := "()Z" } : Jvm.MethodName) prog_41_method_154_code (1 : Nat) (Option.some Jvm.ClassFile.FieldType.boolean)) ∈ lw_all := lw_g (lw_at lw_m5 63 rfl) rfl
theorem q1163 : (Jvm.Cond.methodLink "java/lang/String" (505 : Nat) ({ cls := "java/lang/String", name := "length", desc := "()I" } : Jvm.MethodName)) ∈ lw_all := lw_g (lw_at lw_m5 64 rfl) rfl
theorem q1164 : (Jvm.Cond.methodLink "java/lang/String" (637 : Nat) ({ cls := "java/lang/StringLatin1", name := "indexOf", desc := "([BIII)I" } : Jvm.MethodName)) ∈ lw_all := lw_g (lw_at lw_m5 65 rfl) rfl
theorem q1175 : (Jvm.Cond.methodLink "java/lang/String" (640 : Nat) ({ cls := "java/lang/StringUTF16", name := "indexOf", desc := "([BIII)I" } : Jvm.MethodName)) ∈ lw_all := lw_g (lw_at lw_m5 76 rfl) rfl
theorem q1202 : (Jvm.Cond.static ({ cls := "java/lang/String", name := "valueOf", desc := "(C)Ljava/lang/String;" } : Jvm.MethodName)) ∈ lw_all := lw_g (lw_at lw_m5 103 rfl) rfl
theorem q1203 : (Jvm.Cond.code ({ cls := "java/lang/String", name := "valueOf", desc := "(C)Ljava/lang/String;" } : Jvm.MethodName) prog_41_method_139_code (1 : Nat) (Option.some (Jvm.ClassFile.FieldType.object "java/lang/String"))) ∈ lw_all := lw_g (lw_at lw_m5 104 rfl) rfl
theorem q1204 : (Jvm.Cond.methodLink "java/lang/String" (1015 : Nat) ({ cls := "java/lang/StringLatin1", name := "canEncode", desc := "(C)Z" } : Jvm.MethodName)) ∈ lw_all := lw_g (lw_at lw_m5 105 rfl) rfl
theorem q1205 : (Jvm.Cond.classLink "java/lang/String" (10 : Nat) "java/lang/String") ∈ lw_all := lw_g (lw_at lw_m5 106 rfl) rfl
theorem q1206 : (Jvm.Cond.methodLink "java/lang/String" (1018 : Nat) ({ cls := "java/lang/StringLatin1", name := "toBytes", desc := "(C)[B" } : Jvm.MethodName)) ∈ lw_all := lw_g (lw_at lw_m5 107 rfl) rfl
theorem q1209 : (Jvm.Cond.methodLink "java/lang/String" (209 : Nat) ({ cls := "java/lang/String", name := "<init>", desc := "([BB)V" } : Jvm.MethodName)) ∈ lw_all := lw_g (lw_at lw_m5 110 rfl) rfl
theorem q1210 : (Jvm.Cond.instanceMethod ({ cls := "java/lang/String", name := "<init>", desc := "([BB)V" } : Jvm.MethodName)) ∈ lw_all := lw_g (lw_at lw_m5 111 rfl) rfl
theorem q1211 : (Jvm.Cond.code ({ cls := "java/lang/String", name := "<init>", desc := "([BB)V" } : Jvm.MethodName) prog_41_method_151_code (3 : Nat) (Option.none : Option Jvm.ClassFile.FieldType)) ∈ lw_all := lw_g (lw_at lw_m5 112 rfl) rfl
theorem q1212 : (Jvm.Cond.methodLink "java/lang/String" (1021 : Nat) ({ cls := "java/lang/StringUTF16", name := "toBytes", desc := "(C)[B" } : Jvm.MethodName)) ∈ lw_all := lw_g (lw_at lw_m5 113 rfl) rfl
theorem q1240 : (Jvm.Cond.castable "java/lang/String" "java/lang/CharSequence") ∈ lw_tbl := lw_at lw_m5 141 rfl
theorem q1241 : (Jvm.Cond.selects "java/lang/String" ({ cls := "java/lang/CharSequence", name := "toString", desc := "()Ljava/lang/String;" } : Jvm.MethodName) ({ cls := "java/lang/String", name := "toString", desc := "()Ljava/lang/String;" } : Jvm.MethodName)) ∈ lw_all := lw_g (lw_at lw_m5 142 rfl) rfl
theorem q1242 : (Jvm.Cond.unhidden "java/lang/String" "toString" "()Ljava/lang/String;") ∈ lw_tbl := lw_at lw_m5 143 rfl
theorem q1243 : (Jvm.Cond.instanceMethod ({ cls := "java/lang/String", name := "toString", desc := "()Ljava/lang/String;" } : Jvm.MethodName)) ∈ lw_all := lw_g (lw_at lw_m5 144 rfl) rfl
theorem q1244 : (Jvm.Cond.publicMethod ({ cls := "java/lang/String", name := "toString", desc := "()Ljava/lang/String;" } : Jvm.MethodName)) ∈ lw_tbl := lw_at lw_m5 145 rfl
theorem q1245 : (Jvm.Cond.code ({ cls := "java/lang/String", name := "toString", desc := "()Ljava/lang/String;" } : Jvm.MethodName) prog_41_method_126_code (1 : Nat) (Option.some (Jvm.ClassFile.FieldType.object "java/lang/String"))) ∈ lw_all := lw_g (lw_at lw_m5 146 rfl) rfl
theorem q1251 : (Jvm.Cond.instanceMethod ({ cls := "java/lang/String", name := "equals", desc := "(Ljava/lang/Object;)Z" } : Jvm.MethodName)) ∈ lw_all := lw_g (lw_at lw_m5 152 rfl) rfl
theorem q1252 : (Jvm.Cond.selects "java/lang/String" ({ cls := "java/lang/String", name := "equals", desc := "(Ljava/lang/Object;)Z" } : Jvm.MethodName) ({ cls := "java/lang/String", name := "equals", desc := "(Ljava/lang/Object;)Z" } : Jvm.MethodName)) ∈ lw_all := lw_g (lw_at lw_m5 153 rfl) rfl
theorem q1253 : (Jvm.Cond.code ({ cls := "java/lang/String", name := "equals", desc := "(Ljava/lang/Object;)Z" } : Jvm.MethodName) prog_41_method_66_code (3 : Nat) (Option.some Jvm.ClassFile.FieldType.boolean)) ∈ lw_all := lw_g (lw_at lw_m5 154 rfl) rfl
theorem q1254 : (Jvm.Cond.methodLink "java/lang/String" (541 : Nat) ({ cls := "java/lang/StringLatin1", name := "equals", desc := "([B[B)Z" } : Jvm.MethodName)) ∈ lw_all := lw_g (lw_at lw_m5 155 rfl) rfl
theorem q1310 : (Jvm.Cond.instanceMethod ({ cls := "java/lang/String", name := "hashCode", desc := "()I" } : Jvm.MethodName)) ∈ lw_all := lw_g (lw_at lw_m5 211 rfl) rfl
theorem q1311 : (Jvm.Cond.selects "java/lang/String" ({ cls := "java/lang/String", name := "hashCode", desc := "()I" } : Jvm.MethodName) ({ cls := "java/lang/String", name := "hashCode", desc := "()I" } : Jvm.MethodName)) ∈ lw_all := lw_g (lw_at lw_m5 212 rfl) rfl
theorem q1312 : (Jvm.Cond.code ({ cls := "java/lang/String", name := "hashCode", desc := "()I" } : Jvm.MethodName) prog_41_method_78_code (2 : Nat) (Option.some Jvm.ClassFile.FieldType.int)) ∈ lw_all := lw_g (lw_at lw_m5 213 rfl) rfl
theorem q1313 : (Jvm.Cond.methodLink "java/lang/String" (628 : Nat) ({ cls := "java/lang/StringLatin1", name := "hashCode", desc := "([B)I" } : Jvm.MethodName)) ∈ lw_all := lw_g (lw_at lw_m5 214 rfl) rfl
theorem q1362 : (Jvm.Cond.methodLink "java/lang/String" (632 : Nat) ({ cls := "java/lang/StringUTF16", name := "hashCode", desc := "([B)I" } : Jvm.MethodName)) ∈ lw_all := lw_g (lw_at lw_m6 23 rfl) rfl
theorem q1592 : (Jvm.Cond.selects "java/lang/String" ({ cls := "java/lang/CharSequence", name := "charAt", desc := "(I)C" } : Jvm.MethodName) ({ cls := "java/lang/String", name := "charAt", desc := "(I)C" } : Jvm.MethodName)) ∈ lw_all := lw_g (lw_at lw_m7 13 rfl) rfl
theorem q1593 : (Jvm.Cond.unhidden "java/lang/String" "charAt" "(I)C") ∈ lw_tbl := lw_at lw_m7 14 rfl
theorem q1594 : (Jvm.Cond.instanceMethod ({ cls := "java/lang/String", name := "charAt", desc := "(I)C" } : Jvm.MethodName)) ∈ lw_all := lw_g (lw_at lw_m7 15 rfl) rfl
theorem q1595 : (Jvm.Cond.publicMethod ({ cls := "java/lang/String", name := "charAt", desc := "(I)C" } : Jvm.MethodName)) ∈ lw_tbl := lw_at lw_m7 16 rfl
theorem q1596 : (Jvm.Cond.code ({ cls := "java/lang/String", name := "charAt", desc := "(I)C" } : Jvm.MethodName) prog_41_method_56_code (2 : Nat) (Option.some Jvm.ClassFile.FieldType.char)) ∈ lw_all := lw_g (lw_at lw_m7 17 rfl) rfl
theorem q1597 : (Jvm.Cond.methodLink "java/lang/String" (495 : Nat) ({ cls := "java/lang/StringLatin1", name := "charAt", desc := "([BI)C" } : Jvm.MethodName)) ∈ lw_all := lw_g (lw_at lw_m7 18 rfl) rfl
theorem q1601 : (Jvm.Cond.methodLink "java/lang/String" (498 : Nat) ({ cls := "java/lang/StringUTF16", name := "charAt", desc := "([BI)C" } : Jvm.MethodName)) ∈ lw_all := lw_g (lw_at lw_m7 22 rfl) rfl
theorem q1691 : (Jvm.Cond.selects "java/lang/String" ({ cls := "java/lang/CharSequence", name := "length", desc := "()I" } : Jvm.MethodName) ({ cls := "java/lang/String", name := "length", desc := "()I" } : Jvm.MethodName)) ∈ lw_all := lw_g (lw_at lw_m7 112 rfl) rfl
theorem q1692 : (Jvm.Cond.unhidden "java/lang/String" "length" "()I") ∈ lw_tbl := lw_at lw_m7 113 rfl
theorem q1693 : (Jvm.Cond.publicMethod ({ cls := "java/lang/String", name := "length", desc := "()I" } : Jvm.MethodName)) ∈ lw_tbl := lw_at lw_m7 114 rfl
theorem q2207 : (Jvm.Cond.castable "java/lang/String" "java/lang/Comparable") ∈ lw_tbl := lw_at lw_m9 148 rfl
theorem q2208 : (Jvm.Cond.selects "java/lang/String" ({ cls := "java/lang/Comparable", name := "compareTo", desc := "(Ljava/lang/Object;)I" } : Jvm.MethodName) ({ cls := "java/lang/String", name := "compareTo", desc := "(Ljava/lang/Object;)I" } : Jvm.MethodName)) ∈ lw_all := lw_g (lw_at lw_m9 149 rfl) rfl
theorem q2209 : (Jvm.Cond.unhidden "java/lang/String" "compareTo" "(Ljava/lang/Object;)I") ∈ lw_tbl := lw_at lw_m9 150 rfl
theorem q2210 : (Jvm.Cond.instanceMethod ({ cls := "java/lang/String", name := "compareTo", desc := "(Ljava/lang/Object;)I" } : Jvm.MethodName)) ∈ lw_all := lw_g (lw_at lw_m9 151 rfl) rfl
theorem q2211 : (Jvm.Cond.publicMethod ({ cls := "java/lang/String", name := "compareTo", desc := "(Ljava/lang/Object;)I" } : Jvm.MethodName)) ∈ lw_tbl := lw_at lw_m9 152 rfl
theorem q2212 : (Jvm.Cond.code ({ cls := "java/lang/String", name := "compareTo", desc := "(Ljava/lang/Object;)I" } : Jvm.MethodName) prog_41_method_162_code (2 : Nat) (Option.some Jvm.ClassFile.FieldType.int)) ∈ lw_all := lw_g (lw_at lw_m9 153 rfl) rfl
theorem q2213 : (Jvm.Cond.methodLink "java/lang/String" (1084 : Nat) ({ cls := "java/lang/String", name := "compareTo", desc := "(Ljava/lang/String;)I" } : Jvm.MethodName)) ∈ lw_all := lw_g (lw_at lw_m9 154 rfl) rfl
theorem q2214 : (Jvm.Cond.instanceMethod ({ cls := "java/lang/String", name := "compareTo", desc := "(Ljava/lang/String;)I" } : Jvm.MethodName)) ∈ lw_all := lw_g (lw_at lw_m9 155 rfl) rfl
theorem q2215 : (Jvm.Cond.selects "java/lang/String" ({ cls := "java/lang/String", name := "compareTo", desc := "(Ljava/lang/String;)I" } : Jvm.MethodName) ({ cls := "java/lang/String", name := "compareTo", desc := "(Ljava/lang/String;)I" } : Jvm.MethodName)) ∈ lw_all := lw_g (lw_at lw_m9 156 rfl) rfl
theorem q2216 : (Jvm.Cond.code ({ cls := "java/lang/String", name := "compareTo", desc := "(Ljava/lang/String;)I" } : Jvm.MethodName) prog_41_method_71_code (5 : Nat) (Option.some Jvm.ClassFile.FieldType.int)) ∈ lw_all := lw_g (lw_at lw_m9 157 rfl) rfl
theorem q2217 : (Jvm.Cond.methodLink "java/lang/String" (586 : Nat) ({ cls := "java/lang/StringLatin1", name := "compareTo", desc := "([B[B)I" } : Jvm.MethodName)) ∈ lw_all := lw_g (lw_at lw_m9 158 rfl) rfl
theorem q2330 : (Jvm.Cond.methodLink "java/lang/String" (590 : Nat) ({ cls := "java/lang/StringUTF16", name := "compareTo", desc := "([B[B)I" } : Jvm.MethodName)) ∈ lw_all := lw_g (lw_at lw_m10 31 rfl) rfl
theorem q2336 : (Jvm.Cond.methodLink "java/lang/String" (591 : Nat) ({ cls := "java/lang/StringLatin1", name := "compareToUTF16", desc := "([B[B)I" } : Jvm.MethodName)) ∈ lw_all := lw_g (lw_at lw_m10 37 rfl) rfl
theorem q2347 : (Jvm.Cond.methodLink "java/lang/String" (594 : Nat) ({ cls := "java/lang/StringUTF16", name := "compareToLatin1", desc := "([B[B)I" } : Jvm.MethodName)) ∈ lw_all := lw_g (lw_at lw_m10 48 rfl) rfl
theorem q2373 : (Jvm.Cond.static ({ cls := "java/lang/String", name := "checkOffset", desc := "(II)V" } : Jvm.MethodName)) ∈ lw_all := lw_g (lw_at lw_m10 74 rfl) rfl
theorem q2374 : (Jvm.Cond.code ({ cls := "java/lang/String", name := "checkOffset", desc := "(II)V" } : Jvm.MethodName) prog_41_method_156_code (2 : Nat) (Option.none : Option Jvm.ClassFile.FieldType)) ∈ lw_all := lw_g (lw_at lw_m10 75 rfl) rfl
theorem q3477 : (Jvm.Cond.selects "java/lang/String" ({ cls := "java/lang/String", name := "charAt", desc := "(I)C" } : Jvm.MethodName) ({ cls := "java/lang/String", name := "charAt", desc := "(I)C" } : Jvm.MethodName)) ∈ lw_all := lw_g (lw_at lw_m14 218 rfl) rfl
theorem q3488 : (Jvm.Cond.castable "java/lang/String" "java/lang/Object") ∈ lw_tbl := lw_at lw_m14 229 rfl
theorem in_J2 : ∀ w ∈ wsJ20, w ∈ lw_all := lw_in wsJ20 [439, 441, 720, 722] (by decide +kernel) (by decide +kernel)


/-! java/util/AbstractQueue -/
set_option maxRecDepth 100000
def RJ20 : String := "java/util/AbstractQueue"
abbrev cJ20_init : ByteArray := prog_53_method_1_code
def yJ20_init : MethodName := ⟨RJ20, "<init>", "()V"⟩
theorem dJ20_init_0 : decode cJ20_init 0 = .ok (.aload_n 0, 1) := by decide +kernel
theorem dJ20_init_1 : decode cJ20_init 1 = .ok (.invokespecial 1, 3) := by decide +kernel
theorem dJ20_init_4 : decode cJ20_init 4 = .ok (.return_, 1) := by decide +kernel
theorem q167 : (Jvm.Cond.initialized "java/util/AbstractQueue") ∈ lw_all := lw_g (lw_at lw_m1 28 rfl) rfl
theorem q799 : (Jvm.Cond.instanceMethod ({ cls := "java/util/AbstractQueue", name := "<init>", desc := "()V" } : Jvm.MethodName)) ∈ lw_all := lw_g (lw_at lw_m3 180 rfl) rfl
theorem q800 : (Jvm.Cond.code ({ cls := "java/util/AbstractQueue", name := "<init>", desc := "()V" } : Jvm.MethodName) prog_53_method_1_code (1 : Nat) (Option.none : Option Jvm.ClassFile.FieldType)) ∈ lw_all := lw_g (lw_at lw_m3 181 rfl) rfl
theorem q801 : (Jvm.Cond.methodLink "java/util/AbstractQueue" (1 : Nat) ({ cls := "java/util/AbstractCollection", name := "<init>", desc := "()V" } : Jvm.MethodName)) ∈ lw_all := lw_g (lw_at lw_m3 182 rfl) rfl


/-! java/util/PriorityQueue -/
set_option maxRecDepth 100000
def RJ21 : String := "java/util/PriorityQueue"
def TJ21 : u_T := fun k => match k with
  | 0 => ("java/util/PriorityQueue", "queue", "[Ljava/lang/Object;", false)
  | 1 => ("java/util/PriorityQueue", "size", "I", false)
  | 2 => ("java/util/PriorityQueue", "comparator", "Ljava/util/Comparator;", true)
  | _ => ("java/util/PriorityQueue", "modCount", "I", false)
def tyJ21 : Nat → FieldType := fun k => match k with
  | 0 => .array (.object "java/lang/Object")
  | 1 => .int
  | 2 => .object "java/util/Comparator"
  | _ => .int
abbrev wsJ210 : List Cond := u_ws RJ21 TJ21 4
theorem nmJ21 : ∀ a, a < 4 → ∀ b, b < 4 → a ≠ b → (TJ21 a).2.1 ≠ (TJ21 b).2.1 := by decide +kernel
theorem tyJ21_ok : ∀ k, k < 4 → parseFieldDescriptor (TJ21 k).2.2.1 = some (tyJ21 k) := by decide +kernel
abbrev cJ21_init : ByteArray := prog_61_method_4_code
def yJ21_init : MethodName := ⟨RJ21, "<init>", "(ILjava/util/Comparator;)V"⟩
def dkwJ21_init_1 : List UInt8 := [181, 0, 17, 42, 44, 181, 0, 21, 177]
abbrev dktJ21_init_1 : List UInt8 := dkwJ21_init_1 ++ []
def dkwJ21_init_0 : List UInt8 := [42, 183, 0, 7, 27, 4, 162, 0, 11, 187, 0, 12, 89, 183, 0, 14, 191, 42, 27, 189, 0, 15]
abbrev dktJ21_init_0 : List UInt8 := dkwJ21_init_0 ++ dktJ21_init_1
theorem dksJ21_init_0 : cJ21_init.data.toList.drop 0 = dktJ21_init_0 := by decide +kernel
theorem dksJ21_init_1 : cJ21_init.data.toList.drop 22 = dktJ21_init_1 := dk_seg dksJ21_init_0 22 rfl rfl
theorem dJ21_init_0 : decode cJ21_init 0 = .ok (.aload_n 0, 1) := dk_42 (dk_at dksJ21_init_0 0 rfl rfl)
theorem dJ21_init_1 : decode cJ21_init 1 = .ok (.invokespecial 7, 3) := dk_183 0 7 (dk_at dksJ21_init_0 1 rfl rfl)
theorem dJ21_init_4 : decode cJ21_init 4 = .ok (.iload_n 1, 1) := dk_27 (dk_at dksJ21_init_0 4 rfl rfl)
theorem dJ21_init_5 : decode cJ21_init 5 = .ok (.iconst 1, 1) := dk_4 (dk_at dksJ21_init_0 5 rfl rfl)
theorem dJ21_init_6 : decode cJ21_init 6 = .ok (.if_icmp .ge 11, 3) := dk_162 0 11 (dk_at dksJ21_init_0 6 rfl rfl)
theorem dJ21_init_9 : decode cJ21_init 9 = .ok (.new 12, 3) := dk_187 0 12 (dk_at dksJ21_init_0 9 rfl rfl)
theorem dJ21_init_12 : decode cJ21_init 12 = .ok (.dup, 1) := dk_89 (dk_at dksJ21_init_0 12 rfl rfl)
theorem dJ21_init_13 : decode cJ21_init 13 = .ok (.invokespecial 14, 3) := dk_183 0 14 (dk_at dksJ21_init_0 13 rfl rfl)
theorem dJ21_init_16 : decode cJ21_init 16 = .ok (.athrow, 1) := dk_191 (dk_at dksJ21_init_0 16 rfl rfl)
theorem dJ21_init_17 : decode cJ21_init 17 = .ok (.aload_n 0, 1) := dk_42 (dk_at dksJ21_init_0 17 rfl rfl)
theorem dJ21_init_18 : decode cJ21_init 18 = .ok (.iload_n 1, 1) := dk_27 (dk_at dksJ21_init_0 18 rfl rfl)
theorem dJ21_init_19 : decode cJ21_init 19 = .ok (.anewarray 15, 3) := dk_189 0 15 (dk_at dksJ21_init_0 19 rfl rfl)
theorem dJ21_init_22 : decode cJ21_init 22 = .ok (.putfield 17, 3) := dk_181 0 17 (dk_at dksJ21_init_1 0 rfl rfl)
theorem dJ21_init_25 : decode cJ21_init 25 = .ok (.aload_n 0, 1) := dk_42 (dk_at dksJ21_init_1 3 rfl rfl)
theorem dJ21_init_26 : decode cJ21_init 26 = .ok (.aload_n 2, 1) := dk_44 (dk_at dksJ21_init_1 4 rfl rfl)
theorem dJ21_init_27 : decode cJ21_init 27 = .ok (.putfield 21, 3) := dk_181 0 21 (dk_at dksJ21_init_1 5 rfl rfl)
theorem dJ21_init_30 : decode cJ21_init 30 = .ok (.return_, 1) := dk_177 (dk_at dksJ21_init_1 8 rfl rfl)
abbrev cJ21_toArray : ByteArray := prog_61_method_20_code
def yJ21_toArray : MethodName := ⟨RJ21, "toArray", "()[Ljava/lang/Object;"⟩
def dkwJ21_toArray_0 : List UInt8 := [42, 180, 0, 17, 42, 180, 0, 58, 184, 0, 86, 176]
abbrev dktJ21_toArray_0 : List UInt8 := dkwJ21_toArray_0 ++ []
theorem dksJ21_toArray_0 : cJ21_toArray.data.toList.drop 0 = dktJ21_toArray_0 := by decide +kernel
theorem dJ21_toArray_0 : decode cJ21_toArray 0 = .ok (.aload_n 0, 1) := dk_42 (dk_at dksJ21_toArray_0 0 rfl rfl)
theorem dJ21_toArray_1 : decode cJ21_toArray 1 = .ok (.getfield 17, 3) := dk_180 0 17 (dk_at dksJ21_toArray_0 1 rfl rfl)
theorem dJ21_toArray_4 : decode cJ21_toArray 4 = .ok (.aload_n 0, 1) := dk_42 (dk_at dksJ21_toArray_0 4 rfl rfl)
theorem dJ21_toArray_5 : decode cJ21_toArray 5 = .ok (.getfield 58, 3) := dk_180 0 58 (dk_at dksJ21_toArray_0 5 rfl rfl)
theorem dJ21_toArray_8 : decode cJ21_toArray 8 = .ok (.invokestatic 86, 3) := dk_184 0 86 (dk_at dksJ21_toArray_0 8 rfl rfl)
theorem dJ21_toArray_11 : decode cJ21_toArray 11 = .ok (.areturn, 1) := dk_176 (dk_at dksJ21_toArray_0 11 rfl rfl)
abbrev cJ21_clear : ByteArray := prog_61_method_24_code
def yJ21_clear : MethodName := ⟨RJ21, "clear", "()V"⟩
def dkwJ21_clear_1 : List UInt8 := [162, 0, 13, 43, 28, 1, 83, 132, 2, 1, 167, 255, 244, 42, 3, 181, 0, 58, 177]
abbrev dktJ21_clear_1 : List UInt8 := dkwJ21_clear_1 ++ []
def dkwJ21_clear_0 : List UInt8 := [42, 89, 180, 0, 93, 4, 96, 181, 0, 93, 42, 180, 0, 17, 76, 3, 61, 42, 180, 0, 58, 62, 28, 29]
abbrev dktJ21_clear_0 : List UInt8 := dkwJ21_clear_0 ++ dktJ21_clear_1
theorem dksJ21_clear_0 : cJ21_clear.data.toList.drop 0 = dktJ21_clear_0 := by decide +kernel
theorem dksJ21_clear_1 : cJ21_clear.data.toList.drop 24 = dktJ21_clear_1 := dk_seg dksJ21_clear_0 24 rfl rfl
theorem dJ21_clear_0 : decode cJ21_clear 0 = .ok (.aload_n 0, 1) := dk_42 (dk_at dksJ21_clear_0 0 rfl rfl)
theorem dJ21_clear_1 : decode cJ21_clear 1 = .ok (.dup, 1) := dk_89 (dk_at dksJ21_clear_0 1 rfl rfl)
theorem dJ21_clear_2 : decode cJ21_clear 2 = .ok (.getfield 93, 3) := dk_180 0 93 (dk_at dksJ21_clear_0 2 rfl rfl)
theorem dJ21_clear_5 : decode cJ21_clear 5 = .ok (.iconst 1, 1) := dk_4 (dk_at dksJ21_clear_0 5 rfl rfl)
theorem dJ21_clear_6 : decode cJ21_clear 6 = .ok (.iadd, 1) := dk_96 (dk_at dksJ21_clear_0 6 rfl rfl)
theorem dJ21_clear_7 : decode cJ21_clear 7 = .ok (.putfield 93, 3) := dk_181 0 93 (dk_at dksJ21_clear_0 7 rfl rfl)
theorem dJ21_clear_10 : decode cJ21_clear 10 = .ok (.aload_n 0, 1) := dk_42 (dk_at dksJ21_clear_0 10 rfl rfl)
theorem dJ21_clear_11 : decode cJ21_clear 11 = .ok (.getfield 17, 3) := dk_180 0 17 (dk_at dksJ21_clear_0 11 rfl rfl)
theorem dJ21_clear_14 : decode cJ21_clear 14 = .ok (.astore_n 1, 1) := dk_76 (dk_at dksJ21_clear_0 14 rfl rfl)
theorem dJ21_clear_15 : decode cJ21_clear 15 = .ok (.iconst 0, 1) := dk_3 (dk_at dksJ21_clear_0 15 rfl rfl)
theorem dJ21_clear_16 : decode cJ21_clear 16 = .ok (.istore_n 2, 1) := dk_61 (dk_at dksJ21_clear_0 16 rfl rfl)
theorem dJ21_clear_17 : decode cJ21_clear 17 = .ok (.aload_n 0, 1) := dk_42 (dk_at dksJ21_clear_0 17 rfl rfl)
theorem dJ21_clear_18 : decode cJ21_clear 18 = .ok (.getfield 58, 3) := dk_180 0 58 (dk_at dksJ21_clear_0 18 rfl rfl)
theorem dJ21_clear_21 : decode cJ21_clear 21 = .ok (.istore_n 3, 1) := dk_62 (dk_at dksJ21_clear_0 21 rfl rfl)
theorem dJ21_clear_22 : decode cJ21_clear 22 = .ok (.iload_n 2, 1) := dk_28 (dk_at dksJ21_clear_0 22 rfl rfl)
theorem dJ21_clear_23 : decode cJ21_clear 23 = .ok (.iload_n 3, 1) := dk_29 (dk_at dksJ21_clear_0 23 rfl rfl)
theorem dJ21_clear_24 : decode cJ21_clear 24 = .ok (.if_icmp .ge 13, 3) := dk_162 0 13 (dk_at dksJ21_clear_1 0 rfl rfl)
theorem dJ21_clear_27 : decode cJ21_clear 27 = .ok (.aload_n 1, 1) := dk_43 (dk_at dksJ21_clear_1 3 rfl rfl)
theorem dJ21_clear_28 : decode cJ21_clear 28 = .ok (.iload_n 2, 1) := dk_28 (dk_at dksJ21_clear_1 4 rfl rfl)
theorem dJ21_clear_29 : decode cJ21_clear 29 = .ok (.aconst_null, 1) := dk_1 (dk_at dksJ21_clear_1 5 rfl rfl)
theorem dJ21_clear_30 : decode cJ21_clear 30 = .ok (.aastore, 1) := dk_83 (dk_at dksJ21_clear_1 6 rfl rfl)
theorem dJ21_clear_31 : decode cJ21_clear 31 = .ok (.iinc 2 1, 3) := dk_132 2 1 (dk_at dksJ21_clear_1 7 rfl rfl)
theorem dJ21_clear_34 : decode cJ21_clear 34 = .ok (.goto (-12), 3) := dk_167 255 244 (dk_at dksJ21_clear_1 10 rfl rfl)
theorem dJ21_clear_37 : decode cJ21_clear 37 = .ok (.aload_n 0, 1) := dk_42 (dk_at dksJ21_clear_1 13 rfl rfl)
theorem dJ21_clear_38 : decode cJ21_clear 38 = .ok (.iconst 0, 1) := dk_3 (dk_at dksJ21_clear_1 14 rfl rfl)
theorem dJ21_clear_39 : decode cJ21_clear 39 = .ok (.putfield 58, 3) := dk_181 0 58 (dk_at dksJ21_clear_1 15 rfl rfl)
theorem dJ21_clear_42 : decode cJ21_clear 42 = .ok (.return_, 1) := dk_177 (dk_at dksJ21_clear_1 18 rfl rfl)
abbrev cJ21_add : ByteArray := prog_61_method_13_code
def yJ21_add : MethodName := ⟨RJ21, "add", "(Ljava/lang/Object;)Z"⟩
def dkwJ21_add_0 : List UInt8 := [42, 43, 182, 0, 89, 172]
abbrev dktJ21_add_0 : List UInt8 := dkwJ21_add_0 ++ []
theorem dksJ21_add_0 : cJ21_add.data.toList.drop 0 = dktJ21_add_0 := by decide +kernel
theorem dJ21_add_0 : decode cJ21_add 0 = .ok (.aload_n 0, 1) := dk_42 (dk_at dksJ21_add_0 0 rfl rfl)
theorem dJ21_add_1 : decode cJ21_add 1 = .ok (.aload_n 1, 1) := dk_43 (dk_at dksJ21_add_0 1 rfl rfl)
theorem dJ21_add_2 : decode cJ21_add 2 = .ok (.invokevirtual 89, 3) := dk_182 0 89 (dk_at dksJ21_add_0 2 rfl rfl)
theorem dJ21_add_5 : decode cJ21_add 5 = .ok (.ireturn, 1) := dk_172 (dk_at dksJ21_add_0 5 rfl rfl)
abbrev cJ21_offer : ByteArray := prog_61_method_14_code
def yJ21_offer : MethodName := ⟨RJ21, "offer", "(Ljava/lang/Object;)Z"⟩
def dkwJ21_offer_2 : List UInt8 := [182, 0, 100, 42, 28, 4, 96, 181, 0, 58, 4, 172]
abbrev dktJ21_offer_2 : List UInt8 := dkwJ21_offer_2 ++ []
def dkwJ21_offer_1 : List UInt8 := [180, 0, 58, 61, 28, 42, 180, 0, 17, 190, 161, 0, 10, 42, 28, 4, 96, 182, 0, 96, 42, 28, 43]
abbrev dktJ21_offer_1 : List UInt8 := dkwJ21_offer_1 ++ dktJ21_offer_2
def dkwJ21_offer_0 : List UInt8 := [43, 199, 0, 11, 187, 0, 74, 89, 183, 0, 76, 191, 42, 89, 180, 0, 93, 4, 96, 181, 0, 93, 42]
abbrev dktJ21_offer_0 : List UInt8 := dkwJ21_offer_0 ++ dktJ21_offer_1
theorem dksJ21_offer_0 : cJ21_offer.data.toList.drop 0 = dktJ21_offer_0 := by decide +kernel
theorem dksJ21_offer_1 : cJ21_offer.data.toList.drop 23 = dktJ21_offer_1 := dk_seg dksJ21_offer_0 23 rfl rfl
theorem dksJ21_offer_2 : cJ21_offer.data.toList.drop 46 = dktJ21_offer_2 := dk_seg dksJ21_offer_1 23 rfl rfl
theorem dJ21_offer_0 : decode cJ21_offer 0 = .ok (.aload_n 1, 1) := dk_43 (dk_at dksJ21_offer_0 0 rfl rfl)
theorem dJ21_offer_1 : decode cJ21_offer 1 = .ok (.ifnonnull 11, 3) := dk_199 0 11 (dk_at dksJ21_offer_0 1 rfl rfl)
theorem dJ21_offer_4 : decode cJ21_offer 4 = .ok (.new 74, 3) := dk_187 0 74 (dk_at dksJ21_offer_0 4 rfl rfl)
theorem dJ21_offer_7 : decode cJ21_offer 7 = .ok (.dup, 1) := dk_89 (dk_at dksJ21_offer_0 7 rfl rfl)
theorem dJ21_offer_8 : decode cJ21_offer 8 = .ok (.invokespecial 76, 3) := dk_183 0 76 (dk_at dksJ21_offer_0 8 rfl rfl)
theorem dJ21_offer_11 : decode cJ21_offer 11 = .ok (.athrow, 1) := dk_191 (dk_at dksJ21_offer_0 11 rfl rfl)
theorem dJ21_offer_12 : decode cJ21_offer 12 = .ok (.aload_n 0, 1) := dk_42 (dk_at dksJ21_offer_0 12 rfl rfl)
theorem dJ21_offer_13 : decode cJ21_offer 13 = .ok (.dup, 1) := dk_89 (dk_at dksJ21_offer_0 13 rfl rfl)
theorem dJ21_offer_14 : decode cJ21_offer 14 = .ok (.getfield 93, 3) := dk_180 0 93 (dk_at dksJ21_offer_0 14 rfl rfl)
theorem dJ21_offer_17 : decode cJ21_offer 17 = .ok (.iconst 1, 1) := dk_4 (dk_at dksJ21_offer_0 17 rfl rfl)
theorem dJ21_offer_18 : decode cJ21_offer 18 = .ok (.iadd, 1) := dk_96 (dk_at dksJ21_offer_0 18 rfl rfl)
theorem dJ21_offer_19 : decode cJ21_offer 19 = .ok (.putfield 93, 3) := dk_181 0 93 (dk_at dksJ21_offer_0 19 rfl rfl)
theorem dJ21_offer_22 : decode cJ21_offer 22 = .ok (.aload_n 0, 1) := dk_42 (dk_at dksJ21_offer_0 22 rfl rfl)
theorem dJ21_offer_23 : decode cJ21_offer 23 = .ok (.getfield 58, 3) := dk_180 0 58 (dk_at dksJ21_offer_1 0 rfl rfl)
theorem dJ21_offer_26 : decode cJ21_offer 26 = .ok (.istore_n 2, 1) := dk_61 (dk_at dksJ21_offer_1 3 rfl rfl)
theorem dJ21_offer_27 : decode cJ21_offer 27 = .ok (.iload_n 2, 1) := dk_28 (dk_at dksJ21_offer_1 4 rfl rfl)
theorem dJ21_offer_28 : decode cJ21_offer 28 = .ok (.aload_n 0, 1) := dk_42 (dk_at dksJ21_offer_1 5 rfl rfl)
theorem dJ21_offer_29 : decode cJ21_offer 29 = .ok (.getfield 17, 3) := dk_180 0 17 (dk_at dksJ21_offer_1 6 rfl rfl)
theorem dJ21_offer_32 : decode cJ21_offer 32 = .ok (.arraylength, 1) := dk_190 (dk_at dksJ21_offer_1 9 rfl rfl)
theorem dJ21_offer_33 : decode cJ21_offer 33 = .ok (.if_icmp .lt 10, 3) := dk_161 0 10 (dk_at dksJ21_offer_1 10 rfl rfl)
theorem dJ21_offer_36 : decode cJ21_offer 36 = .ok (.aload_n 0, 1) := dk_42 (dk_at dksJ21_offer_1 13 rfl rfl)
theorem dJ21_offer_37 : decode cJ21_offer 37 = .ok (.iload_n 2, 1) := dk_28 (dk_at dksJ21_offer_1 14 rfl rfl)
theorem dJ21_offer_38 : decode cJ21_offer 38 = .ok (.iconst 1, 1) := dk_4 (dk_at dksJ21_offer_1 15 rfl rfl)
theorem dJ21_offer_39 : decode cJ21_offer 39 = .ok (.iadd, 1) := dk_96 (dk_at dksJ21_offer_1 16 rfl rfl)
theorem dJ21_offer_40 : decode cJ21_offer 40 = .ok (.invokevirtual 96, 3) := dk_182 0 96 (dk_at dksJ21_offer_1 17 rfl rfl)
theorem dJ21_offer_43 : decode cJ21_offer 43 = .ok (.aload_n 0, 1) := dk_42 (dk_at dksJ21_offer_1 20 rfl rfl)
theorem dJ21_offer_44 : decode cJ21_offer 44 = .ok (.iload_n 2, 1) := dk_28 (dk_at dksJ21_offer_1 21 rfl rfl)
theorem dJ21_offer_45 : decode cJ21_offer 45 = .ok (.aload_n 1, 1) := dk_43 (dk_at dksJ21_offer_1 22 rfl rfl)
theorem dJ21_offer_46 : decode cJ21_offer 46 = .ok (.invokevirtual 100, 3) := dk_182 0 100 (dk_at dksJ21_offer_2 0 rfl rfl)
theorem dJ21_offer_49 : decode cJ21_offer 49 = .ok (.aload_n 0, 1) := dk_42 (dk_at dksJ21_offer_2 3 rfl rfl)
theorem dJ21_offer_50 : decode cJ21_offer 50 = .ok (.iload_n 2, 1) := dk_28 (dk_at dksJ21_offer_2 4 rfl rfl)
theorem dJ21_offer_51 : decode cJ21_offer 51 = .ok (.iconst 1, 1) := dk_4 (dk_at dksJ21_offer_2 5 rfl rfl)
theorem dJ21_offer_52 : decode cJ21_offer 52 = .ok (.iadd, 1) := dk_96 (dk_at dksJ21_offer_2 6 rfl rfl)
theorem dJ21_offer_53 : decode cJ21_offer 53 = .ok (.putfield 58, 3) := dk_181 0 58 (dk_at dksJ21_offer_2 7 rfl rfl)
theorem dJ21_offer_56 : decode cJ21_offer 56 = .ok (.iconst 1, 1) := dk_4 (dk_at dksJ21_offer_2 10 rfl rfl)
theorem dJ21_offer_57 : decode cJ21_offer 57 = .ok (.ireturn, 1) := dk_172 (dk_at dksJ21_offer_2 11 rfl rfl)
abbrev cJ21_grow : ByteArray := prog_61_method_12_code
def yJ21_grow : MethodName := ⟨RJ21, "grow", "(I)V"⟩
def dkwJ21_grow_1 : List UInt8 := [122, 184, 0, 80, 62, 42, 42, 180, 0, 17, 29, 184, 0, 86, 181, 0, 17, 177]
abbrev dktJ21_grow_1 : List UInt8 := dkwJ21_grow_1 ++ []
def dkwJ21_grow_0 : List UInt8 := [42, 180, 0, 17, 190, 61, 28, 27, 28, 100, 28, 16, 64, 162, 0, 9, 28, 5, 96, 167, 0, 6, 28, 4]
abbrev dktJ21_grow_0 : List UInt8 := dkwJ21_grow_0 ++ dktJ21_grow_1
theorem dksJ21_grow_0 : cJ21_grow.data.toList.drop 0 = dktJ21_grow_0 := by decide +kernel
theorem dksJ21_grow_1 : cJ21_grow.data.toList.drop 24 = dktJ21_grow_1 := dk_seg dksJ21_grow_0 24 rfl rfl
theorem dJ21_grow_0 : decode cJ21_grow 0 = .ok (.aload_n 0, 1) := dk_42 (dk_at dksJ21_grow_0 0 rfl rfl)
theorem dJ21_grow_1 : decode cJ21_grow 1 = .ok (.getfield 17, 3) := dk_180 0 17 (dk_at dksJ21_grow_0 1 rfl rfl)
theorem dJ21_grow_4 : decode cJ21_grow 4 = .ok (.arraylength, 1) := dk_190 (dk_at dksJ21_grow_0 4 rfl rfl)
theorem dJ21_grow_5 : decode cJ21_grow 5 = .ok (.istore_n 2, 1) := dk_61 (dk_at dksJ21_grow_0 5 rfl rfl)
theorem dJ21_grow_6 : decode cJ21_grow 6 = .ok (.iload_n 2, 1) := dk_28 (dk_at dksJ21_grow_0 6 rfl rfl)
theorem dJ21_grow_7 : decode cJ21_grow 7 = .ok (.iload_n 1, 1) := dk_27 (dk_at dksJ21_grow_0 7 rfl rfl)
theorem dJ21_grow_8 : decode cJ21_grow 8 = .ok (.iload_n 2, 1) := dk_28 (dk_at dksJ21_grow_0 8 rfl rfl)
theorem dJ21_grow_9 : decode cJ21_grow 9 = .ok (.isub, 1) := dk_100 (dk_at dksJ21_grow_0 9 rfl rfl)
theorem dJ21_grow_10 : decode cJ21_grow 10 = .ok (.iload_n 2, 1) := dk_28 (dk_at dksJ21_grow_0 10 rfl rfl)
theorem dJ21_grow_11 : decode cJ21_grow 11 = .ok (.bipush 64, 2) := dk_16 64 (dk_at dksJ21_grow_0 11 rfl rfl)
theorem dJ21_grow_13 : decode cJ21_grow 13 = .ok (.if_icmp .ge 9, 3) := dk_162 0 9 (dk_at dksJ21_grow_0 13 rfl rfl)
theorem dJ21_grow_16 : decode cJ21_grow 16 = .ok (.iload_n 2, 1) := dk_28 (dk_at dksJ21_grow_0 16 rfl rfl)
theorem dJ21_grow_17 : decode cJ21_grow 17 = .ok (.iconst 2, 1) := dk_5 (dk_at dksJ21_grow_0 17 rfl rfl)
theorem dJ21_grow_18 : decode cJ21_grow 18 = .ok (.iadd, 1) := dk_96 (dk_at dksJ21_grow_0 18 rfl rfl)
theorem dJ21_grow_19 : decode cJ21_grow 19 = .ok (.goto 6, 3) := dk_167 0 6 (dk_at dksJ21_grow_0 19 rfl rfl)
theorem dJ21_grow_22 : decode cJ21_grow 22 = .ok (.iload_n 2, 1) := dk_28 (dk_at dksJ21_grow_0 22 rfl rfl)
theorem dJ21_grow_23 : decode cJ21_grow 23 = .ok (.iconst 1, 1) := dk_4 (dk_at dksJ21_grow_0 23 rfl rfl)
theorem dJ21_grow_24 : decode cJ21_grow 24 = .ok (.ishr, 1) := dk_122 (dk_at dksJ21_grow_1 0 rfl rfl)
theorem dJ21_grow_25 : decode cJ21_grow 25 = .ok (.invokestatic 80, 3) := dk_184 0 80 (dk_at dksJ21_grow_1 1 rfl rfl)
theorem dJ21_grow_28 : decode cJ21_grow 28 = .ok (.istore_n 3, 1) := dk_62 (dk_at dksJ21_grow_1 4 rfl rfl)
theorem dJ21_grow_29 : decode cJ21_grow 29 = .ok (.aload_n 0, 1) := dk_42 (dk_at dksJ21_grow_1 5 rfl rfl)
theorem dJ21_grow_30 : decode cJ21_grow 30 = .ok (.aload_n 0, 1) := dk_42 (dk_at dksJ21_grow_1 6 rfl rfl)
theorem dJ21_grow_31 : decode cJ21_grow 31 = .ok (.getfield 17, 3) := dk_180 0 17 (dk_at dksJ21_grow_1 7 rfl rfl)
theorem dJ21_grow_34 : decode cJ21_grow 34 = .ok (.iload_n 3, 1) := dk_29 (dk_at dksJ21_grow_1 10 rfl rfl)
theorem dJ21_grow_35 : decode cJ21_grow 35 = .ok (.invokestatic 86, 3) := dk_184 0 86 (dk_at dksJ21_grow_1 11 rfl rfl)
theorem dJ21_grow_38 : decode cJ21_grow 38 = .ok (.putfield 17, 3) := dk_181 0 17 (dk_at dksJ21_grow_1 14 rfl rfl)
theorem dJ21_grow_41 : decode cJ21_grow 41 = .ok (.return_, 1) := dk_177 (dk_at dksJ21_grow_1 17 rfl rfl)
abbrev cJ21_siftUp : ByteArray := prog_61_method_27_code
def yJ21_siftUp : MethodName := ⟨RJ21, "siftUp", "(ILjava/lang/Object;)V"⟩
def dkwJ21_siftUp_1 : List UInt8 := [44, 42, 180, 0, 17, 184, 0, 140, 177]
abbrev dktJ21_siftUp_1 : List UInt8 := dkwJ21_siftUp_1 ++ []
def dkwJ21_siftUp_0 : List UInt8 := [42, 180, 0, 21, 198, 0, 19, 27, 44, 42, 180, 0, 17, 42, 180, 0, 21, 184, 0, 136, 167, 0, 12, 27]
abbrev dktJ21_siftUp_0 : List UInt8 := dkwJ21_siftUp_0 ++ dktJ21_siftUp_1
theorem dksJ21_siftUp_0 : cJ21_siftUp.data.toList.drop 0 = dktJ21_siftUp_0 := by decide +kernel
theorem dksJ21_siftUp_1 : cJ21_siftUp.data.toList.drop 24 = dktJ21_siftUp_1 := dk_seg dksJ21_siftUp_0 24 rfl rfl
theorem dJ21_siftUp_0 : decode cJ21_siftUp 0 = .ok (.aload_n 0, 1) := dk_42 (dk_at dksJ21_siftUp_0 0 rfl rfl)
theorem dJ21_siftUp_1 : decode cJ21_siftUp 1 = .ok (.getfield 21, 3) := dk_180 0 21 (dk_at dksJ21_siftUp_0 1 rfl rfl)
theorem dJ21_siftUp_4 : decode cJ21_siftUp 4 = .ok (.ifnull 19, 3) := dk_198 0 19 (dk_at dksJ21_siftUp_0 4 rfl rfl)
theorem dJ21_siftUp_7 : decode cJ21_siftUp 7 = .ok (.iload_n 1, 1) := dk_27 (dk_at dksJ21_siftUp_0 7 rfl rfl)
theorem dJ21_siftUp_8 : decode cJ21_siftUp 8 = .ok (.aload_n 2, 1) := dk_44 (dk_at dksJ21_siftUp_0 8 rfl rfl)
theorem dJ21_siftUp_9 : decode cJ21_siftUp 9 = .ok (.aload_n 0, 1) := dk_42 (dk_at dksJ21_siftUp_0 9 rfl rfl)
theorem dJ21_siftUp_10 : decode cJ21_siftUp 10 = .ok (.getfield 17, 3) := dk_180 0 17 (dk_at dksJ21_siftUp_0 10 rfl rfl)
theorem dJ21_siftUp_13 : decode cJ21_siftUp 13 = .ok (.aload_n 0, 1) := dk_42 (dk_at dksJ21_siftUp_0 13 rfl rfl)
theorem dJ21_siftUp_14 : decode cJ21_siftUp 14 = .ok (.getfield 21, 3) := dk_180 0 21 (dk_at dksJ21_siftUp_0 14 rfl rfl)
theorem dJ21_siftUp_17 : decode cJ21_siftUp 17 = .ok (.invokestatic 136, 3) := dk_184 0 136 (dk_at dksJ21_siftUp_0 17 rfl rfl)
theorem dJ21_siftUp_20 : decode cJ21_siftUp 20 = .ok (.goto 12, 3) := dk_167 0 12 (dk_at dksJ21_siftUp_0 20 rfl rfl)
theorem dJ21_siftUp_23 : decode cJ21_siftUp 23 = .ok (.iload_n 1, 1) := dk_27 (dk_at dksJ21_siftUp_0 23 rfl rfl)
theorem dJ21_siftUp_24 : decode cJ21_siftUp 24 = .ok (.aload_n 2, 1) := dk_44 (dk_at dksJ21_siftUp_1 0 rfl rfl)
theorem dJ21_siftUp_25 : decode cJ21_siftUp 25 = .ok (.aload_n 0, 1) := dk_42 (dk_at dksJ21_siftUp_1 1 rfl rfl)
theorem dJ21_siftUp_26 : decode cJ21_siftUp 26 = .ok (.getfield 17, 3) := dk_180 0 17 (dk_at dksJ21_siftUp_1 2 rfl rfl)
theorem dJ21_siftUp_29 : decode cJ21_siftUp 29 = .ok (.invokestatic 140, 3) := dk_184 0 140 (dk_at dksJ21_siftUp_1 5 rfl rfl)
theorem dJ21_siftUp_32 : decode cJ21_siftUp 32 = .ok (.return_, 1) := dk_177 (dk_at dksJ21_siftUp_1 8 rfl rfl)
abbrev cJ21_siftUpUsingComparator : ByteArray := prog_61_method_29_code
def yJ21_siftUpUsingComparator : MethodName := ⟨RJ21, "siftUpUsingComparator", "(ILjava/lang/Object;[Ljava/lang/Object;Ljava/util/Comparator;)V"⟩
def dkwJ21_siftUpUsingComparator_2 : List UInt8 := [43, 83, 177]
abbrev dktJ21_siftUpUsingComparator_2 : List UInt8 := dkwJ21_siftUpUsingComparator_2 ++ []
def dkwJ21_siftUpUsingComparator_1 : List UInt8 := [185, 0, 149, 3, 0, 155, 0, 6, 167, 0, 14, 44, 26, 25, 5, 83, 21, 4, 59, 167, 255, 216, 44, 26]
abbrev dktJ21_siftUpUsingComparator_1 : List UInt8 := dkwJ21_siftUpUsingComparator_1 ++ dktJ21_siftUpUsingComparator_2
def dkwJ21_siftUpUsingComparator_0 : List UInt8 := [26, 158, 0, 42, 26, 4, 100, 4, 124, 54, 4, 44, 21, 4, 50, 58, 5, 45, 43, 25, 5]
abbrev dktJ21_siftUpUsingComparator_0 : List UInt8 := dkwJ21_siftUpUsingComparator_0 ++ dktJ21_siftUpUsingComparator_1
theorem dksJ21_siftUpUsingComparator_0 : cJ21_siftUpUsingComparator.data.toList.drop 0 = dktJ21_siftUpUsingComparator_0 := by decide +kernel
theorem dksJ21_siftUpUsingComparator_1 : cJ21_siftUpUsingComparator.data.toList.drop 21 = dktJ21_siftUpUsingComparator_1 := dk_seg dksJ21_siftUpUsingComparator_0 21 rfl rfl
theorem dksJ21_siftUpUsingComparator_2 : cJ21_siftUpUsingComparator.data.toList.drop 45 = dktJ21_siftUpUsingComparator_2 := dk_seg dksJ21_siftUpUsingComparator_1 24 rfl rfl
theorem dJ21_siftUpUsingComparator_0 : decode cJ21_siftUpUsingComparator 0 = .ok (.iload_n 0, 1) := dk_26 (dk_at dksJ21_siftUpUsingComparator_0 0 rfl rfl)
theorem dJ21_siftUpUsingComparator_1 : decode cJ21_siftUpUsingComparator 1 = .ok (.ifCond .le 42, 3) := dk_158 0 42 (dk_at dksJ21_siftUpUsingComparator_0 1 rfl rfl)
theorem dJ21_siftUpUsingComparator_4 : decode cJ21_siftUpUsingComparator 4 = .ok (.iload_n 0, 1) := dk_26 (dk_at dksJ21_siftUpUsingComparator_0 4 rfl rfl)
theorem dJ21_siftUpUsingComparator_5 : decode cJ21_siftUpUsingComparator 5 = .ok (.iconst 1, 1) := dk_4 (dk_at dksJ21_siftUpUsingComparator_0 5 rfl rfl)
theorem dJ21_siftUpUsingComparator_6 : decode cJ21_siftUpUsingComparator 6 = .ok (.isub, 1) := dk_100 (dk_at dksJ21_siftUpUsingComparator_0 6 rfl rfl)
theorem dJ21_siftUpUsingComparator_7 : decode cJ21_siftUpUsingComparator 7 = .ok (.iconst 1, 1) := dk_4 (dk_at dksJ21_siftUpUsingComparator_0 7 rfl rfl)
theorem dJ21_siftUpUsingComparator_8 : decode cJ21_siftUpUsingComparator 8 = .ok (.iushr, 1) := dk_124 (dk_at dksJ21_siftUpUsingComparator_0 8 rfl rfl)
theorem dJ21_siftUpUsingComparator_9 : decode cJ21_siftUpUsingComparator 9 = .ok (.istore 4, 2) := dk_54 4 (dk_at dksJ21_siftUpUsingComparator_0 9 rfl rfl)
theorem dJ21_siftUpUsingComparator_11 : decode cJ21_siftUpUsingComparator 11 = .ok (.aload_n 2, 1) := dk_44 (dk_at dksJ21_siftUpUsingComparator_0 11 rfl rfl)
theorem dJ21_siftUpUsingComparator_12 : decode cJ21_siftUpUsingComparator 12 = .ok (.iload 4, 2) := dk_21 4 (dk_at dksJ21_siftUpUsingComparator_0 12 rfl rfl)
theorem dJ21_siftUpUsingComparator_14 : decode cJ21_siftUpUsingComparator 14 = .ok (.aaload, 1) := dk_50 (dk_at dksJ21_siftUpUsingComparator_0 14 rfl rfl)
theorem dJ21_siftUpUsingComparator_15 : decode cJ21_siftUpUsingComparator 15 = .ok (.astore 5, 2) := dk_58 5 (dk_at dksJ21_siftUpUsingComparator_0 15 rfl rfl)
theorem dJ21_siftUpUsingComparator_17 : decode cJ21_siftUpUsingComparator 17 = .ok (.aload_n 3, 1) := dk_45 (dk_at dksJ21_siftUpUsingComparator_0 17 rfl rfl)
theorem dJ21_siftUpUsingComparator_18 : decode cJ21_siftUpUsingComparator 18 = .ok (.aload_n 1, 1) := dk_43 (dk_at dksJ21_siftUpUsingComparator_0 18 rfl rfl)
theorem dJ21_siftUpUsingComparator_19 : decode cJ21_siftUpUsingComparator 19 = .ok (.aload 5, 2) := dk_25 5 (dk_at dksJ21_siftUpUsingComparator_0 19 rfl rfl)
theorem dJ21_siftUpUsingComparator_21 : decode cJ21_siftUpUsingComparator 21 = .ok (.invokeinterface 149 3, 5) := by decide +kernel
theorem dJ21_siftUpUsingComparator_26 : decode cJ21_siftUpUsingComparator 26 = .ok (.ifCond .lt 6, 3) := dk_155 0 6 (dk_at dksJ21_siftUpUsingComparator_1 5 rfl rfl)
theorem dJ21_siftUpUsingComparator_29 : decode cJ21_siftUpUsingComparator 29 = .ok (.goto 14, 3) := dk_167 0 14 (dk_at dksJ21_siftUpUsingComparator_1 8 rfl rfl)
theorem dJ21_siftUpUsingComparator_32 : decode cJ21_siftUpUsingComparator 32 = .ok (.aload_n 2, 1) := dk_44 (dk_at dksJ21_siftUpUsingComparator_1 11 rfl rfl)
theorem dJ21_siftUpUsingComparator_33 : decode cJ21_siftUpUsingComparator 33 = .ok (.iload_n 0, 1) := dk_26 (dk_at dksJ21_siftUpUsingComparator_1 12 rfl rfl)
theorem dJ21_siftUpUsingComparator_34 : decode cJ21_siftUpUsingComparator 34 = .ok (.aload 5, 2) := dk_25 5 (dk_at dksJ21_siftUpUsingComparator_1 13 rfl rfl)
theorem dJ21_siftUpUsingComparator_36 : decode cJ21_siftUpUsingComparator 36 = .ok (.aastore, 1) := dk_83 (dk_at dksJ21_siftUpUsingComparator_1 15 rfl rfl)
theorem dJ21_siftUpUsingComparator_37 : decode cJ21_siftUpUsingComparator 37 = .ok (.iload 4, 2) := dk_21 4 (dk_at dksJ21_siftUpUsingComparator_1 16 rfl rfl)
theorem dJ21_siftUpUsingComparator_39 : decode cJ21_siftUpUsingComparator 39 = .ok (.istore_n 0, 1) := dk_59 (dk_at dksJ21_siftUpUsingComparator_1 18 rfl rfl)
theorem dJ21_siftUpUsingComparator_40 : decode cJ21_siftUpUsingComparator 40 = .ok (.goto (-40), 3) := dk_167 255 216 (dk_at dksJ21_siftUpUsingComparator_1 19 rfl rfl)
theorem dJ21_siftUpUsingComparator_43 : decode cJ21_siftUpUsingComparator 43 = .ok (.aload_n 2, 1) := dk_44 (dk_at dksJ21_siftUpUsingComparator_1 22 rfl rfl)
theorem dJ21_siftUpUsingComparator_44 : decode cJ21_siftUpUsingComparator 44 = .ok (.iload_n 0, 1) := dk_26 (dk_at dksJ21_siftUpUsingComparator_1 23 rfl rfl)
theorem dJ21_siftUpUsingComparator_45 : decode cJ21_siftUpUsingComparator 45 = .ok (.aload_n 1, 1) := dk_43 (dk_at dksJ21_siftUpUsingComparator_2 0 rfl rfl)
theorem dJ21_siftUpUsingComparator_46 : decode cJ21_siftUpUsingComparator 46 = .ok (.aastore, 1) := dk_83 (dk_at dksJ21_siftUpUsingComparator_2 1 rfl rfl)
theorem dJ21_siftUpUsingComparator_47 : decode cJ21_siftUpUsingComparator 47 = .ok (.return_, 1) := dk_177 (dk_at dksJ21_siftUpUsingComparator_2 2 rfl rfl)
abbrev cJ21_siftUpComparable : ByteArray := prog_61_method_28_code
def yJ21_siftUpComparable : MethodName := ⟨RJ21, "siftUpComparable", "(ILjava/lang/Object;[Ljava/lang/Object;)V"⟩
def dkwJ21_siftUpComparable_2 : List UInt8 := [44, 26, 45, 83, 177]
abbrev dktJ21_siftUpComparable_2 : List UInt8 := dkwJ21_siftUpComparable_2 ++ []
def dkwJ21_siftUpComparable_1 : List UInt8 := [25, 5, 185, 0, 146, 2, 0, 155, 0, 6, 167, 0, 14, 44, 26, 25, 5, 83, 21, 4, 59, 167, 255, 217]
abbrev dktJ21_siftUpComparable_1 : List UInt8 := dkwJ21_siftUpComparable_1 ++ dktJ21_siftUpComparable_2
def dkwJ21_siftUpComparable_0 : List UInt8 := [43, 192, 0, 144, 78, 26, 158, 0, 41, 26, 4, 100, 4, 124, 54, 4, 44, 21, 4, 50, 58, 5, 45]
abbrev dktJ21_siftUpComparable_0 : List UInt8 := dkwJ21_siftUpComparable_0 ++ dktJ21_siftUpComparable_1
theorem dksJ21_siftUpComparable_0 : cJ21_siftUpComparable.data.toList.drop 0 = dktJ21_siftUpComparable_0 := by decide +kernel
theorem dksJ21_siftUpComparable_1 : cJ21_siftUpComparable.data.toList.drop 23 = dktJ21_siftUpComparable_1 := dk_seg dksJ21_siftUpComparable_0 23 rfl rfl
theorem dksJ21_siftUpComparable_2 : cJ21_siftUpComparable.data.toList.drop 47 = dktJ21_siftUpComparable_2 := dk_seg dksJ21_siftUpComparable_1 24 rfl rfl
theorem dJ21_siftUpComparable_0 : decode cJ21_siftUpComparable 0 = .ok (.aload_n 1, 1) := dk_43 (dk_at dksJ21_siftUpComparable_0 0 rfl rfl)
theorem dJ21_siftUpComparable_1 : decode cJ21_siftUpComparable 1 = .ok (.checkcast 144, 3) := dk_192 0 144 (dk_at dksJ21_siftUpComparable_0 1 rfl rfl)
theorem dJ21_siftUpComparable_4 : decode cJ21_siftUpComparable 4 = .ok (.astore_n 3, 1) := dk_78 (dk_at dksJ21_siftUpComparable_0 4 rfl rfl)
theorem dJ21_siftUpComparable_5 : decode cJ21_siftUpComparable 5 = .ok (.iload_n 0, 1) := dk_26 (dk_at dksJ21_siftUpComparable_0 5 rfl rfl)
theorem dJ21_siftUpComparable_6 : decode cJ21_siftUpComparable 6 = .ok (.ifCond .le 41, 3) := dk_158 0 41 (dk_at dksJ21_siftUpComparable_0 6 rfl rfl)
theorem dJ21_siftUpComparable_9 : decode cJ21_siftUpComparable 9 = .ok (.iload_n 0, 1) := dk_26 (dk_at dksJ21_siftUpComparable_0 9 rfl rfl)
theorem dJ21_siftUpComparable_10 : decode cJ21_siftUpComparable 10 = .ok (.iconst 1, 1) := dk_4 (dk_at dksJ21_siftUpComparable_0 10 rfl rfl)
theorem dJ21_siftUpComparable_11 : decode cJ21_siftUpComparable 11 = .ok (.isub, 1) := dk_100 (dk_at dksJ21_siftUpComparable_0 11 rfl rfl)
theorem dJ21_siftUpComparable_12 : decode cJ21_siftUpComparable 12 = .ok (.iconst 1, 1) := dk_4 (dk_at dksJ21_siftUpComparable_0 12 rfl rfl)
theorem dJ21_siftUpComparable_13 : decode cJ21_siftUpComparable 13 = .ok (.iushr, 1) := dk_124 (dk_at dksJ21_siftUpComparable_0 13 rfl rfl)
theorem dJ21_siftUpComparable_14 : decode cJ21_siftUpComparable 14 = .ok (.istore 4, 2) := dk_54 4 (dk_at dksJ21_siftUpComparable_0 14 rfl rfl)
theorem dJ21_siftUpComparable_16 : decode cJ21_siftUpComparable 16 = .ok (.aload_n 2, 1) := dk_44 (dk_at dksJ21_siftUpComparable_0 16 rfl rfl)
theorem dJ21_siftUpComparable_17 : decode cJ21_siftUpComparable 17 = .ok (.iload 4, 2) := dk_21 4 (dk_at dksJ21_siftUpComparable_0 17 rfl rfl)
theorem dJ21_siftUpComparable_19 : decode cJ21_siftUpComparable 19 = .ok (.aaload, 1) := dk_50 (dk_at dksJ21_siftUpComparable_0 19 rfl rfl)
theorem dJ21_siftUpComparable_20 : decode cJ21_siftUpComparable 20 = .ok (.astore 5, 2) := dk_58 5 (dk_at dksJ21_siftUpComparable_0 20 rfl rfl)
theorem dJ21_siftUpComparable_22 : decode cJ21_siftUpComparable 22 = .ok (.aload_n 3, 1) := dk_45 (dk_at dksJ21_siftUpComparable_0 22 rfl rfl)
theorem dJ21_siftUpComparable_23 : decode cJ21_siftUpComparable 23 = .ok (.aload 5, 2) := dk_25 5 (dk_at dksJ21_siftUpComparable_1 0 rfl rfl)
theorem dJ21_siftUpComparable_25 : decode cJ21_siftUpComparable 25 = .ok (.invokeinterface 146 2, 5) := by decide +kernel
theorem dJ21_siftUpComparable_30 : decode cJ21_siftUpComparable 30 = .ok (.ifCond .lt 6, 3) := dk_155 0 6 (dk_at dksJ21_siftUpComparable_1 7 rfl rfl)
theorem dJ21_siftUpComparable_33 : decode cJ21_siftUpComparable 33 = .ok (.goto 14, 3) := dk_167 0 14 (dk_at dksJ21_siftUpComparable_1 10 rfl rfl)
theorem dJ21_siftUpComparable_36 : decode cJ21_siftUpComparable 36 = .ok (.aload_n 2, 1) := dk_44 (dk_at dksJ21_siftUpComparable_1 13 rfl rfl)
theorem dJ21_siftUpComparable_37 : decode cJ21_siftUpComparable 37 = .ok (.iload_n 0, 1) := dk_26 (dk_at dksJ21_siftUpComparable_1 14 rfl rfl)
theorem dJ21_siftUpComparable_38 : decode cJ21_siftUpComparable 38 = .ok (.aload 5, 2) := dk_25 5 (dk_at dksJ21_siftUpComparable_1 15 rfl rfl)
theorem dJ21_siftUpComparable_40 : decode cJ21_siftUpComparable 40 = .ok (.aastore, 1) := dk_83 (dk_at dksJ21_siftUpComparable_1 17 rfl rfl)
theorem dJ21_siftUpComparable_41 : decode cJ21_siftUpComparable 41 = .ok (.iload 4, 2) := dk_21 4 (dk_at dksJ21_siftUpComparable_1 18 rfl rfl)
theorem dJ21_siftUpComparable_43 : decode cJ21_siftUpComparable 43 = .ok (.istore_n 0, 1) := dk_59 (dk_at dksJ21_siftUpComparable_1 20 rfl rfl)
theorem dJ21_siftUpComparable_44 : decode cJ21_siftUpComparable 44 = .ok (.goto (-39), 3) := dk_167 255 217 (dk_at dksJ21_siftUpComparable_1 21 rfl rfl)
theorem dJ21_siftUpComparable_47 : decode cJ21_siftUpComparable 47 = .ok (.aload_n 2, 1) := dk_44 (dk_at dksJ21_siftUpComparable_2 0 rfl rfl)
theorem dJ21_siftUpComparable_48 : decode cJ21_siftUpComparable 48 = .ok (.iload_n 0, 1) := dk_26 (dk_at dksJ21_siftUpComparable_2 1 rfl rfl)
theorem dJ21_siftUpComparable_49 : decode cJ21_siftUpComparable 49 = .ok (.aload_n 3, 1) := dk_45 (dk_at dksJ21_siftUpComparable_2 2 rfl rfl)
theorem dJ21_siftUpComparable_50 : decode cJ21_siftUpComparable 50 = .ok (.aastore, 1) := dk_83 (dk_at dksJ21_siftUpComparable_2 3 rfl rfl)
theorem dJ21_siftUpComparable_51 : decode cJ21_siftUpComparable 51 = .ok (.return_, 1) := dk_177 (dk_at dksJ21_siftUpComparable_2 4 rfl rfl)
abbrev cJ21_size : ByteArray := prog_61_method_23_code
def yJ21_size : MethodName := ⟨RJ21, "size", "()I"⟩
theorem dJ21_size_0 : decode cJ21_size 0 = .ok (.aload_n 0, 1) := by decide +kernel
theorem dJ21_size_1 : decode cJ21_size 1 = .ok (.getfield 58, 3) := by decide +kernel
theorem dJ21_size_4 : decode cJ21_size 4 = .ok (.ireturn, 1) := by decide +kernel
abbrev cJ21_poll : ByteArray := prog_61_method_25_code
def yJ21_poll : MethodName := ⟨RJ21, "poll", "()Ljava/lang/Object;"⟩
def dkwJ21_poll_3 : List UInt8 := [43, 29, 25, 5, 184, 0, 129, 44, 176]
abbrev dktJ21_poll_3 : List UInt8 := dkwJ21_poll_3 ++ []
def dkwJ21_poll_2 : List UInt8 := [42, 180, 0, 21, 89, 58, 5, 199, 0, 14, 3, 25, 4, 43, 29, 184, 0, 125, 167, 0, 13, 3, 25, 4]
abbrev dktJ21_poll_2 : List UInt8 := dkwJ21_poll_2 ++ dktJ21_poll_3
def dkwJ21_poll_1 : List UInt8 := [42, 89, 180, 0, 58, 4, 100, 90, 181, 0, 58, 89, 62, 50, 58, 4, 43, 29, 1, 83, 29, 158, 0, 34]
abbrev dktJ21_poll_1 : List UInt8 := dkwJ21_poll_1 ++ dktJ21_poll_2
def dkwJ21_poll_0 : List UInt8 := [42, 180, 0, 17, 89, 76, 3, 50, 89, 77, 198, 0, 69, 42, 89, 180, 0, 93, 4, 96, 181, 0, 93, 43]
abbrev dktJ21_poll_0 : List UInt8 := dkwJ21_poll_0 ++ dktJ21_poll_1
theorem dksJ21_poll_0 : cJ21_poll.data.toList.drop 0 = dktJ21_poll_0 := by decide +kernel
theorem dksJ21_poll_1 : cJ21_poll.data.toList.drop 24 = dktJ21_poll_1 := dk_seg dksJ21_poll_0 24 rfl rfl
theorem dksJ21_poll_2 : cJ21_poll.data.toList.drop 48 = dktJ21_poll_2 := dk_seg dksJ21_poll_1 24 rfl rfl
theorem dksJ21_poll_3 : cJ21_poll.data.toList.drop 72 = dktJ21_poll_3 := dk_seg dksJ21_poll_2 24 rfl rfl
theorem dJ21_poll_0 : decode cJ21_poll 0 = .ok (.aload_n 0, 1) := dk_42 (dk_at dksJ21_poll_0 0 rfl rfl)
theorem dJ21_poll_1 : decode cJ21_poll 1 = .ok (.getfield 17, 3) := dk_180 0 17 (dk_at dksJ21_poll_0 1 rfl rfl)
theorem dJ21_poll_4 : decode cJ21_poll 4 = .ok (.dup, 1) := dk_89 (dk_at dksJ21_poll_0 4 rfl rfl)
theorem dJ21_poll_5 : decode cJ21_poll 5 = .ok (.astore_n 1, 1) := dk_76 (dk_at dksJ21_poll_0 5 rfl rfl)
theorem dJ21_poll_6 : decode cJ21_poll 6 = .ok (.iconst 0, 1) := dk_3 (dk_at dksJ21_poll_0 6 rfl rfl)
theorem dJ21_poll_7 : decode cJ21_poll 7 = .ok (.aaload, 1) := dk_50 (dk_at dksJ21_poll_0 7 rfl rfl)
theorem dJ21_poll_8 : decode cJ21_poll 8 = .ok (.dup, 1) := dk_89 (dk_at dksJ21_poll_0 8 rfl rfl)
theorem dJ21_poll_9 : decode cJ21_poll 9 = .ok (.astore_n 2, 1) := dk_77 (dk_at dksJ21_poll_0 9 rfl rfl)
theorem dJ21_poll_10 : decode cJ21_poll 10 = .ok (.ifnull 69, 3) := dk_198 0 69 (dk_at dksJ21_poll_0 10 rfl rfl)
theorem dJ21_poll_13 : decode cJ21_poll 13 = .ok (.aload_n 0, 1) := dk_42 (dk_at dksJ21_poll_0 13 rfl rfl)
theorem dJ21_poll_14 : decode cJ21_poll 14 = .ok (.dup, 1) := dk_89 (dk_at dksJ21_poll_0 14 rfl rfl)
theorem dJ21_poll_15 : decode cJ21_poll 15 = .ok (.getfield 93, 3) := dk_180 0 93 (dk_at dksJ21_poll_0 15 rfl rfl)
theorem dJ21_poll_18 : decode cJ21_poll 18 = .ok (.iconst 1, 1) := dk_4 (dk_at dksJ21_poll_0 18 rfl rfl)
theorem dJ21_poll_19 : decode cJ21_poll 19 = .ok (.iadd, 1) := dk_96 (dk_at dksJ21_poll_0 19 rfl rfl)
theorem dJ21_poll_20 : decode cJ21_poll 20 = .ok (.putfield 93, 3) := dk_181 0 93 (dk_at dksJ21_poll_0 20 rfl rfl)
theorem dJ21_poll_23 : decode cJ21_poll 23 = .ok (.aload_n 1, 1) := dk_43 (dk_at dksJ21_poll_0 23 rfl rfl)
theorem dJ21_poll_24 : decode cJ21_poll 24 = .ok (.aload_n 0, 1) := dk_42 (dk_at dksJ21_poll_1 0 rfl rfl)
theorem dJ21_poll_25 : decode cJ21_poll 25 = .ok (.dup, 1) := dk_89 (dk_at dksJ21_poll_1 1 rfl rfl)
theorem dJ21_poll_26 : decode cJ21_poll 26 = .ok (.getfield 58, 3) := dk_180 0 58 (dk_at dksJ21_poll_1 2 rfl rfl)
theorem dJ21_poll_29 : decode cJ21_poll 29 = .ok (.iconst 1, 1) := dk_4 (dk_at dksJ21_poll_1 5 rfl rfl)
theorem dJ21_poll_30 : decode cJ21_poll 30 = .ok (.isub, 1) := dk_100 (dk_at dksJ21_poll_1 6 rfl rfl)
theorem dJ21_poll_31 : decode cJ21_poll 31 = .ok (.dup_x1, 1) := dk_90 (dk_at dksJ21_poll_1 7 rfl rfl)
theorem dJ21_poll_32 : decode cJ21_poll 32 = .ok (.putfield 58, 3) := dk_181 0 58 (dk_at dksJ21_poll_1 8 rfl rfl)
theorem dJ21_poll_35 : decode cJ21_poll 35 = .ok (.dup, 1) := dk_89 (dk_at dksJ21_poll_1 11 rfl rfl)
theorem dJ21_poll_36 : decode cJ21_poll 36 = .ok (.istore_n 3, 1) := dk_62 (dk_at dksJ21_poll_1 12 rfl rfl)
theorem dJ21_poll_37 : decode cJ21_poll 37 = .ok (.aaload, 1) := dk_50 (dk_at dksJ21_poll_1 13 rfl rfl)
theorem dJ21_poll_38 : decode cJ21_poll 38 = .ok (.astore 4, 2) := dk_58 4 (dk_at dksJ21_poll_1 14 rfl rfl)
theorem dJ21_poll_40 : decode cJ21_poll 40 = .ok (.aload_n 1, 1) := dk_43 (dk_at dksJ21_poll_1 16 rfl rfl)
theorem dJ21_poll_41 : decode cJ21_poll 41 = .ok (.iload_n 3, 1) := dk_29 (dk_at dksJ21_poll_1 17 rfl rfl)
theorem dJ21_poll_42 : decode cJ21_poll 42 = .ok (.aconst_null, 1) := dk_1 (dk_at dksJ21_poll_1 18 rfl rfl)
theorem dJ21_poll_43 : decode cJ21_poll 43 = .ok (.aastore, 1) := dk_83 (dk_at dksJ21_poll_1 19 rfl rfl)
theorem dJ21_poll_44 : decode cJ21_poll 44 = .ok (.iload_n 3, 1) := dk_29 (dk_at dksJ21_poll_1 20 rfl rfl)
theorem dJ21_poll_45 : decode cJ21_poll 45 = .ok (.ifCond .le 34, 3) := dk_158 0 34 (dk_at dksJ21_poll_1 21 rfl rfl)
theorem dJ21_poll_48 : decode cJ21_poll 48 = .ok (.aload_n 0, 1) := dk_42 (dk_at dksJ21_poll_2 0 rfl rfl)
theorem dJ21_poll_49 : decode cJ21_poll 49 = .ok (.getfield 21, 3) := dk_180 0 21 (dk_at dksJ21_poll_2 1 rfl rfl)
theorem dJ21_poll_52 : decode cJ21_poll 52 = .ok (.dup, 1) := dk_89 (dk_at dksJ21_poll_2 4 rfl rfl)
theorem dJ21_poll_53 : decode cJ21_poll 53 = .ok (.astore 5, 2) := dk_58 5 (dk_at dksJ21_poll_2 5 rfl rfl)
theorem dJ21_poll_55 : decode cJ21_poll 55 = .ok (.ifnonnull 14, 3) := dk_199 0 14 (dk_at dksJ21_poll_2 7 rfl rfl)
theorem dJ21_poll_58 : decode cJ21_poll 58 = .ok (.iconst 0, 1) := dk_3 (dk_at dksJ21_poll_2 10 rfl rfl)
theorem dJ21_poll_59 : decode cJ21_poll 59 = .ok (.aload 4, 2) := dk_25 4 (dk_at dksJ21_poll_2 11 rfl rfl)
theorem dJ21_poll_61 : decode cJ21_poll 61 = .ok (.aload_n 1, 1) := dk_43 (dk_at dksJ21_poll_2 13 rfl rfl)
theorem dJ21_poll_62 : decode cJ21_poll 62 = .ok (.iload_n 3, 1) := dk_29 (dk_at dksJ21_poll_2 14 rfl rfl)
theorem dJ21_poll_63 : decode cJ21_poll 63 = .ok (.invokestatic 125, 3) := dk_184 0 125 (dk_at dksJ21_poll_2 15 rfl rfl)
theorem dJ21_poll_66 : decode cJ21_poll 66 = .ok (.goto 13, 3) := dk_167 0 13 (dk_at dksJ21_poll_2 18 rfl rfl)
theorem dJ21_poll_69 : decode cJ21_poll 69 = .ok (.iconst 0, 1) := dk_3 (dk_at dksJ21_poll_2 21 rfl rfl)
theorem dJ21_poll_70 : decode cJ21_poll 70 = .ok (.aload 4, 2) := dk_25 4 (dk_at dksJ21_poll_2 22 rfl rfl)
theorem dJ21_poll_72 : decode cJ21_poll 72 = .ok (.aload_n 1, 1) := dk_43 (dk_at dksJ21_poll_3 0 rfl rfl)
theorem dJ21_poll_73 : decode cJ21_poll 73 = .ok (.iload_n 3, 1) := dk_29 (dk_at dksJ21_poll_3 1 rfl rfl)
theorem dJ21_poll_74 : decode cJ21_poll 74 = .ok (.aload 5, 2) := dk_25 5 (dk_at dksJ21_poll_3 2 rfl rfl)
theorem dJ21_poll_76 : decode cJ21_poll 76 = .ok (.invokestatic 129, 3) := dk_184 0 129 (dk_at dksJ21_poll_3 4 rfl rfl)
theorem dJ21_poll_79 : decode cJ21_poll 79 = .ok (.aload_n 2, 1) := dk_44 (dk_at dksJ21_poll_3 7 rfl rfl)
theorem dJ21_poll_80 : decode cJ21_poll 80 = .ok (.areturn, 1) := dk_176 (dk_at dksJ21_poll_3 8 rfl rfl)
abbrev cJ21_siftDownComparable : ByteArray := prog_61_method_31_code
def yJ21_siftDownComparable : MethodName := ⟨RJ21, "siftDownComparable", "(ILjava/lang/Object;[Ljava/lang/Object;I)V"⟩
def dkwJ21_siftDownComparable_4 : List UInt8 := [25, 4, 83, 177]
abbrev dktJ21_siftDownComparable_4 : List UInt8 := dkwJ21_siftDownComparable_4 ++ []
def dkwJ21_siftDownComparable_3 : List UInt8 := [185, 0, 146, 2, 0, 157, 0, 6, 167, 0, 14, 44, 26, 25, 7, 83, 21, 6, 59, 167, 255, 176, 44, 26]
abbrev dktJ21_siftDownComparable_3 : List UInt8 := dkwJ21_siftDownComparable_3 ++ dktJ21_siftDownComparable_4
def dkwJ21_siftDownComparable_2 : List UInt8 := [21, 8, 50, 185, 0, 146, 2, 0, 158, 0, 12, 44, 21, 8, 89, 54, 6, 50, 58, 7, 25, 4, 25, 7]
abbrev dktJ21_siftDownComparable_2 : List UInt8 := dkwJ21_siftDownComparable_2 ++ dktJ21_siftDownComparable_3
def dkwJ21_siftDownComparable_1 : List UInt8 := [44, 21, 6, 50, 58, 7, 21, 6, 4, 96, 54, 8, 21, 8, 29, 162, 0, 29, 25, 7, 192, 0, 144, 44]
abbrev dktJ21_siftDownComparable_1 : List UInt8 := dkwJ21_siftDownComparable_1 ++ dktJ21_siftDownComparable_2
def dkwJ21_siftDownComparable_0 : List UInt8 := [43, 192, 0, 144, 58, 4, 29, 4, 124, 54, 5, 26, 21, 5, 162, 0, 80, 26, 4, 120, 4, 96, 54, 6]
abbrev dktJ21_siftDownComparable_0 : List UInt8 := dkwJ21_siftDownComparable_0 ++ dktJ21_siftDownComparable_1
theorem dksJ21_siftDownComparable_0 : cJ21_siftDownComparable.data.toList.drop 0 = dktJ21_siftDownComparable_0 := by decide +kernel
theorem dksJ21_siftDownComparable_1 : cJ21_siftDownComparable.data.toList.drop 24 = dktJ21_siftDownComparable_1 := dk_seg dksJ21_siftDownComparable_0 24 rfl rfl
theorem dksJ21_siftDownComparable_2 : cJ21_siftDownComparable.data.toList.drop 48 = dktJ21_siftDownComparable_2 := dk_seg dksJ21_siftDownComparable_1 24 rfl rfl
theorem dksJ21_siftDownComparable_3 : cJ21_siftDownComparable.data.toList.drop 72 = dktJ21_siftDownComparable_3 := dk_seg dksJ21_siftDownComparable_2 24 rfl rfl
theorem dksJ21_siftDownComparable_4 : cJ21_siftDownComparable.data.toList.drop 96 = dktJ21_siftDownComparable_4 := dk_seg dksJ21_siftDownComparable_3 24 rfl rfl
theorem dJ21_siftDownComparable_0 : decode cJ21_siftDownComparable 0 = .ok (.aload_n 1, 1) := dk_43 (dk_at dksJ21_siftDownComparable_0 0 rfl rfl)
theorem dJ21_siftDownComparable_1 : decode cJ21_siftDownComparable 1 = .ok (.checkcast 144, 3) := dk_192 0 144 (dk_at dksJ21_siftDownComparable_0 1 rfl rfl)
theorem dJ21_siftDownComparable_4 : decode cJ21_siftDownComparable 4 = .ok (.astore 4, 2) := dk_58 4 (dk_at dksJ21_siftDownComparable_0 4 rfl rfl)
theorem dJ21_siftDownComparable_6 : decode cJ21_siftDownComparable 6 = .ok (.iload_n 3, 1) := dk_29 (dk_at dksJ21_siftDownComparable_0 6 rfl rfl)
theorem dJ21_siftDownComparable_7 : decode cJ21_siftDownComparable 7 = .ok (.iconst 1, 1) := dk_4 (dk_at dksJ21_siftDownComparable_0 7 rfl rfl)
theorem dJ21_siftDownComparable_8 : decode cJ21_siftDownComparable 8 = .ok (.iushr, 1) := dk_124 (dk_at dksJ21_siftDownComparable_0 8 rfl rfl)
theorem dJ21_siftDownComparable_9 : decode cJ21_siftDownComparable 9 = .ok (.istore 5, 2) := dk_54 5 (dk_at dksJ21_siftDownComparable_0 9 rfl rfl)
theorem dJ21_siftDownComparable_11 : decode cJ21_siftDownComparable 11 = .ok (.iload_n 0, 1) := dk_26 (dk_at dksJ21_siftDownComparable_0 11 rfl rfl)
theorem dJ21_siftDownComparable_12 : decode cJ21_siftDownComparable 12 = .ok (.iload 5, 2) := dk_21 5 (dk_at dksJ21_siftDownComparable_0 12 rfl rfl)
theorem dJ21_siftDownComparable_14 : decode cJ21_siftDownComparable 14 = .ok (.if_icmp .ge 80, 3) := dk_162 0 80 (dk_at dksJ21_siftDownComparable_0 14 rfl rfl)
theorem dJ21_siftDownComparable_17 : decode cJ21_siftDownComparable 17 = .ok (.iload_n 0, 1) := dk_26 (dk_at dksJ21_siftDownComparable_0 17 rfl rfl)
theorem dJ21_siftDownComparable_18 : decode cJ21_siftDownComparable 18 = .ok (.iconst 1, 1) := dk_4 (dk_at dksJ21_siftDownComparable_0 18 rfl rfl)
theorem dJ21_siftDownComparable_19 : decode cJ21_siftDownComparable 19 = .ok (.ishl, 1) := dk_120 (dk_at dksJ21_siftDownComparable_0 19 rfl rfl)
theorem dJ21_siftDownComparable_20 : decode cJ21_siftDownComparable 20 = .ok (.iconst 1, 1) := dk_4 (dk_at dksJ21_siftDownComparable_0 20 rfl rfl)
theorem dJ21_siftDownComparable_21 : decode cJ21_siftDownComparable 21 = .ok (.iadd, 1) := dk_96 (dk_at dksJ21_siftDownComparable_0 21 rfl rfl)
theorem dJ21_siftDownComparable_22 : decode cJ21_siftDownComparable 22 = .ok (.istore 6, 2) := dk_54 6 (dk_at dksJ21_siftDownComparable_0 22 rfl rfl)
theorem dJ21_siftDownComparable_24 : decode cJ21_siftDownComparable 24 = .ok (.aload_n 2, 1) := dk_44 (dk_at dksJ21_siftDownComparable_1 0 rfl rfl)
theorem dJ21_siftDownComparable_25 : decode cJ21_siftDownComparable 25 = .ok (.iload 6, 2) := dk_21 6 (dk_at dksJ21_siftDownComparable_1 1 rfl rfl)
theorem dJ21_siftDownComparable_27 : decode cJ21_siftDownComparable 27 = .ok (.aaload, 1) := dk_50 (dk_at dksJ21_siftDownComparable_1 3 rfl rfl)
theorem dJ21_siftDownComparable_28 : decode cJ21_siftDownComparable 28 = .ok (.astore 7, 2) := dk_58 7 (dk_at dksJ21_siftDownComparable_1 4 rfl rfl)
theorem dJ21_siftDownComparable_30 : decode cJ21_siftDownComparable 30 = .ok (.iload 6, 2) := dk_21 6 (dk_at dksJ21_siftDownComparable_1 6 rfl rfl)
theorem dJ21_siftDownComparable_32 : decode cJ21_siftDownComparable 32 = .ok (.iconst 1, 1) := dk_4 (dk_at dksJ21_siftDownComparable_1 8 rfl rfl)
theorem dJ21_siftDownComparable_33 : decode cJ21_siftDownComparable 33 = .ok (.iadd, 1) := dk_96 (dk_at dksJ21_siftDownComparable_1 9 rfl rfl)
theorem dJ21_siftDownComparable_34 : decode cJ21_siftDownComparable 34 = .ok (.istore 8, 2) := dk_54 8 (dk_at dksJ21_siftDownComparable_1 10 rfl rfl)
theorem dJ21_siftDownComparable_36 : decode cJ21_siftDownComparable 36 = .ok (.iload 8, 2) := dk_21 8 (dk_at dksJ21_siftDownComparable_1 12 rfl rfl)
theorem dJ21_siftDownComparable_38 : decode cJ21_siftDownComparable 38 = .ok (.iload_n 3, 1) := dk_29 (dk_at dksJ21_siftDownComparable_1 14 rfl rfl)
theorem dJ21_siftDownComparable_39 : decode cJ21_siftDownComparable 39 = .ok (.if_icmp .ge 29, 3) := dk_162 0 29 (dk_at dksJ21_siftDownComparable_1 15 rfl rfl)
theorem dJ21_siftDownComparable_42 : decode cJ21_siftDownComparable 42 = .ok (.aload 7, 2) := dk_25 7 (dk_at dksJ21_siftDownComparable_1 18 rfl rfl)
theorem dJ21_siftDownComparable_44 : decode cJ21_siftDownComparable 44 = .ok (.checkcast 144, 3) := dk_192 0 144 (dk_at dksJ21_siftDownComparable_1 20 rfl rfl)
theorem dJ21_siftDownComparable_47 : decode cJ21_siftDownComparable 47 = .ok (.aload_n 2, 1) := dk_44 (dk_at dksJ21_siftDownComparable_1 23 rfl rfl)
theorem dJ21_siftDownComparable_48 : decode cJ21_siftDownComparable 48 = .ok (.iload 8, 2) := dk_21 8 (dk_at dksJ21_siftDownComparable_2 0 rfl rfl)
theorem dJ21_siftDownComparable_50 : decode cJ21_siftDownComparable 50 = .ok (.aaload, 1) := dk_50 (dk_at dksJ21_siftDownComparable_2 2 rfl rfl)
theorem dJ21_siftDownComparable_51 : decode cJ21_siftDownComparable 51 = .ok (.invokeinterface 146 2, 5) := by decide +kernel
theorem dJ21_siftDownComparable_56 : decode cJ21_siftDownComparable 56 = .ok (.ifCond .le 12, 3) := dk_158 0 12 (dk_at dksJ21_siftDownComparable_2 8 rfl rfl)
theorem dJ21_siftDownComparable_59 : decode cJ21_siftDownComparable 59 = .ok (.aload_n 2, 1) := dk_44 (dk_at dksJ21_siftDownComparable_2 11 rfl rfl)
theorem dJ21_siftDownComparable_60 : decode cJ21_siftDownComparable 60 = .ok (.iload 8, 2) := dk_21 8 (dk_at dksJ21_siftDownComparable_2 12 rfl rfl)
theorem dJ21_siftDownComparable_62 : decode cJ21_siftDownComparable 62 = .ok (.dup, 1) := dk_89 (dk_at dksJ21_siftDownComparable_2 14 rfl rfl)
theorem dJ21_siftDownComparable_63 : decode cJ21_siftDownComparable 63 = .ok (.istore 6, 2) := dk_54 6 (dk_at dksJ21_siftDownComparable_2 15 rfl rfl)
theorem dJ21_siftDownComparable_65 : decode cJ21_siftDownComparable 65 = .ok (.aaload, 1) := dk_50 (dk_at dksJ21_siftDownComparable_2 17 rfl rfl)
theorem dJ21_siftDownComparable_66 : decode cJ21_siftDownComparable 66 = .ok (.astore 7, 2) := dk_58 7 (dk_at dksJ21_siftDownComparable_2 18 rfl rfl)
theorem dJ21_siftDownComparable_68 : decode cJ21_siftDownComparable 68 = .ok (.aload 4, 2) := dk_25 4 (dk_at dksJ21_siftDownComparable_2 20 rfl rfl)
theorem dJ21_siftDownComparable_70 : decode cJ21_siftDownComparable 70 = .ok (.aload 7, 2) := dk_25 7 (dk_at dksJ21_siftDownComparable_2 22 rfl rfl)
theorem dJ21_siftDownComparable_72 : decode cJ21_siftDownComparable 72 = .ok (.invokeinterface 146 2, 5) := by decide +kernel
theorem dJ21_siftDownComparable_77 : decode cJ21_siftDownComparable 77 = .ok (.ifCond .gt 6, 3) := dk_157 0 6 (dk_at dksJ21_siftDownComparable_3 5 rfl rfl)
theorem dJ21_siftDownComparable_80 : decode cJ21_siftDownComparable 80 = .ok (.goto 14, 3) := dk_167 0 14 (dk_at dksJ21_siftDownComparable_3 8 rfl rfl)
theorem dJ21_siftDownComparable_83 : decode cJ21_siftDownComparable 83 = .ok (.aload_n 2, 1) := dk_44 (dk_at dksJ21_siftDownComparable_3 11 rfl rfl)
theorem dJ21_siftDownComparable_84 : decode cJ21_siftDownComparable 84 = .ok (.iload_n 0, 1) := dk_26 (dk_at dksJ21_siftDownComparable_3 12 rfl rfl)
theorem dJ21_siftDownComparable_85 : decode cJ21_siftDownComparable 85 = .ok (.aload 7, 2) := dk_25 7 (dk_at dksJ21_siftDownComparable_3 13 rfl rfl)
theorem dJ21_siftDownComparable_87 : decode cJ21_siftDownComparable 87 = .ok (.aastore, 1) := dk_83 (dk_at dksJ21_siftDownComparable_3 15 rfl rfl)
theorem dJ21_siftDownComparable_88 : decode cJ21_siftDownComparable 88 = .ok (.iload 6, 2) := dk_21 6 (dk_at dksJ21_siftDownComparable_3 16 rfl rfl)
theorem dJ21_siftDownComparable_90 : decode cJ21_siftDownComparable 90 = .ok (.istore_n 0, 1) := dk_59 (dk_at dksJ21_siftDownComparable_3 18 rfl rfl)
theorem dJ21_siftDownComparable_91 : decode cJ21_siftDownComparable 91 = .ok (.goto (-80), 3) := dk_167 255 176 (dk_at dksJ21_siftDownComparable_3 19 rfl rfl)
theorem dJ21_siftDownComparable_94 : decode cJ21_siftDownComparable 94 = .ok (.aload_n 2, 1) := dk_44 (dk_at dksJ21_siftDownComparable_3 22 rfl rfl)
theorem dJ21_siftDownComparable_95 : decode cJ21_siftDownComparable 95 = .ok (.iload_n 0, 1) := dk_26 (dk_at dksJ21_siftDownComparable_3 23 rfl rfl)
theorem dJ21_siftDownComparable_96 : decode cJ21_siftDownComparable 96 = .ok (.aload 4, 2) := dk_25 4 (dk_at dksJ21_siftDownComparable_4 0 rfl rfl)
theorem dJ21_siftDownComparable_98 : decode cJ21_siftDownComparable 98 = .ok (.aastore, 1) := dk_83 (dk_at dksJ21_siftDownComparable_4 2 rfl rfl)
theorem dJ21_siftDownComparable_99 : decode cJ21_siftDownComparable 99 = .ok (.return_, 1) := dk_177 (dk_at dksJ21_siftDownComparable_4 3 rfl rfl)
abbrev cJ21_siftDownUsingComparator : ByteArray := prog_61_method_32_code
def yJ21_siftDownUsingComparator : MethodName := ⟨RJ21, "siftDownUsingComparator", "(ILjava/lang/Object;[Ljava/lang/Object;ILjava/util/Comparator;)V"⟩
def dkwJ21_siftDownUsingComparator_4 : List UInt8 := [43, 83, 177]
abbrev dktJ21_siftDownUsingComparator_4 : List UInt8 := dkwJ21_siftDownUsingComparator_4 ++ []
def dkwJ21_siftDownUsingComparator_3 : List UInt8 := [185, 0, 149, 3, 0, 157, 0, 6, 167, 0, 14, 44, 26, 25, 7, 83, 21, 6, 59, 167, 255, 176, 44, 26]
abbrev dktJ21_siftDownUsingComparator_3 : List UInt8 := dkwJ21_siftDownUsingComparator_3 ++ dktJ21_siftDownUsingComparator_4
def dkwJ21_siftDownUsingComparator_2 : List UInt8 := [185, 0, 149, 3, 0, 158, 0, 12, 44, 21, 8, 89, 54, 6, 50, 58, 7, 25, 4, 43, 25, 7]
abbrev dktJ21_siftDownUsingComparator_2 : List UInt8 := dkwJ21_siftDownUsingComparator_2 ++ dktJ21_siftDownUsingComparator_3
def dkwJ21_siftDownUsingComparator_1 : List UInt8 := [21, 6, 4, 96, 54, 8, 21, 8, 29, 162, 0, 28, 25, 4, 25, 7, 44, 21, 8, 50]
abbrev dktJ21_siftDownUsingComparator_1 : List UInt8 := dkwJ21_siftDownUsingComparator_1 ++ dktJ21_siftDownUsingComparator_2
def dkwJ21_siftDownUsingComparator_0 : List UInt8 := [29, 4, 124, 54, 5, 26, 21, 5, 162, 0, 80, 26, 4, 120, 4, 96, 54, 6, 44, 21, 6, 50, 58, 7]
abbrev dktJ21_siftDownUsingComparator_0 : List UInt8 := dkwJ21_siftDownUsingComparator_0 ++ dktJ21_siftDownUsingComparator_1
theorem dksJ21_siftDownUsingComparator_0 : cJ21_siftDownUsingComparator.data.toList.drop 0 = dktJ21_siftDownUsingComparator_0 := by decide +kernel
theorem dksJ21_siftDownUsingComparator_1 : cJ21_siftDownUsingComparator.data.toList.drop 24 = dktJ21_siftDownUsingComparator_1 := dk_seg dksJ21_siftDownUsingComparator_0 24 rfl rfl
theorem dksJ21_siftDownUsingComparator_2 : cJ21_siftDownUsingComparator.data.toList.drop 44 = dktJ21_siftDownUsingComparator_2 := dk_seg dksJ21_siftDownUsingComparator_1 20 rfl rfl
theorem dksJ21_siftDownUsingComparator_3 : cJ21_siftDownUsingComparator.data.toList.drop 66 = dktJ21_siftDownUsingComparator_3 := dk_seg dksJ21_siftDownUsingComparator_2 22 rfl rfl
theorem dksJ21_siftDownUsingComparator_4 : cJ21_siftDownUsingComparator.data.toList.drop 90 = dktJ21_siftDownUsingComparator_4 := dk_seg dksJ21_siftDownUsingComparator_3 24 rfl rfl
theorem dJ21_siftDownUsingComparator_0 : decode cJ21_siftDownUsingComparator 0 = .ok (.iload_n 3, 1) := dk_29 (dk_at dksJ21_siftDownUsingComparator_0 0 rfl rfl)
theorem dJ21_siftDownUsingComparator_1 : decode cJ21_siftDownUsingComparator 1 = .ok (.iconst 1, 1) := dk_4 (dk_at dksJ21_siftDownUsingComparator_0 1 rfl rfl)
theorem dJ21_siftDownUsingComparator_2 : decode cJ21_siftDownUsingComparator 2 = .ok (.iushr, 1) := dk_124 (dk_at dksJ21_siftDownUsingComparator_0 2 rfl rfl)
theorem dJ21_siftDownUsingComparator_3 : decode cJ21_siftDownUsingComparator 3 = .ok (.istore 5, 2) := dk_54 5 (dk_at dksJ21_siftDownUsingComparator_0 3 rfl rfl)
theorem dJ21_siftDownUsingComparator_5 : decode cJ21_siftDownUsingComparator 5 = .ok (.iload_n 0, 1) := dk_26 (dk_at dksJ21_siftDownUsingComparator_0 5 rfl rfl)
theorem dJ21_siftDownUsingComparator_6 : decode cJ21_siftDownUsingComparator 6 = .ok (.iload 5, 2) := dk_21 5 (dk_at dksJ21_siftDownUsingComparator_0 6 rfl rfl)
theorem dJ21_siftDownUsingComparator_8 : decode cJ21_siftDownUsingComparator 8 = .ok (.if_icmp .ge 80, 3) := dk_162 0 80 (dk_at dksJ21_siftDownUsingComparator_0 8 rfl rfl)
theorem dJ21_siftDownUsingComparator_11 : decode cJ21_siftDownUsingComparator 11 = .ok (.iload_n 0, 1) := dk_26 (dk_at dksJ21_siftDownUsingComparator_0 11 rfl rfl)
theorem dJ21_siftDownUsingComparator_12 : decode cJ21_siftDownUsingComparator 12 = .ok (.iconst 1, 1) := dk_4 (dk_at dksJ21_siftDownUsingComparator_0 12 rfl rfl)
theorem dJ21_siftDownUsingComparator_13 : decode cJ21_siftDownUsingComparator 13 = .ok (.ishl, 1) := dk_120 (dk_at dksJ21_siftDownUsingComparator_0 13 rfl rfl)
theorem dJ21_siftDownUsingComparator_14 : decode cJ21_siftDownUsingComparator 14 = .ok (.iconst 1, 1) := dk_4 (dk_at dksJ21_siftDownUsingComparator_0 14 rfl rfl)
theorem dJ21_siftDownUsingComparator_15 : decode cJ21_siftDownUsingComparator 15 = .ok (.iadd, 1) := dk_96 (dk_at dksJ21_siftDownUsingComparator_0 15 rfl rfl)
theorem dJ21_siftDownUsingComparator_16 : decode cJ21_siftDownUsingComparator 16 = .ok (.istore 6, 2) := dk_54 6 (dk_at dksJ21_siftDownUsingComparator_0 16 rfl rfl)
theorem dJ21_siftDownUsingComparator_18 : decode cJ21_siftDownUsingComparator 18 = .ok (.aload_n 2, 1) := dk_44 (dk_at dksJ21_siftDownUsingComparator_0 18 rfl rfl)
theorem dJ21_siftDownUsingComparator_19 : decode cJ21_siftDownUsingComparator 19 = .ok (.iload 6, 2) := dk_21 6 (dk_at dksJ21_siftDownUsingComparator_0 19 rfl rfl)
theorem dJ21_siftDownUsingComparator_21 : decode cJ21_siftDownUsingComparator 21 = .ok (.aaload, 1) := dk_50 (dk_at dksJ21_siftDownUsingComparator_0 21 rfl rfl)
theorem dJ21_siftDownUsingComparator_22 : decode cJ21_siftDownUsingComparator 22 = .ok (.astore 7, 2) := dk_58 7 (dk_at dksJ21_siftDownUsingComparator_0 22 rfl rfl)
theorem dJ21_siftDownUsingComparator_24 : decode cJ21_siftDownUsingComparator 24 = .ok (.iload 6, 2) := dk_21 6 (dk_at dksJ21_siftDownUsingComparator_1 0 rfl rfl)
theorem dJ21_siftDownUsingComparator_26 : decode cJ21_siftDownUsingComparator 26 = .ok (.iconst 1, 1) := dk_4 (dk_at dksJ21_siftDownUsingComparator_1 2 rfl rfl)
theorem dJ21_siftDownUsingComparator_27 : decode cJ21_siftDownUsingComparator 27 = .ok (.iadd, 1) := dk_96 (dk_at dksJ21_siftDownUsingComparator_1 3 rfl rfl)
theorem dJ21_siftDownUsingComparator_28 : decode cJ21_siftDownUsingComparator 28 = .ok (.istore 8, 2) := dk_54 8 (dk_at dksJ21_siftDownUsingComparator_1 4 rfl rfl)
theorem dJ21_siftDownUsingComparator_30 : decode cJ21_siftDownUsingComparator 30 = .ok (.iload 8, 2) := dk_21 8 (dk_at dksJ21_siftDownUsingComparator_1 6 rfl rfl)
theorem dJ21_siftDownUsingComparator_32 : decode cJ21_siftDownUsingComparator 32 = .ok (.iload_n 3, 1) := dk_29 (dk_at dksJ21_siftDownUsingComparator_1 8 rfl rfl)
theorem dJ21_siftDownUsingComparator_33 : decode cJ21_siftDownUsingComparator 33 = .ok (.if_icmp .ge 28, 3) := dk_162 0 28 (dk_at dksJ21_siftDownUsingComparator_1 9 rfl rfl)
theorem dJ21_siftDownUsingComparator_36 : decode cJ21_siftDownUsingComparator 36 = .ok (.aload 4, 2) := dk_25 4 (dk_at dksJ21_siftDownUsingComparator_1 12 rfl rfl)
theorem dJ21_siftDownUsingComparator_38 : decode cJ21_siftDownUsingComparator 38 = .ok (.aload 7, 2) := dk_25 7 (dk_at dksJ21_siftDownUsingComparator_1 14 rfl rfl)
theorem dJ21_siftDownUsingComparator_40 : decode cJ21_siftDownUsingComparator 40 = .ok (.aload_n 2, 1) := dk_44 (dk_at dksJ21_siftDownUsingComparator_1 16 rfl rfl)
theorem dJ21_siftDownUsingComparator_41 : decode cJ21_siftDownUsingComparator 41 = .ok (.iload 8, 2) := dk_21 8 (dk_at dksJ21_siftDownUsingComparator_1 17 rfl rfl)
theorem dJ21_siftDownUsingComparator_43 : decode cJ21_siftDownUsingComparator 43 = .ok (.aaload, 1) := dk_50 (dk_at dksJ21_siftDownUsingComparator_1 19 rfl rfl)
theorem dJ21_siftDownUsingComparator_44 : decode cJ21_siftDownUsingComparator 44 = .ok (.invokeinterface 149 3, 5) := by decide +kernel
theorem dJ21_siftDownUsingComparator_49 : decode cJ21_siftDownUsingComparator 49 = .ok (.ifCond .le 12, 3) := dk_158 0 12 (dk_at dksJ21_siftDownUsingComparator_2 5 rfl rfl)
theorem dJ21_siftDownUsingComparator_52 : decode cJ21_siftDownUsingComparator 52 = .ok (.aload_n 2, 1) := dk_44 (dk_at dksJ21_siftDownUsingComparator_2 8 rfl rfl)
theorem dJ21_siftDownUsingComparator_53 : decode cJ21_siftDownUsingComparator 53 = .ok (.iload 8, 2) := dk_21 8 (dk_at dksJ21_siftDownUsingComparator_2 9 rfl rfl)
theorem dJ21_siftDownUsingComparator_55 : decode cJ21_siftDownUsingComparator 55 = .ok (.dup, 1) := dk_89 (dk_at dksJ21_siftDownUsingComparator_2 11 rfl rfl)
theorem dJ21_siftDownUsingComparator_56 : decode cJ21_siftDownUsingComparator 56 = .ok (.istore 6, 2) := dk_54 6 (dk_at dksJ21_siftDownUsingComparator_2 12 rfl rfl)
theorem dJ21_siftDownUsingComparator_58 : decode cJ21_siftDownUsingComparator 58 = .ok (.aaload, 1) := dk_50 (dk_at dksJ21_siftDownUsingComparator_2 14 rfl rfl)
theorem dJ21_siftDownUsingComparator_59 : decode cJ21_siftDownUsingComparator 59 = .ok (.astore 7, 2) := dk_58 7 (dk_at dksJ21_siftDownUsingComparator_2 15 rfl rfl)
theorem dJ21_siftDownUsingComparator_61 : decode cJ21_siftDownUsingComparator 61 = .ok (.aload 4, 2) := dk_25 4 (dk_at dksJ21_siftDownUsingComparator_2 17 rfl rfl)
theorem dJ21_siftDownUsingComparator_63 : decode cJ21_siftDownUsingComparator 63 = .ok (.aload_n 1, 1) := dk_43 (dk_at dksJ21_siftDownUsingComparator_2 19 rfl rfl)
theorem dJ21_siftDownUsingComparator_64 : decode cJ21_siftDownUsingComparator 64 = .ok (.aload 7, 2) := dk_25 7 (dk_at dksJ21_siftDownUsingComparator_2 20 rfl rfl)
theorem dJ21_siftDownUsingComparator_66 : decode cJ21_siftDownUsingComparator 66 = .ok (.invokeinterface 149 3, 5) := by decide +kernel
theorem dJ21_siftDownUsingComparator_71 : decode cJ21_siftDownUsingComparator 71 = .ok (.ifCond .gt 6, 3) := dk_157 0 6 (dk_at dksJ21_siftDownUsingComparator_3 5 rfl rfl)
theorem dJ21_siftDownUsingComparator_74 : decode cJ21_siftDownUsingComparator 74 = .ok (.goto 14, 3) := dk_167 0 14 (dk_at dksJ21_siftDownUsingComparator_3 8 rfl rfl)
theorem dJ21_siftDownUsingComparator_77 : decode cJ21_siftDownUsingComparator 77 = .ok (.aload_n 2, 1) := dk_44 (dk_at dksJ21_siftDownUsingComparator_3 11 rfl rfl)
theorem dJ21_siftDownUsingComparator_78 : decode cJ21_siftDownUsingComparator 78 = .ok (.iload_n 0, 1) := dk_26 (dk_at dksJ21_siftDownUsingComparator_3 12 rfl rfl)
theorem dJ21_siftDownUsingComparator_79 : decode cJ21_siftDownUsingComparator 79 = .ok (.aload 7, 2) := dk_25 7 (dk_at dksJ21_siftDownUsingComparator_3 13 rfl rfl)
theorem dJ21_siftDownUsingComparator_81 : decode cJ21_siftDownUsingComparator 81 = .ok (.aastore, 1) := dk_83 (dk_at dksJ21_siftDownUsingComparator_3 15 rfl rfl)
theorem dJ21_siftDownUsingComparator_82 : decode cJ21_siftDownUsingComparator 82 = .ok (.iload 6, 2) := dk_21 6 (dk_at dksJ21_siftDownUsingComparator_3 16 rfl rfl)
theorem dJ21_siftDownUsingComparator_84 : decode cJ21_siftDownUsingComparator 84 = .ok (.istore_n 0, 1) := dk_59 (dk_at dksJ21_siftDownUsingComparator_3 18 rfl rfl)
theorem dJ21_siftDownUsingComparator_85 : decode cJ21_siftDownUsingComparator 85 = .ok (.goto (-80), 3) := dk_167 255 176 (dk_at dksJ21_siftDownUsingComparator_3 19 rfl rfl)
theorem dJ21_siftDownUsingComparator_88 : decode cJ21_siftDownUsingComparator 88 = .ok (.aload_n 2, 1) := dk_44 (dk_at dksJ21_siftDownUsingComparator_3 22 rfl rfl)
theorem dJ21_siftDownUsingComparator_89 : decode cJ21_siftDownUsingComparator 89 = .ok (.iload_n 0, 1) := dk_26 (dk_at dksJ21_siftDownUsingComparator_3 23 rfl rfl)
theorem dJ21_siftDownUsingComparator_90 : decode cJ21_siftDownUsingComparator 90 = .ok (.aload_n 1, 1) := dk_43 (dk_at dksJ21_siftDownUsingComparator_4 0 rfl rfl)
theorem dJ21_siftDownUsingComparator_91 : decode cJ21_siftDownUsingComparator 91 = .ok (.aastore, 1) := dk_83 (dk_at dksJ21_siftDownUsingComparator_4 1 rfl rfl)
theorem dJ21_siftDownUsingComparator_92 : decode cJ21_siftDownUsingComparator 92 = .ok (.return_, 1) := dk_177 (dk_at dksJ21_siftDownUsingComparator_4 2 rfl rfl)
theorem q168 : (Jvm.Cond.initialized "java/util/PriorityQueue") ∈ lw_all := lw_g (lw_at lw_m1 29 rfl) rfl
theorem q787 : (Jvm.Cond.instantiable "java/util/PriorityQueue" (4 : Nat)) ∈ lw_all := lw_g (lw_at lw_m3 168 rfl) rfl
theorem q796 : (Jvm.Cond.instanceMethod ({ cls := "java/util/PriorityQueue", name := "<init>", desc := "(ILjava/util/Comparator;)V" } : Jvm.MethodName)) ∈ lw_all := lw_g (lw_at lw_m3 177 rfl) rfl
theorem q797 : (Jvm.Cond.code ({ cls := "java/util/PriorityQueue", name := "<init>", desc := "(ILjava/util/Comparator;)V" } : Jvm.MethodName) prog_61_method_4_code (3 : Nat) (Option.none : Option Jvm.ClassFile.FieldType)) ∈ lw_all := lw_g (lw_at lw_m3 178 rfl) rfl
theorem q798 : (Jvm.Cond.methodLink "java/util/PriorityQueue" (7 : Nat) ({ cls := "java/util/AbstractQueue", name := "<init>", desc := "()V" } : Jvm.MethodName)) ∈ lw_all := lw_g (lw_at lw_m3 179 rfl) rfl
theorem q802 : (Jvm.Cond.classLink "java/util/PriorityQueue" (12 : Nat) "java/lang/IllegalArgumentException") ∈ lw_all := lw_g (lw_at lw_m3 183 rfl) rfl
theorem q803 : (Jvm.Cond.methodLink "java/util/PriorityQueue" (14 : Nat) ({ cls := "java/lang/IllegalArgumentException", name := "<init>", desc := "()V" } : Jvm.MethodName)) ∈ lw_all := lw_g (lw_at lw_m3 184 rfl) rfl
theorem q807 : (Jvm.Cond.classLink "java/util/PriorityQueue" (15 : Nat) "java/lang/Object") ∈ lw_all := lw_g (lw_at lw_m3 188 rfl) rfl
theorem q808 : (Jvm.Cond.fieldLink "java/util/PriorityQueue" (17 : Nat) "java/util/PriorityQueue" "queue" "[Ljava/lang/Object;") ∈ lw_all := lw_g (lw_at lw_m3 189 rfl) rfl
theorem q809 : (Jvm.Cond.fieldLink "java/util/PriorityQueue" (58 : Nat) "java/util/PriorityQueue" "size" "I") ∈ lw_all := lw_g (lw_at lw_m3 190 rfl) rfl
theorem q810 : (Jvm.Cond.fieldLink "java/util/PriorityQueue" (21 : Nat) "java/util/PriorityQueue" "comparator" "Ljava/util/Comparator;") ∈ lw_all := lw_g (lw_at lw_m3 191 rfl) rfl
theorem q811 : (Jvm.Cond.fieldLink "java/util/PriorityQueue" (93 : Nat) "java/util/PriorityQueue" "modCount" "I") ∈ lw_all := lw_g (lw_at lw_m3 192 rfl) rfl
theorem q812 : (Jvm.Cond.lays "java/util/PriorityQueue" "java/util/PriorityQueue" "queue" "[Ljava/lang/Object;") ∈ lw_all := lw_g (lw_at lw_m3 193 rfl) rfl
theorem q813 : (Jvm.Cond.soleField "java/util/PriorityQueue" "queue") ∈ lw_all := lw_g (lw_at lw_m3 194 rfl) rfl
theorem q814 : (Jvm.Cond.lays "java/util/PriorityQueue" "java/util/PriorityQueue" "size" "I") ∈ lw_all := lw_g (lw_at lw_m3 195 rfl) rfl
theorem q815 : (Jvm.Cond.soleField "java/util/PriorityQueue" "size") ∈ lw_all := lw_g (lw_at lw_m3 196 rfl) rfl
theorem q816 : (Jvm.Cond.laysFinal "java/util/PriorityQueue" "java/util/PriorityQueue" "comparator" "Ljava/util/Comparator;") ∈ lw_all := lw_g (lw_at lw_m3 197 rfl) rfl
theorem q817 : (Jvm.Cond.soleField "java/util/PriorityQueue" "comparator") ∈ lw_all := lw_g (lw_at lw_m3 198 rfl) rfl
theorem q818 : (Jvm.Cond.lays "java/util/PriorityQueue" "java/util/PriorityQueue" "modCount" "I") ∈ lw_all := lw_g (lw_at lw_m3 199 rfl) rfl
theorem q819 : (Jvm.Cond.soleField "java/util/PriorityQueue" "modCount") ∈ lw_all := lw_g (lw_at lw_m3 200 rfl) rfl
theorem q820 : (Jvm.Cond.superclass "java/util/PriorityQueue" "java/util/AbstractQueue") ∈ lw_all := lw_g (lw_at lw_m3 201 rfl) rfl
theorem q896 : (Jvm.Cond.selects "java/util/PriorityQueue" ({ cls := "java/lang/Object", name := "getClass", desc := "()Ljava/lang/Class;" } : Jvm.MethodName) ({ cls := "java/lang/Object", name := "getClass", desc := "()Ljava/lang/Class;" } : Jvm.MethodName)) ∈ lw_all := lw_g (lw_at lw_m4 37 rfl) rfl
theorem q2006 : (Jvm.Cond.castable "java/util/PriorityQueue" "java/util/Collection") ∈ lw_tbl := lw_at lw_m8 187 rfl
theorem q2007 : (Jvm.Cond.selects "java/util/PriorityQueue" ({ cls := "java/util/Collection", name := "toArray", desc := "()[Ljava/lang/Object;" } : Jvm.MethodName) ({ cls := "java/util/PriorityQueue", name := "toArray", desc := "()[Ljava/lang/Object;" } : Jvm.MethodName)) ∈ lw_all := lw_g (lw_at lw_m8 188 rfl) rfl
theorem q2008 : (Jvm.Cond.unhidden "java/util/PriorityQueue" "toArray" "()[Ljava/lang/Object;") ∈ lw_tbl := lw_at lw_m8 189 rfl
theorem q2009 : (Jvm.Cond.instanceMethod ({ cls := "java/util/PriorityQueue", name := "toArray", desc := "()[Ljava/lang/Object;" } : Jvm.MethodName)) ∈ lw_all := lw_g (lw_at lw_m8 190 rfl) rfl
theorem q2010 : (Jvm.Cond.publicMethod ({ cls := "java/util/PriorityQueue", name := "toArray", desc := "()[Ljava/lang/Object;" } : Jvm.MethodName)) ∈ lw_tbl := lw_at lw_m8 191 rfl
theorem q2011 : (Jvm.Cond.code ({ cls := "java/util/PriorityQueue", name := "toArray", desc := "()[Ljava/lang/Object;" } : Jvm.MethodName) prog_61_method_20_code (1 : Nat) (Option.some (Jvm.ClassFile.FieldType.array (Jvm.ClassFile.FieldType.object "java/lang/Object")))) ∈ lw_all := lw_g (lw_at lw_m8 192 rfl) rfl
theorem q2012 : (Jvm.Cond.methodLink "java/util/PriorityQueue" (86 : Nat) ({ cls := "java/util/Arrays", name := "copyOf", desc := "([Ljava/lang/Object;I)[Ljava/lang/Object;" } : Jvm.MethodName)) ∈ lw_all := lw_g (lw_at lw_m8 193 rfl) rfl
theorem q2157 : (Jvm.Cond.instanceMethod ({ cls := "java/util/PriorityQueue", name := "clear", desc := "()V" } : Jvm.MethodName)) ∈ lw_all := lw_g (lw_at lw_m9 98 rfl) rfl
theorem q2158 : (Jvm.Cond.selects "java/util/PriorityQueue" ({ cls := "java/util/PriorityQueue", name := "clear", desc := "()V" } : Jvm.MethodName) ({ cls := "java/util/PriorityQueue", name := "clear", desc := "()V" } : Jvm.MethodName)) ∈ lw_all := lw_g (lw_at lw_m9 99 rfl) rfl
theorem q2159 : (Jvm.Cond.code ({ cls := "java/util/PriorityQueue", name := "clear", desc := "()V" } : Jvm.MethodName) prog_61_method_24_code (4 : Nat) (Option.none : Option Jvm.ClassFile.FieldType)) ∈ lw_all := lw_g (lw_at lw_m9 100 rfl) rfl
theorem q2162 : (Jvm.Cond.instanceMethod ({ cls := "java/util/PriorityQueue", name := "add", desc := "(Ljava/lang/Object;)Z" } : Jvm.MethodName)) ∈ lw_all := lw_g (lw_at lw_m9 103 rfl) rfl
theorem q2163 : (Jvm.Cond.selects "java/util/PriorityQueue" ({ cls := "java/util/PriorityQueue", name := "add", desc := "(Ljava/lang/Object;)Z" } : Jvm.MethodName) ({ cls := "java/util/PriorityQueue", name := "add", desc := "(Ljava/lang/Object;)Z" } : Jvm.MethodName)) ∈ lw_all := lw_g (lw_at lw_m9 104 rfl) rfl
theorem q2164 : (Jvm.Cond.code ({ cls := "java/util/PriorityQueue", name := "add", desc := "(Ljava/lang/Object;)Z" } : Jvm.MethodName) prog_61_method_13_code (2 : Nat) (Option.some Jvm.ClassFile.FieldType.boolean)) ∈ lw_all := lw_g (lw_at lw_m9 105 rfl) rfl
theorem q2165 : (Jvm.Cond.methodLink "java/util/PriorityQueue" (89 : Nat) ({ cls := "java/util/PriorityQueue", name := "offer", desc := "(Ljava/lang/Object;)Z" } : Jvm.MethodName)) ∈ lw_all := lw_g (lw_at lw_m9 106 rfl) rfl
theorem q2166 : (Jvm.Cond.instanceMethod ({ cls := "java/util/PriorityQueue", name := "offer", desc := "(Ljava/lang/Object;)Z" } : Jvm.MethodName)) ∈ lw_all := lw_g (lw_at lw_m9 107 rfl) rfl
theorem q2167 : (Jvm.Cond.selects "java/util/PriorityQueue" ({ cls := "java/util/PriorityQueue", name := "offer", desc := "(Ljava/lang/Object;)Z" } : Jvm.MethodName) ({ cls := "java/util/PriorityQueue", name := "offer", desc := "(Ljava/lang/Object;)Z" } : Jvm.MethodName)) ∈ lw_all := lw_g (lw_at lw_m9 108 rfl) rfl
theorem q2168 : (Jvm.Cond.code ({ cls := "java/util/PriorityQueue", name := "offer", desc := "(Ljava/lang/Object;)Z" } : Jvm.MethodName) prog_61_method_14_code (3 : Nat) (Option.some Jvm.ClassFile.FieldType.boolean)) ∈ lw_all := lw_g (lw_at lw_m9 109 rfl) rfl
theorem q2169 : (Jvm.Cond.methodLink "java/util/PriorityQueue" (96 : Nat) ({ cls := "java/util/PriorityQueue", name := "grow", desc := "(I)V" } : Jvm.MethodName)) ∈ lw_all := lw_g (lw_at lw_m9 110 rfl) rfl
theorem q2170 : (Jvm.Cond.privateMethod ({ cls := "java/util/PriorityQueue", name := "grow", desc := "(I)V" } : Jvm.MethodName)) ∈ lw_tbl := lw_at lw_m9 111 rfl
theorem q2171 : (Jvm.Cond.instanceMethod ({ cls := "java/util/PriorityQueue", name := "grow", desc := "(I)V" } : Jvm.MethodName)) ∈ lw_all := lw_g (lw_at lw_m9 112 rfl) rfl
theorem q2172 : (Jvm.Cond.code ({ cls := "java/util/PriorityQueue", name := "grow", desc := "(I)V" } : Jvm.MethodName) prog_61_method_12_code (4 : Nat) (Option.none : Option Jvm.ClassFile.FieldType)) ∈ lw_all := lw_g (lw_at lw_m9 113 rfl) rfl
theorem q2173 : (Jvm.Cond.methodLink "java/util/PriorityQueue" (80 : Nat) ({ cls := "jdk/internal/util/ArraysSupport", name := "newLength", desc := "(III)I" } : Jvm.MethodName)) ∈ lw_all := lw_g (lw_at lw_m9 114 rfl) rfl
theorem q2174 : (Jvm.Cond.methodLink "java/util/PriorityQueue" (100 : Nat) ({ cls := "java/util/PriorityQueue", name := "siftUp", desc := "(ILjava/lang/Object;)V" } : Jvm.MethodName)) ∈ lw_all := lw_g (lw_at lw_m9 115 rfl) rfl
theorem q2175 : (Jvm.Cond.privateMethod ({ cls := "java/util/PriorityQueue", name := "siftUp", desc := "(ILjava/lang/Object;)V" } : Jvm.MethodName)) ∈ lw_tbl := lw_at lw_m9 116 rfl
theorem q2176 : (Jvm.Cond.instanceMethod ({ cls := "java/util/PriorityQueue", name := "siftUp", desc := "(ILjava/lang/Object;)V" } : Jvm.MethodName)) ∈ lw_all := lw_g (lw_at lw_m9 117 rfl) rfl
theorem q2177 : (Jvm.Cond.code ({ cls := "java/util/PriorityQueue", name := "siftUp", desc := "(ILjava/lang/Object;)V" } : Jvm.MethodName) prog_61_method_27_code (3 : Nat) (Option.none : Option Jvm.ClassFile.FieldType)) ∈ lw_all := lw_g (lw_at lw_m9 118 rfl) rfl
theorem q2178 : (Jvm.Cond.methodLink "java/util/PriorityQueue" (136 : Nat) ({ cls := "java/util/PriorityQueue", name := "siftUpUsingComparator", desc := "(ILjava/lang/Object;[Ljava/lang/Object;Ljava/util/Comparator;)V" } : Jvm.MethodName)) ∈ lw_all := lw_g (lw_at lw_m9 119 rfl) rfl
theorem q2179 : (Jvm.Cond.static ({ cls := "java/util/PriorityQueue", name := "siftUpUsingComparator", desc := "(ILjava/lang/Object;[Ljava/lang/Object;Ljava/util/Comparator;)V" } : Jvm.MethodName)) ∈ lw_all := lw_g (lw_at lw_m9 120 rfl) rfl
theorem q2180 : (Jvm.Cond.code ({ cls := "java/util/PriorityQueue", name := "siftUpUsingComparator", desc := "(ILjava/lang/Object;[Ljava/lang/Object;Ljava/util/Comparator;)V" } : Jvm.MethodName) prog_61_method_29_code (6 : Nat) (Option.none : Option Jvm.ClassFile.FieldType)) ∈ lw_all := lw_g (lw_at lw_m9 121 rfl) rfl
theorem q2181 : (Jvm.Cond.interfaceEntry "java/util/PriorityQueue" (149 : Nat)) ∈ lw_tbl := lw_at lw_m9 122 rfl
theorem q2182 : (Jvm.Cond.methodLink "java/util/PriorityQueue" (149 : Nat) ({ cls := "java/util/Comparator", name := "compare", desc := "(Ljava/lang/Object;Ljava/lang/Object;)I" } : Jvm.MethodName)) ∈ lw_all := lw_g (lw_at lw_m9 123 rfl) rfl
theorem q2199 : (Jvm.Cond.methodLink "java/util/PriorityQueue" (140 : Nat) ({ cls := "java/util/PriorityQueue", name := "siftUpComparable", desc := "(ILjava/lang/Object;[Ljava/lang/Object;)V" } : Jvm.MethodName)) ∈ lw_all := lw_g (lw_at lw_m9 140 rfl) rfl
theorem q2200 : (Jvm.Cond.static ({ cls := "java/util/PriorityQueue", name := "siftUpComparable", desc := "(ILjava/lang/Object;[Ljava/lang/Object;)V" } : Jvm.MethodName)) ∈ lw_all := lw_g (lw_at lw_m9 141 rfl) rfl
theorem q2201 : (Jvm.Cond.code ({ cls := "java/util/PriorityQueue", name := "siftUpComparable", desc := "(ILjava/lang/Object;[Ljava/lang/Object;)V" } : Jvm.MethodName) prog_61_method_28_code (6 : Nat) (Option.none : Option Jvm.ClassFile.FieldType)) ∈ lw_all := lw_g (lw_at lw_m9 142 rfl) rfl
theorem q2202 : (Jvm.Cond.classLink "java/util/PriorityQueue" (144 : Nat) "java/lang/Comparable") ∈ lw_all := lw_g (lw_at lw_m9 143 rfl) rfl
theorem q2203 : (Jvm.Cond.interfaceEntry "java/util/PriorityQueue" (146 : Nat)) ∈ lw_tbl := lw_at lw_m9 144 rfl
theorem q2204 : (Jvm.Cond.methodLink "java/util/PriorityQueue" (146 : Nat) ({ cls := "java/lang/Comparable", name := "compareTo", desc := "(Ljava/lang/Object;)I" } : Jvm.MethodName)) ∈ lw_all := lw_g (lw_at lw_m9 145 rfl) rfl
theorem q2384 : (Jvm.Cond.instanceMethod ({ cls := "java/util/PriorityQueue", name := "size", desc := "()I" } : Jvm.MethodName)) ∈ lw_all := lw_g (lw_at lw_m10 85 rfl) rfl
theorem q2385 : (Jvm.Cond.selects "java/util/PriorityQueue" ({ cls := "java/util/PriorityQueue", name := "size", desc := "()I" } : Jvm.MethodName) ({ cls := "java/util/PriorityQueue", name := "size", desc := "()I" } : Jvm.MethodName)) ∈ lw_all := lw_g (lw_at lw_m10 86 rfl) rfl
theorem q2386 : (Jvm.Cond.code ({ cls := "java/util/PriorityQueue", name := "size", desc := "()I" } : Jvm.MethodName) prog_61_method_23_code (1 : Nat) (Option.some Jvm.ClassFile.FieldType.int)) ∈ lw_all := lw_g (lw_at lw_m10 87 rfl) rfl
theorem q2388 : (Jvm.Cond.instanceMethod ({ cls := "java/util/PriorityQueue", name := "poll", desc := "()Ljava/lang/Object;" } : Jvm.MethodName)) ∈ lw_all := lw_g (lw_at lw_m10 89 rfl) rfl
theorem q2389 : (Jvm.Cond.selects "java/util/PriorityQueue" ({ cls := "java/util/PriorityQueue", name := "poll", desc := "()Ljava/lang/Object;" } : Jvm.MethodName) ({ cls := "java/util/PriorityQueue", name := "poll", desc := "()Ljava/lang/Object;" } : Jvm.MethodName)) ∈ lw_all := lw_g (lw_at lw_m10 90 rfl) rfl
theorem q2390 : (Jvm.Cond.code ({ cls := "java/util/PriorityQueue", name := "poll", desc := "()Ljava/lang/Object;" } : Jvm.MethodName) prog_61_method_25_code (6 : Nat) (Option.some (Jvm.ClassFile.FieldType.object "java/lang/Object"))) ∈ lw_all := lw_g (lw_at lw_m10 91 rfl) rfl
theorem q2391 : (Jvm.Cond.methodLink "java/util/PriorityQueue" (125 : Nat) ({ cls := "java/util/PriorityQueue", name := "siftDownComparable", desc := "(ILjava/lang/Object;[Ljava/lang/Object;I)V" } : Jvm.MethodName)) ∈ lw_all := lw_g (lw_at lw_m10 92 rfl) rfl
theorem q2392 : (Jvm.Cond.static ({ cls := "java/util/PriorityQueue", name := "siftDownComparable", desc := "(ILjava/lang/Object;[Ljava/lang/Object;I)V" } : Jvm.MethodName)) ∈ lw_all := lw_g (lw_at lw_m10 93 rfl) rfl
theorem q2393 : (Jvm.Cond.code ({ cls := "java/util/PriorityQueue", name := "siftDownComparable", desc := "(ILjava/lang/Object;[Ljava/lang/Object;I)V" } : Jvm.MethodName) prog_61_method_31_code (9 : Nat) (Option.none : Option Jvm.ClassFile.FieldType)) ∈ lw_all := lw_g (lw_at lw_m10 94 rfl) rfl
theorem q2394 : (Jvm.Cond.methodLink "java/util/PriorityQueue" (129 : Nat) ({ cls := "java/util/PriorityQueue", name := "siftDownUsingComparator", desc := "(ILjava/lang/Object;[Ljava/lang/Object;ILjava/util/Comparator;)V" } : Jvm.MethodName)) ∈ lw_all := lw_g (lw_at lw_m10 95 rfl) rfl
theorem q2395 : (Jvm.Cond.static ({ cls := "java/util/PriorityQueue", name := "siftDownUsingComparator", desc := "(ILjava/lang/Object;[Ljava/lang/Object;ILjava/util/Comparator;)V" } : Jvm.MethodName)) ∈ lw_all := lw_g (lw_at lw_m10 96 rfl) rfl
theorem q2396 : (Jvm.Cond.code ({ cls := "java/util/PriorityQueue", name := "siftDownUsingComparator", desc := "(ILjava/lang/Object;[Ljava/lang/Object;ILjava/util/Comparator;)V" } : Jvm.MethodName) prog_61_method_32_code (9 : Nat) (Option.none : Option Jvm.ClassFile.FieldType)) ∈ lw_all := lw_g (lw_at lw_m10 97 rfl) rfl
theorem q3499 : (Jvm.Cond.castable "java/util/PriorityQueue" "java/lang/Object") ∈ lw_tbl := lw_at lw_m15 0 rfl
theorem in_J21 : ∀ w ∈ wsJ210, w ∈ lw_all := lw_in wsJ210 [812, 814, 816, 818] (by decide +kernel) (by decide +kernel)


/-! java/lang/IllegalStateException -/
set_option maxRecDepth 100000
def RJ23 : String := "java/lang/IllegalStateException"
def TJ23 : u_T := fun k => match k with
  | 0 => ("java/lang/Throwable", "cause", "Ljava/lang/Throwable;", false)
  | 1 => ("java/lang/Throwable", "stackTrace", "[Ljava/lang/StackTraceElement;", false)
  | 2 => ("java/lang/Throwable", "suppressedExceptions", "Ljava/util/List;", false)
  | 3 => ("java/lang/Throwable", "detailMessage", "Ljava/lang/String;", false)
  | 4 => ("java/lang/Throwable", "backtrace", "Ljava/lang/Object;", false)
  | _ => ("java/lang/Throwable", "depth", "I", false)
def tyJ23 : Nat → FieldType := fun k => match k with
  | 0 => .object "java/lang/Throwable"
  | 1 => .array (.object "java/lang/StackTraceElement")
  | 2 => .object "java/util/List"
  | 3 => .object "java/lang/String"
  | 4 => .object "java/lang/Object"
  | _ => .int
abbrev wsJ230 : List Cond := u_ws RJ23 TJ23 6
theorem nmJ23 : ∀ a, a < 6 → ∀ b, b < 6 → a ≠ b → (TJ23 a).2.1 ≠ (TJ23 b).2.1 := by decide +kernel
theorem tyJ23_ok : ∀ k, k < 6 → parseFieldDescriptor (TJ23 k).2.2.1 = some (tyJ23 k) := by decide +kernel
abbrev cJ23_init : ByteArray := prog_33_method_1_code
def yJ23_init : MethodName := ⟨RJ23, "<init>", "()V"⟩
theorem dJ23_init_0 : decode cJ23_init 0 = .ok (.aload_n 0, 1) := by decide +kernel
theorem dJ23_init_1 : decode cJ23_init 1 = .ok (.invokespecial 1, 3) := by decide +kernel
theorem dJ23_init_4 : decode cJ23_init 4 = .ok (.return_, 1) := by decide +kernel
theorem q184 : (Jvm.Cond.initialized "java/lang/IllegalStateException") ∈ lw_all := lw_g (lw_at lw_m1 45 rfl) rfl
theorem q391 : (Jvm.Cond.selects "java/lang/IllegalStateException" ({ cls := "java/lang/Throwable", name := "fillInStackTrace", desc := "()Ljava/lang/Throwable;" } : Jvm.MethodName) ({ cls := "java/lang/Throwable", name := "fillInStackTrace", desc := "()Ljava/lang/Throwable;" } : Jvm.MethodName)) ∈ lw_all := lw_g (lw_at lw_m2 12 rfl) rfl
theorem q888 : (Jvm.Cond.selects "java/lang/IllegalStateException" ({ cls := "java/lang/Object", name := "getClass", desc := "()Ljava/lang/Class;" } : Jvm.MethodName) ({ cls := "java/lang/Object", name := "getClass", desc := "()Ljava/lang/Class;" } : Jvm.MethodName)) ∈ lw_all := lw_g (lw_at lw_m4 29 rfl) rfl
theorem q1737 : (Jvm.Cond.instantiable "java/lang/IllegalStateException" (6 : Nat)) ∈ lw_all := lw_g (lw_at lw_m7 158 rfl) rfl
theorem q1738 : (Jvm.Cond.castable "java/lang/IllegalStateException" "java/lang/IllegalStateException") ∈ lw_tbl := lw_at lw_m7 159 rfl
theorem q1739 : (Jvm.Cond.selects "java/lang/IllegalStateException" ({ cls := "java/lang/Throwable", name := "fillInStackTrace", desc := "(I)Ljava/lang/Throwable;" } : Jvm.MethodName) ({ cls := "java/lang/Throwable", name := "fillInStackTrace", desc := "(I)Ljava/lang/Throwable;" } : Jvm.MethodName)) ∈ lw_all := lw_g (lw_at lw_m7 160 rfl) rfl
theorem q1740 : (Jvm.Cond.lays "java/lang/IllegalStateException" "java/lang/Throwable" "cause" "Ljava/lang/Throwable;") ∈ lw_all := lw_g (lw_at lw_m7 161 rfl) rfl
theorem q1741 : (Jvm.Cond.lays "java/lang/IllegalStateException" "java/lang/Throwable" "stackTrace" "[Ljava/lang/StackTraceElement;") ∈ lw_all := lw_g (lw_at lw_m7 162 rfl) rfl
theorem q1742 : (Jvm.Cond.lays "java/lang/IllegalStateException" "java/lang/Throwable" "suppressedExceptions" "Ljava/util/List;") ∈ lw_all := lw_g (lw_at lw_m7 163 rfl) rfl
theorem q1743 : (Jvm.Cond.lays "java/lang/IllegalStateException" "java/lang/Throwable" "detailMessage" "Ljava/lang/String;") ∈ lw_all := lw_g (lw_at lw_m7 164 rfl) rfl
theorem q1744 : (Jvm.Cond.lays "java/lang/IllegalStateException" "java/lang/Throwable" "backtrace" "Ljava/lang/Object;") ∈ lw_all := lw_g (lw_at lw_m7 165 rfl) rfl
theorem q1746 : (Jvm.Cond.instanceMethod ({ cls := "java/lang/IllegalStateException", name := "<init>", desc := "()V" } : Jvm.MethodName)) ∈ lw_all := lw_g (lw_at lw_m7 167 rfl) rfl
theorem q1747 : (Jvm.Cond.code ({ cls := "java/lang/IllegalStateException", name := "<init>", desc := "()V" } : Jvm.MethodName) prog_33_method_1_code (1 : Nat) (Option.none : Option Jvm.ClassFile.FieldType)) ∈ lw_all := lw_g (lw_at lw_m7 168 rfl) rfl
theorem q1748 : (Jvm.Cond.methodLink "java/lang/IllegalStateException" (1 : Nat) ({ cls := "java/lang/RuntimeException", name := "<init>", desc := "()V" } : Jvm.MethodName)) ∈ lw_all := lw_g (lw_at lw_m7 169 rfl) rfl
theorem q1749 : (Jvm.Cond.lays "java/lang/IllegalStateException" "java/lang/Throwable" "depth" "I") ∈ lw_all := lw_g (lw_at lw_m7 170 rfl) rfl
theorem q1750 : (Jvm.Cond.superclass "java/lang/IllegalStateException" "java/lang/RuntimeException") ∈ lw_all := lw_g (lw_at lw_m7 171 rfl) rfl
theorem q3512 : (Jvm.Cond.castable "java/lang/IllegalStateException" "java/lang/Object") ∈ lw_tbl := lw_at lw_m15 13 rfl
theorem in_J23 : ∀ w ∈ wsJ230, w ∈ lw_all := lw_in wsJ230 [1740, 1741, 1742, 1743, 1744, 1749] (by decide +kernel) (by decide +kernel)


/-! java/util/NoSuchElementException -/
set_option maxRecDepth 100000
def RJ27 : String := "java/util/NoSuchElementException"
def TJ27 : u_T := fun k => match k with
  | 0 => ("java/lang/Throwable", "cause", "Ljava/lang/Throwable;", false)
  | 1 => ("java/lang/Throwable", "stackTrace", "[Ljava/lang/StackTraceElement;", false)
  | 2 => ("java/lang/Throwable", "suppressedExceptions", "Ljava/util/List;", false)
  | 3 => ("java/lang/Throwable", "detailMessage", "Ljava/lang/String;", false)
  | 4 => ("java/lang/Throwable", "backtrace", "Ljava/lang/Object;", false)
  | _ => ("java/lang/Throwable", "depth", "I", false)
def tyJ27 : Nat → FieldType := fun k => match k with
  | 0 => .object "java/lang/Throwable"
  | 1 => .array (.object "java/lang/StackTraceElement")
  | 2 => .object "java/util/List"
  | 3 => .object "java/lang/String"
  | 4 => .object "java/lang/Object"
  | _ => .int
abbrev wsJ270 : List Cond := u_ws RJ27 TJ27 6
theorem nmJ27 : ∀ a, a < 6 → ∀ b, b < 6 → a ≠ b → (TJ27 a).2.1 ≠ (TJ27 b).2.1 := by decide +kernel
theorem tyJ27_ok : ∀ k, k < 6 → parseFieldDescriptor (TJ27 k).2.2.1 = some (tyJ27 k) := by decide +kernel
abbrev cJ27_init : ByteArray := prog_59_method_1_code
def yJ27_init : MethodName := ⟨RJ27, "<init>", "()V"⟩
theorem dJ27_init_0 : decode cJ27_init 0 = .ok (.aload_n 0, 1) := by decide +kernel
theorem dJ27_init_1 : decode cJ27_init 1 = .ok (.invokespecial 1, 3) := by decide +kernel
theorem dJ27_init_4 : decode cJ27_init 4 = .ok (.return_, 1) := by decide +kernel
theorem q189 : (Jvm.Cond.initialized "java/util/NoSuchElementException") ∈ lw_all := lw_g (lw_at lw_m1 50 rfl) rfl
theorem q394 : (Jvm.Cond.selects "java/util/NoSuchElementException" ({ cls := "java/lang/Throwable", name := "fillInStackTrace", desc := "()Ljava/lang/Throwable;" } : Jvm.MethodName) ({ cls := "java/lang/Throwable", name := "fillInStackTrace", desc := "()Ljava/lang/Throwable;" } : Jvm.MethodName)) ∈ lw_all := lw_g (lw_at lw_m2 15 rfl) rfl
theorem q895 : (Jvm.Cond.selects "java/util/NoSuchElementException" ({ cls := "java/lang/Object", name := "getClass", desc := "()Ljava/lang/Class;" } : Jvm.MethodName) ({ cls := "java/lang/Object", name := "getClass", desc := "()Ljava/lang/Class;" } : Jvm.MethodName)) ∈ lw_all := lw_g (lw_at lw_m4 36 rfl) rfl
theorem q2590 : (Jvm.Cond.instantiable "java/util/NoSuchElementException" (6 : Nat)) ∈ lw_all := lw_g (lw_at lw_m11 51 rfl) rfl
theorem q2591 : (Jvm.Cond.castable "java/util/NoSuchElementException" "java/util/NoSuchElementException") ∈ lw_tbl := lw_at lw_m11 52 rfl
theorem q2592 : (Jvm.Cond.selects "java/util/NoSuchElementException" ({ cls := "java/lang/Throwable", name := "fillInStackTrace", desc := "(I)Ljava/lang/Throwable;" } : Jvm.MethodName) ({ cls := "java/lang/Throwable", name := "fillInStackTrace", desc := "(I)Ljava/lang/Throwable;" } : Jvm.MethodName)) ∈ lw_all := lw_g (lw_at lw_m11 53 rfl) rfl
theorem q2593 : (Jvm.Cond.lays "java/util/NoSuchElementException" "java/lang/Throwable" "cause" "Ljava/lang/Throwable;") ∈ lw_all := lw_g (lw_at lw_m11 54 rfl) rfl
theorem q2594 : (Jvm.Cond.lays "java/util/NoSuchElementException" "java/lang/Throwable" "stackTrace" "[Ljava/lang/StackTraceElement;") ∈ lw_all := lw_g (lw_at lw_m11 55 rfl) rfl
theorem q2595 : (Jvm.Cond.lays "java/util/NoSuchElementException" "java/lang/Throwable" "suppressedExceptions" "Ljava/util/List;") ∈ lw_all := lw_g (lw_at lw_m11 56 rfl) rfl
theorem q2596 : (Jvm.Cond.lays "java/util/NoSuchElementException" "java/lang/Throwable" "detailMessage" "Ljava/lang/String;") ∈ lw_all := lw_g (lw_at lw_m11 57 rfl) rfl
theorem q2597 : (Jvm.Cond.lays "java/util/NoSuchElementException" "java/lang/Throwable" "backtrace" "Ljava/lang/Object;") ∈ lw_all := lw_g (lw_at lw_m11 58 rfl) rfl
theorem q2599 : (Jvm.Cond.instanceMethod ({ cls := "java/util/NoSuchElementException", name := "<init>", desc := "()V" } : Jvm.MethodName)) ∈ lw_all := lw_g (lw_at lw_m11 60 rfl) rfl
theorem q2600 : (Jvm.Cond.code ({ cls := "java/util/NoSuchElementException", name := "<init>", desc := "()V" } : Jvm.MethodName) prog_59_method_1_code (1 : Nat) (Option.none : Option Jvm.ClassFile.FieldType)) ∈ lw_all := lw_g (lw_at lw_m11 61 rfl) rfl
theorem q2601 : (Jvm.Cond.methodLink "java/util/NoSuchElementException" (1 : Nat) ({ cls := "java/lang/RuntimeException", name := "<init>", desc := "()V" } : Jvm.MethodName)) ∈ lw_all := lw_g (lw_at lw_m11 62 rfl) rfl
theorem q2602 : (Jvm.Cond.lays "java/util/NoSuchElementException" "java/lang/Throwable" "depth" "I") ∈ lw_all := lw_g (lw_at lw_m11 63 rfl) rfl
theorem q2603 : (Jvm.Cond.superclass "java/util/NoSuchElementException" "java/lang/RuntimeException") ∈ lw_all := lw_g (lw_at lw_m11 64 rfl) rfl
theorem q3515 : (Jvm.Cond.castable "java/util/NoSuchElementException" "java/lang/Object") ∈ lw_tbl := lw_at lw_m15 16 rfl
theorem in_J27 : ∀ w ∈ wsJ270, w ∈ lw_all := lw_in wsJ270 [2593, 2594, 2595, 2596, 2597, 2602] (by decide +kernel) (by decide +kernel)


/-! java/lang/Object -/
set_option maxRecDepth 100000
def RJ28 : String := "java/lang/Object"
abbrev cJ28_init : ByteArray := object_method_1_code
def yJ28_init : MethodName := ⟨RJ28, "<init>", "()V"⟩
theorem dJ28_init_0 : decode cJ28_init 0 = .ok (.return_, 1) := by decide +kernel
theorem q196 : (Jvm.Cond.instanceMethod ({ cls := "java/lang/Object", name := "<init>", desc := "()V" } : Jvm.MethodName)) ∈ lw_all := lw_g (lw_at lw_m1 57 rfl) rfl
theorem q197 : (Jvm.Cond.code ({ cls := "java/lang/Object", name := "<init>", desc := "()V" } : Jvm.MethodName) object_method_1_code (1 : Nat) (Option.none : Option Jvm.ClassFile.FieldType)) ∈ lw_all := lw_g (lw_at lw_m1 58 rfl) rfl
theorem q545 : (Jvm.Cond.native ({ cls := "java/lang/Object", name := "clone", desc := "()Ljava/lang/Object;" } : Jvm.MethodName)) ∈ lw_all := lw_g (lw_at lw_m2 166 rfl) rfl
theorem q546 : (Jvm.Cond.instanceMethod ({ cls := "java/lang/Object", name := "clone", desc := "()Ljava/lang/Object;" } : Jvm.MethodName)) ∈ lw_all := lw_g (lw_at lw_m2 167 rfl) rfl
theorem q867 : (Jvm.Cond.instanceMethod ({ cls := "java/lang/Object", name := "getClass", desc := "()Ljava/lang/Class;" } : Jvm.MethodName)) ∈ lw_all := lw_g (lw_at lw_m4 8 rfl) rfl
theorem q868 : (Jvm.Cond.sameMethod "java/lang/Object" "java/lang/Object" "getClass" "()Ljava/lang/Class;") ∈ lw_all := lw_g (lw_at lw_m4 9 rfl) rfl
theorem q898 : (Jvm.Cond.native ({ cls := "java/lang/Object", name := "getClass", desc := "()Ljava/lang/Class;" } : Jvm.MethodName)) ∈ lw_all := lw_g (lw_at lw_m4 39 rfl) rfl
theorem q3478 : (Jvm.Cond.initialized "java/lang/Object") ∈ lw_all := lw_g (lw_at lw_m14 219 rfl) rfl
theorem q3519 : (Jvm.Cond.declares ({ cls := "java/lang/Object", name := "getClass", desc := "()Ljava/lang/Class;" } : Jvm.MethodName)) ∈ lw_tbl := lw_at lw_m15 20 rfl
theorem q3530 : (Jvm.Cond.instantiable "java/lang/Object" (0 : Nat)) ∈ lw_all := lw_g (lw_at lw_m15 31 rfl) rfl


/-! java/util/AbstractCollection -/
set_option maxRecDepth 100000
def RJ4 : String := "java/util/AbstractCollection"
abbrev cJ4_init : ByteArray := prog_51_method_1_code
def yJ4_init : MethodName := ⟨RJ4, "<init>", "()V"⟩
theorem dJ4_init_0 : decode cJ4_init 0 = .ok (.aload_n 0, 1) := by decide +kernel
theorem dJ4_init_1 : decode cJ4_init 1 = .ok (.invokespecial 1, 3) := by decide +kernel
theorem dJ4_init_4 : decode cJ4_init 4 = .ok (.return_, 1) := by decide +kernel
theorem q145 : (Jvm.Cond.initialized "java/util/AbstractCollection") ∈ lw_all := lw_g (lw_at lw_m1 6 rfl) rfl
theorem q240 : (Jvm.Cond.instanceMethod ({ cls := "java/util/AbstractCollection", name := "<init>", desc := "()V" } : Jvm.MethodName)) ∈ lw_all := lw_g (lw_at lw_m1 101 rfl) rfl
theorem q241 : (Jvm.Cond.code ({ cls := "java/util/AbstractCollection", name := "<init>", desc := "()V" } : Jvm.MethodName) prog_51_method_1_code (1 : Nat) (Option.none : Option Jvm.ClassFile.FieldType)) ∈ lw_all := lw_g (lw_at lw_m1 102 rfl) rfl
theorem q242 : (Jvm.Cond.methodLink "java/util/AbstractCollection" (1 : Nat) ({ cls := "java/lang/Object", name := "<init>", desc := "()V" } : Jvm.MethodName)) ∈ lw_all := lw_g (lw_at lw_m1 103 rfl) rfl


/-! java/util/AbstractList -/
set_option maxRecDepth 100000
def RJ5 : String := "java/util/AbstractList"
abbrev cJ5_init : ByteArray := prog_52_method_1_code
def yJ5_init : MethodName := ⟨RJ5, "<init>", "()V"⟩
def dkwJ5_init_0 : List UInt8 := [42, 183, 0, 1, 42, 3, 181, 0, 7, 177]
abbrev dktJ5_init_0 : List UInt8 := dkwJ5_init_0 ++ []
theorem dksJ5_init_0 : cJ5_init.data.toList.drop 0 = dktJ5_init_0 := by decide +kernel
theorem dJ5_init_0 : decode cJ5_init 0 = .ok (.aload_n 0, 1) := dk_42 (dk_at dksJ5_init_0 0 rfl rfl)
theorem dJ5_init_1 : decode cJ5_init 1 = .ok (.invokespecial 1, 3) := dk_183 0 1 (dk_at dksJ5_init_0 1 rfl rfl)
theorem dJ5_init_4 : decode cJ5_init 4 = .ok (.aload_n 0, 1) := dk_42 (dk_at dksJ5_init_0 4 rfl rfl)
theorem dJ5_init_5 : decode cJ5_init 5 = .ok (.iconst 0, 1) := dk_3 (dk_at dksJ5_init_0 5 rfl rfl)
theorem dJ5_init_6 : decode cJ5_init 6 = .ok (.putfield 7, 3) := dk_181 0 7 (dk_at dksJ5_init_0 6 rfl rfl)
theorem dJ5_init_9 : decode cJ5_init 9 = .ok (.return_, 1) := dk_177 (dk_at dksJ5_init_0 9 rfl rfl)
theorem q146 : (Jvm.Cond.initialized "java/util/AbstractList") ∈ lw_all := lw_g (lw_at lw_m1 7 rfl) rfl
theorem q237 : (Jvm.Cond.instanceMethod ({ cls := "java/util/AbstractList", name := "<init>", desc := "()V" } : Jvm.MethodName)) ∈ lw_all := lw_g (lw_at lw_m1 98 rfl) rfl
theorem q238 : (Jvm.Cond.code ({ cls := "java/util/AbstractList", name := "<init>", desc := "()V" } : Jvm.MethodName) prog_52_method_1_code (1 : Nat) (Option.none : Option Jvm.ClassFile.FieldType)) ∈ lw_all := lw_g (lw_at lw_m1 99 rfl) rfl
theorem q239 : (Jvm.Cond.methodLink "java/util/AbstractList" (1 : Nat) ({ cls := "java/util/AbstractCollection", name := "<init>", desc := "()V" } : Jvm.MethodName)) ∈ lw_all := lw_g (lw_at lw_m1 100 rfl) rfl
theorem q247 : (Jvm.Cond.fieldLink "java/util/AbstractList" (7 : Nat) "java/util/AbstractList" "modCount" "I") ∈ lw_all := lw_g (lw_at lw_m1 108 rfl) rfl
theorem q255 : (Jvm.Cond.soleField "java/util/AbstractList" "modCount") ∈ lw_all := lw_g (lw_at lw_m1 116 rfl) rfl


/-! java/util/ArrayList -/
set_option maxRecDepth 100000
def RJ6 : String := "java/util/ArrayList"
def TJ6 : u_T := fun k => match k with
  | 0 => ("java/util/AbstractList", "modCount", "I", false)
  | 1 => ("java/util/ArrayList", "elementData", "[Ljava/lang/Object;", false)
  | _ => ("java/util/ArrayList", "size", "I", false)
def tyJ6 : Nat → FieldType := fun k => match k with
  | 0 => .int
  | 1 => .array (.object "java/lang/Object")
  | _ => .int
abbrev wsJ60 : List Cond := u_ws RJ6 TJ6 3
theorem nmJ6 : ∀ a, a < 3 → ∀ b, b < 3 → a ≠ b → (TJ6 a).2.1 ≠ (TJ6 b).2.1 := by decide +kernel
theorem tyJ6_ok : ∀ k, k < 3 → parseFieldDescriptor (TJ6 k).2.2.1 = some (tyJ6 k) := by decide +kernel
abbrev cJ6_init : ByteArray := prog_54_method_2_code
def yJ6_init : MethodName := ⟨RJ6, "<init>", "()V"⟩
def dkwJ6_init_0 : List UInt8 := [42, 183, 0, 1, 42, 178, 0, 39, 181, 0, 9, 177]
abbrev dktJ6_init_0 : List UInt8 := dkwJ6_init_0 ++ []
theorem dksJ6_init_0 : cJ6_init.data.toList.drop 0 = dktJ6_init_0 := by decide +kernel
theorem dJ6_init_0 : decode cJ6_init 0 = .ok (.aload_n 0, 1) := dk_42 (dk_at dksJ6_init_0 0 rfl rfl)
theorem dJ6_init_1 : decode cJ6_init 1 = .ok (.invokespecial 1, 3) := dk_183 0 1 (dk_at dksJ6_init_0 1 rfl rfl)
theorem dJ6_init_4 : decode cJ6_init 4 = .ok (.aload_n 0, 1) := dk_42 (dk_at dksJ6_init_0 4 rfl rfl)
theorem dJ6_init_5 : decode cJ6_init 5 = .ok (.getstatic 39, 3) := dk_178 0 39 (dk_at dksJ6_init_0 5 rfl rfl)
theorem dJ6_init_8 : decode cJ6_init 8 = .ok (.putfield 9, 3) := dk_181 0 9 (dk_at dksJ6_init_0 8 rfl rfl)
theorem dJ6_init_11 : decode cJ6_init 11 = .ok (.return_, 1) := dk_177 (dk_at dksJ6_init_0 11 rfl rfl)
abbrev cJ6_size : ByteArray := prog_54_method_8_code
def yJ6_size : MethodName := ⟨RJ6, "size", "()I"⟩
theorem dJ6_size_0 : decode cJ6_size 0 = .ok (.aload_n 0, 1) := by decide +kernel
theorem dJ6_size_1 : decode cJ6_size 1 = .ok (.getfield 48, 3) := by decide +kernel
theorem dJ6_size_4 : decode cJ6_size 4 = .ok (.ireturn, 1) := by decide +kernel
abbrev cJ6_init_2 : ByteArray := prog_54_method_1_code
def yJ6_init_2 : MethodName := ⟨RJ6, "<init>", "(I)V"⟩
def dkwJ6_init_2_2 : List UInt8 := [182, 0, 25, 27, 182, 0, 29, 182, 0, 32, 183, 0, 36, 191, 177]
abbrev dktJ6_init_2_2 : List UInt8 := dkwJ6_init_2_2 ++ []
def dkwJ6_init_2_1 : List UInt8 := [178, 0, 15, 181, 0, 9, 167, 0, 30, 187, 0, 18, 89, 187, 0, 20, 89, 183, 0, 22, 18, 23]
abbrev dktJ6_init_2_1 : List UInt8 := dkwJ6_init_2_1 ++ dktJ6_init_2_2
def dkwJ6_init_2_0 : List UInt8 := [42, 183, 0, 1, 27, 158, 0, 14, 42, 27, 189, 0, 7, 181, 0, 9, 167, 0, 44, 27, 154, 0, 13, 42]
abbrev dktJ6_init_2_0 : List UInt8 := dkwJ6_init_2_0 ++ dktJ6_init_2_1
theorem dksJ6_init_2_0 : cJ6_init_2.data.toList.drop 0 = dktJ6_init_2_0 := by decide +kernel
theorem dksJ6_init_2_1 : cJ6_init_2.data.toList.drop 24 = dktJ6_init_2_1 := dk_seg dksJ6_init_2_0 24 rfl rfl
theorem dksJ6_init_2_2 : cJ6_init_2.data.toList.drop 46 = dktJ6_init_2_2 := dk_seg dksJ6_init_2_1 22 rfl rfl
theorem dJ6_init_2_0 : decode cJ6_init_2 0 = .ok (.aload_n 0, 1) := dk_42 (dk_at dksJ6_init_2_0 0 rfl rfl)
theorem dJ6_init_2_1 : decode cJ6_init_2 1 = .ok (.invokespecial 1, 3) := dk_183 0 1 (dk_at dksJ6_init_2_0 1 rfl rfl)
theorem dJ6_init_2_4 : decode cJ6_init_2 4 = .ok (.iload_n 1, 1) := dk_27 (dk_at dksJ6_init_2_0 4 rfl rfl)
theorem dJ6_init_2_5 : decode cJ6_init_2 5 = .ok (.ifCond .le 14, 3) := dk_158 0 14 (dk_at dksJ6_init_2_0 5 rfl rfl)
theorem dJ6_init_2_8 : decode cJ6_init_2 8 = .ok (.aload_n 0, 1) := dk_42 (dk_at dksJ6_init_2_0 8 rfl rfl)
theorem dJ6_init_2_9 : decode cJ6_init_2 9 = .ok (.iload_n 1, 1) := dk_27 (dk_at dksJ6_init_2_0 9 rfl rfl)
theorem dJ6_init_2_10 : decode cJ6_init_2 10 = .ok (.anewarray 7, 3) := dk_189 0 7 (dk_at dksJ6_init_2_0 10 rfl rfl)
theorem dJ6_init_2_13 : decode cJ6_init_2 13 = .ok (.putfield 9, 3) := dk_181 0 9 (dk_at dksJ6_init_2_0 13 rfl rfl)
theorem dJ6_init_2_16 : decode cJ6_init_2 16 = .ok (.goto 44, 3) := dk_167 0 44 (dk_at dksJ6_init_2_0 16 rfl rfl)
theorem dJ6_init_2_19 : decode cJ6_init_2 19 = .ok (.iload_n 1, 1) := dk_27 (dk_at dksJ6_init_2_0 19 rfl rfl)
theorem dJ6_init_2_20 : decode cJ6_init_2 20 = .ok (.ifCond .ne 13, 3) := dk_154 0 13 (dk_at dksJ6_init_2_0 20 rfl rfl)
theorem dJ6_init_2_23 : decode cJ6_init_2 23 = .ok (.aload_n 0, 1) := dk_42 (dk_at dksJ6_init_2_0 23 rfl rfl)
theorem dJ6_init_2_24 : decode cJ6_init_2 24 = .ok (.getstatic 15, 3) := dk_178 0 15 (dk_at dksJ6_init_2_1 0 rfl rfl)
theorem dJ6_init_2_27 : decode cJ6_init_2 27 = .ok (.putfield 9, 3) := dk_181 0 9 (dk_at dksJ6_init_2_1 3 rfl rfl)
theorem dJ6_init_2_30 : decode cJ6_init_2 30 = .ok (.goto 30, 3) := dk_167 0 30 (dk_at dksJ6_init_2_1 6 rfl rfl)
theorem dJ6_init_2_33 : decode cJ6_init_2 33 = .ok (.new 18, 3) := dk_187 0 18 (dk_at dksJ6_init_2_1 9 rfl rfl)
theorem dJ6_init_2_36 : decode cJ6_init_2 36 = .ok (.dup, 1) := dk_89 (dk_at dksJ6_init_2_1 12 rfl rfl)
theorem dJ6_init_2_37 : decode cJ6_init_2 37 = .ok (.new 20, 3) := dk_187 0 20 (dk_at dksJ6_init_2_1 13 rfl rfl)
theorem dJ6_init_2_40 : decode cJ6_init_2 40 = .ok (.dup, 1) := dk_89 (dk_at dksJ6_init_2_1 16 rfl rfl)
theorem dJ6_init_2_41 : decode cJ6_init_2 41 = .ok (.invokespecial 22, 3) := dk_183 0 22 (dk_at dksJ6_init_2_1 17 rfl rfl)
theorem dJ6_init_2_44 : decode cJ6_init_2 44 = .ok (.ldc 23, 2) := dk_18 23 (dk_at dksJ6_init_2_1 20 rfl rfl)
theorem dJ6_init_2_46 : decode cJ6_init_2 46 = .ok (.invokevirtual 25, 3) := dk_182 0 25 (dk_at dksJ6_init_2_2 0 rfl rfl)
theorem dJ6_init_2_49 : decode cJ6_init_2 49 = .ok (.iload_n 1, 1) := dk_27 (dk_at dksJ6_init_2_2 3 rfl rfl)
theorem dJ6_init_2_50 : decode cJ6_init_2 50 = .ok (.invokevirtual 29, 3) := dk_182 0 29 (dk_at dksJ6_init_2_2 4 rfl rfl)
theorem dJ6_init_2_53 : decode cJ6_init_2 53 = .ok (.invokevirtual 32, 3) := dk_182 0 32 (dk_at dksJ6_init_2_2 7 rfl rfl)
theorem dJ6_init_2_56 : decode cJ6_init_2 56 = .ok (.invokespecial 36, 3) := dk_183 0 36 (dk_at dksJ6_init_2_2 10 rfl rfl)
theorem dJ6_init_2_59 : decode cJ6_init_2 59 = .ok (.athrow, 1) := dk_191 (dk_at dksJ6_init_2_2 13 rfl rfl)
theorem dJ6_init_2_60 : decode cJ6_init_2 60 = .ok (.return_, 1) := dk_177 (dk_at dksJ6_init_2_2 14 rfl rfl)
abbrev cJ6_get : ByteArray := prog_54_method_20_code
def yJ6_get : MethodName := ⟨RJ6, "get", "(I)Ljava/lang/Object;"⟩
def dkwJ6_get_0 : List UInt8 := [27, 42, 180, 0, 48, 184, 0, 118, 87, 42, 27, 182, 0, 123, 176]
abbrev dktJ6_get_0 : List UInt8 := dkwJ6_get_0 ++ []
theorem dksJ6_get_0 : cJ6_get.data.toList.drop 0 = dktJ6_get_0 := by decide +kernel
theorem dJ6_get_0 : decode cJ6_get 0 = .ok (.iload_n 1, 1) := dk_27 (dk_at dksJ6_get_0 0 rfl rfl)
theorem dJ6_get_1 : decode cJ6_get 1 = .ok (.aload_n 0, 1) := dk_42 (dk_at dksJ6_get_0 1 rfl rfl)
theorem dJ6_get_2 : decode cJ6_get 2 = .ok (.getfield 48, 3) := dk_180 0 48 (dk_at dksJ6_get_0 2 rfl rfl)
theorem dJ6_get_5 : decode cJ6_get 5 = .ok (.invokestatic 118, 3) := dk_184 0 118 (dk_at dksJ6_get_0 5 rfl rfl)
theorem dJ6_get_8 : decode cJ6_get 8 = .ok (.pop, 1) := dk_87 (dk_at dksJ6_get_0 8 rfl rfl)
theorem dJ6_get_9 : decode cJ6_get 9 = .ok (.aload_n 0, 1) := dk_42 (dk_at dksJ6_get_0 9 rfl rfl)
theorem dJ6_get_10 : decode cJ6_get 10 = .ok (.iload_n 1, 1) := dk_27 (dk_at dksJ6_get_0 10 rfl rfl)
theorem dJ6_get_11 : decode cJ6_get 11 = .ok (.invokevirtual 123, 3) := dk_182 0 123 (dk_at dksJ6_get_0 11 rfl rfl)
theorem dJ6_get_14 : decode cJ6_get 14 = .ok (.areturn, 1) := dk_176 (dk_at dksJ6_get_0 14 rfl rfl)
abbrev cJ6_elementData : ByteArray := prog_54_method_18_code
def yJ6_elementData : MethodName := ⟨RJ6, "elementData", "(I)Ljava/lang/Object;"⟩
def dkwJ6_elementData_0 : List UInt8 := [42, 180, 0, 9, 27, 50, 176]
abbrev dktJ6_elementData_0 : List UInt8 := dkwJ6_elementData_0 ++ []
theorem dksJ6_elementData_0 : cJ6_elementData.data.toList.drop 0 = dktJ6_elementData_0 := by decide +kernel
theorem dJ6_elementData_0 : decode cJ6_elementData 0 = .ok (.aload_n 0, 1) := dk_42 (dk_at dksJ6_elementData_0 0 rfl rfl)
theorem dJ6_elementData_1 : decode cJ6_elementData 1 = .ok (.getfield 9, 3) := dk_180 0 9 (dk_at dksJ6_elementData_0 1 rfl rfl)
theorem dJ6_elementData_4 : decode cJ6_elementData 4 = .ok (.iload_n 1, 1) := dk_27 (dk_at dksJ6_elementData_0 4 rfl rfl)
theorem dJ6_elementData_5 : decode cJ6_elementData 5 = .ok (.aaload, 1) := dk_50 (dk_at dksJ6_elementData_0 5 rfl rfl)
theorem dJ6_elementData_6 : decode cJ6_elementData 6 = .ok (.areturn, 1) := dk_176 (dk_at dksJ6_elementData_0 6 rfl rfl)
abbrev cJ6_add : ByteArray := prog_54_method_25_code
def yJ6_add : MethodName := ⟨RJ6, "add", "(Ljava/lang/Object;)Z"⟩
def dkwJ6_add_1 : List UInt8 := [172]
abbrev dktJ6_add_1 : List UInt8 := dkwJ6_add_1 ++ []
def dkwJ6_add_0 : List UInt8 := [42, 89, 180, 0, 63, 4, 96, 181, 0, 63, 42, 43, 42, 180, 0, 9, 42, 180, 0, 48, 182, 0, 131, 4]
abbrev dktJ6_add_0 : List UInt8 := dkwJ6_add_0 ++ dktJ6_add_1
theorem dksJ6_add_0 : cJ6_add.data.toList.drop 0 = dktJ6_add_0 := by decide +kernel
theorem dksJ6_add_1 : cJ6_add.data.toList.drop 24 = dktJ6_add_1 := dk_seg dksJ6_add_0 24 rfl rfl
theorem dJ6_add_0 : decode cJ6_add 0 = .ok (.aload_n 0, 1) := dk_42 (dk_at dksJ6_add_0 0 rfl rfl)
theorem dJ6_add_1 : decode cJ6_add 1 = .ok (.dup, 1) := dk_89 (dk_at dksJ6_add_0 1 rfl rfl)
theorem dJ6_add_2 : decode cJ6_add 2 = .ok (.getfield 63, 3) := dk_180 0 63 (dk_at dksJ6_add_0 2 rfl rfl)
theorem dJ6_add_5 : decode cJ6_add 5 = .ok (.iconst 1, 1) := dk_4 (dk_at dksJ6_add_0 5 rfl rfl)
theorem dJ6_add_6 : decode cJ6_add 6 = .ok (.iadd, 1) := dk_96 (dk_at dksJ6_add_0 6 rfl rfl)
theorem dJ6_add_7 : decode cJ6_add 7 = .ok (.putfield 63, 3) := dk_181 0 63 (dk_at dksJ6_add_0 7 rfl rfl)
theorem dJ6_add_10 : decode cJ6_add 10 = .ok (.aload_n 0, 1) := dk_42 (dk_at dksJ6_add_0 10 rfl rfl)
theorem dJ6_add_11 : decode cJ6_add 11 = .ok (.aload_n 1, 1) := dk_43 (dk_at dksJ6_add_0 11 rfl rfl)
theorem dJ6_add_12 : decode cJ6_add 12 = .ok (.aload_n 0, 1) := dk_42 (dk_at dksJ6_add_0 12 rfl rfl)
theorem dJ6_add_13 : decode cJ6_add 13 = .ok (.getfield 9, 3) := dk_180 0 9 (dk_at dksJ6_add_0 13 rfl rfl)
theorem dJ6_add_16 : decode cJ6_add 16 = .ok (.aload_n 0, 1) := dk_42 (dk_at dksJ6_add_0 16 rfl rfl)
theorem dJ6_add_17 : decode cJ6_add 17 = .ok (.getfield 48, 3) := dk_180 0 48 (dk_at dksJ6_add_0 17 rfl rfl)
theorem dJ6_add_20 : decode cJ6_add 20 = .ok (.invokevirtual 131, 3) := dk_182 0 131 (dk_at dksJ6_add_0 20 rfl rfl)
theorem dJ6_add_23 : decode cJ6_add 23 = .ok (.iconst 1, 1) := dk_4 (dk_at dksJ6_add_0 23 rfl rfl)
theorem dJ6_add_24 : decode cJ6_add 24 = .ok (.ireturn, 1) := dk_172 (dk_at dksJ6_add_1 0 rfl rfl)
abbrev cJ6_add_2 : ByteArray := prog_54_method_24_code
def yJ6_add_2 : MethodName := ⟨RJ6, "add", "(Ljava/lang/Object;[Ljava/lang/Object;I)V"⟩
def dkwJ6_add_2_0 : List UInt8 := [29, 44, 190, 160, 0, 8, 42, 182, 0, 129, 77, 44, 29, 43, 83, 42, 29, 4, 96, 181, 0, 48, 177]
abbrev dktJ6_add_2_0 : List UInt8 := dkwJ6_add_2_0 ++ []
theorem dksJ6_add_2_0 : cJ6_add_2.data.toList.drop 0 = dktJ6_add_2_0 := by decide +kernel
theorem dJ6_add_2_0 : decode cJ6_add_2 0 = .ok (.iload_n 3, 1) := dk_29 (dk_at dksJ6_add_2_0 0 rfl rfl)
theorem dJ6_add_2_1 : decode cJ6_add_2 1 = .ok (.aload_n 2, 1) := dk_44 (dk_at dksJ6_add_2_0 1 rfl rfl)
theorem dJ6_add_2_2 : decode cJ6_add_2 2 = .ok (.arraylength, 1) := dk_190 (dk_at dksJ6_add_2_0 2 rfl rfl)
theorem dJ6_add_2_3 : decode cJ6_add_2 3 = .ok (.if_icmp .ne 8, 3) := dk_160 0 8 (dk_at dksJ6_add_2_0 3 rfl rfl)
theorem dJ6_add_2_6 : decode cJ6_add_2 6 = .ok (.aload_n 0, 1) := dk_42 (dk_at dksJ6_add_2_0 6 rfl rfl)
theorem dJ6_add_2_7 : decode cJ6_add_2 7 = .ok (.invokevirtual 129, 3) := dk_182 0 129 (dk_at dksJ6_add_2_0 7 rfl rfl)
theorem dJ6_add_2_10 : decode cJ6_add_2 10 = .ok (.astore_n 2, 1) := dk_77 (dk_at dksJ6_add_2_0 10 rfl rfl)
theorem dJ6_add_2_11 : decode cJ6_add_2 11 = .ok (.aload_n 2, 1) := dk_44 (dk_at dksJ6_add_2_0 11 rfl rfl)
theorem dJ6_add_2_12 : decode cJ6_add_2 12 = .ok (.iload_n 3, 1) := dk_29 (dk_at dksJ6_add_2_0 12 rfl rfl)
theorem dJ6_add_2_13 : decode cJ6_add_2 13 = .ok (.aload_n 1, 1) := dk_43 (dk_at dksJ6_add_2_0 13 rfl rfl)
theorem dJ6_add_2_14 : decode cJ6_add_2 14 = .ok (.aastore, 1) := dk_83 (dk_at dksJ6_add_2_0 14 rfl rfl)
theorem dJ6_add_2_15 : decode cJ6_add_2 15 = .ok (.aload_n 0, 1) := dk_42 (dk_at dksJ6_add_2_0 15 rfl rfl)
theorem dJ6_add_2_16 : decode cJ6_add_2 16 = .ok (.iload_n 3, 1) := dk_29 (dk_at dksJ6_add_2_0 16 rfl rfl)
theorem dJ6_add_2_17 : decode cJ6_add_2 17 = .ok (.iconst 1, 1) := dk_4 (dk_at dksJ6_add_2_0 17 rfl rfl)
theorem dJ6_add_2_18 : decode cJ6_add_2 18 = .ok (.iadd, 1) := dk_96 (dk_at dksJ6_add_2_0 18 rfl rfl)
theorem dJ6_add_2_19 : decode cJ6_add_2 19 = .ok (.putfield 48, 3) := dk_181 0 48 (dk_at dksJ6_add_2_0 19 rfl rfl)
theorem dJ6_add_2_22 : decode cJ6_add_2 22 = .ok (.return_, 1) := dk_177 (dk_at dksJ6_add_2_0 22 rfl rfl)
abbrev cJ6_grow : ByteArray := prog_54_method_7_code
def yJ6_grow : MethodName := ⟨RJ6, "grow", "()[Ljava/lang/Object;"⟩
def dkwJ6_grow_0 : List UInt8 := [42, 42, 180, 0, 48, 4, 96, 182, 0, 69, 176]
abbrev dktJ6_grow_0 : List UInt8 := dkwJ6_grow_0 ++ []
theorem dksJ6_grow_0 : cJ6_grow.data.toList.drop 0 = dktJ6_grow_0 := by decide +kernel
theorem dJ6_grow_0 : decode cJ6_grow 0 = .ok (.aload_n 0, 1) := dk_42 (dk_at dksJ6_grow_0 0 rfl rfl)
theorem dJ6_grow_1 : decode cJ6_grow 1 = .ok (.aload_n 0, 1) := dk_42 (dk_at dksJ6_grow_0 1 rfl rfl)
theorem dJ6_grow_2 : decode cJ6_grow 2 = .ok (.getfield 48, 3) := dk_180 0 48 (dk_at dksJ6_grow_0 2 rfl rfl)
theorem dJ6_grow_5 : decode cJ6_grow 5 = .ok (.iconst 1, 1) := dk_4 (dk_at dksJ6_grow_0 5 rfl rfl)
theorem dJ6_grow_6 : decode cJ6_grow 6 = .ok (.iadd, 1) := dk_96 (dk_at dksJ6_grow_0 6 rfl rfl)
theorem dJ6_grow_7 : decode cJ6_grow 7 = .ok (.invokevirtual 69, 3) := dk_182 0 69 (dk_at dksJ6_grow_0 7 rfl rfl)
theorem dJ6_grow_10 : decode cJ6_grow 10 = .ok (.areturn, 1) := dk_176 (dk_at dksJ6_grow_0 10 rfl rfl)
abbrev cJ6_grow_2 : ByteArray := prog_54_method_6_code
def yJ6_grow_2 : MethodName := ⟨RJ6, "grow", "(I)[Ljava/lang/Object;"⟩
def dkwJ6_grow_2_2 : List UInt8 := [27, 184, 0, 79, 189, 0, 7, 90, 181, 0, 9, 176]
abbrev dktJ6_grow_2_2 : List UInt8 := dkwJ6_grow_2_2 ++ []
def dkwJ6_grow_2_1 : List UInt8 := [28, 4, 122, 184, 0, 73, 62, 42, 42, 180, 0, 9, 29, 184, 0, 66, 90, 181, 0, 9, 176, 42, 16, 10]
abbrev dktJ6_grow_2_1 : List UInt8 := dkwJ6_grow_2_1 ++ dktJ6_grow_2_2
def dkwJ6_grow_2_0 : List UInt8 := [42, 180, 0, 9, 190, 61, 28, 157, 0, 13, 42, 180, 0, 9, 178, 0, 39, 165, 0, 28, 28, 27, 28, 100]
abbrev dktJ6_grow_2_0 : List UInt8 := dkwJ6_grow_2_0 ++ dktJ6_grow_2_1
theorem dksJ6_grow_2_0 : cJ6_grow_2.data.toList.drop 0 = dktJ6_grow_2_0 := by decide +kernel
theorem dksJ6_grow_2_1 : cJ6_grow_2.data.toList.drop 24 = dktJ6_grow_2_1 := dk_seg dksJ6_grow_2_0 24 rfl rfl
theorem dksJ6_grow_2_2 : cJ6_grow_2.data.toList.drop 48 = dktJ6_grow_2_2 := dk_seg dksJ6_grow_2_1 24 rfl rfl
theorem dJ6_grow_2_0 : decode cJ6_grow_2 0 = .ok (.aload_n 0, 1) := dk_42 (dk_at dksJ6_grow_2_0 0 rfl rfl)
theorem dJ6_grow_2_1 : decode cJ6_grow_2 1 = .ok (.getfield 9, 3) := dk_180 0 9 (dk_at dksJ6_grow_2_0 1 rfl rfl)
theorem dJ6_grow_2_4 : decode cJ6_grow_2 4 = .ok (.arraylength, 1) := dk_190 (dk_at dksJ6_grow_2_0 4 rfl rfl)
theorem dJ6_grow_2_5 : decode cJ6_grow_2 5 = .ok (.istore_n 2, 1) := dk_61 (dk_at dksJ6_grow_2_0 5 rfl rfl)
theorem dJ6_grow_2_6 : decode cJ6_grow_2 6 = .ok (.iload_n 2, 1) := dk_28 (dk_at dksJ6_grow_2_0 6 rfl rfl)
theorem dJ6_grow_2_7 : decode cJ6_grow_2 7 = .ok (.ifCond .gt 13, 3) := dk_157 0 13 (dk_at dksJ6_grow_2_0 7 rfl rfl)
theorem dJ6_grow_2_10 : decode cJ6_grow_2 10 = .ok (.aload_n 0, 1) := dk_42 (dk_at dksJ6_grow_2_0 10 rfl rfl)
theorem dJ6_grow_2_11 : decode cJ6_grow_2 11 = .ok (.getfield 9, 3) := dk_180 0 9 (dk_at dksJ6_grow_2_0 11 rfl rfl)
theorem dJ6_grow_2_14 : decode cJ6_grow_2 14 = .ok (.getstatic 39, 3) := dk_178 0 39 (dk_at dksJ6_grow_2_0 14 rfl rfl)
theorem dJ6_grow_2_17 : decode cJ6_grow_2 17 = .ok (.if_acmp .eq 28, 3) := dk_165 0 28 (dk_at dksJ6_grow_2_0 17 rfl rfl)
theorem dJ6_grow_2_20 : decode cJ6_grow_2 20 = .ok (.iload_n 2, 1) := dk_28 (dk_at dksJ6_grow_2_0 20 rfl rfl)
theorem dJ6_grow_2_21 : decode cJ6_grow_2 21 = .ok (.iload_n 1, 1) := dk_27 (dk_at dksJ6_grow_2_0 21 rfl rfl)
theorem dJ6_grow_2_22 : decode cJ6_grow_2 22 = .ok (.iload_n 2, 1) := dk_28 (dk_at dksJ6_grow_2_0 22 rfl rfl)
theorem dJ6_grow_2_23 : decode cJ6_grow_2 23 = .ok (.isub, 1) := dk_100 (dk_at dksJ6_grow_2_0 23 rfl rfl)
theorem dJ6_grow_2_24 : decode cJ6_grow_2 24 = .ok (.iload_n 2, 1) := dk_28 (dk_at dksJ6_grow_2_1 0 rfl rfl)
theorem dJ6_grow_2_25 : decode cJ6_grow_2 25 = .ok (.iconst 1, 1) := dk_4 (dk_at dksJ6_grow_2_1 1 rfl rfl)
theorem dJ6_grow_2_26 : decode cJ6_grow_2 26 = .ok (.ishr, 1) := dk_122 (dk_at dksJ6_grow_2_1 2 rfl rfl)
theorem dJ6_grow_2_27 : decode cJ6_grow_2 27 = .ok (.invokestatic 73, 3) := dk_184 0 73 (dk_at dksJ6_grow_2_1 3 rfl rfl)
theorem dJ6_grow_2_30 : decode cJ6_grow_2 30 = .ok (.istore_n 3, 1) := dk_62 (dk_at dksJ6_grow_2_1 6 rfl rfl)
theorem dJ6_grow_2_31 : decode cJ6_grow_2 31 = .ok (.aload_n 0, 1) := dk_42 (dk_at dksJ6_grow_2_1 7 rfl rfl)
theorem dJ6_grow_2_32 : decode cJ6_grow_2 32 = .ok (.aload_n 0, 1) := dk_42 (dk_at dksJ6_grow_2_1 8 rfl rfl)
theorem dJ6_grow_2_33 : decode cJ6_grow_2 33 = .ok (.getfield 9, 3) := dk_180 0 9 (dk_at dksJ6_grow_2_1 9 rfl rfl)
theorem dJ6_grow_2_36 : decode cJ6_grow_2 36 = .ok (.iload_n 3, 1) := dk_29 (dk_at dksJ6_grow_2_1 12 rfl rfl)
theorem dJ6_grow_2_37 : decode cJ6_grow_2 37 = .ok (.invokestatic 66, 3) := dk_184 0 66 (dk_at dksJ6_grow_2_1 13 rfl rfl)
theorem dJ6_grow_2_40 : decode cJ6_grow_2 40 = .ok (.dup_x1, 1) := dk_90 (dk_at dksJ6_grow_2_1 16 rfl rfl)
theorem dJ6_grow_2_41 : decode cJ6_grow_2 41 = .ok (.putfield 9, 3) := dk_181 0 9 (dk_at dksJ6_grow_2_1 17 rfl rfl)
theorem dJ6_grow_2_44 : decode cJ6_grow_2 44 = .ok (.areturn, 1) := dk_176 (dk_at dksJ6_grow_2_1 20 rfl rfl)
theorem dJ6_grow_2_45 : decode cJ6_grow_2 45 = .ok (.aload_n 0, 1) := dk_42 (dk_at dksJ6_grow_2_1 21 rfl rfl)
theorem dJ6_grow_2_46 : decode cJ6_grow_2 46 = .ok (.bipush 10, 2) := dk_16 10 (dk_at dksJ6_grow_2_1 22 rfl rfl)
theorem dJ6_grow_2_48 : decode cJ6_grow_2 48 = .ok (.iload_n 1, 1) := dk_27 (dk_at dksJ6_grow_2_2 0 rfl rfl)
theorem dJ6_grow_2_49 : decode cJ6_grow_2 49 = .ok (.invokestatic 79, 3) := dk_184 0 79 (dk_at dksJ6_grow_2_2 1 rfl rfl)
theorem dJ6_grow_2_52 : decode cJ6_grow_2 52 = .ok (.anewarray 7, 3) := dk_189 0 7 (dk_at dksJ6_grow_2_2 4 rfl rfl)
theorem dJ6_grow_2_55 : decode cJ6_grow_2 55 = .ok (.dup_x1, 1) := dk_90 (dk_at dksJ6_grow_2_2 7 rfl rfl)
theorem dJ6_grow_2_56 : decode cJ6_grow_2 56 = .ok (.putfield 9, 3) := dk_181 0 9 (dk_at dksJ6_grow_2_2 8 rfl rfl)
theorem dJ6_grow_2_59 : decode cJ6_grow_2 59 = .ok (.areturn, 1) := dk_176 (dk_at dksJ6_grow_2_2 11 rfl rfl)
abbrev cJ6_isEmpty : ByteArray := prog_54_method_9_code
def yJ6_isEmpty : MethodName := ⟨RJ6, "isEmpty", "()Z"⟩
def dkwJ6_isEmpty_0 : List UInt8 := [42, 180, 0, 48, 154, 0, 7, 4, 167, 0, 4, 3, 172]
abbrev dktJ6_isEmpty_0 : List UInt8 := dkwJ6_isEmpty_0 ++ []
theorem dksJ6_isEmpty_0 : cJ6_isEmpty.data.toList.drop 0 = dktJ6_isEmpty_0 := by decide +kernel
theorem dJ6_isEmpty_0 : decode cJ6_isEmpty 0 = .ok (.aload_n 0, 1) := dk_42 (dk_at dksJ6_isEmpty_0 0 rfl rfl)
theorem dJ6_isEmpty_1 : decode cJ6_isEmpty 1 = .ok (.getfield 48, 3) := dk_180 0 48 (dk_at dksJ6_isEmpty_0 1 rfl rfl)
theorem dJ6_isEmpty_4 : decode cJ6_isEmpty 4 = .ok (.ifCond .ne 7, 3) := dk_154 0 7 (dk_at dksJ6_isEmpty_0 4 rfl rfl)
theorem dJ6_isEmpty_7 : decode cJ6_isEmpty 7 = .ok (.iconst 1, 1) := dk_4 (dk_at dksJ6_isEmpty_0 7 rfl rfl)
theorem dJ6_isEmpty_8 : decode cJ6_isEmpty 8 = .ok (.goto 4, 3) := dk_167 0 4 (dk_at dksJ6_isEmpty_0 8 rfl rfl)
theorem dJ6_isEmpty_11 : decode cJ6_isEmpty 11 = .ok (.iconst 0, 1) := dk_3 (dk_at dksJ6_isEmpty_0 11 rfl rfl)
theorem dJ6_isEmpty_12 : decode cJ6_isEmpty 12 = .ok (.ireturn, 1) := dk_172 (dk_at dksJ6_isEmpty_0 12 rfl rfl)
abbrev cJ6_clear : ByteArray := prog_54_method_40_code
def yJ6_clear : MethodName := ⟨RJ6, "clear", "()V"⟩
def dkwJ6_clear_1 : List UInt8 := [181, 0, 48, 62, 29, 28, 162, 0, 13, 43, 29, 1, 83, 132, 3, 1, 167, 255, 244, 177]
abbrev dktJ6_clear_1 : List UInt8 := dkwJ6_clear_1 ++ []
def dkwJ6_clear_0 : List UInt8 := [42, 89, 180, 0, 63, 4, 96, 181, 0, 63, 42, 180, 0, 9, 76, 42, 180, 0, 48, 61, 42, 3, 90]
abbrev dktJ6_clear_0 : List UInt8 := dkwJ6_clear_0 ++ dktJ6_clear_1
theorem dksJ6_clear_0 : cJ6_clear.data.toList.drop 0 = dktJ6_clear_0 := by decide +kernel
theorem dksJ6_clear_1 : cJ6_clear.data.toList.drop 23 = dktJ6_clear_1 := dk_seg dksJ6_clear_0 23 rfl rfl
theorem dJ6_clear_0 : decode cJ6_clear 0 = .ok (.aload_n 0, 1) := dk_42 (dk_at dksJ6_clear_0 0 rfl rfl)
theorem dJ6_clear_1 : decode cJ6_clear 1 = .ok (.dup, 1) := dk_89 (dk_at dksJ6_clear_0 1 rfl rfl)
theorem dJ6_clear_2 : decode cJ6_clear 2 = .ok (.getfield 63, 3) := dk_180 0 63 (dk_at dksJ6_clear_0 2 rfl rfl)
theorem dJ6_clear_5 : decode cJ6_clear 5 = .ok (.iconst 1, 1) := dk_4 (dk_at dksJ6_clear_0 5 rfl rfl)
theorem dJ6_clear_6 : decode cJ6_clear 6 = .ok (.iadd, 1) := dk_96 (dk_at dksJ6_clear_0 6 rfl rfl)
theorem dJ6_clear_7 : decode cJ6_clear 7 = .ok (.putfield 63, 3) := dk_181 0 63 (dk_at dksJ6_clear_0 7 rfl rfl)
theorem dJ6_clear_10 : decode cJ6_clear 10 = .ok (.aload_n 0, 1) := dk_42 (dk_at dksJ6_clear_0 10 rfl rfl)
theorem dJ6_clear_11 : decode cJ6_clear 11 = .ok (.getfield 9, 3) := dk_180 0 9 (dk_at dksJ6_clear_0 11 rfl rfl)
theorem dJ6_clear_14 : decode cJ6_clear 14 = .ok (.astore_n 1, 1) := dk_76 (dk_at dksJ6_clear_0 14 rfl rfl)
theorem dJ6_clear_15 : decode cJ6_clear 15 = .ok (.aload_n 0, 1) := dk_42 (dk_at dksJ6_clear_0 15 rfl rfl)
theorem dJ6_clear_16 : decode cJ6_clear 16 = .ok (.getfield 48, 3) := dk_180 0 48 (dk_at dksJ6_clear_0 16 rfl rfl)
theorem dJ6_clear_19 : decode cJ6_clear 19 = .ok (.istore_n 2, 1) := dk_61 (dk_at dksJ6_clear_0 19 rfl rfl)
theorem dJ6_clear_20 : decode cJ6_clear 20 = .ok (.aload_n 0, 1) := dk_42 (dk_at dksJ6_clear_0 20 rfl rfl)
theorem dJ6_clear_21 : decode cJ6_clear 21 = .ok (.iconst 0, 1) := dk_3 (dk_at dksJ6_clear_0 21 rfl rfl)
theorem dJ6_clear_22 : decode cJ6_clear 22 = .ok (.dup_x1, 1) := dk_90 (dk_at dksJ6_clear_0 22 rfl rfl)
theorem dJ6_clear_23 : decode cJ6_clear 23 = .ok (.putfield 48, 3) := dk_181 0 48 (dk_at dksJ6_clear_1 0 rfl rfl)
theorem dJ6_clear_26 : decode cJ6_clear 26 = .ok (.istore_n 3, 1) := dk_62 (dk_at dksJ6_clear_1 3 rfl rfl)
theorem dJ6_clear_27 : decode cJ6_clear 27 = .ok (.iload_n 3, 1) := dk_29 (dk_at dksJ6_clear_1 4 rfl rfl)
theorem dJ6_clear_28 : decode cJ6_clear 28 = .ok (.iload_n 2, 1) := dk_28 (dk_at dksJ6_clear_1 5 rfl rfl)
theorem dJ6_clear_29 : decode cJ6_clear 29 = .ok (.if_icmp .ge 13, 3) := dk_162 0 13 (dk_at dksJ6_clear_1 6 rfl rfl)
theorem dJ6_clear_32 : decode cJ6_clear 32 = .ok (.aload_n 1, 1) := dk_43 (dk_at dksJ6_clear_1 9 rfl rfl)
theorem dJ6_clear_33 : decode cJ6_clear 33 = .ok (.iload_n 3, 1) := dk_29 (dk_at dksJ6_clear_1 10 rfl rfl)
theorem dJ6_clear_34 : decode cJ6_clear 34 = .ok (.aconst_null, 1) := dk_1 (dk_at dksJ6_clear_1 11 rfl rfl)
theorem dJ6_clear_35 : decode cJ6_clear 35 = .ok (.aastore, 1) := dk_83 (dk_at dksJ6_clear_1 12 rfl rfl)
theorem dJ6_clear_36 : decode cJ6_clear 36 = .ok (.iinc 3 1, 3) := dk_132 3 1 (dk_at dksJ6_clear_1 13 rfl rfl)
theorem dJ6_clear_39 : decode cJ6_clear 39 = .ok (.goto (-12), 3) := dk_167 255 244 (dk_at dksJ6_clear_1 16 rfl rfl)
theorem dJ6_clear_42 : decode cJ6_clear 42 = .ok (.return_, 1) := dk_177 (dk_at dksJ6_clear_1 19 rfl rfl)
abbrev cJ6_addAll : ByteArray := prog_54_method_41_code
def yJ6_addAll : MethodName := ⟨RJ6, "addAll", "(Ljava/util/Collection;)Z"⟩
def dkwJ6_addAll_3 : List UInt8 := [181, 0, 48, 4, 172]
abbrev dktJ6_addAll_3 : List UInt8 := dkwJ6_addAll_3 ++ []
def dkwJ6_addAll_2 : List UInt8 := [21, 5, 29, 96, 182, 0, 69, 58, 4, 44, 3, 25, 4, 21, 5, 29, 184, 0, 112, 42, 21, 5, 29, 96]
abbrev dktJ6_addAll_2 : List UInt8 := dkwJ6_addAll_2 ++ dktJ6_addAll_3
def dkwJ6_addAll_1 : List UInt8 := [3, 172, 29, 42, 180, 0, 9, 89, 58, 4, 190, 42, 180, 0, 48, 89, 54, 5, 100, 164, 0, 13, 42]
abbrev dktJ6_addAll_1 : List UInt8 := dkwJ6_addAll_1 ++ dktJ6_addAll_2
def dkwJ6_addAll_0 : List UInt8 := [43, 185, 0, 42, 1, 0, 77, 42, 89, 180, 0, 63, 4, 96, 181, 0, 63, 44, 190, 62, 29, 154, 0, 5]
abbrev dktJ6_addAll_0 : List UInt8 := dkwJ6_addAll_0 ++ dktJ6_addAll_1
theorem dksJ6_addAll_0 : cJ6_addAll.data.toList.drop 0 = dktJ6_addAll_0 := by decide +kernel
theorem dksJ6_addAll_1 : cJ6_addAll.data.toList.drop 24 = dktJ6_addAll_1 := dk_seg dksJ6_addAll_0 24 rfl rfl
theorem dksJ6_addAll_2 : cJ6_addAll.data.toList.drop 47 = dktJ6_addAll_2 := dk_seg dksJ6_addAll_1 23 rfl rfl
theorem dksJ6_addAll_3 : cJ6_addAll.data.toList.drop 71 = dktJ6_addAll_3 := dk_seg dksJ6_addAll_2 24 rfl rfl
theorem dJ6_addAll_0 : decode cJ6_addAll 0 = .ok (.aload_n 1, 1) := dk_43 (dk_at dksJ6_addAll_0 0 rfl rfl)
theorem dJ6_addAll_1 : decode cJ6_addAll 1 = .ok (.invokeinterface 42 1, 5) := by decide +kernel
theorem dJ6_addAll_6 : decode cJ6_addAll 6 = .ok (.astore_n 2, 1) := dk_77 (dk_at dksJ6_addAll_0 6 rfl rfl)
theorem dJ6_addAll_7 : decode cJ6_addAll 7 = .ok (.aload_n 0, 1) := dk_42 (dk_at dksJ6_addAll_0 7 rfl rfl)
theorem dJ6_addAll_8 : decode cJ6_addAll 8 = .ok (.dup, 1) := dk_89 (dk_at dksJ6_addAll_0 8 rfl rfl)
theorem dJ6_addAll_9 : decode cJ6_addAll 9 = .ok (.getfield 63, 3) := dk_180 0 63 (dk_at dksJ6_addAll_0 9 rfl rfl)
theorem dJ6_addAll_12 : decode cJ6_addAll 12 = .ok (.iconst 1, 1) := dk_4 (dk_at dksJ6_addAll_0 12 rfl rfl)
theorem dJ6_addAll_13 : decode cJ6_addAll 13 = .ok (.iadd, 1) := dk_96 (dk_at dksJ6_addAll_0 13 rfl rfl)
theorem dJ6_addAll_14 : decode cJ6_addAll 14 = .ok (.putfield 63, 3) := dk_181 0 63 (dk_at dksJ6_addAll_0 14 rfl rfl)
theorem dJ6_addAll_17 : decode cJ6_addAll 17 = .ok (.aload_n 2, 1) := dk_44 (dk_at dksJ6_addAll_0 17 rfl rfl)
theorem dJ6_addAll_18 : decode cJ6_addAll 18 = .ok (.arraylength, 1) := dk_190 (dk_at dksJ6_addAll_0 18 rfl rfl)
theorem dJ6_addAll_19 : decode cJ6_addAll 19 = .ok (.istore_n 3, 1) := dk_62 (dk_at dksJ6_addAll_0 19 rfl rfl)
theorem dJ6_addAll_20 : decode cJ6_addAll 20 = .ok (.iload_n 3, 1) := dk_29 (dk_at dksJ6_addAll_0 20 rfl rfl)
theorem dJ6_addAll_21 : decode cJ6_addAll 21 = .ok (.ifCond .ne 5, 3) := dk_154 0 5 (dk_at dksJ6_addAll_0 21 rfl rfl)
theorem dJ6_addAll_24 : decode cJ6_addAll 24 = .ok (.iconst 0, 1) := dk_3 (dk_at dksJ6_addAll_1 0 rfl rfl)
theorem dJ6_addAll_25 : decode cJ6_addAll 25 = .ok (.ireturn, 1) := dk_172 (dk_at dksJ6_addAll_1 1 rfl rfl)
theorem dJ6_addAll_26 : decode cJ6_addAll 26 = .ok (.iload_n 3, 1) := dk_29 (dk_at dksJ6_addAll_1 2 rfl rfl)
theorem dJ6_addAll_27 : decode cJ6_addAll 27 = .ok (.aload_n 0, 1) := dk_42 (dk_at dksJ6_addAll_1 3 rfl rfl)
theorem dJ6_addAll_28 : decode cJ6_addAll 28 = .ok (.getfield 9, 3) := dk_180 0 9 (dk_at dksJ6_addAll_1 4 rfl rfl)
theorem dJ6_addAll_31 : decode cJ6_addAll 31 = .ok (.dup, 1) := dk_89 (dk_at dksJ6_addAll_1 7 rfl rfl)
theorem dJ6_addAll_32 : decode cJ6_addAll 32 = .ok (.astore 4, 2) := dk_58 4 (dk_at dksJ6_addAll_1 8 rfl rfl)
theorem dJ6_addAll_34 : decode cJ6_addAll 34 = .ok (.arraylength, 1) := dk_190 (dk_at dksJ6_addAll_1 10 rfl rfl)
theorem dJ6_addAll_35 : decode cJ6_addAll 35 = .ok (.aload_n 0, 1) := dk_42 (dk_at dksJ6_addAll_1 11 rfl rfl)
theorem dJ6_addAll_36 : decode cJ6_addAll 36 = .ok (.getfield 48, 3) := dk_180 0 48 (dk_at dksJ6_addAll_1 12 rfl rfl)
theorem dJ6_addAll_39 : decode cJ6_addAll 39 = .ok (.dup, 1) := dk_89 (dk_at dksJ6_addAll_1 15 rfl rfl)
theorem dJ6_addAll_40 : decode cJ6_addAll 40 = .ok (.istore 5, 2) := dk_54 5 (dk_at dksJ6_addAll_1 16 rfl rfl)
theorem dJ6_addAll_42 : decode cJ6_addAll 42 = .ok (.isub, 1) := dk_100 (dk_at dksJ6_addAll_1 18 rfl rfl)
theorem dJ6_addAll_43 : decode cJ6_addAll 43 = .ok (.if_icmp .le 13, 3) := dk_164 0 13 (dk_at dksJ6_addAll_1 19 rfl rfl)
theorem dJ6_addAll_46 : decode cJ6_addAll 46 = .ok (.aload_n 0, 1) := dk_42 (dk_at dksJ6_addAll_1 22 rfl rfl)
theorem dJ6_addAll_47 : decode cJ6_addAll 47 = .ok (.iload 5, 2) := dk_21 5 (dk_at dksJ6_addAll_2 0 rfl rfl)
theorem dJ6_addAll_49 : decode cJ6_addAll 49 = .ok (.iload_n 3, 1) := dk_29 (dk_at dksJ6_addAll_2 2 rfl rfl)
theorem dJ6_addAll_50 : decode cJ6_addAll 50 = .ok (.iadd, 1) := dk_96 (dk_at dksJ6_addAll_2 3 rfl rfl)
theorem dJ6_addAll_51 : decode cJ6_addAll 51 = .ok (.invokevirtual 69, 3) := dk_182 0 69 (dk_at dksJ6_addAll_2 4 rfl rfl)
theorem dJ6_addAll_54 : decode cJ6_addAll 54 = .ok (.astore 4, 2) := dk_58 4 (dk_at dksJ6_addAll_2 7 rfl rfl)
theorem dJ6_addAll_56 : decode cJ6_addAll 56 = .ok (.aload_n 2, 1) := dk_44 (dk_at dksJ6_addAll_2 9 rfl rfl)
theorem dJ6_addAll_57 : decode cJ6_addAll 57 = .ok (.iconst 0, 1) := dk_3 (dk_at dksJ6_addAll_2 10 rfl rfl)
theorem dJ6_addAll_58 : decode cJ6_addAll 58 = .ok (.aload 4, 2) := dk_25 4 (dk_at dksJ6_addAll_2 11 rfl rfl)
theorem dJ6_addAll_60 : decode cJ6_addAll 60 = .ok (.iload 5, 2) := dk_21 5 (dk_at dksJ6_addAll_2 13 rfl rfl)
theorem dJ6_addAll_62 : decode cJ6_addAll 62 = .ok (.iload_n 3, 1) := dk_29 (dk_at dksJ6_addAll_2 15 rfl rfl)
theorem dJ6_addAll_63 : decode cJ6_addAll 63 = .ok (.invokestatic 112, 3) := dk_184 0 112 (dk_at dksJ6_addAll_2 16 rfl rfl)
theorem dJ6_addAll_66 : decode cJ6_addAll 66 = .ok (.aload_n 0, 1) := dk_42 (dk_at dksJ6_addAll_2 19 rfl rfl)
theorem dJ6_addAll_67 : decode cJ6_addAll 67 = .ok (.iload 5, 2) := dk_21 5 (dk_at dksJ6_addAll_2 20 rfl rfl)
theorem dJ6_addAll_69 : decode cJ6_addAll 69 = .ok (.iload_n 3, 1) := dk_29 (dk_at dksJ6_addAll_2 22 rfl rfl)
theorem dJ6_addAll_70 : decode cJ6_addAll 70 = .ok (.iadd, 1) := dk_96 (dk_at dksJ6_addAll_2 23 rfl rfl)
theorem dJ6_addAll_71 : decode cJ6_addAll 71 = .ok (.putfield 48, 3) := dk_181 0 48 (dk_at dksJ6_addAll_3 0 rfl rfl)
theorem dJ6_addAll_74 : decode cJ6_addAll 74 = .ok (.iconst 1, 1) := dk_4 (dk_at dksJ6_addAll_3 3 rfl rfl)
theorem dJ6_addAll_75 : decode cJ6_addAll 75 = .ok (.ireturn, 1) := dk_172 (dk_at dksJ6_addAll_3 4 rfl rfl)
abbrev cJ6_toArray : ByteArray := prog_54_method_16_code
def yJ6_toArray : MethodName := ⟨RJ6, "toArray", "()[Ljava/lang/Object;"⟩
def dkwJ6_toArray_0 : List UInt8 := [42, 180, 0, 9, 42, 180, 0, 48, 184, 0, 66, 176]
abbrev dktJ6_toArray_0 : List UInt8 := dkwJ6_toArray_0 ++ []
theorem dksJ6_toArray_0 : cJ6_toArray.data.toList.drop 0 = dktJ6_toArray_0 := by decide +kernel
theorem dJ6_toArray_0 : decode cJ6_toArray 0 = .ok (.aload_n 0, 1) := dk_42 (dk_at dksJ6_toArray_0 0 rfl rfl)
theorem dJ6_toArray_1 : decode cJ6_toArray 1 = .ok (.getfield 9, 3) := dk_180 0 9 (dk_at dksJ6_toArray_0 1 rfl rfl)
theorem dJ6_toArray_4 : decode cJ6_toArray 4 = .ok (.aload_n 0, 1) := dk_42 (dk_at dksJ6_toArray_0 4 rfl rfl)
theorem dJ6_toArray_5 : decode cJ6_toArray 5 = .ok (.getfield 48, 3) := dk_180 0 48 (dk_at dksJ6_toArray_0 5 rfl rfl)
theorem dJ6_toArray_8 : decode cJ6_toArray 8 = .ok (.invokestatic 66, 3) := dk_184 0 66 (dk_at dksJ6_toArray_0 8 rfl rfl)
theorem dJ6_toArray_11 : decode cJ6_toArray 11 = .ok (.areturn, 1) := dk_176 (dk_at dksJ6_toArray_0 11 rfl rfl)
abbrev cJ6_remove : ByteArray := prog_54_method_29_code
def yJ6_remove : MethodName := ⟨RJ6, "remove", "(I)Ljava/lang/Object;"⟩
def dkwJ6_remove_1 : List UInt8 := [45, 176]
abbrev dktJ6_remove_1 : List UInt8 := dkwJ6_remove_1 ++ []
def dkwJ6_remove_0 : List UInt8 := [27, 42, 180, 0, 48, 184, 0, 118, 87, 42, 180, 0, 9, 77, 44, 27, 50, 78, 42, 44, 27, 182, 0, 144]
abbrev dktJ6_remove_0 : List UInt8 := dkwJ6_remove_0 ++ dktJ6_remove_1
theorem dksJ6_remove_0 : cJ6_remove.data.toList.drop 0 = dktJ6_remove_0 := by decide +kernel
theorem dksJ6_remove_1 : cJ6_remove.data.toList.drop 24 = dktJ6_remove_1 := dk_seg dksJ6_remove_0 24 rfl rfl
theorem dJ6_remove_0 : decode cJ6_remove 0 = .ok (.iload_n 1, 1) := dk_27 (dk_at dksJ6_remove_0 0 rfl rfl)
theorem dJ6_remove_1 : decode cJ6_remove 1 = .ok (.aload_n 0, 1) := dk_42 (dk_at dksJ6_remove_0 1 rfl rfl)
theorem dJ6_remove_2 : decode cJ6_remove 2 = .ok (.getfield 48, 3) := dk_180 0 48 (dk_at dksJ6_remove_0 2 rfl rfl)
theorem dJ6_remove_5 : decode cJ6_remove 5 = .ok (.invokestatic 118, 3) := dk_184 0 118 (dk_at dksJ6_remove_0 5 rfl rfl)
theorem dJ6_remove_8 : decode cJ6_remove 8 = .ok (.pop, 1) := dk_87 (dk_at dksJ6_remove_0 8 rfl rfl)
theorem dJ6_remove_9 : decode cJ6_remove 9 = .ok (.aload_n 0, 1) := dk_42 (dk_at dksJ6_remove_0 9 rfl rfl)
theorem dJ6_remove_10 : decode cJ6_remove 10 = .ok (.getfield 9, 3) := dk_180 0 9 (dk_at dksJ6_remove_0 10 rfl rfl)
theorem dJ6_remove_13 : decode cJ6_remove 13 = .ok (.astore_n 2, 1) := dk_77 (dk_at dksJ6_remove_0 13 rfl rfl)
theorem dJ6_remove_14 : decode cJ6_remove 14 = .ok (.aload_n 2, 1) := dk_44 (dk_at dksJ6_remove_0 14 rfl rfl)
theorem dJ6_remove_15 : decode cJ6_remove 15 = .ok (.iload_n 1, 1) := dk_27 (dk_at dksJ6_remove_0 15 rfl rfl)
theorem dJ6_remove_16 : decode cJ6_remove 16 = .ok (.aaload, 1) := dk_50 (dk_at dksJ6_remove_0 16 rfl rfl)
theorem dJ6_remove_17 : decode cJ6_remove 17 = .ok (.astore_n 3, 1) := dk_78 (dk_at dksJ6_remove_0 17 rfl rfl)
theorem dJ6_remove_18 : decode cJ6_remove 18 = .ok (.aload_n 0, 1) := dk_42 (dk_at dksJ6_remove_0 18 rfl rfl)
theorem dJ6_remove_19 : decode cJ6_remove 19 = .ok (.aload_n 2, 1) := dk_44 (dk_at dksJ6_remove_0 19 rfl rfl)
theorem dJ6_remove_20 : decode cJ6_remove 20 = .ok (.iload_n 1, 1) := dk_27 (dk_at dksJ6_remove_0 20 rfl rfl)
theorem dJ6_remove_21 : decode cJ6_remove 21 = .ok (.invokevirtual 144, 3) := dk_182 0 144 (dk_at dksJ6_remove_0 21 rfl rfl)
theorem dJ6_remove_24 : decode cJ6_remove 24 = .ok (.aload_n 3, 1) := dk_45 (dk_at dksJ6_remove_1 0 rfl rfl)
theorem dJ6_remove_25 : decode cJ6_remove 25 = .ok (.areturn, 1) := dk_176 (dk_at dksJ6_remove_1 1 rfl rfl)
abbrev cJ6_fastRemove : ByteArray := prog_54_method_39_code
def yJ6_fastRemove : MethodName := ⟨RJ6, "fastRemove", "([Ljava/lang/Object;I)V"⟩
def dkwJ6_fastRemove_1 : List UInt8 := [4, 96, 43, 28, 29, 28, 100, 184, 0, 112, 43, 42, 29, 90, 181, 0, 48, 1, 83, 177]
abbrev dktJ6_fastRemove_1 : List UInt8 := dkwJ6_fastRemove_1 ++ []
def dkwJ6_fastRemove_0 : List UInt8 := [42, 89, 180, 0, 63, 4, 96, 181, 0, 63, 42, 180, 0, 48, 4, 100, 89, 62, 28, 164, 0, 15, 43, 28]
abbrev dktJ6_fastRemove_0 : List UInt8 := dkwJ6_fastRemove_0 ++ dktJ6_fastRemove_1
theorem dksJ6_fastRemove_0 : cJ6_fastRemove.data.toList.drop 0 = dktJ6_fastRemove_0 := by decide +kernel
theorem dksJ6_fastRemove_1 : cJ6_fastRemove.data.toList.drop 24 = dktJ6_fastRemove_1 := dk_seg dksJ6_fastRemove_0 24 rfl rfl
theorem dJ6_fastRemove_0 : decode cJ6_fastRemove 0 = .ok (.aload_n 0, 1) := dk_42 (dk_at dksJ6_fastRemove_0 0 rfl rfl)
theorem dJ6_fastRemove_1 : decode cJ6_fastRemove 1 = .ok (.dup, 1) := dk_89 (dk_at dksJ6_fastRemove_0 1 rfl rfl)
theorem dJ6_fastRemove_2 : decode cJ6_fastRemove 2 = .ok (.getfield 63, 3) := dk_180 0 63 (dk_at dksJ6_fastRemove_0 2 rfl rfl)
theorem dJ6_fastRemove_5 : decode cJ6_fastRemove 5 = .ok (.iconst 1, 1) := dk_4 (dk_at dksJ6_fastRemove_0 5 rfl rfl)
theorem dJ6_fastRemove_6 : decode cJ6_fastRemove 6 = .ok (.iadd, 1) := dk_96 (dk_at dksJ6_fastRemove_0 6 rfl rfl)
theorem dJ6_fastRemove_7 : decode cJ6_fastRemove 7 = .ok (.putfield 63, 3) := dk_181 0 63 (dk_at dksJ6_fastRemove_0 7 rfl rfl)
theorem dJ6_fastRemove_10 : decode cJ6_fastRemove 10 = .ok (.aload_n 0, 1) := dk_42 (dk_at dksJ6_fastRemove_0 10 rfl rfl)
theorem dJ6_fastRemove_11 : decode cJ6_fastRemove 11 = .ok (.getfield 48, 3) := dk_180 0 48 (dk_at dksJ6_fastRemove_0 11 rfl rfl)
theorem dJ6_fastRemove_14 : decode cJ6_fastRemove 14 = .ok (.iconst 1, 1) := dk_4 (dk_at dksJ6_fastRemove_0 14 rfl rfl)
theorem dJ6_fastRemove_15 : decode cJ6_fastRemove 15 = .ok (.isub, 1) := dk_100 (dk_at dksJ6_fastRemove_0 15 rfl rfl)
theorem dJ6_fastRemove_16 : decode cJ6_fastRemove 16 = .ok (.dup, 1) := dk_89 (dk_at dksJ6_fastRemove_0 16 rfl rfl)
theorem dJ6_fastRemove_17 : decode cJ6_fastRemove 17 = .ok (.istore_n 3, 1) := dk_62 (dk_at dksJ6_fastRemove_0 17 rfl rfl)
theorem dJ6_fastRemove_18 : decode cJ6_fastRemove 18 = .ok (.iload_n 2, 1) := dk_28 (dk_at dksJ6_fastRemove_0 18 rfl rfl)
theorem dJ6_fastRemove_19 : decode cJ6_fastRemove 19 = .ok (.if_icmp .le 15, 3) := dk_164 0 15 (dk_at dksJ6_fastRemove_0 19 rfl rfl)
theorem dJ6_fastRemove_22 : decode cJ6_fastRemove 22 = .ok (.aload_n 1, 1) := dk_43 (dk_at dksJ6_fastRemove_0 22 rfl rfl)
theorem dJ6_fastRemove_23 : decode cJ6_fastRemove 23 = .ok (.iload_n 2, 1) := dk_28 (dk_at dksJ6_fastRemove_0 23 rfl rfl)
theorem dJ6_fastRemove_24 : decode cJ6_fastRemove 24 = .ok (.iconst 1, 1) := dk_4 (dk_at dksJ6_fastRemove_1 0 rfl rfl)
theorem dJ6_fastRemove_25 : decode cJ6_fastRemove 25 = .ok (.iadd, 1) := dk_96 (dk_at dksJ6_fastRemove_1 1 rfl rfl)
theorem dJ6_fastRemove_26 : decode cJ6_fastRemove 26 = .ok (.aload_n 1, 1) := dk_43 (dk_at dksJ6_fastRemove_1 2 rfl rfl)
theorem dJ6_fastRemove_27 : decode cJ6_fastRemove 27 = .ok (.iload_n 2, 1) := dk_28 (dk_at dksJ6_fastRemove_1 3 rfl rfl)
theorem dJ6_fastRemove_28 : decode cJ6_fastRemove 28 = .ok (.iload_n 3, 1) := dk_29 (dk_at dksJ6_fastRemove_1 4 rfl rfl)
theorem dJ6_fastRemove_29 : decode cJ6_fastRemove 29 = .ok (.iload_n 2, 1) := dk_28 (dk_at dksJ6_fastRemove_1 5 rfl rfl)
theorem dJ6_fastRemove_30 : decode cJ6_fastRemove 30 = .ok (.isub, 1) := dk_100 (dk_at dksJ6_fastRemove_1 6 rfl rfl)
theorem dJ6_fastRemove_31 : decode cJ6_fastRemove 31 = .ok (.invokestatic 112, 3) := dk_184 0 112 (dk_at dksJ6_fastRemove_1 7 rfl rfl)
theorem dJ6_fastRemove_34 : decode cJ6_fastRemove 34 = .ok (.aload_n 1, 1) := dk_43 (dk_at dksJ6_fastRemove_1 10 rfl rfl)
theorem dJ6_fastRemove_35 : decode cJ6_fastRemove 35 = .ok (.aload_n 0, 1) := dk_42 (dk_at dksJ6_fastRemove_1 11 rfl rfl)
theorem dJ6_fastRemove_36 : decode cJ6_fastRemove 36 = .ok (.iload_n 3, 1) := dk_29 (dk_at dksJ6_fastRemove_1 12 rfl rfl)
theorem dJ6_fastRemove_37 : decode cJ6_fastRemove 37 = .ok (.dup_x1, 1) := dk_90 (dk_at dksJ6_fastRemove_1 13 rfl rfl)
theorem dJ6_fastRemove_38 : decode cJ6_fastRemove 38 = .ok (.putfield 48, 3) := dk_181 0 48 (dk_at dksJ6_fastRemove_1 14 rfl rfl)
theorem dJ6_fastRemove_41 : decode cJ6_fastRemove 41 = .ok (.aconst_null, 1) := dk_1 (dk_at dksJ6_fastRemove_1 17 rfl rfl)
theorem dJ6_fastRemove_42 : decode cJ6_fastRemove 42 = .ok (.aastore, 1) := dk_83 (dk_at dksJ6_fastRemove_1 18 rfl rfl)
theorem dJ6_fastRemove_43 : decode cJ6_fastRemove 43 = .ok (.return_, 1) := dk_177 (dk_at dksJ6_fastRemove_1 19 rfl rfl)
theorem q147 : (Jvm.Cond.initialized "java/util/ArrayList") ∈ lw_all := lw_g (lw_at lw_m1 8 rfl) rfl
theorem q232 : (Jvm.Cond.instantiable "java/util/ArrayList" (3 : Nat)) ∈ lw_all := lw_g (lw_at lw_m1 93 rfl) rfl
theorem q234 : (Jvm.Cond.instanceMethod ({ cls := "java/util/ArrayList", name := "<init>", desc := "()V" } : Jvm.MethodName)) ∈ lw_all := lw_g (lw_at lw_m1 95 rfl) rfl
theorem q235 : (Jvm.Cond.code ({ cls := "java/util/ArrayList", name := "<init>", desc := "()V" } : Jvm.MethodName) prog_54_method_2_code (1 : Nat) (Option.none : Option Jvm.ClassFile.FieldType)) ∈ lw_all := lw_g (lw_at lw_m1 96 rfl) rfl
theorem q236 : (Jvm.Cond.methodLink "java/util/ArrayList" (1 : Nat) ({ cls := "java/util/AbstractList", name := "<init>", desc := "()V" } : Jvm.MethodName)) ∈ lw_all := lw_g (lw_at lw_m1 97 rfl) rfl
theorem q243 : (Jvm.Cond.fieldLink "java/util/ArrayList" (39 : Nat) "java/util/ArrayList" "DEFAULTCAPACITY_EMPTY_ELEMENTDATA" "[Ljava/lang/Object;") ∈ lw_all := lw_g (lw_at lw_m1 104 rfl) rfl
theorem q244 : (Jvm.Cond.laysStatic "java/util/ArrayList" "DEFAULTCAPACITY_EMPTY_ELEMENTDATA" "[Ljava/lang/Object;") ∈ lw_tbl := lw_at lw_m1 105 rfl
theorem q245 : (Jvm.Cond.fieldLink "java/util/ArrayList" (9 : Nat) "java/util/ArrayList" "elementData" "[Ljava/lang/Object;") ∈ lw_all := lw_g (lw_at lw_m1 106 rfl) rfl
theorem q246 : (Jvm.Cond.fieldLink "java/util/ArrayList" (48 : Nat) "java/util/ArrayList" "size" "I") ∈ lw_all := lw_g (lw_at lw_m1 107 rfl) rfl
theorem q248 : (Jvm.Cond.fieldLink "java/util/ArrayList" (63 : Nat) "java/util/ArrayList" "modCount" "I") ∈ lw_all := lw_g (lw_at lw_m1 109 rfl) rfl
theorem q249 : (Jvm.Cond.sameField "java/util/ArrayList" "java/util/AbstractList" "modCount" "I") ∈ lw_all := lw_g (lw_at lw_m1 110 rfl) rfl
theorem q250 : (Jvm.Cond.lays "java/util/ArrayList" "java/util/ArrayList" "elementData" "[Ljava/lang/Object;") ∈ lw_all := lw_g (lw_at lw_m1 111 rfl) rfl
theorem q251 : (Jvm.Cond.soleField "java/util/ArrayList" "elementData") ∈ lw_all := lw_g (lw_at lw_m1 112 rfl) rfl
theorem q252 : (Jvm.Cond.lays "java/util/ArrayList" "java/util/ArrayList" "size" "I") ∈ lw_all := lw_g (lw_at lw_m1 113 rfl) rfl
theorem q253 : (Jvm.Cond.soleField "java/util/ArrayList" "size") ∈ lw_all := lw_g (lw_at lw_m1 114 rfl) rfl
theorem q254 : (Jvm.Cond.lays "java/util/ArrayList" "java/util/AbstractList" "modCount" "I") ∈ lw_all := lw_g (lw_at lw_m1 115 rfl) rfl
theorem q256 : (Jvm.Cond.superclass "java/util/ArrayList" "java/util/AbstractList") ∈ lw_all := lw_g (lw_at lw_m1 117 rfl) rfl
theorem q313 : (Jvm.Cond.castable "java/util/ArrayList" "java/util/List") ∈ lw_tbl := lw_at lw_m1 174 rfl
theorem q314 : (Jvm.Cond.selects "java/util/ArrayList" ({ cls := "java/util/List", name := "size", desc := "()I" } : Jvm.MethodName) ({ cls := "java/util/ArrayList", name := "size", desc := "()I" } : Jvm.MethodName)) ∈ lw_all := lw_g (lw_at lw_m1 175 rfl) rfl
theorem q315 : (Jvm.Cond.unhidden "java/util/ArrayList" "size" "()I") ∈ lw_tbl := lw_at lw_m1 176 rfl
theorem q316 : (Jvm.Cond.instanceMethod ({ cls := "java/util/ArrayList", name := "size", desc := "()I" } : Jvm.MethodName)) ∈ lw_all := lw_g (lw_at lw_m1 177 rfl) rfl
theorem q317 : (Jvm.Cond.publicMethod ({ cls := "java/util/ArrayList", name := "size", desc := "()I" } : Jvm.MethodName)) ∈ lw_tbl := lw_at lw_m1 178 rfl
theorem q318 : (Jvm.Cond.code ({ cls := "java/util/ArrayList", name := "size", desc := "()I" } : Jvm.MethodName) prog_54_method_8_code (1 : Nat) (Option.some Jvm.ClassFile.FieldType.int)) ∈ lw_all := lw_g (lw_at lw_m1 179 rfl) rfl
theorem q492 : (Jvm.Cond.instanceMethod ({ cls := "java/util/ArrayList", name := "<init>", desc := "(I)V" } : Jvm.MethodName)) ∈ lw_all := lw_g (lw_at lw_m2 113 rfl) rfl
theorem q493 : (Jvm.Cond.code ({ cls := "java/util/ArrayList", name := "<init>", desc := "(I)V" } : Jvm.MethodName) prog_54_method_1_code (2 : Nat) (Option.none : Option Jvm.ClassFile.FieldType)) ∈ lw_all := lw_g (lw_at lw_m2 114 rfl) rfl
theorem q494 : (Jvm.Cond.classLink "java/util/ArrayList" (7 : Nat) "java/lang/Object") ∈ lw_all := lw_g (lw_at lw_m2 115 rfl) rfl
theorem q496 : (Jvm.Cond.fieldLink "java/util/ArrayList" (15 : Nat) "java/util/ArrayList" "EMPTY_ELEMENTDATA" "[Ljava/lang/Object;") ∈ lw_all := lw_g (lw_at lw_m2 117 rfl) rfl
theorem q497 : (Jvm.Cond.laysStatic "java/util/ArrayList" "EMPTY_ELEMENTDATA" "[Ljava/lang/Object;") ∈ lw_tbl := lw_at lw_m2 118 rfl
theorem q498 : (Jvm.Cond.classLink "java/util/ArrayList" (18 : Nat) "java/lang/IllegalArgumentException") ∈ lw_all := lw_g (lw_at lw_m2 119 rfl) rfl
theorem q507 : (Jvm.Cond.classLink "java/util/ArrayList" (20 : Nat) "java/lang/StringBuilder") ∈ lw_all := lw_g (lw_at lw_m2 128 rfl) rfl
theorem q508 : (Jvm.Cond.methodLink "java/util/ArrayList" (22 : Nat) ({ cls := "java/lang/StringBuilder", name := "<init>", desc := "()V" } : Jvm.MethodName)) ∈ lw_all := lw_g (lw_at lw_m2 129 rfl) rfl
theorem q509 : (Jvm.Cond.stringRef "java/util/ArrayList" (23 : Nat) "Illegal Capacity: ") ∈ lw_tbl := lw_at lw_m2 130 rfl
theorem q510 : (Jvm.Cond.methodLink "java/util/ArrayList" (25 : Nat) ({ cls := "java/lang/StringBuilder", name := "append", desc := "(Ljava/lang/String;)Ljava/lang/StringBuilder;" } : Jvm.MethodName)) ∈ lw_all := lw_g (lw_at lw_m2 131 rfl) rfl
theorem q630 : (Jvm.Cond.methodLink "java/util/ArrayList" (29 : Nat) ({ cls := "java/lang/StringBuilder", name := "append", desc := "(I)Ljava/lang/StringBuilder;" } : Jvm.MethodName)) ∈ lw_all := lw_g (lw_at lw_m3 11 rfl) rfl
theorem q655 : (Jvm.Cond.methodLink "java/util/ArrayList" (32 : Nat) ({ cls := "java/lang/StringBuilder", name := "toString", desc := "()Ljava/lang/String;" } : Jvm.MethodName)) ∈ lw_all := lw_g (lw_at lw_m3 36 rfl) rfl
theorem q725 : (Jvm.Cond.methodLink "java/util/ArrayList" (36 : Nat) ({ cls := "java/lang/IllegalArgumentException", name := "<init>", desc := "(Ljava/lang/String;)V" } : Jvm.MethodName)) ∈ lw_all := lw_g (lw_at lw_m3 106 rfl) rfl
theorem q762 : (Jvm.Cond.selects "java/util/ArrayList" ({ cls := "java/util/List", name := "get", desc := "(I)Ljava/lang/Object;" } : Jvm.MethodName) ({ cls := "java/util/ArrayList", name := "get", desc := "(I)Ljava/lang/Object;" } : Jvm.MethodName)) ∈ lw_all := lw_g (lw_at lw_m3 143 rfl) rfl
theorem q763 : (Jvm.Cond.unhidden "java/util/ArrayList" "get" "(I)Ljava/lang/Object;") ∈ lw_tbl := lw_at lw_m3 144 rfl
theorem q764 : (Jvm.Cond.instanceMethod ({ cls := "java/util/ArrayList", name := "get", desc := "(I)Ljava/lang/Object;" } : Jvm.MethodName)) ∈ lw_all := lw_g (lw_at lw_m3 145 rfl) rfl
theorem q765 : (Jvm.Cond.publicMethod ({ cls := "java/util/ArrayList", name := "get", desc := "(I)Ljava/lang/Object;" } : Jvm.MethodName)) ∈ lw_tbl := lw_at lw_m3 146 rfl
theorem q766 : (Jvm.Cond.code ({ cls := "java/util/ArrayList", name := "get", desc := "(I)Ljava/lang/Object;" } : Jvm.MethodName) prog_54_method_20_code (2 : Nat) (Option.some (Jvm.ClassFile.FieldType.object "java/lang/Object"))) ∈ lw_all := lw_g (lw_at lw_m3 147 rfl) rfl
theorem q767 : (Jvm.Cond.methodLink "java/util/ArrayList" (118 : Nat) ({ cls := "java/util/Objects", name := "checkIndex", desc := "(II)I" } : Jvm.MethodName)) ∈ lw_all := lw_g (lw_at lw_m3 148 rfl) rfl
theorem q773 : (Jvm.Cond.methodLink "java/util/ArrayList" (123 : Nat) ({ cls := "java/util/ArrayList", name := "elementData", desc := "(I)Ljava/lang/Object;" } : Jvm.MethodName)) ∈ lw_all := lw_g (lw_at lw_m3 154 rfl) rfl
theorem q774 : (Jvm.Cond.instanceMethod ({ cls := "java/util/ArrayList", name := "elementData", desc := "(I)Ljava/lang/Object;" } : Jvm.MethodName)) ∈ lw_all := lw_g (lw_at lw_m3 155 rfl) rfl
theorem q775 : (Jvm.Cond.selects "java/util/ArrayList" ({ cls := "java/util/ArrayList", name := "elementData", desc := "(I)Ljava/lang/Object;" } : Jvm.MethodName) ({ cls := "java/util/ArrayList", name := "elementData", desc := "(I)Ljava/lang/Object;" } : Jvm.MethodName)) ∈ lw_all := lw_g (lw_at lw_m3 156 rfl) rfl
theorem q776 : (Jvm.Cond.code ({ cls := "java/util/ArrayList", name := "elementData", desc := "(I)Ljava/lang/Object;" } : Jvm.MethodName) prog_54_method_18_code (2 : Nat) (Option.some (Jvm.ClassFile.FieldType.object "java/lang/Object"))) ∈ lw_all := lw_g (lw_at lw_m3 157 rfl) rfl
theorem q845 : (Jvm.Cond.selects "java/util/ArrayList" ({ cls := "java/util/List", name := "add", desc := "(Ljava/lang/Object;)Z" } : Jvm.MethodName) ({ cls := "java/util/ArrayList", name := "add", desc := "(Ljava/lang/Object;)Z" } : Jvm.MethodName)) ∈ lw_all := lw_g (lw_at lw_m3 226 rfl) rfl
theorem q846 : (Jvm.Cond.unhidden "java/util/ArrayList" "add" "(Ljava/lang/Object;)Z") ∈ lw_tbl := lw_at lw_m3 227 rfl
theorem q847 : (Jvm.Cond.instanceMethod ({ cls := "java/util/ArrayList", name := "add", desc := "(Ljava/lang/Object;)Z" } : Jvm.MethodName)) ∈ lw_all := lw_g (lw_at lw_m3 228 rfl) rfl
theorem q848 : (Jvm.Cond.publicMethod ({ cls := "java/util/ArrayList", name := "add", desc := "(Ljava/lang/Object;)Z" } : Jvm.MethodName)) ∈ lw_tbl := lw_at lw_m3 229 rfl
theorem q849 : (Jvm.Cond.code ({ cls := "java/util/ArrayList", name := "add", desc := "(Ljava/lang/Object;)Z" } : Jvm.MethodName) prog_54_method_25_code (2 : Nat) (Option.some Jvm.ClassFile.FieldType.boolean)) ∈ lw_all := lw_g (lw_at lw_m3 230 rfl) rfl
theorem q850 : (Jvm.Cond.methodLink "java/util/ArrayList" (131 : Nat) ({ cls := "java/util/ArrayList", name := "add", desc := "(Ljava/lang/Object;[Ljava/lang/Object;I)V" } : Jvm.MethodName)) ∈ lw_all := lw_g (lw_at lw_m3 231 rfl) rfl
theorem q851 : (Jvm.Cond.privateMethod ({ cls := "java/util/ArrayList", name := "add", desc := "(Ljava/lang/Object;[Ljava/lang/Object;I)V" } : Jvm.MethodName)) ∈ lw_tbl := lw_at lw_m3 232 rfl
theorem q852 : (Jvm.Cond.instanceMethod ({ cls := "java/util/ArrayList", name := "add", desc := "(Ljava/lang/Object;[Ljava/lang/Object;I)V" } : Jvm.MethodName)) ∈ lw_all := lw_g (lw_at lw_m3 233 rfl) rfl
theorem q853 : (Jvm.Cond.code ({ cls := "java/util/ArrayList", name := "add", desc := "(Ljava/lang/Object;[Ljava/lang/Object;I)V" } : Jvm.MethodName) prog_54_method_24_code (4 : Nat) (Option.none : Option Jvm.ClassFile.FieldType)) ∈ lw_all := lw_g (lw_at lw_m3 234 rfl) rfl
theorem q854 : (Jvm.Cond.methodLink "java/util/ArrayList" (129 : Nat) ({ cls := "java/util/ArrayList", name := "grow", desc := "()[Ljava/lang/Object;" } : Jvm.MethodName)) ∈ lw_all := lw_g (lw_at lw_m3 235 rfl) rfl
theorem q855 : (Jvm.Cond.privateMethod ({ cls := "java/util/ArrayList", name := "grow", desc := "()[Ljava/lang/Object;" } : Jvm.MethodName)) ∈ lw_tbl := lw_at lw_m3 236 rfl
theorem q856 : (Jvm.Cond.instanceMethod ({ cls := "java/util/ArrayList", name := "grow", desc := "()[Ljava/lang/Object;" } : Jvm.MethodName)) ∈ lw_all := lw_g (lw_at lw_m3 237 rfl) rfl
theorem q857 : (Jvm.Cond.code ({ cls := "java/util/ArrayList", name := "grow", desc := "()[Ljava/lang/Object;" } : Jvm.MethodName) prog_54_method_7_code (1 : Nat) (Option.some (Jvm.ClassFile.FieldType.array (Jvm.ClassFile.FieldType.object "java/lang/Object")))) ∈ lw_all := lw_g (lw_at lw_m3 238 rfl) rfl
theorem q858 : (Jvm.Cond.methodLink "java/util/ArrayList" (69 : Nat) ({ cls := "java/util/ArrayList", name := "grow", desc := "(I)[Ljava/lang/Object;" } : Jvm.MethodName)) ∈ lw_all := lw_g (lw_at lw_m3 239 rfl) rfl
theorem q859 : (Jvm.Cond.privateMethod ({ cls := "java/util/ArrayList", name := "grow", desc := "(I)[Ljava/lang/Object;" } : Jvm.MethodName)) ∈ lw_tbl := lw_at lw_m4 0 rfl
theorem q860 : (Jvm.Cond.instanceMethod ({ cls := "java/util/ArrayList", name := "grow", desc := "(I)[Ljava/lang/Object;" } : Jvm.MethodName)) ∈ lw_all := lw_g (lw_at lw_m4 1 rfl) rfl
theorem q861 : (Jvm.Cond.code ({ cls := "java/util/ArrayList", name := "grow", desc := "(I)[Ljava/lang/Object;" } : Jvm.MethodName) prog_54_method_6_code (4 : Nat) (Option.some (Jvm.ClassFile.FieldType.array (Jvm.ClassFile.FieldType.object "java/lang/Object")))) ∈ lw_all := lw_g (lw_at lw_m4 2 rfl) rfl
theorem q862 : (Jvm.Cond.methodLink "java/util/ArrayList" (73 : Nat) ({ cls := "jdk/internal/util/ArraysSupport", name := "newLength", desc := "(III)I" } : Jvm.MethodName)) ∈ lw_all := lw_g (lw_at lw_m4 3 rfl) rfl
theorem q863 : (Jvm.Cond.methodLink "java/util/ArrayList" (66 : Nat) ({ cls := "java/util/Arrays", name := "copyOf", desc := "([Ljava/lang/Object;I)[Ljava/lang/Object;" } : Jvm.MethodName)) ∈ lw_all := lw_g (lw_at lw_m4 4 rfl) rfl
theorem q894 : (Jvm.Cond.selects "java/util/ArrayList" ({ cls := "java/lang/Object", name := "getClass", desc := "()Ljava/lang/Class;" } : Jvm.MethodName) ({ cls := "java/lang/Object", name := "getClass", desc := "()Ljava/lang/Class;" } : Jvm.MethodName)) ∈ lw_all := lw_g (lw_at lw_m4 35 rfl) rfl
theorem q904 : (Jvm.Cond.methodLink "java/util/ArrayList" (79 : Nat) ({ cls := "java/lang/Math", name := "max", desc := "(II)I" } : Jvm.MethodName)) ∈ lw_all := lw_g (lw_at lw_m4 45 rfl) rfl
theorem q1701 : (Jvm.Cond.selects "java/util/ArrayList" ({ cls := "java/util/List", name := "isEmpty", desc := "()Z" } : Jvm.MethodName) ({ cls := "java/util/ArrayList", name := "isEmpty", desc := "()Z" } : Jvm.MethodName)) ∈ lw_all := lw_g (lw_at lw_m7 122 rfl) rfl
theorem q1702 : (Jvm.Cond.unhidden "java/util/ArrayList" "isEmpty" "()Z") ∈ lw_tbl := lw_at lw_m7 123 rfl
theorem q1703 : (Jvm.Cond.instanceMethod ({ cls := "java/util/ArrayList", name := "isEmpty", desc := "()Z" } : Jvm.MethodName)) ∈ lw_all := lw_g (lw_at lw_m7 124 rfl) rfl
theorem q1704 : (Jvm.Cond.publicMethod ({ cls := "java/util/ArrayList", name := "isEmpty", desc := "()Z" } : Jvm.MethodName)) ∈ lw_tbl := lw_at lw_m7 125 rfl
theorem q1705 : (Jvm.Cond.code ({ cls := "java/util/ArrayList", name := "isEmpty", desc := "()Z" } : Jvm.MethodName) prog_54_method_9_code (1 : Nat) (Option.some Jvm.ClassFile.FieldType.boolean)) ∈ lw_all := lw_g (lw_at lw_m7 126 rfl) rfl
theorem q1710 : (Jvm.Cond.selects "java/util/ArrayList" ({ cls := "java/util/List", name := "clear", desc := "()V" } : Jvm.MethodName) ({ cls := "java/util/ArrayList", name := "clear", desc := "()V" } : Jvm.MethodName)) ∈ lw_all := lw_g (lw_at lw_m7 131 rfl) rfl
theorem q1711 : (Jvm.Cond.unhidden "java/util/ArrayList" "clear" "()V") ∈ lw_tbl := lw_at lw_m7 132 rfl
theorem q1712 : (Jvm.Cond.instanceMethod ({ cls := "java/util/ArrayList", name := "clear", desc := "()V" } : Jvm.MethodName)) ∈ lw_all := lw_g (lw_at lw_m7 133 rfl) rfl
theorem q1713 : (Jvm.Cond.publicMethod ({ cls := "java/util/ArrayList", name := "clear", desc := "()V" } : Jvm.MethodName)) ∈ lw_tbl := lw_at lw_m7 134 rfl
theorem q1714 : (Jvm.Cond.code ({ cls := "java/util/ArrayList", name := "clear", desc := "()V" } : Jvm.MethodName) prog_54_method_40_code (4 : Nat) (Option.none : Option Jvm.ClassFile.FieldType)) ∈ lw_all := lw_g (lw_at lw_m7 135 rfl) rfl
theorem q1991 : (Jvm.Cond.selects "java/util/ArrayList" ({ cls := "java/util/List", name := "addAll", desc := "(Ljava/util/Collection;)Z" } : Jvm.MethodName) ({ cls := "java/util/ArrayList", name := "addAll", desc := "(Ljava/util/Collection;)Z" } : Jvm.MethodName)) ∈ lw_all := lw_g (lw_at lw_m8 172 rfl) rfl
theorem q1992 : (Jvm.Cond.unhidden "java/util/ArrayList" "addAll" "(Ljava/util/Collection;)Z") ∈ lw_tbl := lw_at lw_m8 173 rfl
theorem q1993 : (Jvm.Cond.instanceMethod ({ cls := "java/util/ArrayList", name := "addAll", desc := "(Ljava/util/Collection;)Z" } : Jvm.MethodName)) ∈ lw_all := lw_g (lw_at lw_m8 174 rfl) rfl
theorem q1994 : (Jvm.Cond.publicMethod ({ cls := "java/util/ArrayList", name := "addAll", desc := "(Ljava/util/Collection;)Z" } : Jvm.MethodName)) ∈ lw_tbl := lw_at lw_m8 175 rfl
theorem q1995 : (Jvm.Cond.code ({ cls := "java/util/ArrayList", name := "addAll", desc := "(Ljava/util/Collection;)Z" } : Jvm.MethodName) prog_54_method_41_code (6 : Nat) (Option.some Jvm.ClassFile.FieldType.boolean)) ∈ lw_all := lw_g (lw_at lw_m8 176 rfl) rfl
theorem q1996 : (Jvm.Cond.interfaceEntry "java/util/ArrayList" (42 : Nat)) ∈ lw_tbl := lw_at lw_m8 177 rfl
theorem q1997 : (Jvm.Cond.methodLink "java/util/ArrayList" (42 : Nat) ({ cls := "java/util/Collection", name := "toArray", desc := "()[Ljava/lang/Object;" } : Jvm.MethodName)) ∈ lw_all := lw_g (lw_at lw_m8 178 rfl) rfl
theorem q2000 : (Jvm.Cond.castable "java/util/ArrayList" "java/util/Collection") ∈ lw_tbl := lw_at lw_m8 181 rfl
theorem q2001 : (Jvm.Cond.selects "java/util/ArrayList" ({ cls := "java/util/Collection", name := "toArray", desc := "()[Ljava/lang/Object;" } : Jvm.MethodName) ({ cls := "java/util/ArrayList", name := "toArray", desc := "()[Ljava/lang/Object;" } : Jvm.MethodName)) ∈ lw_all := lw_g (lw_at lw_m8 182 rfl) rfl
theorem q2002 : (Jvm.Cond.unhidden "java/util/ArrayList" "toArray" "()[Ljava/lang/Object;") ∈ lw_tbl := lw_at lw_m8 183 rfl
theorem q2003 : (Jvm.Cond.instanceMethod ({ cls := "java/util/ArrayList", name := "toArray", desc := "()[Ljava/lang/Object;" } : Jvm.MethodName)) ∈ lw_all := lw_g (lw_at lw_m8 184 rfl) rfl
theorem q2004 : (Jvm.Cond.publicMethod ({ cls := "java/util/ArrayList", name := "toArray", desc := "()[Ljava/lang/Object;" } : Jvm.MethodName)) ∈ lw_tbl := lw_at lw_m8 185 rfl
theorem q2005 : (Jvm.Cond.code ({ cls := "java/util/ArrayList", name := "toArray", desc := "()[Ljava/lang/Object;" } : Jvm.MethodName) prog_54_method_16_code (1 : Nat) (Option.some (Jvm.ClassFile.FieldType.array (Jvm.ClassFile.FieldType.object "java/lang/Object")))) ∈ lw_all := lw_g (lw_at lw_m8 186 rfl) rfl
theorem q2013 : (Jvm.Cond.methodLink "java/util/ArrayList" (112 : Nat) ({ cls := "java/lang/System", name := "arraycopy", desc := "(Ljava/lang/Object;ILjava/lang/Object;II)V" } : Jvm.MethodName)) ∈ lw_all := lw_g (lw_at lw_m8 194 rfl) rfl
theorem q2627 : (Jvm.Cond.selects "java/util/ArrayList" ({ cls := "java/util/List", name := "remove", desc := "(I)Ljava/lang/Object;" } : Jvm.MethodName) ({ cls := "java/util/ArrayList", name := "remove", desc := "(I)Ljava/lang/Object;" } : Jvm.MethodName)) ∈ lw_all := lw_g (lw_at lw_m11 88 rfl) rfl
theorem q2628 : (Jvm.Cond.unhidden "java/util/ArrayList" "remove" "(I)Ljava/lang/Object;") ∈ lw_tbl := lw_at lw_m11 89 rfl
theorem q2629 : (Jvm.Cond.instanceMethod ({ cls := "java/util/ArrayList", name := "remove", desc := "(I)Ljava/lang/Object;" } : Jvm.MethodName)) ∈ lw_all := lw_g (lw_at lw_m11 90 rfl) rfl
theorem q2630 : (Jvm.Cond.publicMethod ({ cls := "java/util/ArrayList", name := "remove", desc := "(I)Ljava/lang/Object;" } : Jvm.MethodName)) ∈ lw_tbl := lw_at lw_m11 91 rfl
theorem q2631 : (Jvm.Cond.code ({ cls := "java/util/ArrayList", name := "remove", desc := "(I)Ljava/lang/Object;" } : Jvm.MethodName) prog_54_method_29_code (4 : Nat) (Option.some (Jvm.ClassFile.FieldType.object "java/lang/Object"))) ∈ lw_all := lw_g (lw_at lw_m11 92 rfl) rfl
theorem q2632 : (Jvm.Cond.methodLink "java/util/ArrayList" (144 : Nat) ({ cls := "java/util/ArrayList", name := "fastRemove", desc := "([Ljava/lang/Object;I)V" } : Jvm.MethodName)) ∈ lw_all := lw_g (lw_at lw_m11 93 rfl) rfl
theorem q2633 : (Jvm.Cond.privateMethod ({ cls := "java/util/ArrayList", name := "fastRemove", desc := "([Ljava/lang/Object;I)V" } : Jvm.MethodName)) ∈ lw_tbl := lw_at lw_m11 94 rfl
theorem q2634 : (Jvm.Cond.instanceMethod ({ cls := "java/util/ArrayList", name := "fastRemove", desc := "([Ljava/lang/Object;I)V" } : Jvm.MethodName)) ∈ lw_all := lw_g (lw_at lw_m11 95 rfl) rfl
theorem q2635 : (Jvm.Cond.code ({ cls := "java/util/ArrayList", name := "fastRemove", desc := "([Ljava/lang/Object;I)V" } : Jvm.MethodName) prog_54_method_39_code (4 : Nat) (Option.none : Option Jvm.ClassFile.FieldType)) ∈ lw_all := lw_g (lw_at lw_m11 96 rfl) rfl
theorem q3491 : (Jvm.Cond.castable "java/util/ArrayList" "java/lang/Object") ∈ lw_tbl := lw_at lw_m14 232 rfl
theorem in_J6 : ∀ w ∈ wsJ60, w ∈ lw_all := lw_in wsJ60 [254, 250, 252] (by decide +kernel) (by decide +kernel)


/-! java/lang/Throwable -/
set_option maxRecDepth 100000
def RJ7 : String := "java/lang/Throwable"
def TJ7 : u_T := fun k => match k with
  | 0 => ("java/lang/Throwable", "cause", "Ljava/lang/Throwable;", false)
  | 1 => ("java/lang/Throwable", "stackTrace", "[Ljava/lang/StackTraceElement;", false)
  | 2 => ("java/lang/Throwable", "suppressedExceptions", "Ljava/util/List;", false)
  | 3 => ("java/lang/Throwable", "detailMessage", "Ljava/lang/String;", false)
  | _ => ("java/lang/Throwable", "backtrace", "Ljava/lang/Object;", false)
def tyJ7 : Nat → FieldType := fun k => match k with
  | 0 => .object "java/lang/Throwable"
  | 1 => .array (.object "java/lang/StackTraceElement")
  | 2 => .object "java/util/List"
  | 3 => .object "java/lang/String"
  | _ => .object "java/lang/Object"
abbrev wsJ70 : List Cond := u_ws RJ7 TJ7 5
theorem nmJ7 : ∀ a, a < 5 → ∀ b, b < 5 → a ≠ b → (TJ7 a).2.1 ≠ (TJ7 b).2.1 := by decide +kernel
theorem tyJ7_ok : ∀ k, k < 5 → parseFieldDescriptor (TJ7 k).2.2.1 = some (tyJ7 k) := by decide +kernel
abbrev cJ7_init : ByteArray := prog_48_method_2_code
def yJ7_init : MethodName := ⟨RJ7, "<init>", "(Ljava/lang/String;)V"⟩
def dkwJ7_init_1 : List UInt8 := [182, 0, 27, 87, 42, 43, 181, 0, 31, 177]
abbrev dktJ7_init_1 : List UInt8 := dkwJ7_init_1 ++ []
def dkwJ7_init_0 : List UInt8 := [42, 183, 0, 1, 42, 42, 181, 0, 7, 42, 178, 0, 13, 181, 0, 17, 42, 178, 0, 20, 181, 0, 24, 42]
abbrev dktJ7_init_0 : List UInt8 := dkwJ7_init_0 ++ dktJ7_init_1
theorem dksJ7_init_0 : cJ7_init.data.toList.drop 0 = dktJ7_init_0 := by decide +kernel
theorem dksJ7_init_1 : cJ7_init.data.toList.drop 24 = dktJ7_init_1 := dk_seg dksJ7_init_0 24 rfl rfl
theorem dJ7_init_0 : decode cJ7_init 0 = .ok (.aload_n 0, 1) := dk_42 (dk_at dksJ7_init_0 0 rfl rfl)
theorem dJ7_init_1 : decode cJ7_init 1 = .ok (.invokespecial 1, 3) := dk_183 0 1 (dk_at dksJ7_init_0 1 rfl rfl)
theorem dJ7_init_4 : decode cJ7_init 4 = .ok (.aload_n 0, 1) := dk_42 (dk_at dksJ7_init_0 4 rfl rfl)
theorem dJ7_init_5 : decode cJ7_init 5 = .ok (.aload_n 0, 1) := dk_42 (dk_at dksJ7_init_0 5 rfl rfl)
theorem dJ7_init_6 : decode cJ7_init 6 = .ok (.putfield 7, 3) := dk_181 0 7 (dk_at dksJ7_init_0 6 rfl rfl)
theorem dJ7_init_9 : decode cJ7_init 9 = .ok (.aload_n 0, 1) := dk_42 (dk_at dksJ7_init_0 9 rfl rfl)
theorem dJ7_init_10 : decode cJ7_init 10 = .ok (.getstatic 13, 3) := dk_178 0 13 (dk_at dksJ7_init_0 10 rfl rfl)
theorem dJ7_init_13 : decode cJ7_init 13 = .ok (.putfield 17, 3) := dk_181 0 17 (dk_at dksJ7_init_0 13 rfl rfl)
theorem dJ7_init_16 : decode cJ7_init 16 = .ok (.aload_n 0, 1) := dk_42 (dk_at dksJ7_init_0 16 rfl rfl)
theorem dJ7_init_17 : decode cJ7_init 17 = .ok (.getstatic 20, 3) := dk_178 0 20 (dk_at dksJ7_init_0 17 rfl rfl)
theorem dJ7_init_20 : decode cJ7_init 20 = .ok (.putfield 24, 3) := dk_181 0 24 (dk_at dksJ7_init_0 20 rfl rfl)
theorem dJ7_init_23 : decode cJ7_init 23 = .ok (.aload_n 0, 1) := dk_42 (dk_at dksJ7_init_0 23 rfl rfl)
theorem dJ7_init_24 : decode cJ7_init 24 = .ok (.invokevirtual 27, 3) := dk_182 0 27 (dk_at dksJ7_init_1 0 rfl rfl)
theorem dJ7_init_27 : decode cJ7_init 27 = .ok (.pop, 1) := dk_87 (dk_at dksJ7_init_1 3 rfl rfl)
theorem dJ7_init_28 : decode cJ7_init 28 = .ok (.aload_n 0, 1) := dk_42 (dk_at dksJ7_init_1 4 rfl rfl)
theorem dJ7_init_29 : decode cJ7_init 29 = .ok (.aload_n 1, 1) := dk_43 (dk_at dksJ7_init_1 5 rfl rfl)
theorem dJ7_init_30 : decode cJ7_init 30 = .ok (.putfield 31, 3) := dk_181 0 31 (dk_at dksJ7_init_1 6 rfl rfl)
theorem dJ7_init_33 : decode cJ7_init 33 = .ok (.return_, 1) := dk_177 (dk_at dksJ7_init_1 9 rfl rfl)
abbrev cJ7_init_2 : ByteArray := prog_48_method_1_code
def yJ7_init_2 : MethodName := ⟨RJ7, "<init>", "()V"⟩
def dkwJ7_init_2_1 : List UInt8 := [182, 0, 27, 87, 177]
abbrev dktJ7_init_2_1 : List UInt8 := dkwJ7_init_2_1 ++ []
def dkwJ7_init_2_0 : List UInt8 := [42, 183, 0, 1, 42, 42, 181, 0, 7, 42, 178, 0, 13, 181, 0, 17, 42, 178, 0, 20, 181, 0, 24, 42]
abbrev dktJ7_init_2_0 : List UInt8 := dkwJ7_init_2_0 ++ dktJ7_init_2_1
theorem dksJ7_init_2_0 : cJ7_init_2.data.toList.drop 0 = dktJ7_init_2_0 := by decide +kernel
theorem dksJ7_init_2_1 : cJ7_init_2.data.toList.drop 24 = dktJ7_init_2_1 := dk_seg dksJ7_init_2_0 24 rfl rfl
theorem dJ7_init_2_0 : decode cJ7_init_2 0 = .ok (.aload_n 0, 1) := dk_42 (dk_at dksJ7_init_2_0 0 rfl rfl)
theorem dJ7_init_2_1 : decode cJ7_init_2 1 = .ok (.invokespecial 1, 3) := dk_183 0 1 (dk_at dksJ7_init_2_0 1 rfl rfl)
theorem dJ7_init_2_4 : decode cJ7_init_2 4 = .ok (.aload_n 0, 1) := dk_42 (dk_at dksJ7_init_2_0 4 rfl rfl)
theorem dJ7_init_2_5 : decode cJ7_init_2 5 = .ok (.aload_n 0, 1) := dk_42 (dk_at dksJ7_init_2_0 5 rfl rfl)
theorem dJ7_init_2_6 : decode cJ7_init_2 6 = .ok (.putfield 7, 3) := dk_181 0 7 (dk_at dksJ7_init_2_0 6 rfl rfl)
theorem dJ7_init_2_9 : decode cJ7_init_2 9 = .ok (.aload_n 0, 1) := dk_42 (dk_at dksJ7_init_2_0 9 rfl rfl)
theorem dJ7_init_2_10 : decode cJ7_init_2 10 = .ok (.getstatic 13, 3) := dk_178 0 13 (dk_at dksJ7_init_2_0 10 rfl rfl)
theorem dJ7_init_2_13 : decode cJ7_init_2 13 = .ok (.putfield 17, 3) := dk_181 0 17 (dk_at dksJ7_init_2_0 13 rfl rfl)
theorem dJ7_init_2_16 : decode cJ7_init_2 16 = .ok (.aload_n 0, 1) := dk_42 (dk_at dksJ7_init_2_0 16 rfl rfl)
theorem dJ7_init_2_17 : decode cJ7_init_2 17 = .ok (.getstatic 20, 3) := dk_178 0 20 (dk_at dksJ7_init_2_0 17 rfl rfl)
theorem dJ7_init_2_20 : decode cJ7_init_2 20 = .ok (.putfield 24, 3) := dk_181 0 24 (dk_at dksJ7_init_2_0 20 rfl rfl)
theorem dJ7_init_2_23 : decode cJ7_init_2 23 = .ok (.aload_n 0, 1) := dk_42 (dk_at dksJ7_init_2_0 23 rfl rfl)
theorem dJ7_init_2_24 : decode cJ7_init_2 24 = .ok (.invokevirtual 27, 3) := dk_182 0 27 (dk_at dksJ7_init_2_1 0 rfl rfl)
theorem dJ7_init_2_27 : decode cJ7_init_2 27 = .ok (.pop, 1) := dk_87 (dk_at dksJ7_init_2_1 3 rfl rfl)
theorem dJ7_init_2_28 : decode cJ7_init_2 28 = .ok (.return_, 1) := dk_177 (dk_at dksJ7_init_2_1 4 rfl rfl)
abbrev cJ7_init_3 : ByteArray := prog_48_method_5_code
def yJ7_init_3 : MethodName := ⟨RJ7, "<init>", "(Ljava/lang/String;Ljava/lang/Throwable;ZZ)V"⟩
def dkwJ7_init_3_2 : List UInt8 := [44, 181, 0, 7, 29, 154, 0, 8, 42, 1, 181, 0, 24, 177]
abbrev dktJ7_init_3_2 : List UInt8 := dkwJ7_init_3_2 ++ []
def dkwJ7_init_3_1 : List UInt8 := [21, 4, 153, 0, 11, 42, 182, 0, 27, 87, 167, 0, 8, 42, 1, 181, 0, 17, 42, 43, 181, 0, 31, 42]
abbrev dktJ7_init_3_1 : List UInt8 := dkwJ7_init_3_1 ++ dktJ7_init_3_2
def dkwJ7_init_3_0 : List UInt8 := [42, 183, 0, 1, 42, 42, 181, 0, 7, 42, 178, 0, 13, 181, 0, 17, 42, 178, 0, 20, 181, 0, 24]
abbrev dktJ7_init_3_0 : List UInt8 := dkwJ7_init_3_0 ++ dktJ7_init_3_1
theorem dksJ7_init_3_0 : cJ7_init_3.data.toList.drop 0 = dktJ7_init_3_0 := by decide +kernel
theorem dksJ7_init_3_1 : cJ7_init_3.data.toList.drop 23 = dktJ7_init_3_1 := dk_seg dksJ7_init_3_0 23 rfl rfl
theorem dksJ7_init_3_2 : cJ7_init_3.data.toList.drop 47 = dktJ7_init_3_2 := dk_seg dksJ7_init_3_1 24 rfl rfl
theorem dJ7_init_3_0 : decode cJ7_init_3 0 = .ok (.aload_n 0, 1) := dk_42 (dk_at dksJ7_init_3_0 0 rfl rfl)
theorem dJ7_init_3_1 : decode cJ7_init_3 1 = .ok (.invokespecial 1, 3) := dk_183 0 1 (dk_at dksJ7_init_3_0 1 rfl rfl)
theorem dJ7_init_3_4 : decode cJ7_init_3 4 = .ok (.aload_n 0, 1) := dk_42 (dk_at dksJ7_init_3_0 4 rfl rfl)
theorem dJ7_init_3_5 : decode cJ7_init_3 5 = .ok (.aload_n 0, 1) := dk_42 (dk_at dksJ7_init_3_0 5 rfl rfl)
theorem dJ7_init_3_6 : decode cJ7_init_3 6 = .ok (.putfield 7, 3) := dk_181 0 7 (dk_at dksJ7_init_3_0 6 rfl rfl)
theorem dJ7_init_3_9 : decode cJ7_init_3 9 = .ok (.aload_n 0, 1) := dk_42 (dk_at dksJ7_init_3_0 9 rfl rfl)
theorem dJ7_init_3_10 : decode cJ7_init_3 10 = .ok (.getstatic 13, 3) := dk_178 0 13 (dk_at dksJ7_init_3_0 10 rfl rfl)
theorem dJ7_init_3_13 : decode cJ7_init_3 13 = .ok (.putfield 17, 3) := dk_181 0 17 (dk_at dksJ7_init_3_0 13 rfl rfl)
theorem dJ7_init_3_16 : decode cJ7_init_3 16 = .ok (.aload_n 0, 1) := dk_42 (dk_at dksJ7_init_3_0 16 rfl rfl)
theorem dJ7_init_3_17 : decode cJ7_init_3 17 = .ok (.getstatic 20, 3) := dk_178 0 20 (dk_at dksJ7_init_3_0 17 rfl rfl)
theorem dJ7_init_3_20 : decode cJ7_init_3 20 = .ok (.putfield 24, 3) := dk_181 0 24 (dk_at dksJ7_init_3_0 20 rfl rfl)
theorem dJ7_init_3_23 : decode cJ7_init_3 23 = .ok (.iload 4, 2) := dk_21 4 (dk_at dksJ7_init_3_1 0 rfl rfl)
theorem dJ7_init_3_25 : decode cJ7_init_3 25 = .ok (.ifCond .eq 11, 3) := dk_153 0 11 (dk_at dksJ7_init_3_1 2 rfl rfl)
theorem dJ7_init_3_28 : decode cJ7_init_3 28 = .ok (.aload_n 0, 1) := dk_42 (dk_at dksJ7_init_3_1 5 rfl rfl)
theorem dJ7_init_3_29 : decode cJ7_init_3 29 = .ok (.invokevirtual 27, 3) := dk_182 0 27 (dk_at dksJ7_init_3_1 6 rfl rfl)
theorem dJ7_init_3_32 : decode cJ7_init_3 32 = .ok (.pop, 1) := dk_87 (dk_at dksJ7_init_3_1 9 rfl rfl)
theorem dJ7_init_3_33 : decode cJ7_init_3 33 = .ok (.goto 8, 3) := dk_167 0 8 (dk_at dksJ7_init_3_1 10 rfl rfl)
theorem dJ7_init_3_36 : decode cJ7_init_3 36 = .ok (.aload_n 0, 1) := dk_42 (dk_at dksJ7_init_3_1 13 rfl rfl)
theorem dJ7_init_3_37 : decode cJ7_init_3 37 = .ok (.aconst_null, 1) := dk_1 (dk_at dksJ7_init_3_1 14 rfl rfl)
theorem dJ7_init_3_38 : decode cJ7_init_3 38 = .ok (.putfield 17, 3) := dk_181 0 17 (dk_at dksJ7_init_3_1 15 rfl rfl)
theorem dJ7_init_3_41 : decode cJ7_init_3 41 = .ok (.aload_n 0, 1) := dk_42 (dk_at dksJ7_init_3_1 18 rfl rfl)
theorem dJ7_init_3_42 : decode cJ7_init_3 42 = .ok (.aload_n 1, 1) := dk_43 (dk_at dksJ7_init_3_1 19 rfl rfl)
theorem dJ7_init_3_43 : decode cJ7_init_3 43 = .ok (.putfield 31, 3) := dk_181 0 31 (dk_at dksJ7_init_3_1 20 rfl rfl)
theorem dJ7_init_3_46 : decode cJ7_init_3 46 = .ok (.aload_n 0, 1) := dk_42 (dk_at dksJ7_init_3_1 23 rfl rfl)
theorem dJ7_init_3_47 : decode cJ7_init_3 47 = .ok (.aload_n 2, 1) := dk_44 (dk_at dksJ7_init_3_2 0 rfl rfl)
theorem dJ7_init_3_48 : decode cJ7_init_3 48 = .ok (.putfield 7, 3) := dk_181 0 7 (dk_at dksJ7_init_3_2 1 rfl rfl)
theorem dJ7_init_3_51 : decode cJ7_init_3 51 = .ok (.iload_n 3, 1) := dk_29 (dk_at dksJ7_init_3_2 4 rfl rfl)
theorem dJ7_init_3_52 : decode cJ7_init_3 52 = .ok (.ifCond .ne 8, 3) := dk_154 0 8 (dk_at dksJ7_init_3_2 5 rfl rfl)
theorem dJ7_init_3_55 : decode cJ7_init_3 55 = .ok (.aload_n 0, 1) := dk_42 (dk_at dksJ7_init_3_2 8 rfl rfl)
theorem dJ7_init_3_56 : decode cJ7_init_3 56 = .ok (.aconst_null, 1) := dk_1 (dk_at dksJ7_init_3_2 9 rfl rfl)
theorem dJ7_init_3_57 : decode cJ7_init_3 57 = .ok (.putfield 24, 3) := dk_181 0 24 (dk_at dksJ7_init_3_2 10 rfl rfl)
theorem dJ7_init_3_60 : decode cJ7_init_3 60 = .ok (.return_, 1) := dk_177 (dk_at dksJ7_init_3_2 13 rfl rfl)
theorem q149 : (Jvm.Cond.initialized "java/lang/Throwable") ∈ lw_all := lw_g (lw_at lw_m1 10 rfl) rfl
theorem q378 : (Jvm.Cond.instanceMethod ({ cls := "java/lang/Throwable", name := "<init>", desc := "(Ljava/lang/String;)V" } : Jvm.MethodName)) ∈ lw_all := lw_g (lw_at lw_m1 239 rfl) rfl
theorem q379 : (Jvm.Cond.code ({ cls := "java/lang/Throwable", name := "<init>", desc := "(Ljava/lang/String;)V" } : Jvm.MethodName) prog_48_method_2_code (2 : Nat) (Option.none : Option Jvm.ClassFile.FieldType)) ∈ lw_all := lw_g (lw_at lw_m2 0 rfl) rfl
theorem q380 : (Jvm.Cond.methodLink "java/lang/Throwable" (1 : Nat) ({ cls := "java/lang/Object", name := "<init>", desc := "()V" } : Jvm.MethodName)) ∈ lw_all := lw_g (lw_at lw_m2 1 rfl) rfl
theorem q381 : (Jvm.Cond.fieldLink "java/lang/Throwable" (13 : Nat) "java/lang/Throwable" "UNASSIGNED_STACK" "[Ljava/lang/StackTraceElement;") ∈ lw_all := lw_g (lw_at lw_m2 2 rfl) rfl
theorem q382 : (Jvm.Cond.laysStatic "java/lang/Throwable" "UNASSIGNED_STACK" "[Ljava/lang/StackTraceElement;") ∈ lw_tbl := lw_at lw_m2 3 rfl
theorem q383 : (Jvm.Cond.fieldLink "java/lang/Throwable" (20 : Nat) "java/lang/Throwable" "SUPPRESSED_SENTINEL" "Ljava/util/List;") ∈ lw_all := lw_g (lw_at lw_m2 4 rfl) rfl
theorem q384 : (Jvm.Cond.laysStatic "java/lang/Throwable" "SUPPRESSED_SENTINEL" "Ljava/util/List;") ∈ lw_tbl := lw_at lw_m2 5 rfl
theorem q385 : (Jvm.Cond.methodLink "java/lang/Throwable" (27 : Nat) ({ cls := "java/lang/Throwable", name := "fillInStackTrace", desc := "()Ljava/lang/Throwable;" } : Jvm.MethodName)) ∈ lw_all := lw_g (lw_at lw_m2 6 rfl) rfl
theorem q386 : (Jvm.Cond.instanceMethod ({ cls := "java/lang/Throwable", name := "fillInStackTrace", desc := "()Ljava/lang/Throwable;" } : Jvm.MethodName)) ∈ lw_all := lw_g (lw_at lw_m2 7 rfl) rfl
theorem q387 : (Jvm.Cond.sameMethod "java/lang/Throwable" "java/lang/Throwable" "fillInStackTrace" "()Ljava/lang/Throwable;") ∈ lw_all := lw_g (lw_at lw_m2 8 rfl) rfl
theorem q395 : (Jvm.Cond.codeSync ({ cls := "java/lang/Throwable", name := "fillInStackTrace", desc := "()Ljava/lang/Throwable;" } : Jvm.MethodName) prog_48_method_18_code (1 : Nat) (Option.some (Jvm.ClassFile.FieldType.object "java/lang/Throwable"))) ∈ lw_all := lw_g (lw_at lw_m2 16 rfl) rfl
theorem q396 : (Jvm.Cond.methodLink "java/lang/Throwable" (202 : Nat) ({ cls := "java/lang/Throwable", name := "fillInStackTrace", desc := "(I)Ljava/lang/Throwable;" } : Jvm.MethodName)) ∈ lw_all := lw_g (lw_at lw_m2 17 rfl) rfl
theorem q397 : (Jvm.Cond.privateMethod ({ cls := "java/lang/Throwable", name := "fillInStackTrace", desc := "(I)Ljava/lang/Throwable;" } : Jvm.MethodName)) ∈ lw_tbl := lw_at lw_m2 18 rfl
theorem q398 : (Jvm.Cond.instanceMethod ({ cls := "java/lang/Throwable", name := "fillInStackTrace", desc := "(I)Ljava/lang/Throwable;" } : Jvm.MethodName)) ∈ lw_all := lw_g (lw_at lw_m2 19 rfl) rfl
theorem q399 : (Jvm.Cond.instantiable "java/lang/Throwable" (6 : Nat)) ∈ lw_all := lw_g (lw_at lw_m2 20 rfl) rfl
theorem q400 : (Jvm.Cond.native ({ cls := "java/lang/Throwable", name := "fillInStackTrace", desc := "(I)Ljava/lang/Throwable;" } : Jvm.MethodName)) ∈ lw_all := lw_g (lw_at lw_m2 21 rfl) rfl
theorem q401 : (Jvm.Cond.fieldLink "java/lang/Throwable" (198 : Nat) "java/lang/Throwable" "backtrace" "Ljava/lang/Object;") ∈ lw_all := lw_g (lw_at lw_m2 22 rfl) rfl
theorem q402 : (Jvm.Cond.fieldLink "java/lang/Throwable" (31 : Nat) "java/lang/Throwable" "detailMessage" "Ljava/lang/String;") ∈ lw_all := lw_g (lw_at lw_m2 23 rfl) rfl
theorem q403 : (Jvm.Cond.fieldLink "java/lang/Throwable" (7 : Nat) "java/lang/Throwable" "cause" "Ljava/lang/Throwable;") ∈ lw_all := lw_g (lw_at lw_m2 24 rfl) rfl
theorem q404 : (Jvm.Cond.fieldLink "java/lang/Throwable" (17 : Nat) "java/lang/Throwable" "stackTrace" "[Ljava/lang/StackTraceElement;") ∈ lw_all := lw_g (lw_at lw_m2 25 rfl) rfl
theorem q405 : (Jvm.Cond.fieldLink "java/lang/Throwable" (24 : Nat) "java/lang/Throwable" "suppressedExceptions" "Ljava/util/List;") ∈ lw_all := lw_g (lw_at lw_m2 26 rfl) rfl
theorem q407 : (Jvm.Cond.soleField "java/lang/Throwable" "backtrace") ∈ lw_all := lw_g (lw_at lw_m2 28 rfl) rfl
theorem q409 : (Jvm.Cond.soleField "java/lang/Throwable" "detailMessage") ∈ lw_all := lw_g (lw_at lw_m2 30 rfl) rfl
theorem q411 : (Jvm.Cond.soleField "java/lang/Throwable" "cause") ∈ lw_all := lw_g (lw_at lw_m2 32 rfl) rfl
theorem q413 : (Jvm.Cond.soleField "java/lang/Throwable" "stackTrace") ∈ lw_all := lw_g (lw_at lw_m2 34 rfl) rfl
theorem q415 : (Jvm.Cond.soleField "java/lang/Throwable" "depth") ∈ lw_all := lw_g (lw_at lw_m2 36 rfl) rfl
theorem q417 : (Jvm.Cond.soleField "java/lang/Throwable" "suppressedExceptions") ∈ lw_all := lw_g (lw_at lw_m2 38 rfl) rfl
theorem q426 : (Jvm.Cond.declares ({ cls := "java/lang/Throwable", name := "<init>", desc := "()V" } : Jvm.MethodName)) ∈ lw_tbl := lw_at lw_m2 47 rfl
theorem q427 : (Jvm.Cond.declares ({ cls := "java/lang/Throwable", name := "<init>", desc := "(Ljava/lang/String;)V" } : Jvm.MethodName)) ∈ lw_tbl := lw_at lw_m2 48 rfl
theorem q429 : (Jvm.Cond.lays "java/lang/Throwable" "java/lang/Throwable" "cause" "Ljava/lang/Throwable;") ∈ lw_all := lw_g (lw_at lw_m2 50 rfl) rfl
theorem q430 : (Jvm.Cond.lays "java/lang/Throwable" "java/lang/Throwable" "stackTrace" "[Ljava/lang/StackTraceElement;") ∈ lw_all := lw_g (lw_at lw_m2 51 rfl) rfl
theorem q431 : (Jvm.Cond.lays "java/lang/Throwable" "java/lang/Throwable" "suppressedExceptions" "Ljava/util/List;") ∈ lw_all := lw_g (lw_at lw_m2 52 rfl) rfl
theorem q432 : (Jvm.Cond.lays "java/lang/Throwable" "java/lang/Throwable" "detailMessage" "Ljava/lang/String;") ∈ lw_all := lw_g (lw_at lw_m2 53 rfl) rfl
theorem q433 : (Jvm.Cond.lays "java/lang/Throwable" "java/lang/Throwable" "backtrace" "Ljava/lang/Object;") ∈ lw_all := lw_g (lw_at lw_m2 54 rfl) rfl
theorem q434 : (Jvm.Cond.fieldLink "java/lang/Throwable" (198 : Nat) "java/lang/Throwable" "backtrace" "Ljava/lang/Object;") ∈ lw_all := lw_g (lw_at lw_m2 55 rfl) rfl
theorem q435 : (Jvm.Cond.superclass "java/lang/Throwable" "java/lang/Object") ∈ lw_all := lw_g (lw_at lw_m2 56 rfl) rfl
theorem q436 : (Jvm.Cond.instanceMethod ({ cls := "java/lang/Throwable", name := "<init>", desc := "()V" } : Jvm.MethodName)) ∈ lw_all := lw_g (lw_at lw_m2 57 rfl) rfl
theorem q437 : (Jvm.Cond.code ({ cls := "java/lang/Throwable", name := "<init>", desc := "()V" } : Jvm.MethodName) prog_48_method_1_code (1 : Nat) (Option.none : Option Jvm.ClassFile.FieldType)) ∈ lw_all := lw_g (lw_at lw_m2 58 rfl) rfl
theorem q1277 : (Jvm.Cond.instanceMethod ({ cls := "java/lang/Throwable", name := "<init>", desc := "(Ljava/lang/String;Ljava/lang/Throwable;ZZ)V" } : Jvm.MethodName)) ∈ lw_all := lw_g (lw_at lw_m5 178 rfl) rfl
theorem q1278 : (Jvm.Cond.code ({ cls := "java/lang/Throwable", name := "<init>", desc := "(Ljava/lang/String;Ljava/lang/Throwable;ZZ)V" } : Jvm.MethodName) prog_48_method_5_code (5 : Nat) (Option.none : Option Jvm.ClassFile.FieldType)) ∈ lw_all := lw_g (lw_at lw_m5 179 rfl) rfl
theorem q3457 : (Jvm.Cond.sameMethod "java/lang/Throwable" "java/lang/Throwable" "fillInStackTrace" "(I)Ljava/lang/Throwable;") ∈ lw_all := lw_g (lw_at lw_m14 198 rfl) rfl
theorem q3516 : (Jvm.Cond.castable "java/lang/Throwable" "java/lang/Object") ∈ lw_tbl := lw_at lw_m15 17 rfl
theorem in_J7 : ∀ w ∈ wsJ70, w ∈ lw_all := lw_in wsJ70 [429, 430, 431, 432, 433] (by decide +kernel) (by decide +kernel)


/-! java/lang/Exception -/
set_option maxRecDepth 100000
def RJ8 : String := "java/lang/Exception"
abbrev cJ8_init : ByteArray := prog_31_method_2_code
def yJ8_init : MethodName := ⟨RJ8, "<init>", "(Ljava/lang/String;)V"⟩
def dkwJ8_init_0 : List UInt8 := [42, 43, 183, 0, 7, 177]
abbrev dktJ8_init_0 : List UInt8 := dkwJ8_init_0 ++ []
theorem dksJ8_init_0 : cJ8_init.data.toList.drop 0 = dktJ8_init_0 := by decide +kernel
theorem dJ8_init_0 : decode cJ8_init 0 = .ok (.aload_n 0, 1) := dk_42 (dk_at dksJ8_init_0 0 rfl rfl)
theorem dJ8_init_1 : decode cJ8_init 1 = .ok (.aload_n 1, 1) := dk_43 (dk_at dksJ8_init_0 1 rfl rfl)
theorem dJ8_init_2 : decode cJ8_init 2 = .ok (.invokespecial 7, 3) := dk_183 0 7 (dk_at dksJ8_init_0 2 rfl rfl)
theorem dJ8_init_5 : decode cJ8_init 5 = .ok (.return_, 1) := dk_177 (dk_at dksJ8_init_0 5 rfl rfl)
abbrev cJ8_init_2 : ByteArray := prog_31_method_1_code
def yJ8_init_2 : MethodName := ⟨RJ8, "<init>", "()V"⟩
theorem dJ8_init_2_0 : decode cJ8_init_2 0 = .ok (.aload_n 0, 1) := by decide +kernel
theorem dJ8_init_2_1 : decode cJ8_init_2 1 = .ok (.invokespecial 1, 3) := by decide +kernel
theorem dJ8_init_2_4 : decode cJ8_init_2 4 = .ok (.return_, 1) := by decide +kernel
abbrev cJ8_init_3 : ByteArray := prog_31_method_5_code
def yJ8_init_3 : MethodName := ⟨RJ8, "<init>", "(Ljava/lang/String;Ljava/lang/Throwable;ZZ)V"⟩
def dkwJ8_init_3_0 : List UInt8 := [42, 43, 44, 29, 21, 4, 183, 0, 16, 177]
abbrev dktJ8_init_3_0 : List UInt8 := dkwJ8_init_3_0 ++ []
theorem dksJ8_init_3_0 : cJ8_init_3.data.toList.drop 0 = dktJ8_init_3_0 := by decide +kernel
theorem dJ8_init_3_0 : decode cJ8_init_3 0 = .ok (.aload_n 0, 1) := dk_42 (dk_at dksJ8_init_3_0 0 rfl rfl)
theorem dJ8_init_3_1 : decode cJ8_init_3 1 = .ok (.aload_n 1, 1) := dk_43 (dk_at dksJ8_init_3_0 1 rfl rfl)
theorem dJ8_init_3_2 : decode cJ8_init_3 2 = .ok (.aload_n 2, 1) := dk_44 (dk_at dksJ8_init_3_0 2 rfl rfl)
theorem dJ8_init_3_3 : decode cJ8_init_3 3 = .ok (.iload_n 3, 1) := dk_29 (dk_at dksJ8_init_3_0 3 rfl rfl)
theorem dJ8_init_3_4 : decode cJ8_init_3 4 = .ok (.iload 4, 2) := dk_21 4 (dk_at dksJ8_init_3_0 4 rfl rfl)
theorem dJ8_init_3_6 : decode cJ8_init_3 6 = .ok (.invokespecial 16, 3) := dk_183 0 16 (dk_at dksJ8_init_3_0 6 rfl rfl)
theorem dJ8_init_3_9 : decode cJ8_init_3 9 = .ok (.return_, 1) := dk_177 (dk_at dksJ8_init_3_0 9 rfl rfl)
theorem q150 : (Jvm.Cond.initialized "java/lang/Exception") ∈ lw_all := lw_g (lw_at lw_m1 11 rfl) rfl
theorem q375 : (Jvm.Cond.instanceMethod ({ cls := "java/lang/Exception", name := "<init>", desc := "(Ljava/lang/String;)V" } : Jvm.MethodName)) ∈ lw_all := lw_g (lw_at lw_m1 236 rfl) rfl
theorem q376 : (Jvm.Cond.code ({ cls := "java/lang/Exception", name := "<init>", desc := "(Ljava/lang/String;)V" } : Jvm.MethodName) prog_31_method_2_code (2 : Nat) (Option.none : Option Jvm.ClassFile.FieldType)) ∈ lw_all := lw_g (lw_at lw_m1 237 rfl) rfl
theorem q377 : (Jvm.Cond.methodLink "java/lang/Exception" (7 : Nat) ({ cls := "java/lang/Throwable", name := "<init>", desc := "(Ljava/lang/String;)V" } : Jvm.MethodName)) ∈ lw_all := lw_g (lw_at lw_m1 238 rfl) rfl
theorem q424 : (Jvm.Cond.declares ({ cls := "java/lang/Exception", name := "<init>", desc := "()V" } : Jvm.MethodName)) ∈ lw_tbl := lw_at lw_m2 45 rfl
theorem q425 : (Jvm.Cond.declares ({ cls := "java/lang/Exception", name := "<init>", desc := "(Ljava/lang/String;)V" } : Jvm.MethodName)) ∈ lw_tbl := lw_at lw_m2 46 rfl
theorem q471 : (Jvm.Cond.instanceMethod ({ cls := "java/lang/Exception", name := "<init>", desc := "()V" } : Jvm.MethodName)) ∈ lw_all := lw_g (lw_at lw_m2 92 rfl) rfl
theorem q472 : (Jvm.Cond.code ({ cls := "java/lang/Exception", name := "<init>", desc := "()V" } : Jvm.MethodName) prog_31_method_1_code (1 : Nat) (Option.none : Option Jvm.ClassFile.FieldType)) ∈ lw_all := lw_g (lw_at lw_m2 93 rfl) rfl
theorem q473 : (Jvm.Cond.methodLink "java/lang/Exception" (1 : Nat) ({ cls := "java/lang/Throwable", name := "<init>", desc := "()V" } : Jvm.MethodName)) ∈ lw_all := lw_g (lw_at lw_m2 94 rfl) rfl
theorem q1274 : (Jvm.Cond.instanceMethod ({ cls := "java/lang/Exception", name := "<init>", desc := "(Ljava/lang/String;Ljava/lang/Throwable;ZZ)V" } : Jvm.MethodName)) ∈ lw_all := lw_g (lw_at lw_m5 175 rfl) rfl
theorem q1275 : (Jvm.Cond.code ({ cls := "java/lang/Exception", name := "<init>", desc := "(Ljava/lang/String;Ljava/lang/Throwable;ZZ)V" } : Jvm.MethodName) prog_31_method_5_code (5 : Nat) (Option.none : Option Jvm.ClassFile.FieldType)) ∈ lw_all := lw_g (lw_at lw_m5 176 rfl) rfl
theorem q1276 : (Jvm.Cond.methodLink "java/lang/Exception" (16 : Nat) ({ cls := "java/lang/Throwable", name := "<init>", desc := "(Ljava/lang/String;Ljava/lang/Throwable;ZZ)V" } : Jvm.MethodName)) ∈ lw_all := lw_g (lw_at lw_m5 177 rfl) rfl


/-! java/lang/RuntimeException -/
set_option maxRecDepth 100000
def RJ9 : String := "java/lang/RuntimeException"
abbrev cJ9_init : ByteArray := prog_40_method_2_code
def yJ9_init : MethodName := ⟨RJ9, "<init>", "(Ljava/lang/String;)V"⟩
def dkwJ9_init_0 : List UInt8 := [42, 43, 183, 0, 7, 177]
abbrev dktJ9_init_0 : List UInt8 := dkwJ9_init_0 ++ []
theorem dksJ9_init_0 : cJ9_init.data.toList.drop 0 = dktJ9_init_0 := by decide +kernel
theorem dJ9_init_0 : decode cJ9_init 0 = .ok (.aload_n 0, 1) := dk_42 (dk_at dksJ9_init_0 0 rfl rfl)
theorem dJ9_init_1 : decode cJ9_init 1 = .ok (.aload_n 1, 1) := dk_43 (dk_at dksJ9_init_0 1 rfl rfl)
theorem dJ9_init_2 : decode cJ9_init 2 = .ok (.invokespecial 7, 3) := dk_183 0 7 (dk_at dksJ9_init_0 2 rfl rfl)
theorem dJ9_init_5 : decode cJ9_init 5 = .ok (.return_, 1) := dk_177 (dk_at dksJ9_init_0 5 rfl rfl)
abbrev cJ9_init_2 : ByteArray := prog_40_method_1_code
def yJ9_init_2 : MethodName := ⟨RJ9, "<init>", "()V"⟩
theorem dJ9_init_2_0 : decode cJ9_init_2 0 = .ok (.aload_n 0, 1) := by decide +kernel
theorem dJ9_init_2_1 : decode cJ9_init_2 1 = .ok (.invokespecial 1, 3) := by decide +kernel
theorem dJ9_init_2_4 : decode cJ9_init_2 4 = .ok (.return_, 1) := by decide +kernel
theorem q151 : (Jvm.Cond.initialized "java/lang/RuntimeException") ∈ lw_all := lw_g (lw_at lw_m1 12 rfl) rfl
theorem q372 : (Jvm.Cond.instanceMethod ({ cls := "java/lang/RuntimeException", name := "<init>", desc := "(Ljava/lang/String;)V" } : Jvm.MethodName)) ∈ lw_all := lw_g (lw_at lw_m1 233 rfl) rfl
theorem q373 : (Jvm.Cond.code ({ cls := "java/lang/RuntimeException", name := "<init>", desc := "(Ljava/lang/String;)V" } : Jvm.MethodName) prog_40_method_2_code (2 : Nat) (Option.none : Option Jvm.ClassFile.FieldType)) ∈ lw_all := lw_g (lw_at lw_m1 234 rfl) rfl
theorem q374 : (Jvm.Cond.methodLink "java/lang/RuntimeException" (7 : Nat) ({ cls := "java/lang/Exception", name := "<init>", desc := "(Ljava/lang/String;)V" } : Jvm.MethodName)) ∈ lw_all := lw_g (lw_at lw_m1 235 rfl) rfl
theorem q422 : (Jvm.Cond.declares ({ cls := "java/lang/RuntimeException", name := "<init>", desc := "()V" } : Jvm.MethodName)) ∈ lw_tbl := lw_at lw_m2 43 rfl
theorem q423 : (Jvm.Cond.declares ({ cls := "java/lang/RuntimeException", name := "<init>", desc := "(Ljava/lang/String;)V" } : Jvm.MethodName)) ∈ lw_tbl := lw_at lw_m2 44 rfl
theorem q468 : (Jvm.Cond.instanceMethod ({ cls := "java/lang/RuntimeException", name := "<init>", desc := "()V" } : Jvm.MethodName)) ∈ lw_all := lw_g (lw_at lw_m2 89 rfl) rfl
theorem q469 : (Jvm.Cond.code ({ cls := "java/lang/RuntimeException", name := "<init>", desc := "()V" } : Jvm.MethodName) prog_40_method_1_code (1 : Nat) (Option.none : Option Jvm.ClassFile.FieldType)) ∈ lw_all := lw_g (lw_at lw_m2 90 rfl) rfl
theorem q470 : (Jvm.Cond.methodLink "java/lang/RuntimeException" (1 : Nat) ({ cls := "java/lang/Exception", name := "<init>", desc := "()V" } : Jvm.MethodName)) ∈ lw_all := lw_g (lw_at lw_m2 91 rfl) rfl


/-! the law's own entry -/
set_option maxRecDepth 100000
abbrev cL_law : ByteArray := code
def dkwL_law_125 : List UInt8 := [21, 6, 133, 148, 153, 0, 5, 3, 172, 167, 0, 3, 132, 4, 7, 167, 243, 194, 4, 172]
abbrev dktL_law_125 : List UInt8 := dkwL_law_125 ++ []
def dkwL_law_124 : List UInt8 := [182, 1, 102, 54, 6, 44, 182, 0, 169, 21, 5, 159, 0, 5, 3, 172, 21, 5, 154, 0, 15, 45, 3, 47]
abbrev dktL_law_124 : List UInt8 := dkwL_law_124 ++ dktL_law_125
def dkwL_law_123 : List UInt8 := [167, 0, 59, 43, 42, 21, 4, 4, 96, 46, 45, 184, 1, 100, 54, 5, 44, 42, 21, 4, 4, 96, 46]
abbrev dktL_law_123 : List UInt8 := dkwL_law_123 ++ dktL_law_124
def dkwL_law_122 : List UInt8 := [159, 0, 5, 3, 172, 21, 5, 154, 0, 15, 45, 3, 47, 21, 6, 133, 148, 153, 0, 5, 3, 172]
abbrev dktL_law_122 : List UInt8 := dkwL_law_122 ++ dktL_law_123
def dkwL_law_121 : List UInt8 := [184, 1, 97, 54, 5, 44, 42, 21, 4, 4, 96, 46, 182, 1, 99, 54, 6, 44, 182, 0, 169, 21, 5]
abbrev dktL_law_121 : List UInt8 := dkwL_law_121 ++ dktL_law_122
def dkwL_law_120 : List UInt8 := [167, 0, 128, 43, 182, 1, 93, 44, 182, 1, 96, 159, 0, 117, 3, 172, 43, 42, 21, 4, 4, 96, 46, 45]
abbrev dktL_law_120 : List UInt8 := dkwL_law_120 ++ dktL_law_121
def dkwL_law_119 : List UInt8 := [159, 0, 5, 3, 172, 21, 5, 154, 0, 15, 45, 3, 47, 21, 6, 133, 148, 153, 0, 5, 3, 172]
abbrev dktL_law_119 : List UInt8 := dkwL_law_119 ++ dktL_law_120
def dkwL_law_118 : List UInt8 := [167, 0, 172, 43, 45, 184, 1, 90, 54, 5, 44, 182, 1, 92, 54, 6, 44, 182, 0, 169, 21, 5]
abbrev dktL_law_118 : List UInt8 := dkwL_law_118 ++ dktL_law_119
def dkwL_law_117 : List UInt8 := [21, 5, 159, 0, 5, 3, 172, 21, 5, 154, 0, 15, 45, 3, 47, 21, 6, 133, 148, 153, 0, 5, 3, 172]
abbrev dktL_law_117 : List UInt8 := dkwL_law_117 ++ dktL_law_118
def dkwL_law_116 : List UInt8 := [46, 45, 184, 1, 87, 54, 5, 44, 42, 21, 4, 4, 96, 46, 182, 1, 89, 54, 6, 44, 182, 0, 169]
abbrev dktL_law_116 : List UInt8 := dkwL_law_116 ++ dktL_law_117
def dkwL_law_115 : List UInt8 := [154, 0, 15, 45, 3, 47, 21, 6, 133, 148, 153, 0, 5, 3, 172, 167, 0, 228, 43, 42, 21, 4, 4, 96]
abbrev dktL_law_115 : List UInt8 := dkwL_law_115 ++ dktL_law_116
def dkwL_law_114 : List UInt8 := [16, 6, 96, 46, 182, 1, 86, 54, 6, 44, 182, 0, 169, 21, 5, 159, 0, 5, 3, 172, 21, 5]
abbrev dktL_law_114 : List UInt8 := dkwL_law_114 ++ dktL_law_115
def dkwL_law_113 : List UInt8 := [5, 96, 46, 42, 21, 4, 6, 96, 46, 42, 21, 4, 7, 96, 46, 42, 21, 4, 8, 96, 46, 42, 21, 4]
abbrev dktL_law_113 : List UInt8 := dkwL_law_113 ++ dktL_law_114
def dkwL_law_112 : List UInt8 := [46, 42, 21, 4, 16, 6, 96, 46, 45, 184, 1, 83, 54, 5, 44, 42, 21, 4, 4, 96, 46, 42, 21, 4]
abbrev dktL_law_112 : List UInt8 := dkwL_law_112 ++ dktL_law_113
def dkwL_law_111 : List UInt8 := [46, 42, 21, 4, 5, 96, 46, 42, 21, 4, 6, 96, 46, 42, 21, 4, 7, 96, 46, 42, 21, 4, 8, 96]
abbrev dktL_law_111 : List UInt8 := dkwL_law_111 ++ dktL_law_112
def dkwL_law_110 : List UInt8 := [154, 0, 15, 45, 3, 47, 21, 6, 133, 148, 153, 0, 5, 3, 172, 167, 1, 90, 43, 42, 21, 4, 4, 96]
abbrev dktL_law_110 : List UInt8 := dkwL_law_110 ++ dktL_law_111
def dkwL_law_109 : List UInt8 := [42, 21, 4, 5, 96, 46, 182, 1, 82, 54, 6, 44, 182, 0, 169, 21, 5, 159, 0, 5, 3, 172, 21, 5]
abbrev dktL_law_109 : List UInt8 := dkwL_law_109 ++ dktL_law_110
def dkwL_law_108 : List UInt8 := [21, 4, 4, 96, 46, 42, 21, 4, 5, 96, 46, 45, 184, 1, 80, 54, 5, 44, 42, 21, 4, 4, 96, 46]
abbrev dktL_law_108 : List UInt8 := dkwL_law_108 ++ dktL_law_109
def dkwL_law_107 : List UInt8 := [172, 21, 5, 154, 0, 15, 45, 3, 47, 21, 6, 133, 148, 153, 0, 5, 3, 172, 167, 1, 158, 43, 42]
abbrev dktL_law_107 : List UInt8 := dkwL_law_107 ++ dktL_law_108
def dkwL_law_106 : List UInt8 := [54, 5, 44, 42, 21, 4, 4, 96, 46, 182, 1, 79, 54, 6, 44, 182, 0, 169, 21, 5, 159, 0, 5, 3]
abbrev dktL_law_106 : List UInt8 := dkwL_law_106 ++ dktL_law_107
def dkwL_law_105 : List UInt8 := [21, 6, 133, 148, 153, 0, 5, 3, 172, 167, 1, 214, 43, 42, 21, 4, 4, 96, 46, 45, 184, 1, 77]
abbrev dktL_law_105 : List UInt8 := dkwL_law_105 ++ dktL_law_106
def dkwL_law_104 : List UInt8 := [182, 1, 76, 54, 6, 44, 182, 0, 169, 21, 5, 159, 0, 5, 3, 172, 21, 5, 154, 0, 15, 45, 3, 47]
abbrev dktL_law_104 : List UInt8 := dkwL_law_104 ++ dktL_law_105
def dkwL_law_103 : List UInt8 := [167, 2, 14, 43, 42, 21, 4, 4, 96, 46, 45, 184, 1, 74, 54, 5, 44, 42, 21, 4, 4, 96, 46]
abbrev dktL_law_103 : List UInt8 := dkwL_law_103 ++ dktL_law_104
def dkwL_law_102 : List UInt8 := [159, 0, 5, 3, 172, 21, 5, 154, 0, 15, 45, 3, 47, 21, 6, 133, 148, 153, 0, 5, 3, 172]
abbrev dktL_law_102 : List UInt8 := dkwL_law_102 ++ dktL_law_103
def dkwL_law_101 : List UInt8 := [184, 1, 71, 54, 5, 44, 42, 21, 4, 4, 96, 46, 182, 1, 73, 54, 6, 44, 182, 0, 169, 21, 5]
abbrev dktL_law_101 : List UInt8 := dkwL_law_101 ++ dktL_law_102
def dkwL_law_100 : List UInt8 := [45, 3, 47, 21, 6, 133, 148, 153, 0, 5, 3, 172, 167, 2, 70, 43, 42, 21, 4, 4, 96, 46, 45]
abbrev dktL_law_100 : List UInt8 := dkwL_law_100 ++ dktL_law_101
def dkwL_law_99 : List UInt8 := [54, 5, 44, 182, 1, 70, 54, 6, 44, 182, 0, 169, 21, 5, 159, 0, 5, 3, 172, 21, 5, 154, 0, 15]
abbrev dktL_law_99 : List UInt8 := dkwL_law_99 ++ dktL_law_100
def dkwL_law_98 : List UInt8 := [154, 0, 15, 45, 3, 47, 21, 6, 133, 148, 153, 0, 5, 3, 172, 167, 2, 114, 43, 45, 184, 1, 68]
abbrev dktL_law_98 : List UInt8 := dkwL_law_98 ++ dktL_law_99
def dkwL_law_97 : List UInt8 := [21, 4, 4, 96, 46, 182, 1, 67, 54, 6, 44, 182, 0, 169, 21, 5, 159, 0, 5, 3, 172, 21, 5]
abbrev dktL_law_97 : List UInt8 := dkwL_law_97 ++ dktL_law_98
def dkwL_law_96 : List UInt8 := [153, 0, 5, 3, 172, 167, 2, 170, 43, 42, 21, 4, 4, 96, 46, 45, 184, 1, 65, 54, 5, 44, 42]
abbrev dktL_law_96 : List UInt8 := dkwL_law_96 ++ dktL_law_97
def dkwL_law_95 : List UInt8 := [182, 0, 169, 21, 5, 159, 0, 5, 3, 172, 21, 5, 154, 0, 15, 45, 3, 47, 21, 6, 133, 148]
abbrev dktL_law_95 : List UInt8 := dkwL_law_95 ++ dktL_law_96
def dkwL_law_94 : List UInt8 := [21, 4, 4, 96, 46, 45, 184, 1, 62, 54, 5, 44, 42, 21, 4, 4, 96, 46, 182, 1, 64, 54, 6, 44]
abbrev dktL_law_94 : List UInt8 := dkwL_law_94 ++ dktL_law_95
def dkwL_law_93 : List UInt8 := [172, 21, 5, 154, 0, 15, 45, 3, 47, 21, 6, 133, 148, 153, 0, 5, 3, 172, 167, 2, 226, 43, 42]
abbrev dktL_law_93 : List UInt8 := dkwL_law_93 ++ dktL_law_94
def dkwL_law_92 : List UInt8 := [54, 5, 44, 42, 21, 4, 4, 96, 46, 182, 1, 61, 54, 6, 44, 182, 0, 169, 21, 5, 159, 0, 5, 3]
abbrev dktL_law_92 : List UInt8 := dkwL_law_92 ++ dktL_law_93
def dkwL_law_91 : List UInt8 := [21, 6, 133, 148, 153, 0, 5, 3, 172, 167, 3, 26, 43, 42, 21, 4, 4, 96, 46, 45, 184, 1, 59]
abbrev dktL_law_91 : List UInt8 := dkwL_law_91 ++ dktL_law_92
def dkwL_law_90 : List UInt8 := [182, 1, 58, 54, 6, 44, 182, 0, 169, 21, 5, 159, 0, 5, 3, 172, 21, 5, 154, 0, 15, 45, 3, 47]
abbrev dktL_law_90 : List UInt8 := dkwL_law_90 ++ dktL_law_91
def dkwL_law_89 : List UInt8 := [167, 3, 82, 43, 42, 21, 4, 4, 96, 46, 45, 184, 1, 56, 54, 5, 44, 42, 21, 4, 4, 96, 46]
abbrev dktL_law_89 : List UInt8 := dkwL_law_89 ++ dktL_law_90
def dkwL_law_88 : List UInt8 := [21, 5, 159, 0, 5, 3, 172, 21, 5, 154, 0, 15, 45, 3, 47, 21, 6, 133, 148, 153, 0, 5, 3, 172]
abbrev dktL_law_88 : List UInt8 := dkwL_law_88 ++ dktL_law_89
def dkwL_law_87 : List UInt8 := [46, 45, 184, 1, 53, 54, 5, 44, 42, 21, 4, 4, 96, 46, 182, 1, 55, 54, 6, 44, 182, 0, 169]
abbrev dktL_law_87 : List UInt8 := dkwL_law_87 ++ dktL_law_88
def dkwL_law_86 : List UInt8 := [154, 0, 15, 45, 3, 47, 21, 6, 133, 148, 153, 0, 5, 3, 172, 167, 3, 138, 43, 42, 21, 4, 4, 96]
abbrev dktL_law_86 : List UInt8 := dkwL_law_86 ++ dktL_law_87
def dkwL_law_85 : List UInt8 := [21, 4, 4, 96, 46, 182, 1, 52, 54, 6, 44, 182, 0, 169, 21, 5, 159, 0, 5, 3, 172, 21, 5]
abbrev dktL_law_85 : List UInt8 := dkwL_law_85 ++ dktL_law_86
def dkwL_law_84 : List UInt8 := [153, 0, 5, 3, 172, 167, 3, 194, 43, 42, 21, 4, 4, 96, 46, 45, 184, 1, 50, 54, 5, 44, 42]
abbrev dktL_law_84 : List UInt8 := dkwL_law_84 ++ dktL_law_85
def dkwL_law_83 : List UInt8 := [182, 0, 169, 21, 5, 159, 0, 5, 3, 172, 21, 5, 154, 0, 15, 45, 3, 47, 21, 6, 133, 148]
abbrev dktL_law_83 : List UInt8 := dkwL_law_83 ++ dktL_law_84
def dkwL_law_82 : List UInt8 := [148, 153, 0, 5, 3, 172, 167, 3, 238, 43, 45, 184, 1, 46, 54, 5, 44, 182, 1, 49, 54, 6, 44]
abbrev dktL_law_82 : List UInt8 := dkwL_law_82 ++ dktL_law_83
def dkwL_law_81 : List UInt8 := [54, 6, 44, 182, 0, 169, 21, 5, 159, 0, 5, 3, 172, 21, 5, 154, 0, 15, 45, 3, 47, 21, 6, 133]
abbrev dktL_law_81 : List UInt8 := dkwL_law_81 ++ dktL_law_82
def dkwL_law_80 : List UInt8 := [46, 45, 184, 1, 43, 54, 5, 44, 42, 21, 4, 4, 96, 46, 42, 21, 4, 5, 96, 46, 182, 1, 45]
abbrev dktL_law_80 : List UInt8 := dkwL_law_80 ++ dktL_law_81
def dkwL_law_79 : List UInt8 := [182, 1, 39, 44, 182, 1, 42, 159, 4, 52, 3, 172, 43, 42, 21, 4, 4, 96, 46, 42, 21, 4, 5, 96]
abbrev dktL_law_79 : List UInt8 := dkwL_law_79 ++ dktL_law_80
def dkwL_law_78 : List UInt8 := [182, 1, 34, 159, 4, 78, 3, 172, 43, 182, 1, 35, 44, 182, 1, 38, 159, 4, 65, 3, 172, 43]
abbrev dktL_law_78 : List UInt8 := dkwL_law_78 ++ dktL_law_79
def dkwL_law_77 : List UInt8 := [154, 0, 15, 45, 3, 47, 21, 6, 133, 148, 153, 0, 5, 3, 172, 167, 4, 89, 43, 182, 1, 31, 44]
abbrev dktL_law_77 : List UInt8 := dkwL_law_77 ++ dktL_law_78
def dkwL_law_76 : List UInt8 := [21, 4, 4, 96, 46, 182, 1, 30, 54, 6, 44, 182, 0, 169, 21, 5, 159, 0, 5, 3, 172, 21, 5]
abbrev dktL_law_76 : List UInt8 := dkwL_law_76 ++ dktL_law_77
def dkwL_law_75 : List UInt8 := [148, 153, 0, 5, 3, 172, 167, 4, 145, 43, 42, 21, 4, 4, 96, 46, 45, 184, 1, 28, 54, 5, 44, 42]
abbrev dktL_law_75 : List UInt8 := dkwL_law_75 ++ dktL_law_76
def dkwL_law_74 : List UInt8 := [54, 6, 44, 182, 0, 169, 21, 5, 159, 0, 5, 3, 172, 21, 5, 154, 0, 15, 45, 3, 47, 21, 6, 133]
abbrev dktL_law_74 : List UInt8 := dkwL_law_74 ++ dktL_law_75
def dkwL_law_73 : List UInt8 := [172, 43, 42, 21, 4, 4, 96, 46, 45, 184, 1, 25, 54, 5, 44, 42, 21, 4, 4, 96, 46, 182, 1, 27]
abbrev dktL_law_73 : List UInt8 := dkwL_law_73 ++ dktL_law_74
def dkwL_law_72 : List UInt8 := [21, 6, 133, 148, 153, 0, 5, 3, 172, 167, 4, 214, 43, 182, 1, 21, 44, 182, 1, 24, 159, 4, 203, 3]
abbrev dktL_law_72 : List UInt8 := dkwL_law_72 ++ dktL_law_73
def dkwL_law_71 : List UInt8 := [182, 1, 20, 54, 6, 44, 182, 0, 169, 21, 5, 159, 0, 5, 3, 172, 21, 5, 154, 0, 15, 45, 3, 47]
abbrev dktL_law_71 : List UInt8 := dkwL_law_71 ++ dktL_law_72
def dkwL_law_70 : List UInt8 := [167, 5, 14, 43, 42, 21, 4, 4, 96, 46, 45, 184, 1, 18, 54, 5, 44, 42, 21, 4, 4, 96, 46]
abbrev dktL_law_70 : List UInt8 := dkwL_law_70 ++ dktL_law_71
def dkwL_law_69 : List UInt8 := [159, 0, 5, 3, 172, 21, 5, 154, 0, 15, 45, 3, 47, 21, 6, 133, 148, 153, 0, 5, 3, 172]
abbrev dktL_law_69 : List UInt8 := dkwL_law_69 ++ dktL_law_70
def dkwL_law_68 : List UInt8 := [46, 42, 21, 4, 5, 96, 46, 42, 21, 4, 6, 96, 46, 182, 1, 17, 54, 6, 44, 182, 0, 169, 21, 5]
abbrev dktL_law_68 : List UInt8 := dkwL_law_68 ++ dktL_law_69
def dkwL_law_67 : List UInt8 := [42, 21, 4, 5, 96, 46, 42, 21, 4, 6, 96, 46, 45, 184, 1, 15, 54, 5, 44, 42, 21, 4, 4, 96]
abbrev dktL_law_67 : List UInt8 := dkwL_law_67 ++ dktL_law_68
def dkwL_law_66 : List UInt8 := [153, 0, 7, 10, 167, 0, 4, 9, 148, 153, 0, 5, 3, 172, 167, 5, 94, 43, 42, 21, 4, 4, 96, 46]
abbrev dktL_law_66 : List UInt8 := dkwL_law_66 ++ dktL_law_67
def dkwL_law_65 : List UInt8 := [54, 6, 44, 182, 0, 169, 21, 5, 159, 0, 5, 3, 172, 21, 5, 154, 0, 22, 45, 3, 47, 21, 6]
abbrev dktL_law_65 : List UInt8 := dkwL_law_65 ++ dktL_law_66
def dkwL_law_64 : List UInt8 := [46, 45, 184, 1, 12, 54, 5, 44, 42, 21, 4, 4, 96, 46, 42, 21, 4, 5, 96, 46, 182, 1, 14]
abbrev dktL_law_64 : List UInt8 := dkwL_law_64 ++ dktL_law_65
def dkwL_law_63 : List UInt8 := [21, 6, 133, 148, 153, 0, 5, 3, 172, 167, 5, 169, 43, 42, 21, 4, 4, 96, 46, 42, 21, 4, 5, 96]
abbrev dktL_law_63 : List UInt8 := dkwL_law_63 ++ dktL_law_64
def dkwL_law_62 : List UInt8 := [182, 1, 11, 54, 6, 44, 182, 0, 169, 21, 5, 159, 0, 5, 3, 172, 21, 5, 154, 0, 15, 45, 3, 47]
abbrev dktL_law_62 : List UInt8 := dkwL_law_62 ++ dktL_law_63
def dkwL_law_61 : List UInt8 := [167, 5, 225, 43, 42, 21, 4, 4, 96, 46, 45, 184, 1, 9, 54, 5, 44, 42, 21, 4, 4, 96, 46]
abbrev dktL_law_61 : List UInt8 := dkwL_law_61 ++ dktL_law_62
def dkwL_law_60 : List UInt8 := [21, 5, 159, 0, 5, 3, 172, 21, 5, 154, 0, 15, 45, 3, 47, 21, 6, 133, 148, 153, 0, 5, 3, 172]
abbrev dktL_law_60 : List UInt8 := dkwL_law_60 ++ dktL_law_61
def dkwL_law_59 : List UInt8 := [46, 45, 184, 1, 6, 54, 5, 44, 42, 21, 4, 4, 96, 46, 182, 1, 8, 54, 6, 44, 182, 0, 169]
abbrev dktL_law_59 : List UInt8 := dkwL_law_59 ++ dktL_law_60
def dkwL_law_58 : List UInt8 := [154, 0, 15, 45, 3, 47, 21, 6, 133, 148, 153, 0, 5, 3, 172, 167, 6, 25, 43, 42, 21, 4, 4, 96]
abbrev dktL_law_58 : List UInt8 := dkwL_law_58 ++ dktL_law_59
def dkwL_law_57 : List UInt8 := [21, 4, 4, 96, 46, 182, 1, 5, 54, 6, 44, 182, 0, 169, 21, 5, 159, 0, 5, 3, 172, 21, 5]
abbrev dktL_law_57 : List UInt8 := dkwL_law_57 ++ dktL_law_58
def dkwL_law_56 : List UInt8 := [153, 0, 5, 3, 172, 167, 6, 81, 43, 42, 21, 4, 4, 96, 46, 45, 184, 1, 3, 54, 5, 44, 42]
abbrev dktL_law_56 : List UInt8 := dkwL_law_56 ++ dktL_law_57
def dkwL_law_55 : List UInt8 := [182, 0, 169, 21, 5, 159, 0, 5, 3, 172, 21, 5, 154, 0, 15, 45, 3, 47, 21, 6, 133, 148]
abbrev dktL_law_55 : List UInt8 := dkwL_law_55 ++ dktL_law_56
def dkwL_law_54 : List UInt8 := [184, 0, 255, 54, 5, 44, 42, 21, 4, 4, 96, 46, 42, 21, 4, 5, 96, 46, 182, 1, 2, 54, 6, 44]
abbrev dktL_law_54 : List UInt8 := dkwL_law_54 ++ dktL_law_55
def dkwL_law_53 : List UInt8 := [148, 153, 0, 5, 3, 172, 167, 6, 149, 43, 42, 21, 4, 4, 96, 46, 42, 21, 4, 5, 96, 46, 45]
abbrev dktL_law_53 : List UInt8 := dkwL_law_53 ++ dktL_law_54
def dkwL_law_52 : List UInt8 := [54, 6, 44, 182, 0, 169, 21, 5, 159, 0, 5, 3, 172, 21, 5, 154, 0, 15, 45, 3, 47, 21, 6, 133]
abbrev dktL_law_52 : List UInt8 := dkwL_law_52 ++ dktL_law_53
def dkwL_law_51 : List UInt8 := [96, 46, 42, 21, 4, 5, 96, 46, 42, 21, 4, 6, 96, 46, 42, 21, 4, 7, 96, 46, 182, 0, 254]
abbrev dktL_law_51 : List UInt8 := dkwL_law_51 ++ dktL_law_52
def dkwL_law_50 : List UInt8 := [46, 42, 21, 4, 6, 96, 46, 42, 21, 4, 7, 96, 46, 45, 184, 0, 251, 54, 5, 44, 42, 21, 4, 4]
abbrev dktL_law_50 : List UInt8 := dkwL_law_50 ++ dktL_law_51
def dkwL_law_49 : List UInt8 := [21, 6, 133, 148, 153, 0, 5, 3, 172, 167, 6, 241, 43, 42, 21, 4, 4, 96, 46, 42, 21, 4, 5, 96]
abbrev dktL_law_49 : List UInt8 := dkwL_law_49 ++ dktL_law_50
def dkwL_law_48 : List UInt8 := [182, 0, 250, 54, 6, 44, 182, 0, 169, 21, 5, 159, 0, 5, 3, 172, 21, 5, 154, 0, 15, 45, 3, 47]
abbrev dktL_law_48 : List UInt8 := dkwL_law_48 ++ dktL_law_49
def dkwL_law_47 : List UInt8 := [184, 0, 248, 54, 5, 44, 42, 21, 4, 4, 96, 46, 42, 21, 4, 5, 96, 46, 42, 21, 4, 6, 96, 46]
abbrev dktL_law_47 : List UInt8 := dkwL_law_47 ++ dktL_law_48
def dkwL_law_46 : List UInt8 := [167, 7, 65, 43, 42, 21, 4, 4, 96, 46, 42, 21, 4, 5, 96, 46, 42, 21, 4, 6, 96, 46, 45]
abbrev dktL_law_46 : List UInt8 := dkwL_law_46 ++ dktL_law_47
def dkwL_law_45 : List UInt8 := [21, 5, 159, 0, 5, 3, 172, 21, 5, 154, 0, 15, 45, 3, 47, 21, 6, 133, 148, 153, 0, 5, 3, 172]
abbrev dktL_law_45 : List UInt8 := dkwL_law_45 ++ dktL_law_46
def dkwL_law_44 : List UInt8 := [46, 45, 184, 0, 245, 54, 5, 44, 42, 21, 4, 4, 96, 46, 182, 0, 247, 54, 6, 44, 182, 0, 169]
abbrev dktL_law_44 : List UInt8 := dkwL_law_44 ++ dktL_law_45
def dkwL_law_43 : List UInt8 := [154, 0, 15, 45, 3, 47, 21, 6, 133, 148, 153, 0, 5, 3, 172, 167, 7, 121, 43, 42, 21, 4, 4, 96]
abbrev dktL_law_43 : List UInt8 := dkwL_law_43 ++ dktL_law_44
def dkwL_law_42 : List UInt8 := [21, 4, 4, 96, 46, 182, 0, 244, 54, 6, 44, 182, 0, 169, 21, 5, 159, 0, 5, 3, 172, 21, 5]
abbrev dktL_law_42 : List UInt8 := dkwL_law_42 ++ dktL_law_43
def dkwL_law_41 : List UInt8 := [153, 0, 5, 3, 172, 167, 7, 177, 43, 42, 21, 4, 4, 96, 46, 45, 184, 0, 242, 54, 5, 44, 42]
abbrev dktL_law_41 : List UInt8 := dkwL_law_41 ++ dktL_law_42
def dkwL_law_40 : List UInt8 := [182, 0, 169, 21, 5, 159, 0, 5, 3, 172, 21, 5, 154, 0, 15, 45, 3, 47, 21, 6, 133, 148]
abbrev dktL_law_40 : List UInt8 := dkwL_law_40 ++ dktL_law_41
def dkwL_law_39 : List UInt8 := [21, 4, 4, 96, 46, 45, 184, 0, 239, 54, 5, 44, 42, 21, 4, 4, 96, 46, 182, 0, 241, 54, 6, 44]
abbrev dktL_law_39 : List UInt8 := dkwL_law_39 ++ dktL_law_40
def dkwL_law_38 : List UInt8 := [172, 21, 5, 154, 0, 15, 45, 3, 47, 21, 6, 133, 148, 153, 0, 5, 3, 172, 167, 7, 233, 43, 42]
abbrev dktL_law_38 : List UInt8 := dkwL_law_38 ++ dktL_law_39
def dkwL_law_37 : List UInt8 := [54, 5, 44, 42, 21, 4, 4, 96, 46, 182, 0, 238, 54, 6, 44, 182, 0, 169, 21, 5, 159, 0, 5, 3]
abbrev dktL_law_37 : List UInt8 := dkwL_law_37 ++ dktL_law_38
def dkwL_law_36 : List UInt8 := [21, 6, 133, 148, 153, 0, 5, 3, 172, 167, 8, 33, 43, 42, 21, 4, 4, 96, 46, 45, 184, 0, 236]
abbrev dktL_law_36 : List UInt8 := dkwL_law_36 ++ dktL_law_37
def dkwL_law_35 : List UInt8 := [182, 0, 235, 54, 6, 44, 182, 0, 169, 21, 5, 159, 0, 5, 3, 172, 21, 5, 154, 0, 15, 45, 3, 47]
abbrev dktL_law_35 : List UInt8 := dkwL_law_35 ++ dktL_law_36
def dkwL_law_34 : List UInt8 := [167, 8, 89, 43, 42, 21, 4, 4, 96, 46, 45, 184, 0, 233, 54, 5, 44, 42, 21, 4, 4, 96, 46]
abbrev dktL_law_34 : List UInt8 := dkwL_law_34 ++ dktL_law_35
def dkwL_law_33 : List UInt8 := [21, 5, 159, 0, 5, 3, 172, 21, 5, 154, 0, 15, 45, 3, 47, 21, 6, 133, 148, 153, 0, 5, 3, 172]
abbrev dktL_law_33 : List UInt8 := dkwL_law_33 ++ dktL_law_34
def dkwL_law_32 : List UInt8 := [46, 45, 184, 0, 230, 54, 5, 44, 42, 21, 4, 4, 96, 46, 182, 0, 232, 54, 6, 44, 182, 0, 169]
abbrev dktL_law_32 : List UInt8 := dkwL_law_32 ++ dktL_law_33
def dkwL_law_31 : List UInt8 := [154, 0, 15, 45, 3, 47, 21, 6, 133, 148, 153, 0, 5, 3, 172, 167, 8, 145, 43, 42, 21, 4, 4, 96]
abbrev dktL_law_31 : List UInt8 := dkwL_law_31 ++ dktL_law_32
def dkwL_law_30 : List UInt8 := [21, 4, 4, 96, 46, 182, 0, 229, 54, 6, 44, 182, 0, 169, 21, 5, 159, 0, 5, 3, 172, 21, 5]
abbrev dktL_law_30 : List UInt8 := dkwL_law_30 ++ dktL_law_31
def dkwL_law_29 : List UInt8 := [153, 0, 5, 3, 172, 167, 8, 201, 43, 42, 21, 4, 4, 96, 46, 45, 184, 0, 227, 54, 5, 44, 42]
abbrev dktL_law_29 : List UInt8 := dkwL_law_29 ++ dktL_law_30
def dkwL_law_28 : List UInt8 := [182, 0, 169, 21, 5, 159, 0, 5, 3, 172, 21, 5, 154, 0, 15, 45, 3, 47, 21, 6, 133, 148]
abbrev dktL_law_28 : List UInt8 := dkwL_law_28 ++ dktL_law_29
def dkwL_law_27 : List UInt8 := [4, 96, 46, 45, 184, 0, 224, 54, 5, 44, 42, 21, 4, 4, 96, 46, 182, 0, 226, 54, 6, 44]
abbrev dktL_law_27 : List UInt8 := dkwL_law_27 ++ dktL_law_28
def dkwL_law_26 : List UInt8 := [21, 5, 154, 0, 15, 45, 3, 47, 21, 6, 133, 148, 153, 0, 5, 3, 172, 167, 9, 1, 43, 42, 21, 4]
abbrev dktL_law_26 : List UInt8 := dkwL_law_26 ++ dktL_law_27
def dkwL_law_25 : List UInt8 := [96, 46, 42, 21, 4, 6, 96, 46, 182, 0, 223, 54, 6, 44, 182, 0, 169, 21, 5, 159, 0, 5, 3, 172]
abbrev dktL_law_25 : List UInt8 := dkwL_law_25 ++ dktL_law_26
def dkwL_law_24 : List UInt8 := [46, 42, 21, 4, 6, 96, 46, 45, 184, 0, 220, 54, 5, 44, 42, 21, 4, 4, 96, 46, 42, 21, 4, 5]
abbrev dktL_law_24 : List UInt8 := dkwL_law_24 ++ dktL_law_25
def dkwL_law_23 : List UInt8 := [21, 6, 133, 148, 153, 0, 5, 3, 172, 167, 9, 81, 43, 42, 21, 4, 4, 96, 46, 42, 21, 4, 5, 96]
abbrev dktL_law_23 : List UInt8 := dkwL_law_23 ++ dktL_law_24
def dkwL_law_22 : List UInt8 := [182, 0, 219, 54, 6, 44, 182, 0, 169, 21, 5, 159, 0, 5, 3, 172, 21, 5, 154, 0, 15, 45, 3, 47]
abbrev dktL_law_22 : List UInt8 := dkwL_law_22 ++ dktL_law_23
def dkwL_law_21 : List UInt8 := [167, 9, 137, 43, 42, 21, 4, 4, 96, 46, 45, 184, 0, 217, 54, 5, 44, 42, 21, 4, 4, 96, 46]
abbrev dktL_law_21 : List UInt8 := dkwL_law_21 ++ dktL_law_22
def dkwL_law_20 : List UInt8 := [21, 5, 159, 0, 5, 3, 172, 21, 5, 154, 0, 15, 45, 3, 47, 21, 6, 133, 148, 153, 0, 5, 3, 172]
abbrev dktL_law_20 : List UInt8 := dkwL_law_20 ++ dktL_law_21
def dkwL_law_19 : List UInt8 := [96, 46, 45, 184, 0, 214, 54, 5, 44, 42, 21, 4, 4, 96, 46, 182, 0, 216, 54, 6, 44, 182, 0, 169]
abbrev dktL_law_19 : List UInt8 := dkwL_law_19 ++ dktL_law_20
def dkwL_law_18 : List UInt8 := [21, 6, 153, 0, 7, 10, 167, 0, 4, 9, 148, 153, 0, 5, 3, 172, 167, 9, 193, 43, 42, 21, 4, 4]
abbrev dktL_law_18 : List UInt8 := dkwL_law_18 ++ dktL_law_19
def dkwL_law_17 : List UInt8 := [182, 0, 213, 54, 6, 44, 182, 0, 169, 21, 5, 159, 0, 5, 3, 172, 21, 5, 154, 0, 22, 45, 3, 47]
abbrev dktL_law_17 : List UInt8 := dkwL_law_17 ++ dktL_law_18
def dkwL_law_16 : List UInt8 := [172, 167, 10, 0, 43, 42, 21, 4, 4, 96, 46, 45, 184, 0, 211, 54, 5, 44, 42, 21, 4, 4, 96, 46]
abbrev dktL_law_16 : List UInt8 := dkwL_law_16 ++ dktL_law_17
def dkwL_law_15 : List UInt8 := [172, 21, 5, 154, 0, 22, 45, 3, 47, 21, 6, 153, 0, 7, 10, 167, 0, 4, 9, 148, 153, 0, 5, 3]
abbrev dktL_law_15 : List UInt8 := dkwL_law_15 ++ dktL_law_16
def dkwL_law_14 : List UInt8 := [54, 5, 44, 42, 21, 4, 4, 96, 46, 182, 0, 210, 54, 6, 44, 182, 0, 169, 21, 5, 159, 0, 5, 3]
abbrev dktL_law_14 : List UInt8 := dkwL_law_14 ++ dktL_law_15
def dkwL_law_13 : List UInt8 := [182, 0, 204, 44, 182, 0, 207, 159, 10, 65, 3, 172, 43, 42, 21, 4, 4, 96, 46, 45, 184, 0, 208]
abbrev dktL_law_13 : List UInt8 := dkwL_law_13 ++ dktL_law_14
def dkwL_law_12 : List UInt8 := [182, 0, 199, 159, 10, 91, 3, 172, 43, 182, 0, 200, 44, 182, 0, 203, 159, 10, 78, 3, 172, 43]
abbrev dktL_law_12 : List UInt8 := dkwL_law_12 ++ dktL_law_13
def dkwL_law_11 : List UInt8 := [159, 10, 117, 3, 172, 43, 182, 0, 192, 44, 182, 0, 195, 159, 10, 104, 3, 172, 43, 182, 0, 196, 44]
abbrev dktL_law_11 : List UInt8 := dkwL_law_11 ++ dktL_law_12
def dkwL_law_10 : List UInt8 := [172, 43, 182, 0, 184, 44, 182, 0, 187, 159, 10, 130, 3, 172, 43, 182, 0, 188, 44, 182, 0, 191]
abbrev dktL_law_10 : List UInt8 := dkwL_law_10 ++ dktL_law_11
def dkwL_law_9 : List UInt8 := [182, 0, 176, 44, 182, 0, 179, 159, 10, 156, 3, 172, 43, 182, 0, 180, 44, 182, 0, 183, 159, 10, 143, 3]
abbrev dktL_law_9 : List UInt8 := dkwL_law_9 ++ dktL_law_10
def dkwL_law_8 : List UInt8 := [148, 153, 0, 5, 3, 172, 167, 10, 180, 43, 182, 0, 172, 44, 182, 0, 175, 159, 10, 169, 3, 172, 43]
abbrev dktL_law_8 : List UInt8 := dkwL_law_8 ++ dktL_law_9
def dkwL_law_7 : List UInt8 := [54, 6, 44, 182, 0, 169, 21, 5, 159, 0, 5, 3, 172, 21, 5, 154, 0, 15, 45, 3, 47, 21, 6, 133]
abbrev dktL_law_7 : List UInt8 := dkwL_law_7 ++ dktL_law_8
def dkwL_law_6 : List UInt8 := [172, 43, 42, 21, 4, 4, 96, 46, 45, 184, 0, 163, 54, 5, 44, 42, 21, 4, 4, 96, 46, 182, 0, 168]
abbrev dktL_law_6 : List UInt8 := dkwL_law_6 ++ dktL_law_7
def dkwL_law_5 : List UInt8 := [21, 4, 6, 96, 46, 42, 21, 4, 7, 96, 46, 42, 21, 4, 8, 96, 46, 182, 0, 162, 159, 10, 238, 3]
abbrev dktL_law_5 : List UInt8 := dkwL_law_5 ++ dktL_law_6
def dkwL_law_4 : List UInt8 := [46, 42, 21, 4, 8, 96, 46, 182, 0, 158, 44, 42, 21, 4, 4, 96, 46, 42, 21, 4, 5, 96, 46, 42]
abbrev dktL_law_4 : List UInt8 := dkwL_law_4 ++ dktL_law_5
def dkwL_law_3 : List UInt8 := [43, 42, 21, 4, 4, 96, 46, 42, 21, 4, 5, 96, 46, 42, 21, 4, 6, 96, 46, 42, 21, 4, 7, 96]
abbrev dktL_law_3 : List UInt8 := dkwL_law_3 ++ dktL_law_4
def dkwL_law_2 : List UInt8 := [170, 0, 0, 0, 0, 0, 12, 42, 0, 0, 0, 0, 0, 0, 0, 57, 0, 0, 0, 248, 0, 0, 1, 65, 0, 0, 1, 121, 0, 0, 1, 134, 0, 0, 1, 147, 0, 0, 1, 160, 0, 0, 1, 173, 0, 0, 1, 186, 0, 0, 1, 199, 0, 0, 1, 212, 0, 0, 1, 225, 0, 0, 1, 238, 0, 0, 2, 45, 0, 0, 2, 108, 0, 0, 2, 164, 0, 0, 2, 220, 0, 0, 3, 44, 0, 0, 3, 100, 0, 0, 3, 156, 0, 0, 3, 212, 0, 0, 4, 12, 0, 0, 4, 68, 0, 0, 4, 124, 0, 0, 4, 180, 0, 0, 4, 236, 0, 0, 5, 60, 0, 0, 5, 152, 0, 0, 5, 220, 0, 0, 6, 20, 0, 0, 6, 76, 0, 0, 6, 132, 0, 0, 6, 207, 0, 0, 7, 31, 0, 0, 7, 87, 0, 0, 7, 100, 0, 0, 7, 156, 0, 0, 7, 212, 0, 0, 7, 225, 0, 0, 7, 238, 0, 0, 7, 251, 0, 0, 8, 63, 0, 0, 8, 107, 0, 0, 8, 163, 0, 0, 8, 219, 0, 0, 9, 19, 0, 0, 9, 75, 0, 0, 9, 131, 0, 0, 9, 187, 0, 0, 9, 231, 0, 0, 10, 31, 0, 0, 10, 87, 0, 0, 10, 143, 0, 0, 10, 211, 0, 0, 11, 73, 0, 0, 11, 129, 0, 0, 11, 173, 0, 0, 11, 186, 0, 0, 11, 242]
abbrev dktL_law_2 : List UInt8 := dkwL_law_2 ++ dktL_law_3
def dkwL_law_1 : List UInt8 := [21, 4, 42, 190, 16, 7, 100, 163, 12, 58, 42, 21, 4, 46, 16, 63, 126]
abbrev dktL_law_1 : List UInt8 := dkwL_law_1 ++ dktL_law_2
def dkwL_law_0 : List UInt8 := [187, 0, 8, 89, 183, 0, 154, 76, 187, 0, 155, 89, 183, 0, 157, 77, 4, 188, 11, 78, 3, 54, 4]
abbrev dktL_law_0 : List UInt8 := dkwL_law_0 ++ dktL_law_1
theorem dksL_law_0 : cL_law.data.toList.drop 0 = dktL_law_0 := by decide +kernel
theorem dksL_law_1 : cL_law.data.toList.drop 23 = dktL_law_1 := dk_seg dksL_law_0 23 rfl rfl
theorem dksL_law_2 : cL_law.data.toList.drop 40 = dktL_law_2 := dk_seg dksL_law_1 17 rfl rfl
theorem dksL_law_3 : cL_law.data.toList.drop 288 = dktL_law_3 := dk_seg dksL_law_2 248 rfl rfl
theorem dksL_law_4 : cL_law.data.toList.drop 312 = dktL_law_4 := dk_seg dksL_law_3 24 rfl rfl
theorem dksL_law_5 : cL_law.data.toList.drop 336 = dktL_law_5 := dk_seg dksL_law_4 24 rfl rfl
theorem dksL_law_6 : cL_law.data.toList.drop 360 = dktL_law_6 := dk_seg dksL_law_5 24 rfl rfl
theorem dksL_law_7 : cL_law.data.toList.drop 384 = dktL_law_7 := dk_seg dksL_law_6 24 rfl rfl
theorem dksL_law_8 : cL_law.data.toList.drop 408 = dktL_law_8 := dk_seg dksL_law_7 24 rfl rfl
theorem dksL_law_9 : cL_law.data.toList.drop 431 = dktL_law_9 := dk_seg dksL_law_8 23 rfl rfl
theorem dksL_law_10 : cL_law.data.toList.drop 455 = dktL_law_10 := dk_seg dksL_law_9 24 rfl rfl
theorem dksL_law_11 : cL_law.data.toList.drop 477 = dktL_law_11 := dk_seg dksL_law_10 22 rfl rfl
theorem dksL_law_12 : cL_law.data.toList.drop 500 = dktL_law_12 := dk_seg dksL_law_11 23 rfl rfl
theorem dksL_law_13 : cL_law.data.toList.drop 522 = dktL_law_13 := dk_seg dksL_law_12 22 rfl rfl
theorem dksL_law_14 : cL_law.data.toList.drop 545 = dktL_law_14 := dk_seg dksL_law_13 23 rfl rfl
theorem dksL_law_15 : cL_law.data.toList.drop 569 = dktL_law_15 := dk_seg dksL_law_14 24 rfl rfl
theorem dksL_law_16 : cL_law.data.toList.drop 593 = dktL_law_16 := dk_seg dksL_law_15 24 rfl rfl
theorem dksL_law_17 : cL_law.data.toList.drop 617 = dktL_law_17 := dk_seg dksL_law_16 24 rfl rfl
theorem dksL_law_18 : cL_law.data.toList.drop 641 = dktL_law_18 := dk_seg dksL_law_17 24 rfl rfl
theorem dksL_law_19 : cL_law.data.toList.drop 665 = dktL_law_19 := dk_seg dksL_law_18 24 rfl rfl
theorem dksL_law_20 : cL_law.data.toList.drop 689 = dktL_law_20 := dk_seg dksL_law_19 24 rfl rfl
theorem dksL_law_21 : cL_law.data.toList.drop 713 = dktL_law_21 := dk_seg dksL_law_20 24 rfl rfl
theorem dksL_law_22 : cL_law.data.toList.drop 736 = dktL_law_22 := dk_seg dksL_law_21 23 rfl rfl
theorem dksL_law_23 : cL_law.data.toList.drop 760 = dktL_law_23 := dk_seg dksL_law_22 24 rfl rfl
theorem dksL_law_24 : cL_law.data.toList.drop 784 = dktL_law_24 := dk_seg dksL_law_23 24 rfl rfl
theorem dksL_law_25 : cL_law.data.toList.drop 808 = dktL_law_25 := dk_seg dksL_law_24 24 rfl rfl
theorem dksL_law_26 : cL_law.data.toList.drop 832 = dktL_law_26 := dk_seg dksL_law_25 24 rfl rfl
theorem dksL_law_27 : cL_law.data.toList.drop 856 = dktL_law_27 := dk_seg dksL_law_26 24 rfl rfl
theorem dksL_law_28 : cL_law.data.toList.drop 878 = dktL_law_28 := dk_seg dksL_law_27 22 rfl rfl
theorem dksL_law_29 : cL_law.data.toList.drop 900 = dktL_law_29 := dk_seg dksL_law_28 22 rfl rfl
theorem dksL_law_30 : cL_law.data.toList.drop 923 = dktL_law_30 := dk_seg dksL_law_29 23 rfl rfl
theorem dksL_law_31 : cL_law.data.toList.drop 946 = dktL_law_31 := dk_seg dksL_law_30 23 rfl rfl
theorem dksL_law_32 : cL_law.data.toList.drop 970 = dktL_law_32 := dk_seg dksL_law_31 24 rfl rfl
theorem dksL_law_33 : cL_law.data.toList.drop 993 = dktL_law_33 := dk_seg dksL_law_32 23 rfl rfl
theorem dksL_law_34 : cL_law.data.toList.drop 1017 = dktL_law_34 := dk_seg dksL_law_33 24 rfl rfl
theorem dksL_law_35 : cL_law.data.toList.drop 1040 = dktL_law_35 := dk_seg dksL_law_34 23 rfl rfl
theorem dksL_law_36 : cL_law.data.toList.drop 1064 = dktL_law_36 := dk_seg dksL_law_35 24 rfl rfl
theorem dksL_law_37 : cL_law.data.toList.drop 1087 = dktL_law_37 := dk_seg dksL_law_36 23 rfl rfl
theorem dksL_law_38 : cL_law.data.toList.drop 1111 = dktL_law_38 := dk_seg dksL_law_37 24 rfl rfl
theorem dksL_law_39 : cL_law.data.toList.drop 1134 = dktL_law_39 := dk_seg dksL_law_38 23 rfl rfl
theorem dksL_law_40 : cL_law.data.toList.drop 1158 = dktL_law_40 := dk_seg dksL_law_39 24 rfl rfl
theorem dksL_law_41 : cL_law.data.toList.drop 1180 = dktL_law_41 := dk_seg dksL_law_40 22 rfl rfl
theorem dksL_law_42 : cL_law.data.toList.drop 1203 = dktL_law_42 := dk_seg dksL_law_41 23 rfl rfl
theorem dksL_law_43 : cL_law.data.toList.drop 1226 = dktL_law_43 := dk_seg dksL_law_42 23 rfl rfl
theorem dksL_law_44 : cL_law.data.toList.drop 1250 = dktL_law_44 := dk_seg dksL_law_43 24 rfl rfl
theorem dksL_law_45 : cL_law.data.toList.drop 1273 = dktL_law_45 := dk_seg dksL_law_44 23 rfl rfl
theorem dksL_law_46 : cL_law.data.toList.drop 1297 = dktL_law_46 := dk_seg dksL_law_45 24 rfl rfl
theorem dksL_law_47 : cL_law.data.toList.drop 1320 = dktL_law_47 := dk_seg dksL_law_46 23 rfl rfl
theorem dksL_law_48 : cL_law.data.toList.drop 1344 = dktL_law_48 := dk_seg dksL_law_47 24 rfl rfl
theorem dksL_law_49 : cL_law.data.toList.drop 1368 = dktL_law_49 := dk_seg dksL_law_48 24 rfl rfl
theorem dksL_law_50 : cL_law.data.toList.drop 1392 = dktL_law_50 := dk_seg dksL_law_49 24 rfl rfl
theorem dksL_law_51 : cL_law.data.toList.drop 1416 = dktL_law_51 := dk_seg dksL_law_50 24 rfl rfl
theorem dksL_law_52 : cL_law.data.toList.drop 1439 = dktL_law_52 := dk_seg dksL_law_51 23 rfl rfl
theorem dksL_law_53 : cL_law.data.toList.drop 1463 = dktL_law_53 := dk_seg dksL_law_52 24 rfl rfl
theorem dksL_law_54 : cL_law.data.toList.drop 1486 = dktL_law_54 := dk_seg dksL_law_53 23 rfl rfl
theorem dksL_law_55 : cL_law.data.toList.drop 1510 = dktL_law_55 := dk_seg dksL_law_54 24 rfl rfl
theorem dksL_law_56 : cL_law.data.toList.drop 1532 = dktL_law_56 := dk_seg dksL_law_55 22 rfl rfl
theorem dksL_law_57 : cL_law.data.toList.drop 1555 = dktL_law_57 := dk_seg dksL_law_56 23 rfl rfl
theorem dksL_law_58 : cL_law.data.toList.drop 1578 = dktL_law_58 := dk_seg dksL_law_57 23 rfl rfl
theorem dksL_law_59 : cL_law.data.toList.drop 1602 = dktL_law_59 := dk_seg dksL_law_58 24 rfl rfl
theorem dksL_law_60 : cL_law.data.toList.drop 1625 = dktL_law_60 := dk_seg dksL_law_59 23 rfl rfl
theorem dksL_law_61 : cL_law.data.toList.drop 1649 = dktL_law_61 := dk_seg dksL_law_60 24 rfl rfl
theorem dksL_law_62 : cL_law.data.toList.drop 1672 = dktL_law_62 := dk_seg dksL_law_61 23 rfl rfl
theorem dksL_law_63 : cL_law.data.toList.drop 1696 = dktL_law_63 := dk_seg dksL_law_62 24 rfl rfl
theorem dksL_law_64 : cL_law.data.toList.drop 1720 = dktL_law_64 := dk_seg dksL_law_63 24 rfl rfl
theorem dksL_law_65 : cL_law.data.toList.drop 1743 = dktL_law_65 := dk_seg dksL_law_64 23 rfl rfl
theorem dksL_law_66 : cL_law.data.toList.drop 1766 = dktL_law_66 := dk_seg dksL_law_65 23 rfl rfl
theorem dksL_law_67 : cL_law.data.toList.drop 1790 = dktL_law_67 := dk_seg dksL_law_66 24 rfl rfl
theorem dksL_law_68 : cL_law.data.toList.drop 1814 = dktL_law_68 := dk_seg dksL_law_67 24 rfl rfl
theorem dksL_law_69 : cL_law.data.toList.drop 1838 = dktL_law_69 := dk_seg dksL_law_68 24 rfl rfl
theorem dksL_law_70 : cL_law.data.toList.drop 1860 = dktL_law_70 := dk_seg dksL_law_69 22 rfl rfl
theorem dksL_law_71 : cL_law.data.toList.drop 1883 = dktL_law_71 := dk_seg dksL_law_70 23 rfl rfl
theorem dksL_law_72 : cL_law.data.toList.drop 1907 = dktL_law_72 := dk_seg dksL_law_71 24 rfl rfl
theorem dksL_law_73 : cL_law.data.toList.drop 1931 = dktL_law_73 := dk_seg dksL_law_72 24 rfl rfl
theorem dksL_law_74 : cL_law.data.toList.drop 1955 = dktL_law_74 := dk_seg dksL_law_73 24 rfl rfl
theorem dksL_law_75 : cL_law.data.toList.drop 1979 = dktL_law_75 := dk_seg dksL_law_74 24 rfl rfl
theorem dksL_law_76 : cL_law.data.toList.drop 2003 = dktL_law_76 := dk_seg dksL_law_75 24 rfl rfl
theorem dksL_law_77 : cL_law.data.toList.drop 2026 = dktL_law_77 := dk_seg dksL_law_76 23 rfl rfl
theorem dksL_law_78 : cL_law.data.toList.drop 2049 = dktL_law_78 := dk_seg dksL_law_77 23 rfl rfl
theorem dksL_law_79 : cL_law.data.toList.drop 2071 = dktL_law_79 := dk_seg dksL_law_78 22 rfl rfl
theorem dksL_law_80 : cL_law.data.toList.drop 2095 = dktL_law_80 := dk_seg dksL_law_79 24 rfl rfl
theorem dksL_law_81 : cL_law.data.toList.drop 2118 = dktL_law_81 := dk_seg dksL_law_80 23 rfl rfl
theorem dksL_law_82 : cL_law.data.toList.drop 2142 = dktL_law_82 := dk_seg dksL_law_81 24 rfl rfl
theorem dksL_law_83 : cL_law.data.toList.drop 2165 = dktL_law_83 := dk_seg dksL_law_82 23 rfl rfl
theorem dksL_law_84 : cL_law.data.toList.drop 2187 = dktL_law_84 := dk_seg dksL_law_83 22 rfl rfl
theorem dksL_law_85 : cL_law.data.toList.drop 2210 = dktL_law_85 := dk_seg dksL_law_84 23 rfl rfl
theorem dksL_law_86 : cL_law.data.toList.drop 2233 = dktL_law_86 := dk_seg dksL_law_85 23 rfl rfl
theorem dksL_law_87 : cL_law.data.toList.drop 2257 = dktL_law_87 := dk_seg dksL_law_86 24 rfl rfl
theorem dksL_law_88 : cL_law.data.toList.drop 2280 = dktL_law_88 := dk_seg dksL_law_87 23 rfl rfl
theorem dksL_law_89 : cL_law.data.toList.drop 2304 = dktL_law_89 := dk_seg dksL_law_88 24 rfl rfl
theorem dksL_law_90 : cL_law.data.toList.drop 2327 = dktL_law_90 := dk_seg dksL_law_89 23 rfl rfl
theorem dksL_law_91 : cL_law.data.toList.drop 2351 = dktL_law_91 := dk_seg dksL_law_90 24 rfl rfl
theorem dksL_law_92 : cL_law.data.toList.drop 2374 = dktL_law_92 := dk_seg dksL_law_91 23 rfl rfl
theorem dksL_law_93 : cL_law.data.toList.drop 2398 = dktL_law_93 := dk_seg dksL_law_92 24 rfl rfl
theorem dksL_law_94 : cL_law.data.toList.drop 2421 = dktL_law_94 := dk_seg dksL_law_93 23 rfl rfl
theorem dksL_law_95 : cL_law.data.toList.drop 2445 = dktL_law_95 := dk_seg dksL_law_94 24 rfl rfl
theorem dksL_law_96 : cL_law.data.toList.drop 2467 = dktL_law_96 := dk_seg dksL_law_95 22 rfl rfl
theorem dksL_law_97 : cL_law.data.toList.drop 2490 = dktL_law_97 := dk_seg dksL_law_96 23 rfl rfl
theorem dksL_law_98 : cL_law.data.toList.drop 2513 = dktL_law_98 := dk_seg dksL_law_97 23 rfl rfl
theorem dksL_law_99 : cL_law.data.toList.drop 2536 = dktL_law_99 := dk_seg dksL_law_98 23 rfl rfl
theorem dksL_law_100 : cL_law.data.toList.drop 2560 = dktL_law_100 := dk_seg dksL_law_99 24 rfl rfl
theorem dksL_law_101 : cL_law.data.toList.drop 2583 = dktL_law_101 := dk_seg dksL_law_100 23 rfl rfl
theorem dksL_law_102 : cL_law.data.toList.drop 2606 = dktL_law_102 := dk_seg dksL_law_101 23 rfl rfl
theorem dksL_law_103 : cL_law.data.toList.drop 2628 = dktL_law_103 := dk_seg dksL_law_102 22 rfl rfl
theorem dksL_law_104 : cL_law.data.toList.drop 2651 = dktL_law_104 := dk_seg dksL_law_103 23 rfl rfl
theorem dksL_law_105 : cL_law.data.toList.drop 2675 = dktL_law_105 := dk_seg dksL_law_104 24 rfl rfl
theorem dksL_law_106 : cL_law.data.toList.drop 2698 = dktL_law_106 := dk_seg dksL_law_105 23 rfl rfl
theorem dksL_law_107 : cL_law.data.toList.drop 2722 = dktL_law_107 := dk_seg dksL_law_106 24 rfl rfl
theorem dksL_law_108 : cL_law.data.toList.drop 2745 = dktL_law_108 := dk_seg dksL_law_107 23 rfl rfl
theorem dksL_law_109 : cL_law.data.toList.drop 2769 = dktL_law_109 := dk_seg dksL_law_108 24 rfl rfl
theorem dksL_law_110 : cL_law.data.toList.drop 2793 = dktL_law_110 := dk_seg dksL_law_109 24 rfl rfl
theorem dksL_law_111 : cL_law.data.toList.drop 2817 = dktL_law_111 := dk_seg dksL_law_110 24 rfl rfl
theorem dksL_law_112 : cL_law.data.toList.drop 2841 = dktL_law_112 := dk_seg dksL_law_111 24 rfl rfl
theorem dksL_law_113 : cL_law.data.toList.drop 2865 = dktL_law_113 := dk_seg dksL_law_112 24 rfl rfl
theorem dksL_law_114 : cL_law.data.toList.drop 2889 = dktL_law_114 := dk_seg dksL_law_113 24 rfl rfl
theorem dksL_law_115 : cL_law.data.toList.drop 2911 = dktL_law_115 := dk_seg dksL_law_114 22 rfl rfl
theorem dksL_law_116 : cL_law.data.toList.drop 2935 = dktL_law_116 := dk_seg dksL_law_115 24 rfl rfl
theorem dksL_law_117 : cL_law.data.toList.drop 2958 = dktL_law_117 := dk_seg dksL_law_116 23 rfl rfl
theorem dksL_law_118 : cL_law.data.toList.drop 2982 = dktL_law_118 := dk_seg dksL_law_117 24 rfl rfl
theorem dksL_law_119 : cL_law.data.toList.drop 3004 = dktL_law_119 := dk_seg dksL_law_118 22 rfl rfl
theorem dksL_law_120 : cL_law.data.toList.drop 3026 = dktL_law_120 := dk_seg dksL_law_119 22 rfl rfl
theorem dksL_law_121 : cL_law.data.toList.drop 3050 = dktL_law_121 := dk_seg dksL_law_120 24 rfl rfl
theorem dksL_law_122 : cL_law.data.toList.drop 3073 = dktL_law_122 := dk_seg dksL_law_121 23 rfl rfl
theorem dksL_law_123 : cL_law.data.toList.drop 3095 = dktL_law_123 := dk_seg dksL_law_122 22 rfl rfl
theorem dksL_law_124 : cL_law.data.toList.drop 3118 = dktL_law_124 := dk_seg dksL_law_123 23 rfl rfl
theorem dksL_law_125 : cL_law.data.toList.drop 3142 = dktL_law_125 := dk_seg dksL_law_124 24 rfl rfl
theorem dL_law_0 : decode cL_law 0 = .ok (.new 8, 3) := dk_187 0 8 (dk_at dksL_law_0 0 rfl rfl)
theorem dL_law_3 : decode cL_law 3 = .ok (.dup, 1) := dk_89 (dk_at dksL_law_0 3 rfl rfl)
theorem dL_law_4 : decode cL_law 4 = .ok (.invokespecial 154, 3) := dk_183 0 154 (dk_at dksL_law_0 4 rfl rfl)
theorem dL_law_7 : decode cL_law 7 = .ok (.astore_n 1, 1) := dk_76 (dk_at dksL_law_0 7 rfl rfl)
theorem dL_law_8 : decode cL_law 8 = .ok (.new 155, 3) := dk_187 0 155 (dk_at dksL_law_0 8 rfl rfl)
theorem dL_law_11 : decode cL_law 11 = .ok (.dup, 1) := dk_89 (dk_at dksL_law_0 11 rfl rfl)
theorem dL_law_12 : decode cL_law 12 = .ok (.invokespecial 157, 3) := dk_183 0 157 (dk_at dksL_law_0 12 rfl rfl)
theorem dL_law_15 : decode cL_law 15 = .ok (.astore_n 2, 1) := dk_77 (dk_at dksL_law_0 15 rfl rfl)
theorem dL_law_16 : decode cL_law 16 = .ok (.iconst 1, 1) := dk_4 (dk_at dksL_law_0 16 rfl rfl)
theorem dL_law_17 : decode cL_law 17 = .ok (.newarray .long, 2) := dk_188_11 (dk_at dksL_law_0 17 rfl rfl)
theorem dL_law_19 : decode cL_law 19 = .ok (.astore_n 3, 1) := dk_78 (dk_at dksL_law_0 19 rfl rfl)
theorem dL_law_20 : decode cL_law 20 = .ok (.iconst 0, 1) := dk_3 (dk_at dksL_law_0 20 rfl rfl)
theorem dL_law_21 : decode cL_law 21 = .ok (.istore 4, 2) := dk_54 4 (dk_at dksL_law_0 21 rfl rfl)
theorem dL_law_23 : decode cL_law 23 = .ok (.iload 4, 2) := dk_21 4 (dk_at dksL_law_1 0 rfl rfl)
theorem dL_law_25 : decode cL_law 25 = .ok (.aload_n 0, 1) := dk_42 (dk_at dksL_law_1 2 rfl rfl)
theorem dL_law_26 : decode cL_law 26 = .ok (.arraylength, 1) := dk_190 (dk_at dksL_law_1 3 rfl rfl)
theorem dL_law_27 : decode cL_law 27 = .ok (.bipush 7, 2) := dk_16 7 (dk_at dksL_law_1 4 rfl rfl)
theorem dL_law_29 : decode cL_law 29 = .ok (.isub, 1) := dk_100 (dk_at dksL_law_1 6 rfl rfl)
theorem dL_law_30 : decode cL_law 30 = .ok (.if_icmp .gt 3130, 3) := dk_163 12 58 (dk_at dksL_law_1 7 rfl rfl)
theorem dL_law_33 : decode cL_law 33 = .ok (.aload_n 0, 1) := dk_42 (dk_at dksL_law_1 10 rfl rfl)
theorem dL_law_34 : decode cL_law 34 = .ok (.iload 4, 2) := dk_21 4 (dk_at dksL_law_1 11 rfl rfl)
theorem dL_law_36 : decode cL_law 36 = .ok (.iaload, 1) := dk_46 (dk_at dksL_law_1 13 rfl rfl)
theorem dL_law_37 : decode cL_law 37 = .ok (.bipush 63, 2) := dk_16 63 (dk_at dksL_law_1 14 rfl rfl)
theorem dL_law_39 : decode cL_law 39 = .ok (.iand, 1) := dk_126 (dk_at dksL_law_1 16 rfl rfl)
theorem dL_law_40 : decode cL_law 40 = .ok (.tableswitch 3114 0 57 #[248, 321, 377, 390, 403, 416, 429, 442, 455, 468, 481, 494, 557, 620, 676, 732, 812, 868, 924, 980, 1036, 1092, 1148, 1204, 1260, 1340, 1432, 1500, 1556, 1612, 1668, 1743, 1823, 1879, 1892, 1948, 2004, 2017, 2030, 2043, 2111, 2155, 2211, 2267, 2323, 2379, 2435, 2491, 2535, 2591, 2647, 2703, 2771, 2889, 2945, 2989, 3002, 3058], 248) := by decide +kernel
theorem dL_law_288 : decode cL_law 288 = .ok (.aload_n 1, 1) := dk_43 (dk_at dksL_law_3 0 rfl rfl)
theorem dL_law_289 : decode cL_law 289 = .ok (.aload_n 0, 1) := dk_42 (dk_at dksL_law_3 1 rfl rfl)
theorem dL_law_290 : decode cL_law 290 = .ok (.iload 4, 2) := dk_21 4 (dk_at dksL_law_3 2 rfl rfl)
theorem dL_law_292 : decode cL_law 292 = .ok (.iconst 1, 1) := dk_4 (dk_at dksL_law_3 4 rfl rfl)
theorem dL_law_293 : decode cL_law 293 = .ok (.iadd, 1) := dk_96 (dk_at dksL_law_3 5 rfl rfl)
theorem dL_law_294 : decode cL_law 294 = .ok (.iaload, 1) := dk_46 (dk_at dksL_law_3 6 rfl rfl)
theorem dL_law_295 : decode cL_law 295 = .ok (.aload_n 0, 1) := dk_42 (dk_at dksL_law_3 7 rfl rfl)
theorem dL_law_296 : decode cL_law 296 = .ok (.iload 4, 2) := dk_21 4 (dk_at dksL_law_3 8 rfl rfl)
theorem dL_law_298 : decode cL_law 298 = .ok (.iconst 2, 1) := dk_5 (dk_at dksL_law_3 10 rfl rfl)
theorem dL_law_299 : decode cL_law 299 = .ok (.iadd, 1) := dk_96 (dk_at dksL_law_3 11 rfl rfl)
theorem dL_law_300 : decode cL_law 300 = .ok (.iaload, 1) := dk_46 (dk_at dksL_law_3 12 rfl rfl)
theorem dL_law_301 : decode cL_law 301 = .ok (.aload_n 0, 1) := dk_42 (dk_at dksL_law_3 13 rfl rfl)
theorem dL_law_302 : decode cL_law 302 = .ok (.iload 4, 2) := dk_21 4 (dk_at dksL_law_3 14 rfl rfl)
theorem dL_law_304 : decode cL_law 304 = .ok (.iconst 3, 1) := dk_6 (dk_at dksL_law_3 16 rfl rfl)
theorem dL_law_305 : decode cL_law 305 = .ok (.iadd, 1) := dk_96 (dk_at dksL_law_3 17 rfl rfl)
theorem dL_law_306 : decode cL_law 306 = .ok (.iaload, 1) := dk_46 (dk_at dksL_law_3 18 rfl rfl)
theorem dL_law_307 : decode cL_law 307 = .ok (.aload_n 0, 1) := dk_42 (dk_at dksL_law_3 19 rfl rfl)
theorem dL_law_308 : decode cL_law 308 = .ok (.iload 4, 2) := dk_21 4 (dk_at dksL_law_3 20 rfl rfl)
theorem dL_law_310 : decode cL_law 310 = .ok (.iconst 4, 1) := dk_7 (dk_at dksL_law_3 22 rfl rfl)
theorem dL_law_311 : decode cL_law 311 = .ok (.iadd, 1) := dk_96 (dk_at dksL_law_3 23 rfl rfl)
theorem dL_law_312 : decode cL_law 312 = .ok (.iaload, 1) := dk_46 (dk_at dksL_law_4 0 rfl rfl)
theorem dL_law_313 : decode cL_law 313 = .ok (.aload_n 0, 1) := dk_42 (dk_at dksL_law_4 1 rfl rfl)
theorem dL_law_314 : decode cL_law 314 = .ok (.iload 4, 2) := dk_21 4 (dk_at dksL_law_4 2 rfl rfl)
theorem dL_law_316 : decode cL_law 316 = .ok (.iconst 5, 1) := dk_8 (dk_at dksL_law_4 4 rfl rfl)
theorem dL_law_317 : decode cL_law 317 = .ok (.iadd, 1) := dk_96 (dk_at dksL_law_4 5 rfl rfl)
theorem dL_law_318 : decode cL_law 318 = .ok (.iaload, 1) := dk_46 (dk_at dksL_law_4 6 rfl rfl)
theorem dL_law_319 : decode cL_law 319 = .ok (.invokevirtual 158, 3) := dk_182 0 158 (dk_at dksL_law_4 7 rfl rfl)
theorem dL_law_322 : decode cL_law 322 = .ok (.aload_n 2, 1) := dk_44 (dk_at dksL_law_4 10 rfl rfl)
theorem dL_law_323 : decode cL_law 323 = .ok (.aload_n 0, 1) := dk_42 (dk_at dksL_law_4 11 rfl rfl)
theorem dL_law_324 : decode cL_law 324 = .ok (.iload 4, 2) := dk_21 4 (dk_at dksL_law_4 12 rfl rfl)
theorem dL_law_326 : decode cL_law 326 = .ok (.iconst 1, 1) := dk_4 (dk_at dksL_law_4 14 rfl rfl)
theorem dL_law_327 : decode cL_law 327 = .ok (.iadd, 1) := dk_96 (dk_at dksL_law_4 15 rfl rfl)
theorem dL_law_328 : decode cL_law 328 = .ok (.iaload, 1) := dk_46 (dk_at dksL_law_4 16 rfl rfl)
theorem dL_law_329 : decode cL_law 329 = .ok (.aload_n 0, 1) := dk_42 (dk_at dksL_law_4 17 rfl rfl)
theorem dL_law_330 : decode cL_law 330 = .ok (.iload 4, 2) := dk_21 4 (dk_at dksL_law_4 18 rfl rfl)
theorem dL_law_332 : decode cL_law 332 = .ok (.iconst 2, 1) := dk_5 (dk_at dksL_law_4 20 rfl rfl)
theorem dL_law_333 : decode cL_law 333 = .ok (.iadd, 1) := dk_96 (dk_at dksL_law_4 21 rfl rfl)
theorem dL_law_334 : decode cL_law 334 = .ok (.iaload, 1) := dk_46 (dk_at dksL_law_4 22 rfl rfl)
theorem dL_law_335 : decode cL_law 335 = .ok (.aload_n 0, 1) := dk_42 (dk_at dksL_law_4 23 rfl rfl)
theorem dL_law_336 : decode cL_law 336 = .ok (.iload 4, 2) := dk_21 4 (dk_at dksL_law_5 0 rfl rfl)
theorem dL_law_338 : decode cL_law 338 = .ok (.iconst 3, 1) := dk_6 (dk_at dksL_law_5 2 rfl rfl)
theorem dL_law_339 : decode cL_law 339 = .ok (.iadd, 1) := dk_96 (dk_at dksL_law_5 3 rfl rfl)
theorem dL_law_340 : decode cL_law 340 = .ok (.iaload, 1) := dk_46 (dk_at dksL_law_5 4 rfl rfl)
theorem dL_law_341 : decode cL_law 341 = .ok (.aload_n 0, 1) := dk_42 (dk_at dksL_law_5 5 rfl rfl)
theorem dL_law_342 : decode cL_law 342 = .ok (.iload 4, 2) := dk_21 4 (dk_at dksL_law_5 6 rfl rfl)
theorem dL_law_344 : decode cL_law 344 = .ok (.iconst 4, 1) := dk_7 (dk_at dksL_law_5 8 rfl rfl)
theorem dL_law_345 : decode cL_law 345 = .ok (.iadd, 1) := dk_96 (dk_at dksL_law_5 9 rfl rfl)
theorem dL_law_346 : decode cL_law 346 = .ok (.iaload, 1) := dk_46 (dk_at dksL_law_5 10 rfl rfl)
theorem dL_law_347 : decode cL_law 347 = .ok (.aload_n 0, 1) := dk_42 (dk_at dksL_law_5 11 rfl rfl)
theorem dL_law_348 : decode cL_law 348 = .ok (.iload 4, 2) := dk_21 4 (dk_at dksL_law_5 12 rfl rfl)
theorem dL_law_350 : decode cL_law 350 = .ok (.iconst 5, 1) := dk_8 (dk_at dksL_law_5 14 rfl rfl)
theorem dL_law_351 : decode cL_law 351 = .ok (.iadd, 1) := dk_96 (dk_at dksL_law_5 15 rfl rfl)
theorem dL_law_352 : decode cL_law 352 = .ok (.iaload, 1) := dk_46 (dk_at dksL_law_5 16 rfl rfl)
theorem dL_law_353 : decode cL_law 353 = .ok (.invokevirtual 162, 3) := dk_182 0 162 (dk_at dksL_law_5 17 rfl rfl)
theorem dL_law_356 : decode cL_law 356 = .ok (.if_icmp .eq 2798, 3) := dk_159 10 238 (dk_at dksL_law_5 20 rfl rfl)
theorem dL_law_359 : decode cL_law 359 = .ok (.iconst 0, 1) := dk_3 (dk_at dksL_law_5 23 rfl rfl)
theorem dL_law_360 : decode cL_law 360 = .ok (.ireturn, 1) := dk_172 (dk_at dksL_law_6 0 rfl rfl)
theorem dL_law_361 : decode cL_law 361 = .ok (.aload_n 1, 1) := dk_43 (dk_at dksL_law_6 1 rfl rfl)
theorem dL_law_362 : decode cL_law 362 = .ok (.aload_n 0, 1) := dk_42 (dk_at dksL_law_6 2 rfl rfl)
theorem dL_law_363 : decode cL_law 363 = .ok (.iload 4, 2) := dk_21 4 (dk_at dksL_law_6 3 rfl rfl)
theorem dL_law_365 : decode cL_law 365 = .ok (.iconst 1, 1) := dk_4 (dk_at dksL_law_6 5 rfl rfl)
theorem dL_law_366 : decode cL_law 366 = .ok (.iadd, 1) := dk_96 (dk_at dksL_law_6 6 rfl rfl)
theorem dL_law_367 : decode cL_law 367 = .ok (.iaload, 1) := dk_46 (dk_at dksL_law_6 7 rfl rfl)
theorem dL_law_368 : decode cL_law 368 = .ok (.aload_n 3, 1) := dk_45 (dk_at dksL_law_6 8 rfl rfl)
theorem dL_law_369 : decode cL_law 369 = .ok (.invokestatic 163, 3) := dk_184 0 163 (dk_at dksL_law_6 9 rfl rfl)
theorem dL_law_372 : decode cL_law 372 = .ok (.istore 5, 2) := dk_54 5 (dk_at dksL_law_6 12 rfl rfl)
theorem dL_law_374 : decode cL_law 374 = .ok (.aload_n 2, 1) := dk_44 (dk_at dksL_law_6 14 rfl rfl)
theorem dL_law_375 : decode cL_law 375 = .ok (.aload_n 0, 1) := dk_42 (dk_at dksL_law_6 15 rfl rfl)
theorem dL_law_376 : decode cL_law 376 = .ok (.iload 4, 2) := dk_21 4 (dk_at dksL_law_6 16 rfl rfl)
theorem dL_law_378 : decode cL_law 378 = .ok (.iconst 1, 1) := dk_4 (dk_at dksL_law_6 18 rfl rfl)
theorem dL_law_379 : decode cL_law 379 = .ok (.iadd, 1) := dk_96 (dk_at dksL_law_6 19 rfl rfl)
theorem dL_law_380 : decode cL_law 380 = .ok (.iaload, 1) := dk_46 (dk_at dksL_law_6 20 rfl rfl)
theorem dL_law_381 : decode cL_law 381 = .ok (.invokevirtual 168, 3) := dk_182 0 168 (dk_at dksL_law_6 21 rfl rfl)
theorem dL_law_384 : decode cL_law 384 = .ok (.istore 6, 2) := dk_54 6 (dk_at dksL_law_7 0 rfl rfl)
theorem dL_law_386 : decode cL_law 386 = .ok (.aload_n 2, 1) := dk_44 (dk_at dksL_law_7 2 rfl rfl)
theorem dL_law_387 : decode cL_law 387 = .ok (.invokevirtual 169, 3) := dk_182 0 169 (dk_at dksL_law_7 3 rfl rfl)
theorem dL_law_390 : decode cL_law 390 = .ok (.iload 5, 2) := dk_21 5 (dk_at dksL_law_7 6 rfl rfl)
theorem dL_law_392 : decode cL_law 392 = .ok (.if_icmp .eq 5, 3) := dk_159 0 5 (dk_at dksL_law_7 8 rfl rfl)
theorem dL_law_395 : decode cL_law 395 = .ok (.iconst 0, 1) := dk_3 (dk_at dksL_law_7 11 rfl rfl)
theorem dL_law_396 : decode cL_law 396 = .ok (.ireturn, 1) := dk_172 (dk_at dksL_law_7 12 rfl rfl)
theorem dL_law_397 : decode cL_law 397 = .ok (.iload 5, 2) := dk_21 5 (dk_at dksL_law_7 13 rfl rfl)
theorem dL_law_399 : decode cL_law 399 = .ok (.ifCond .ne 15, 3) := dk_154 0 15 (dk_at dksL_law_7 15 rfl rfl)
theorem dL_law_402 : decode cL_law 402 = .ok (.aload_n 3, 1) := dk_45 (dk_at dksL_law_7 18 rfl rfl)
theorem dL_law_403 : decode cL_law 403 = .ok (.iconst 0, 1) := dk_3 (dk_at dksL_law_7 19 rfl rfl)
theorem dL_law_404 : decode cL_law 404 = .ok (.laload, 1) := dk_47 (dk_at dksL_law_7 20 rfl rfl)
theorem dL_law_405 : decode cL_law 405 = .ok (.iload 6, 2) := dk_21 6 (dk_at dksL_law_7 21 rfl rfl)
theorem dL_law_407 : decode cL_law 407 = .ok (.i2l, 1) := dk_133 (dk_at dksL_law_7 23 rfl rfl)
theorem dL_law_408 : decode cL_law 408 = .ok (.lcmp, 1) := dk_148 (dk_at dksL_law_8 0 rfl rfl)
theorem dL_law_409 : decode cL_law 409 = .ok (.ifCond .eq 5, 3) := dk_153 0 5 (dk_at dksL_law_8 1 rfl rfl)
theorem dL_law_412 : decode cL_law 412 = .ok (.iconst 0, 1) := dk_3 (dk_at dksL_law_8 4 rfl rfl)
theorem dL_law_413 : decode cL_law 413 = .ok (.ireturn, 1) := dk_172 (dk_at dksL_law_8 5 rfl rfl)
theorem dL_law_414 : decode cL_law 414 = .ok (.goto 2740, 3) := dk_167 10 180 (dk_at dksL_law_8 6 rfl rfl)
theorem dL_law_417 : decode cL_law 417 = .ok (.aload_n 1, 1) := dk_43 (dk_at dksL_law_8 9 rfl rfl)
theorem dL_law_418 : decode cL_law 418 = .ok (.invokevirtual 172, 3) := dk_182 0 172 (dk_at dksL_law_8 10 rfl rfl)
theorem dL_law_421 : decode cL_law 421 = .ok (.aload_n 2, 1) := dk_44 (dk_at dksL_law_8 13 rfl rfl)
theorem dL_law_422 : decode cL_law 422 = .ok (.invokevirtual 175, 3) := dk_182 0 175 (dk_at dksL_law_8 14 rfl rfl)
theorem dL_law_425 : decode cL_law 425 = .ok (.if_icmp .eq 2729, 3) := dk_159 10 169 (dk_at dksL_law_8 17 rfl rfl)
theorem dL_law_428 : decode cL_law 428 = .ok (.iconst 0, 1) := dk_3 (dk_at dksL_law_8 20 rfl rfl)
theorem dL_law_429 : decode cL_law 429 = .ok (.ireturn, 1) := dk_172 (dk_at dksL_law_8 21 rfl rfl)
theorem dL_law_430 : decode cL_law 430 = .ok (.aload_n 1, 1) := dk_43 (dk_at dksL_law_8 22 rfl rfl)
theorem dL_law_431 : decode cL_law 431 = .ok (.invokevirtual 176, 3) := dk_182 0 176 (dk_at dksL_law_9 0 rfl rfl)
theorem dL_law_434 : decode cL_law 434 = .ok (.aload_n 2, 1) := dk_44 (dk_at dksL_law_9 3 rfl rfl)
theorem dL_law_435 : decode cL_law 435 = .ok (.invokevirtual 179, 3) := dk_182 0 179 (dk_at dksL_law_9 4 rfl rfl)
theorem dL_law_438 : decode cL_law 438 = .ok (.if_icmp .eq 2716, 3) := dk_159 10 156 (dk_at dksL_law_9 7 rfl rfl)
theorem dL_law_441 : decode cL_law 441 = .ok (.iconst 0, 1) := dk_3 (dk_at dksL_law_9 10 rfl rfl)
theorem dL_law_442 : decode cL_law 442 = .ok (.ireturn, 1) := dk_172 (dk_at dksL_law_9 11 rfl rfl)
theorem dL_law_443 : decode cL_law 443 = .ok (.aload_n 1, 1) := dk_43 (dk_at dksL_law_9 12 rfl rfl)
theorem dL_law_444 : decode cL_law 444 = .ok (.invokevirtual 180, 3) := dk_182 0 180 (dk_at dksL_law_9 13 rfl rfl)
theorem dL_law_447 : decode cL_law 447 = .ok (.aload_n 2, 1) := dk_44 (dk_at dksL_law_9 16 rfl rfl)
theorem dL_law_448 : decode cL_law 448 = .ok (.invokevirtual 183, 3) := dk_182 0 183 (dk_at dksL_law_9 17 rfl rfl)
theorem dL_law_451 : decode cL_law 451 = .ok (.if_icmp .eq 2703, 3) := dk_159 10 143 (dk_at dksL_law_9 20 rfl rfl)
theorem dL_law_454 : decode cL_law 454 = .ok (.iconst 0, 1) := dk_3 (dk_at dksL_law_9 23 rfl rfl)
theorem dL_law_455 : decode cL_law 455 = .ok (.ireturn, 1) := dk_172 (dk_at dksL_law_10 0 rfl rfl)
theorem dL_law_456 : decode cL_law 456 = .ok (.aload_n 1, 1) := dk_43 (dk_at dksL_law_10 1 rfl rfl)
theorem dL_law_457 : decode cL_law 457 = .ok (.invokevirtual 184, 3) := dk_182 0 184 (dk_at dksL_law_10 2 rfl rfl)
theorem dL_law_460 : decode cL_law 460 = .ok (.aload_n 2, 1) := dk_44 (dk_at dksL_law_10 5 rfl rfl)
theorem dL_law_461 : decode cL_law 461 = .ok (.invokevirtual 187, 3) := dk_182 0 187 (dk_at dksL_law_10 6 rfl rfl)
theorem dL_law_464 : decode cL_law 464 = .ok (.if_icmp .eq 2690, 3) := dk_159 10 130 (dk_at dksL_law_10 9 rfl rfl)
theorem dL_law_467 : decode cL_law 467 = .ok (.iconst 0, 1) := dk_3 (dk_at dksL_law_10 12 rfl rfl)
theorem dL_law_468 : decode cL_law 468 = .ok (.ireturn, 1) := dk_172 (dk_at dksL_law_10 13 rfl rfl)
theorem dL_law_469 : decode cL_law 469 = .ok (.aload_n 1, 1) := dk_43 (dk_at dksL_law_10 14 rfl rfl)
theorem dL_law_470 : decode cL_law 470 = .ok (.invokevirtual 188, 3) := dk_182 0 188 (dk_at dksL_law_10 15 rfl rfl)
theorem dL_law_473 : decode cL_law 473 = .ok (.aload_n 2, 1) := dk_44 (dk_at dksL_law_10 18 rfl rfl)
theorem dL_law_474 : decode cL_law 474 = .ok (.invokevirtual 191, 3) := dk_182 0 191 (dk_at dksL_law_10 19 rfl rfl)
theorem dL_law_477 : decode cL_law 477 = .ok (.if_icmp .eq 2677, 3) := dk_159 10 117 (dk_at dksL_law_11 0 rfl rfl)
theorem dL_law_480 : decode cL_law 480 = .ok (.iconst 0, 1) := dk_3 (dk_at dksL_law_11 3 rfl rfl)
theorem dL_law_481 : decode cL_law 481 = .ok (.ireturn, 1) := dk_172 (dk_at dksL_law_11 4 rfl rfl)
theorem dL_law_482 : decode cL_law 482 = .ok (.aload_n 1, 1) := dk_43 (dk_at dksL_law_11 5 rfl rfl)
theorem dL_law_483 : decode cL_law 483 = .ok (.invokevirtual 192, 3) := dk_182 0 192 (dk_at dksL_law_11 6 rfl rfl)
theorem dL_law_486 : decode cL_law 486 = .ok (.aload_n 2, 1) := dk_44 (dk_at dksL_law_11 9 rfl rfl)
theorem dL_law_487 : decode cL_law 487 = .ok (.invokevirtual 195, 3) := dk_182 0 195 (dk_at dksL_law_11 10 rfl rfl)
theorem dL_law_490 : decode cL_law 490 = .ok (.if_icmp .eq 2664, 3) := dk_159 10 104 (dk_at dksL_law_11 13 rfl rfl)
theorem dL_law_493 : decode cL_law 493 = .ok (.iconst 0, 1) := dk_3 (dk_at dksL_law_11 16 rfl rfl)
theorem dL_law_494 : decode cL_law 494 = .ok (.ireturn, 1) := dk_172 (dk_at dksL_law_11 17 rfl rfl)
theorem dL_law_495 : decode cL_law 495 = .ok (.aload_n 1, 1) := dk_43 (dk_at dksL_law_11 18 rfl rfl)
theorem dL_law_496 : decode cL_law 496 = .ok (.invokevirtual 196, 3) := dk_182 0 196 (dk_at dksL_law_11 19 rfl rfl)
theorem dL_law_499 : decode cL_law 499 = .ok (.aload_n 2, 1) := dk_44 (dk_at dksL_law_11 22 rfl rfl)
theorem dL_law_500 : decode cL_law 500 = .ok (.invokevirtual 199, 3) := dk_182 0 199 (dk_at dksL_law_12 0 rfl rfl)
theorem dL_law_503 : decode cL_law 503 = .ok (.if_icmp .eq 2651, 3) := dk_159 10 91 (dk_at dksL_law_12 3 rfl rfl)
theorem dL_law_506 : decode cL_law 506 = .ok (.iconst 0, 1) := dk_3 (dk_at dksL_law_12 6 rfl rfl)
theorem dL_law_507 : decode cL_law 507 = .ok (.ireturn, 1) := dk_172 (dk_at dksL_law_12 7 rfl rfl)
theorem dL_law_508 : decode cL_law 508 = .ok (.aload_n 1, 1) := dk_43 (dk_at dksL_law_12 8 rfl rfl)
theorem dL_law_509 : decode cL_law 509 = .ok (.invokevirtual 200, 3) := dk_182 0 200 (dk_at dksL_law_12 9 rfl rfl)
theorem dL_law_512 : decode cL_law 512 = .ok (.aload_n 2, 1) := dk_44 (dk_at dksL_law_12 12 rfl rfl)
theorem dL_law_513 : decode cL_law 513 = .ok (.invokevirtual 203, 3) := dk_182 0 203 (dk_at dksL_law_12 13 rfl rfl)
theorem dL_law_516 : decode cL_law 516 = .ok (.if_icmp .eq 2638, 3) := dk_159 10 78 (dk_at dksL_law_12 16 rfl rfl)
theorem dL_law_519 : decode cL_law 519 = .ok (.iconst 0, 1) := dk_3 (dk_at dksL_law_12 19 rfl rfl)
theorem dL_law_520 : decode cL_law 520 = .ok (.ireturn, 1) := dk_172 (dk_at dksL_law_12 20 rfl rfl)
theorem dL_law_521 : decode cL_law 521 = .ok (.aload_n 1, 1) := dk_43 (dk_at dksL_law_12 21 rfl rfl)
theorem dL_law_522 : decode cL_law 522 = .ok (.invokevirtual 204, 3) := dk_182 0 204 (dk_at dksL_law_13 0 rfl rfl)
theorem dL_law_525 : decode cL_law 525 = .ok (.aload_n 2, 1) := dk_44 (dk_at dksL_law_13 3 rfl rfl)
theorem dL_law_526 : decode cL_law 526 = .ok (.invokevirtual 207, 3) := dk_182 0 207 (dk_at dksL_law_13 4 rfl rfl)
theorem dL_law_529 : decode cL_law 529 = .ok (.if_icmp .eq 2625, 3) := dk_159 10 65 (dk_at dksL_law_13 7 rfl rfl)
theorem dL_law_532 : decode cL_law 532 = .ok (.iconst 0, 1) := dk_3 (dk_at dksL_law_13 10 rfl rfl)
theorem dL_law_533 : decode cL_law 533 = .ok (.ireturn, 1) := dk_172 (dk_at dksL_law_13 11 rfl rfl)
theorem dL_law_534 : decode cL_law 534 = .ok (.aload_n 1, 1) := dk_43 (dk_at dksL_law_13 12 rfl rfl)
theorem dL_law_535 : decode cL_law 535 = .ok (.aload_n 0, 1) := dk_42 (dk_at dksL_law_13 13 rfl rfl)
theorem dL_law_536 : decode cL_law 536 = .ok (.iload 4, 2) := dk_21 4 (dk_at dksL_law_13 14 rfl rfl)
theorem dL_law_538 : decode cL_law 538 = .ok (.iconst 1, 1) := dk_4 (dk_at dksL_law_13 16 rfl rfl)
theorem dL_law_539 : decode cL_law 539 = .ok (.iadd, 1) := dk_96 (dk_at dksL_law_13 17 rfl rfl)
theorem dL_law_540 : decode cL_law 540 = .ok (.iaload, 1) := dk_46 (dk_at dksL_law_13 18 rfl rfl)
theorem dL_law_541 : decode cL_law 541 = .ok (.aload_n 3, 1) := dk_45 (dk_at dksL_law_13 19 rfl rfl)
theorem dL_law_542 : decode cL_law 542 = .ok (.invokestatic 208, 3) := dk_184 0 208 (dk_at dksL_law_13 20 rfl rfl)
theorem dL_law_545 : decode cL_law 545 = .ok (.istore 5, 2) := dk_54 5 (dk_at dksL_law_14 0 rfl rfl)
theorem dL_law_547 : decode cL_law 547 = .ok (.aload_n 2, 1) := dk_44 (dk_at dksL_law_14 2 rfl rfl)
theorem dL_law_548 : decode cL_law 548 = .ok (.aload_n 0, 1) := dk_42 (dk_at dksL_law_14 3 rfl rfl)
theorem dL_law_549 : decode cL_law 549 = .ok (.iload 4, 2) := dk_21 4 (dk_at dksL_law_14 4 rfl rfl)
theorem dL_law_551 : decode cL_law 551 = .ok (.iconst 1, 1) := dk_4 (dk_at dksL_law_14 6 rfl rfl)
theorem dL_law_552 : decode cL_law 552 = .ok (.iadd, 1) := dk_96 (dk_at dksL_law_14 7 rfl rfl)
theorem dL_law_553 : decode cL_law 553 = .ok (.iaload, 1) := dk_46 (dk_at dksL_law_14 8 rfl rfl)
theorem dL_law_554 : decode cL_law 554 = .ok (.invokevirtual 210, 3) := dk_182 0 210 (dk_at dksL_law_14 9 rfl rfl)
theorem dL_law_557 : decode cL_law 557 = .ok (.istore 6, 2) := dk_54 6 (dk_at dksL_law_14 12 rfl rfl)
theorem dL_law_559 : decode cL_law 559 = .ok (.aload_n 2, 1) := dk_44 (dk_at dksL_law_14 14 rfl rfl)
theorem dL_law_560 : decode cL_law 560 = .ok (.invokevirtual 169, 3) := dk_182 0 169 (dk_at dksL_law_14 15 rfl rfl)
theorem dL_law_563 : decode cL_law 563 = .ok (.iload 5, 2) := dk_21 5 (dk_at dksL_law_14 18 rfl rfl)
theorem dL_law_565 : decode cL_law 565 = .ok (.if_icmp .eq 5, 3) := dk_159 0 5 (dk_at dksL_law_14 20 rfl rfl)
theorem dL_law_568 : decode cL_law 568 = .ok (.iconst 0, 1) := dk_3 (dk_at dksL_law_14 23 rfl rfl)
theorem dL_law_569 : decode cL_law 569 = .ok (.ireturn, 1) := dk_172 (dk_at dksL_law_15 0 rfl rfl)
theorem dL_law_570 : decode cL_law 570 = .ok (.iload 5, 2) := dk_21 5 (dk_at dksL_law_15 1 rfl rfl)
theorem dL_law_572 : decode cL_law 572 = .ok (.ifCond .ne 22, 3) := dk_154 0 22 (dk_at dksL_law_15 3 rfl rfl)
theorem dL_law_575 : decode cL_law 575 = .ok (.aload_n 3, 1) := dk_45 (dk_at dksL_law_15 6 rfl rfl)
theorem dL_law_576 : decode cL_law 576 = .ok (.iconst 0, 1) := dk_3 (dk_at dksL_law_15 7 rfl rfl)
theorem dL_law_577 : decode cL_law 577 = .ok (.laload, 1) := dk_47 (dk_at dksL_law_15 8 rfl rfl)
theorem dL_law_578 : decode cL_law 578 = .ok (.iload 6, 2) := dk_21 6 (dk_at dksL_law_15 9 rfl rfl)
theorem dL_law_580 : decode cL_law 580 = .ok (.ifCond .eq 7, 3) := dk_153 0 7 (dk_at dksL_law_15 11 rfl rfl)
theorem dL_law_583 : decode cL_law 583 = .ok (.lconst 1, 1) := dk_10 (dk_at dksL_law_15 14 rfl rfl)
theorem dL_law_584 : decode cL_law 584 = .ok (.goto 4, 3) := dk_167 0 4 (dk_at dksL_law_15 15 rfl rfl)
theorem dL_law_587 : decode cL_law 587 = .ok (.lconst 0, 1) := dk_9 (dk_at dksL_law_15 18 rfl rfl)
theorem dL_law_588 : decode cL_law 588 = .ok (.lcmp, 1) := dk_148 (dk_at dksL_law_15 19 rfl rfl)
theorem dL_law_589 : decode cL_law 589 = .ok (.ifCond .eq 5, 3) := dk_153 0 5 (dk_at dksL_law_15 20 rfl rfl)
theorem dL_law_592 : decode cL_law 592 = .ok (.iconst 0, 1) := dk_3 (dk_at dksL_law_15 23 rfl rfl)
theorem dL_law_593 : decode cL_law 593 = .ok (.ireturn, 1) := dk_172 (dk_at dksL_law_16 0 rfl rfl)
theorem dL_law_594 : decode cL_law 594 = .ok (.goto 2560, 3) := dk_167 10 0 (dk_at dksL_law_16 1 rfl rfl)
theorem dL_law_597 : decode cL_law 597 = .ok (.aload_n 1, 1) := dk_43 (dk_at dksL_law_16 4 rfl rfl)
theorem dL_law_598 : decode cL_law 598 = .ok (.aload_n 0, 1) := dk_42 (dk_at dksL_law_16 5 rfl rfl)
theorem dL_law_599 : decode cL_law 599 = .ok (.iload 4, 2) := dk_21 4 (dk_at dksL_law_16 6 rfl rfl)
theorem dL_law_601 : decode cL_law 601 = .ok (.iconst 1, 1) := dk_4 (dk_at dksL_law_16 8 rfl rfl)
theorem dL_law_602 : decode cL_law 602 = .ok (.iadd, 1) := dk_96 (dk_at dksL_law_16 9 rfl rfl)
theorem dL_law_603 : decode cL_law 603 = .ok (.iaload, 1) := dk_46 (dk_at dksL_law_16 10 rfl rfl)
theorem dL_law_604 : decode cL_law 604 = .ok (.aload_n 3, 1) := dk_45 (dk_at dksL_law_16 11 rfl rfl)
theorem dL_law_605 : decode cL_law 605 = .ok (.invokestatic 211, 3) := dk_184 0 211 (dk_at dksL_law_16 12 rfl rfl)
theorem dL_law_608 : decode cL_law 608 = .ok (.istore 5, 2) := dk_54 5 (dk_at dksL_law_16 15 rfl rfl)
theorem dL_law_610 : decode cL_law 610 = .ok (.aload_n 2, 1) := dk_44 (dk_at dksL_law_16 17 rfl rfl)
theorem dL_law_611 : decode cL_law 611 = .ok (.aload_n 0, 1) := dk_42 (dk_at dksL_law_16 18 rfl rfl)
theorem dL_law_612 : decode cL_law 612 = .ok (.iload 4, 2) := dk_21 4 (dk_at dksL_law_16 19 rfl rfl)
theorem dL_law_614 : decode cL_law 614 = .ok (.iconst 1, 1) := dk_4 (dk_at dksL_law_16 21 rfl rfl)
theorem dL_law_615 : decode cL_law 615 = .ok (.iadd, 1) := dk_96 (dk_at dksL_law_16 22 rfl rfl)
theorem dL_law_616 : decode cL_law 616 = .ok (.iaload, 1) := dk_46 (dk_at dksL_law_16 23 rfl rfl)
theorem dL_law_617 : decode cL_law 617 = .ok (.invokevirtual 213, 3) := dk_182 0 213 (dk_at dksL_law_17 0 rfl rfl)
theorem dL_law_620 : decode cL_law 620 = .ok (.istore 6, 2) := dk_54 6 (dk_at dksL_law_17 3 rfl rfl)
theorem dL_law_622 : decode cL_law 622 = .ok (.aload_n 2, 1) := dk_44 (dk_at dksL_law_17 5 rfl rfl)
theorem dL_law_623 : decode cL_law 623 = .ok (.invokevirtual 169, 3) := dk_182 0 169 (dk_at dksL_law_17 6 rfl rfl)
theorem dL_law_626 : decode cL_law 626 = .ok (.iload 5, 2) := dk_21 5 (dk_at dksL_law_17 9 rfl rfl)
theorem dL_law_628 : decode cL_law 628 = .ok (.if_icmp .eq 5, 3) := dk_159 0 5 (dk_at dksL_law_17 11 rfl rfl)
theorem dL_law_631 : decode cL_law 631 = .ok (.iconst 0, 1) := dk_3 (dk_at dksL_law_17 14 rfl rfl)
theorem dL_law_632 : decode cL_law 632 = .ok (.ireturn, 1) := dk_172 (dk_at dksL_law_17 15 rfl rfl)
theorem dL_law_633 : decode cL_law 633 = .ok (.iload 5, 2) := dk_21 5 (dk_at dksL_law_17 16 rfl rfl)
theorem dL_law_635 : decode cL_law 635 = .ok (.ifCond .ne 22, 3) := dk_154 0 22 (dk_at dksL_law_17 18 rfl rfl)
theorem dL_law_638 : decode cL_law 638 = .ok (.aload_n 3, 1) := dk_45 (dk_at dksL_law_17 21 rfl rfl)
theorem dL_law_639 : decode cL_law 639 = .ok (.iconst 0, 1) := dk_3 (dk_at dksL_law_17 22 rfl rfl)
theorem dL_law_640 : decode cL_law 640 = .ok (.laload, 1) := dk_47 (dk_at dksL_law_17 23 rfl rfl)
theorem dL_law_641 : decode cL_law 641 = .ok (.iload 6, 2) := dk_21 6 (dk_at dksL_law_18 0 rfl rfl)
theorem dL_law_643 : decode cL_law 643 = .ok (.ifCond .eq 7, 3) := dk_153 0 7 (dk_at dksL_law_18 2 rfl rfl)
theorem dL_law_646 : decode cL_law 646 = .ok (.lconst 1, 1) := dk_10 (dk_at dksL_law_18 5 rfl rfl)
theorem dL_law_647 : decode cL_law 647 = .ok (.goto 4, 3) := dk_167 0 4 (dk_at dksL_law_18 6 rfl rfl)
theorem dL_law_650 : decode cL_law 650 = .ok (.lconst 0, 1) := dk_9 (dk_at dksL_law_18 9 rfl rfl)
theorem dL_law_651 : decode cL_law 651 = .ok (.lcmp, 1) := dk_148 (dk_at dksL_law_18 10 rfl rfl)
theorem dL_law_652 : decode cL_law 652 = .ok (.ifCond .eq 5, 3) := dk_153 0 5 (dk_at dksL_law_18 11 rfl rfl)
theorem dL_law_655 : decode cL_law 655 = .ok (.iconst 0, 1) := dk_3 (dk_at dksL_law_18 14 rfl rfl)
theorem dL_law_656 : decode cL_law 656 = .ok (.ireturn, 1) := dk_172 (dk_at dksL_law_18 15 rfl rfl)
theorem dL_law_657 : decode cL_law 657 = .ok (.goto 2497, 3) := dk_167 9 193 (dk_at dksL_law_18 16 rfl rfl)
theorem dL_law_660 : decode cL_law 660 = .ok (.aload_n 1, 1) := dk_43 (dk_at dksL_law_18 19 rfl rfl)
theorem dL_law_661 : decode cL_law 661 = .ok (.aload_n 0, 1) := dk_42 (dk_at dksL_law_18 20 rfl rfl)
theorem dL_law_662 : decode cL_law 662 = .ok (.iload 4, 2) := dk_21 4 (dk_at dksL_law_18 21 rfl rfl)
theorem dL_law_664 : decode cL_law 664 = .ok (.iconst 1, 1) := dk_4 (dk_at dksL_law_18 23 rfl rfl)
theorem dL_law_665 : decode cL_law 665 = .ok (.iadd, 1) := dk_96 (dk_at dksL_law_19 0 rfl rfl)
theorem dL_law_666 : decode cL_law 666 = .ok (.iaload, 1) := dk_46 (dk_at dksL_law_19 1 rfl rfl)
theorem dL_law_667 : decode cL_law 667 = .ok (.aload_n 3, 1) := dk_45 (dk_at dksL_law_19 2 rfl rfl)
theorem dL_law_668 : decode cL_law 668 = .ok (.invokestatic 214, 3) := dk_184 0 214 (dk_at dksL_law_19 3 rfl rfl)
theorem dL_law_671 : decode cL_law 671 = .ok (.istore 5, 2) := dk_54 5 (dk_at dksL_law_19 6 rfl rfl)
theorem dL_law_673 : decode cL_law 673 = .ok (.aload_n 2, 1) := dk_44 (dk_at dksL_law_19 8 rfl rfl)
theorem dL_law_674 : decode cL_law 674 = .ok (.aload_n 0, 1) := dk_42 (dk_at dksL_law_19 9 rfl rfl)
theorem dL_law_675 : decode cL_law 675 = .ok (.iload 4, 2) := dk_21 4 (dk_at dksL_law_19 10 rfl rfl)
theorem dL_law_677 : decode cL_law 677 = .ok (.iconst 1, 1) := dk_4 (dk_at dksL_law_19 12 rfl rfl)
theorem dL_law_678 : decode cL_law 678 = .ok (.iadd, 1) := dk_96 (dk_at dksL_law_19 13 rfl rfl)
theorem dL_law_679 : decode cL_law 679 = .ok (.iaload, 1) := dk_46 (dk_at dksL_law_19 14 rfl rfl)
theorem dL_law_680 : decode cL_law 680 = .ok (.invokevirtual 216, 3) := dk_182 0 216 (dk_at dksL_law_19 15 rfl rfl)
theorem dL_law_683 : decode cL_law 683 = .ok (.istore 6, 2) := dk_54 6 (dk_at dksL_law_19 18 rfl rfl)
theorem dL_law_685 : decode cL_law 685 = .ok (.aload_n 2, 1) := dk_44 (dk_at dksL_law_19 20 rfl rfl)
theorem dL_law_686 : decode cL_law 686 = .ok (.invokevirtual 169, 3) := dk_182 0 169 (dk_at dksL_law_19 21 rfl rfl)
theorem dL_law_689 : decode cL_law 689 = .ok (.iload 5, 2) := dk_21 5 (dk_at dksL_law_20 0 rfl rfl)
theorem dL_law_691 : decode cL_law 691 = .ok (.if_icmp .eq 5, 3) := dk_159 0 5 (dk_at dksL_law_20 2 rfl rfl)
theorem dL_law_694 : decode cL_law 694 = .ok (.iconst 0, 1) := dk_3 (dk_at dksL_law_20 5 rfl rfl)
theorem dL_law_695 : decode cL_law 695 = .ok (.ireturn, 1) := dk_172 (dk_at dksL_law_20 6 rfl rfl)
theorem dL_law_696 : decode cL_law 696 = .ok (.iload 5, 2) := dk_21 5 (dk_at dksL_law_20 7 rfl rfl)
theorem dL_law_698 : decode cL_law 698 = .ok (.ifCond .ne 15, 3) := dk_154 0 15 (dk_at dksL_law_20 9 rfl rfl)
theorem dL_law_701 : decode cL_law 701 = .ok (.aload_n 3, 1) := dk_45 (dk_at dksL_law_20 12 rfl rfl)
theorem dL_law_702 : decode cL_law 702 = .ok (.iconst 0, 1) := dk_3 (dk_at dksL_law_20 13 rfl rfl)
theorem dL_law_703 : decode cL_law 703 = .ok (.laload, 1) := dk_47 (dk_at dksL_law_20 14 rfl rfl)
theorem dL_law_704 : decode cL_law 704 = .ok (.iload 6, 2) := dk_21 6 (dk_at dksL_law_20 15 rfl rfl)
theorem dL_law_706 : decode cL_law 706 = .ok (.i2l, 1) := dk_133 (dk_at dksL_law_20 17 rfl rfl)
theorem dL_law_707 : decode cL_law 707 = .ok (.lcmp, 1) := dk_148 (dk_at dksL_law_20 18 rfl rfl)
theorem dL_law_708 : decode cL_law 708 = .ok (.ifCond .eq 5, 3) := dk_153 0 5 (dk_at dksL_law_20 19 rfl rfl)
theorem dL_law_711 : decode cL_law 711 = .ok (.iconst 0, 1) := dk_3 (dk_at dksL_law_20 22 rfl rfl)
theorem dL_law_712 : decode cL_law 712 = .ok (.ireturn, 1) := dk_172 (dk_at dksL_law_20 23 rfl rfl)
theorem dL_law_713 : decode cL_law 713 = .ok (.goto 2441, 3) := dk_167 9 137 (dk_at dksL_law_21 0 rfl rfl)
theorem dL_law_716 : decode cL_law 716 = .ok (.aload_n 1, 1) := dk_43 (dk_at dksL_law_21 3 rfl rfl)
theorem dL_law_717 : decode cL_law 717 = .ok (.aload_n 0, 1) := dk_42 (dk_at dksL_law_21 4 rfl rfl)
theorem dL_law_718 : decode cL_law 718 = .ok (.iload 4, 2) := dk_21 4 (dk_at dksL_law_21 5 rfl rfl)
theorem dL_law_720 : decode cL_law 720 = .ok (.iconst 1, 1) := dk_4 (dk_at dksL_law_21 7 rfl rfl)
theorem dL_law_721 : decode cL_law 721 = .ok (.iadd, 1) := dk_96 (dk_at dksL_law_21 8 rfl rfl)
theorem dL_law_722 : decode cL_law 722 = .ok (.iaload, 1) := dk_46 (dk_at dksL_law_21 9 rfl rfl)
theorem dL_law_723 : decode cL_law 723 = .ok (.aload_n 3, 1) := dk_45 (dk_at dksL_law_21 10 rfl rfl)
theorem dL_law_724 : decode cL_law 724 = .ok (.invokestatic 217, 3) := dk_184 0 217 (dk_at dksL_law_21 11 rfl rfl)
theorem dL_law_727 : decode cL_law 727 = .ok (.istore 5, 2) := dk_54 5 (dk_at dksL_law_21 14 rfl rfl)
theorem dL_law_729 : decode cL_law 729 = .ok (.aload_n 2, 1) := dk_44 (dk_at dksL_law_21 16 rfl rfl)
theorem dL_law_730 : decode cL_law 730 = .ok (.aload_n 0, 1) := dk_42 (dk_at dksL_law_21 17 rfl rfl)
theorem dL_law_731 : decode cL_law 731 = .ok (.iload 4, 2) := dk_21 4 (dk_at dksL_law_21 18 rfl rfl)
theorem dL_law_733 : decode cL_law 733 = .ok (.iconst 1, 1) := dk_4 (dk_at dksL_law_21 20 rfl rfl)
theorem dL_law_734 : decode cL_law 734 = .ok (.iadd, 1) := dk_96 (dk_at dksL_law_21 21 rfl rfl)
theorem dL_law_735 : decode cL_law 735 = .ok (.iaload, 1) := dk_46 (dk_at dksL_law_21 22 rfl rfl)
theorem dL_law_736 : decode cL_law 736 = .ok (.invokevirtual 219, 3) := dk_182 0 219 (dk_at dksL_law_22 0 rfl rfl)
theorem dL_law_739 : decode cL_law 739 = .ok (.istore 6, 2) := dk_54 6 (dk_at dksL_law_22 3 rfl rfl)
theorem dL_law_741 : decode cL_law 741 = .ok (.aload_n 2, 1) := dk_44 (dk_at dksL_law_22 5 rfl rfl)
theorem dL_law_742 : decode cL_law 742 = .ok (.invokevirtual 169, 3) := dk_182 0 169 (dk_at dksL_law_22 6 rfl rfl)
theorem dL_law_745 : decode cL_law 745 = .ok (.iload 5, 2) := dk_21 5 (dk_at dksL_law_22 9 rfl rfl)
theorem dL_law_747 : decode cL_law 747 = .ok (.if_icmp .eq 5, 3) := dk_159 0 5 (dk_at dksL_law_22 11 rfl rfl)
theorem dL_law_750 : decode cL_law 750 = .ok (.iconst 0, 1) := dk_3 (dk_at dksL_law_22 14 rfl rfl)
theorem dL_law_751 : decode cL_law 751 = .ok (.ireturn, 1) := dk_172 (dk_at dksL_law_22 15 rfl rfl)
theorem dL_law_752 : decode cL_law 752 = .ok (.iload 5, 2) := dk_21 5 (dk_at dksL_law_22 16 rfl rfl)
theorem dL_law_754 : decode cL_law 754 = .ok (.ifCond .ne 15, 3) := dk_154 0 15 (dk_at dksL_law_22 18 rfl rfl)
theorem dL_law_757 : decode cL_law 757 = .ok (.aload_n 3, 1) := dk_45 (dk_at dksL_law_22 21 rfl rfl)
theorem dL_law_758 : decode cL_law 758 = .ok (.iconst 0, 1) := dk_3 (dk_at dksL_law_22 22 rfl rfl)
theorem dL_law_759 : decode cL_law 759 = .ok (.laload, 1) := dk_47 (dk_at dksL_law_22 23 rfl rfl)
theorem dL_law_760 : decode cL_law 760 = .ok (.iload 6, 2) := dk_21 6 (dk_at dksL_law_23 0 rfl rfl)
theorem dL_law_762 : decode cL_law 762 = .ok (.i2l, 1) := dk_133 (dk_at dksL_law_23 2 rfl rfl)
theorem dL_law_763 : decode cL_law 763 = .ok (.lcmp, 1) := dk_148 (dk_at dksL_law_23 3 rfl rfl)
theorem dL_law_764 : decode cL_law 764 = .ok (.ifCond .eq 5, 3) := dk_153 0 5 (dk_at dksL_law_23 4 rfl rfl)
theorem dL_law_767 : decode cL_law 767 = .ok (.iconst 0, 1) := dk_3 (dk_at dksL_law_23 7 rfl rfl)
theorem dL_law_768 : decode cL_law 768 = .ok (.ireturn, 1) := dk_172 (dk_at dksL_law_23 8 rfl rfl)
theorem dL_law_769 : decode cL_law 769 = .ok (.goto 2385, 3) := dk_167 9 81 (dk_at dksL_law_23 9 rfl rfl)
theorem dL_law_772 : decode cL_law 772 = .ok (.aload_n 1, 1) := dk_43 (dk_at dksL_law_23 12 rfl rfl)
theorem dL_law_773 : decode cL_law 773 = .ok (.aload_n 0, 1) := dk_42 (dk_at dksL_law_23 13 rfl rfl)
theorem dL_law_774 : decode cL_law 774 = .ok (.iload 4, 2) := dk_21 4 (dk_at dksL_law_23 14 rfl rfl)
theorem dL_law_776 : decode cL_law 776 = .ok (.iconst 1, 1) := dk_4 (dk_at dksL_law_23 16 rfl rfl)
theorem dL_law_777 : decode cL_law 777 = .ok (.iadd, 1) := dk_96 (dk_at dksL_law_23 17 rfl rfl)
theorem dL_law_778 : decode cL_law 778 = .ok (.iaload, 1) := dk_46 (dk_at dksL_law_23 18 rfl rfl)
theorem dL_law_779 : decode cL_law 779 = .ok (.aload_n 0, 1) := dk_42 (dk_at dksL_law_23 19 rfl rfl)
theorem dL_law_780 : decode cL_law 780 = .ok (.iload 4, 2) := dk_21 4 (dk_at dksL_law_23 20 rfl rfl)
theorem dL_law_782 : decode cL_law 782 = .ok (.iconst 2, 1) := dk_5 (dk_at dksL_law_23 22 rfl rfl)
theorem dL_law_783 : decode cL_law 783 = .ok (.iadd, 1) := dk_96 (dk_at dksL_law_23 23 rfl rfl)
theorem dL_law_784 : decode cL_law 784 = .ok (.iaload, 1) := dk_46 (dk_at dksL_law_24 0 rfl rfl)
theorem dL_law_785 : decode cL_law 785 = .ok (.aload_n 0, 1) := dk_42 (dk_at dksL_law_24 1 rfl rfl)
theorem dL_law_786 : decode cL_law 786 = .ok (.iload 4, 2) := dk_21 4 (dk_at dksL_law_24 2 rfl rfl)
theorem dL_law_788 : decode cL_law 788 = .ok (.iconst 3, 1) := dk_6 (dk_at dksL_law_24 4 rfl rfl)
theorem dL_law_789 : decode cL_law 789 = .ok (.iadd, 1) := dk_96 (dk_at dksL_law_24 5 rfl rfl)
theorem dL_law_790 : decode cL_law 790 = .ok (.iaload, 1) := dk_46 (dk_at dksL_law_24 6 rfl rfl)
theorem dL_law_791 : decode cL_law 791 = .ok (.aload_n 3, 1) := dk_45 (dk_at dksL_law_24 7 rfl rfl)
theorem dL_law_792 : decode cL_law 792 = .ok (.invokestatic 220, 3) := dk_184 0 220 (dk_at dksL_law_24 8 rfl rfl)
theorem dL_law_795 : decode cL_law 795 = .ok (.istore 5, 2) := dk_54 5 (dk_at dksL_law_24 11 rfl rfl)
theorem dL_law_797 : decode cL_law 797 = .ok (.aload_n 2, 1) := dk_44 (dk_at dksL_law_24 13 rfl rfl)
theorem dL_law_798 : decode cL_law 798 = .ok (.aload_n 0, 1) := dk_42 (dk_at dksL_law_24 14 rfl rfl)
theorem dL_law_799 : decode cL_law 799 = .ok (.iload 4, 2) := dk_21 4 (dk_at dksL_law_24 15 rfl rfl)
theorem dL_law_801 : decode cL_law 801 = .ok (.iconst 1, 1) := dk_4 (dk_at dksL_law_24 17 rfl rfl)
theorem dL_law_802 : decode cL_law 802 = .ok (.iadd, 1) := dk_96 (dk_at dksL_law_24 18 rfl rfl)
theorem dL_law_803 : decode cL_law 803 = .ok (.iaload, 1) := dk_46 (dk_at dksL_law_24 19 rfl rfl)
theorem dL_law_804 : decode cL_law 804 = .ok (.aload_n 0, 1) := dk_42 (dk_at dksL_law_24 20 rfl rfl)
theorem dL_law_805 : decode cL_law 805 = .ok (.iload 4, 2) := dk_21 4 (dk_at dksL_law_24 21 rfl rfl)
theorem dL_law_807 : decode cL_law 807 = .ok (.iconst 2, 1) := dk_5 (dk_at dksL_law_24 23 rfl rfl)
theorem dL_law_808 : decode cL_law 808 = .ok (.iadd, 1) := dk_96 (dk_at dksL_law_25 0 rfl rfl)
theorem dL_law_809 : decode cL_law 809 = .ok (.iaload, 1) := dk_46 (dk_at dksL_law_25 1 rfl rfl)
theorem dL_law_810 : decode cL_law 810 = .ok (.aload_n 0, 1) := dk_42 (dk_at dksL_law_25 2 rfl rfl)
theorem dL_law_811 : decode cL_law 811 = .ok (.iload 4, 2) := dk_21 4 (dk_at dksL_law_25 3 rfl rfl)
theorem dL_law_813 : decode cL_law 813 = .ok (.iconst 3, 1) := dk_6 (dk_at dksL_law_25 5 rfl rfl)
theorem dL_law_814 : decode cL_law 814 = .ok (.iadd, 1) := dk_96 (dk_at dksL_law_25 6 rfl rfl)
theorem dL_law_815 : decode cL_law 815 = .ok (.iaload, 1) := dk_46 (dk_at dksL_law_25 7 rfl rfl)
theorem dL_law_816 : decode cL_law 816 = .ok (.invokevirtual 223, 3) := dk_182 0 223 (dk_at dksL_law_25 8 rfl rfl)
theorem dL_law_819 : decode cL_law 819 = .ok (.istore 6, 2) := dk_54 6 (dk_at dksL_law_25 11 rfl rfl)
theorem dL_law_821 : decode cL_law 821 = .ok (.aload_n 2, 1) := dk_44 (dk_at dksL_law_25 13 rfl rfl)
theorem dL_law_822 : decode cL_law 822 = .ok (.invokevirtual 169, 3) := dk_182 0 169 (dk_at dksL_law_25 14 rfl rfl)
theorem dL_law_825 : decode cL_law 825 = .ok (.iload 5, 2) := dk_21 5 (dk_at dksL_law_25 17 rfl rfl)
theorem dL_law_827 : decode cL_law 827 = .ok (.if_icmp .eq 5, 3) := dk_159 0 5 (dk_at dksL_law_25 19 rfl rfl)
theorem dL_law_830 : decode cL_law 830 = .ok (.iconst 0, 1) := dk_3 (dk_at dksL_law_25 22 rfl rfl)
theorem dL_law_831 : decode cL_law 831 = .ok (.ireturn, 1) := dk_172 (dk_at dksL_law_25 23 rfl rfl)
theorem dL_law_832 : decode cL_law 832 = .ok (.iload 5, 2) := dk_21 5 (dk_at dksL_law_26 0 rfl rfl)
theorem dL_law_834 : decode cL_law 834 = .ok (.ifCond .ne 15, 3) := dk_154 0 15 (dk_at dksL_law_26 2 rfl rfl)
theorem dL_law_837 : decode cL_law 837 = .ok (.aload_n 3, 1) := dk_45 (dk_at dksL_law_26 5 rfl rfl)
theorem dL_law_838 : decode cL_law 838 = .ok (.iconst 0, 1) := dk_3 (dk_at dksL_law_26 6 rfl rfl)
theorem dL_law_839 : decode cL_law 839 = .ok (.laload, 1) := dk_47 (dk_at dksL_law_26 7 rfl rfl)
theorem dL_law_840 : decode cL_law 840 = .ok (.iload 6, 2) := dk_21 6 (dk_at dksL_law_26 8 rfl rfl)
theorem dL_law_842 : decode cL_law 842 = .ok (.i2l, 1) := dk_133 (dk_at dksL_law_26 10 rfl rfl)
theorem dL_law_843 : decode cL_law 843 = .ok (.lcmp, 1) := dk_148 (dk_at dksL_law_26 11 rfl rfl)
theorem dL_law_844 : decode cL_law 844 = .ok (.ifCond .eq 5, 3) := dk_153 0 5 (dk_at dksL_law_26 12 rfl rfl)
theorem dL_law_847 : decode cL_law 847 = .ok (.iconst 0, 1) := dk_3 (dk_at dksL_law_26 15 rfl rfl)
theorem dL_law_848 : decode cL_law 848 = .ok (.ireturn, 1) := dk_172 (dk_at dksL_law_26 16 rfl rfl)
theorem dL_law_849 : decode cL_law 849 = .ok (.goto 2305, 3) := dk_167 9 1 (dk_at dksL_law_26 17 rfl rfl)
theorem dL_law_852 : decode cL_law 852 = .ok (.aload_n 1, 1) := dk_43 (dk_at dksL_law_26 20 rfl rfl)
theorem dL_law_853 : decode cL_law 853 = .ok (.aload_n 0, 1) := dk_42 (dk_at dksL_law_26 21 rfl rfl)
theorem dL_law_854 : decode cL_law 854 = .ok (.iload 4, 2) := dk_21 4 (dk_at dksL_law_26 22 rfl rfl)
theorem dL_law_856 : decode cL_law 856 = .ok (.iconst 1, 1) := dk_4 (dk_at dksL_law_27 0 rfl rfl)
theorem dL_law_857 : decode cL_law 857 = .ok (.iadd, 1) := dk_96 (dk_at dksL_law_27 1 rfl rfl)
theorem dL_law_858 : decode cL_law 858 = .ok (.iaload, 1) := dk_46 (dk_at dksL_law_27 2 rfl rfl)
theorem dL_law_859 : decode cL_law 859 = .ok (.aload_n 3, 1) := dk_45 (dk_at dksL_law_27 3 rfl rfl)
theorem dL_law_860 : decode cL_law 860 = .ok (.invokestatic 224, 3) := dk_184 0 224 (dk_at dksL_law_27 4 rfl rfl)
theorem dL_law_863 : decode cL_law 863 = .ok (.istore 5, 2) := dk_54 5 (dk_at dksL_law_27 7 rfl rfl)
theorem dL_law_865 : decode cL_law 865 = .ok (.aload_n 2, 1) := dk_44 (dk_at dksL_law_27 9 rfl rfl)
theorem dL_law_866 : decode cL_law 866 = .ok (.aload_n 0, 1) := dk_42 (dk_at dksL_law_27 10 rfl rfl)
theorem dL_law_867 : decode cL_law 867 = .ok (.iload 4, 2) := dk_21 4 (dk_at dksL_law_27 11 rfl rfl)
theorem dL_law_869 : decode cL_law 869 = .ok (.iconst 1, 1) := dk_4 (dk_at dksL_law_27 13 rfl rfl)
theorem dL_law_870 : decode cL_law 870 = .ok (.iadd, 1) := dk_96 (dk_at dksL_law_27 14 rfl rfl)
theorem dL_law_871 : decode cL_law 871 = .ok (.iaload, 1) := dk_46 (dk_at dksL_law_27 15 rfl rfl)
theorem dL_law_872 : decode cL_law 872 = .ok (.invokevirtual 226, 3) := dk_182 0 226 (dk_at dksL_law_27 16 rfl rfl)
theorem dL_law_875 : decode cL_law 875 = .ok (.istore 6, 2) := dk_54 6 (dk_at dksL_law_27 19 rfl rfl)
theorem dL_law_877 : decode cL_law 877 = .ok (.aload_n 2, 1) := dk_44 (dk_at dksL_law_27 21 rfl rfl)
theorem dL_law_878 : decode cL_law 878 = .ok (.invokevirtual 169, 3) := dk_182 0 169 (dk_at dksL_law_28 0 rfl rfl)
theorem dL_law_881 : decode cL_law 881 = .ok (.iload 5, 2) := dk_21 5 (dk_at dksL_law_28 3 rfl rfl)
theorem dL_law_883 : decode cL_law 883 = .ok (.if_icmp .eq 5, 3) := dk_159 0 5 (dk_at dksL_law_28 5 rfl rfl)
theorem dL_law_886 : decode cL_law 886 = .ok (.iconst 0, 1) := dk_3 (dk_at dksL_law_28 8 rfl rfl)
theorem dL_law_887 : decode cL_law 887 = .ok (.ireturn, 1) := dk_172 (dk_at dksL_law_28 9 rfl rfl)
theorem dL_law_888 : decode cL_law 888 = .ok (.iload 5, 2) := dk_21 5 (dk_at dksL_law_28 10 rfl rfl)
theorem dL_law_890 : decode cL_law 890 = .ok (.ifCond .ne 15, 3) := dk_154 0 15 (dk_at dksL_law_28 12 rfl rfl)
theorem dL_law_893 : decode cL_law 893 = .ok (.aload_n 3, 1) := dk_45 (dk_at dksL_law_28 15 rfl rfl)
theorem dL_law_894 : decode cL_law 894 = .ok (.iconst 0, 1) := dk_3 (dk_at dksL_law_28 16 rfl rfl)
theorem dL_law_895 : decode cL_law 895 = .ok (.laload, 1) := dk_47 (dk_at dksL_law_28 17 rfl rfl)
theorem dL_law_896 : decode cL_law 896 = .ok (.iload 6, 2) := dk_21 6 (dk_at dksL_law_28 18 rfl rfl)
theorem dL_law_898 : decode cL_law 898 = .ok (.i2l, 1) := dk_133 (dk_at dksL_law_28 20 rfl rfl)
theorem dL_law_899 : decode cL_law 899 = .ok (.lcmp, 1) := dk_148 (dk_at dksL_law_28 21 rfl rfl)
theorem dL_law_900 : decode cL_law 900 = .ok (.ifCond .eq 5, 3) := dk_153 0 5 (dk_at dksL_law_29 0 rfl rfl)
theorem dL_law_903 : decode cL_law 903 = .ok (.iconst 0, 1) := dk_3 (dk_at dksL_law_29 3 rfl rfl)
theorem dL_law_904 : decode cL_law 904 = .ok (.ireturn, 1) := dk_172 (dk_at dksL_law_29 4 rfl rfl)
theorem dL_law_905 : decode cL_law 905 = .ok (.goto 2249, 3) := dk_167 8 201 (dk_at dksL_law_29 5 rfl rfl)
theorem dL_law_908 : decode cL_law 908 = .ok (.aload_n 1, 1) := dk_43 (dk_at dksL_law_29 8 rfl rfl)
theorem dL_law_909 : decode cL_law 909 = .ok (.aload_n 0, 1) := dk_42 (dk_at dksL_law_29 9 rfl rfl)
theorem dL_law_910 : decode cL_law 910 = .ok (.iload 4, 2) := dk_21 4 (dk_at dksL_law_29 10 rfl rfl)
theorem dL_law_912 : decode cL_law 912 = .ok (.iconst 1, 1) := dk_4 (dk_at dksL_law_29 12 rfl rfl)
theorem dL_law_913 : decode cL_law 913 = .ok (.iadd, 1) := dk_96 (dk_at dksL_law_29 13 rfl rfl)
theorem dL_law_914 : decode cL_law 914 = .ok (.iaload, 1) := dk_46 (dk_at dksL_law_29 14 rfl rfl)
theorem dL_law_915 : decode cL_law 915 = .ok (.aload_n 3, 1) := dk_45 (dk_at dksL_law_29 15 rfl rfl)
theorem dL_law_916 : decode cL_law 916 = .ok (.invokestatic 227, 3) := dk_184 0 227 (dk_at dksL_law_29 16 rfl rfl)
theorem dL_law_919 : decode cL_law 919 = .ok (.istore 5, 2) := dk_54 5 (dk_at dksL_law_29 19 rfl rfl)
theorem dL_law_921 : decode cL_law 921 = .ok (.aload_n 2, 1) := dk_44 (dk_at dksL_law_29 21 rfl rfl)
theorem dL_law_922 : decode cL_law 922 = .ok (.aload_n 0, 1) := dk_42 (dk_at dksL_law_29 22 rfl rfl)
theorem dL_law_923 : decode cL_law 923 = .ok (.iload 4, 2) := dk_21 4 (dk_at dksL_law_30 0 rfl rfl)
theorem dL_law_925 : decode cL_law 925 = .ok (.iconst 1, 1) := dk_4 (dk_at dksL_law_30 2 rfl rfl)
theorem dL_law_926 : decode cL_law 926 = .ok (.iadd, 1) := dk_96 (dk_at dksL_law_30 3 rfl rfl)
theorem dL_law_927 : decode cL_law 927 = .ok (.iaload, 1) := dk_46 (dk_at dksL_law_30 4 rfl rfl)
theorem dL_law_928 : decode cL_law 928 = .ok (.invokevirtual 229, 3) := dk_182 0 229 (dk_at dksL_law_30 5 rfl rfl)
theorem dL_law_931 : decode cL_law 931 = .ok (.istore 6, 2) := dk_54 6 (dk_at dksL_law_30 8 rfl rfl)
theorem dL_law_933 : decode cL_law 933 = .ok (.aload_n 2, 1) := dk_44 (dk_at dksL_law_30 10 rfl rfl)
theorem dL_law_934 : decode cL_law 934 = .ok (.invokevirtual 169, 3) := dk_182 0 169 (dk_at dksL_law_30 11 rfl rfl)
theorem dL_law_937 : decode cL_law 937 = .ok (.iload 5, 2) := dk_21 5 (dk_at dksL_law_30 14 rfl rfl)
theorem dL_law_939 : decode cL_law 939 = .ok (.if_icmp .eq 5, 3) := dk_159 0 5 (dk_at dksL_law_30 16 rfl rfl)
theorem dL_law_942 : decode cL_law 942 = .ok (.iconst 0, 1) := dk_3 (dk_at dksL_law_30 19 rfl rfl)
theorem dL_law_943 : decode cL_law 943 = .ok (.ireturn, 1) := dk_172 (dk_at dksL_law_30 20 rfl rfl)
theorem dL_law_944 : decode cL_law 944 = .ok (.iload 5, 2) := dk_21 5 (dk_at dksL_law_30 21 rfl rfl)
theorem dL_law_946 : decode cL_law 946 = .ok (.ifCond .ne 15, 3) := dk_154 0 15 (dk_at dksL_law_31 0 rfl rfl)
theorem dL_law_949 : decode cL_law 949 = .ok (.aload_n 3, 1) := dk_45 (dk_at dksL_law_31 3 rfl rfl)
theorem dL_law_950 : decode cL_law 950 = .ok (.iconst 0, 1) := dk_3 (dk_at dksL_law_31 4 rfl rfl)
theorem dL_law_951 : decode cL_law 951 = .ok (.laload, 1) := dk_47 (dk_at dksL_law_31 5 rfl rfl)
theorem dL_law_952 : decode cL_law 952 = .ok (.iload 6, 2) := dk_21 6 (dk_at dksL_law_31 6 rfl rfl)
theorem dL_law_954 : decode cL_law 954 = .ok (.i2l, 1) := dk_133 (dk_at dksL_law_31 8 rfl rfl)
theorem dL_law_955 : decode cL_law 955 = .ok (.lcmp, 1) := dk_148 (dk_at dksL_law_31 9 rfl rfl)
theorem dL_law_956 : decode cL_law 956 = .ok (.ifCond .eq 5, 3) := dk_153 0 5 (dk_at dksL_law_31 10 rfl rfl)
theorem dL_law_959 : decode cL_law 959 = .ok (.iconst 0, 1) := dk_3 (dk_at dksL_law_31 13 rfl rfl)
theorem dL_law_960 : decode cL_law 960 = .ok (.ireturn, 1) := dk_172 (dk_at dksL_law_31 14 rfl rfl)
theorem dL_law_961 : decode cL_law 961 = .ok (.goto 2193, 3) := dk_167 8 145 (dk_at dksL_law_31 15 rfl rfl)
theorem dL_law_964 : decode cL_law 964 = .ok (.aload_n 1, 1) := dk_43 (dk_at dksL_law_31 18 rfl rfl)
theorem dL_law_965 : decode cL_law 965 = .ok (.aload_n 0, 1) := dk_42 (dk_at dksL_law_31 19 rfl rfl)
theorem dL_law_966 : decode cL_law 966 = .ok (.iload 4, 2) := dk_21 4 (dk_at dksL_law_31 20 rfl rfl)
theorem dL_law_968 : decode cL_law 968 = .ok (.iconst 1, 1) := dk_4 (dk_at dksL_law_31 22 rfl rfl)
theorem dL_law_969 : decode cL_law 969 = .ok (.iadd, 1) := dk_96 (dk_at dksL_law_31 23 rfl rfl)
theorem dL_law_970 : decode cL_law 970 = .ok (.iaload, 1) := dk_46 (dk_at dksL_law_32 0 rfl rfl)
theorem dL_law_971 : decode cL_law 971 = .ok (.aload_n 3, 1) := dk_45 (dk_at dksL_law_32 1 rfl rfl)
theorem dL_law_972 : decode cL_law 972 = .ok (.invokestatic 230, 3) := dk_184 0 230 (dk_at dksL_law_32 2 rfl rfl)
theorem dL_law_975 : decode cL_law 975 = .ok (.istore 5, 2) := dk_54 5 (dk_at dksL_law_32 5 rfl rfl)
theorem dL_law_977 : decode cL_law 977 = .ok (.aload_n 2, 1) := dk_44 (dk_at dksL_law_32 7 rfl rfl)
theorem dL_law_978 : decode cL_law 978 = .ok (.aload_n 0, 1) := dk_42 (dk_at dksL_law_32 8 rfl rfl)
theorem dL_law_979 : decode cL_law 979 = .ok (.iload 4, 2) := dk_21 4 (dk_at dksL_law_32 9 rfl rfl)
theorem dL_law_981 : decode cL_law 981 = .ok (.iconst 1, 1) := dk_4 (dk_at dksL_law_32 11 rfl rfl)
theorem dL_law_982 : decode cL_law 982 = .ok (.iadd, 1) := dk_96 (dk_at dksL_law_32 12 rfl rfl)
theorem dL_law_983 : decode cL_law 983 = .ok (.iaload, 1) := dk_46 (dk_at dksL_law_32 13 rfl rfl)
theorem dL_law_984 : decode cL_law 984 = .ok (.invokevirtual 232, 3) := dk_182 0 232 (dk_at dksL_law_32 14 rfl rfl)
theorem dL_law_987 : decode cL_law 987 = .ok (.istore 6, 2) := dk_54 6 (dk_at dksL_law_32 17 rfl rfl)
theorem dL_law_989 : decode cL_law 989 = .ok (.aload_n 2, 1) := dk_44 (dk_at dksL_law_32 19 rfl rfl)
theorem dL_law_990 : decode cL_law 990 = .ok (.invokevirtual 169, 3) := dk_182 0 169 (dk_at dksL_law_32 20 rfl rfl)
theorem dL_law_993 : decode cL_law 993 = .ok (.iload 5, 2) := dk_21 5 (dk_at dksL_law_33 0 rfl rfl)
theorem dL_law_995 : decode cL_law 995 = .ok (.if_icmp .eq 5, 3) := dk_159 0 5 (dk_at dksL_law_33 2 rfl rfl)
theorem dL_law_998 : decode cL_law 998 = .ok (.iconst 0, 1) := dk_3 (dk_at dksL_law_33 5 rfl rfl)
theorem dL_law_999 : decode cL_law 999 = .ok (.ireturn, 1) := dk_172 (dk_at dksL_law_33 6 rfl rfl)
theorem dL_law_1000 : decode cL_law 1000 = .ok (.iload 5, 2) := dk_21 5 (dk_at dksL_law_33 7 rfl rfl)
theorem dL_law_1002 : decode cL_law 1002 = .ok (.ifCond .ne 15, 3) := dk_154 0 15 (dk_at dksL_law_33 9 rfl rfl)
theorem dL_law_1005 : decode cL_law 1005 = .ok (.aload_n 3, 1) := dk_45 (dk_at dksL_law_33 12 rfl rfl)
theorem dL_law_1006 : decode cL_law 1006 = .ok (.iconst 0, 1) := dk_3 (dk_at dksL_law_33 13 rfl rfl)
theorem dL_law_1007 : decode cL_law 1007 = .ok (.laload, 1) := dk_47 (dk_at dksL_law_33 14 rfl rfl)
theorem dL_law_1008 : decode cL_law 1008 = .ok (.iload 6, 2) := dk_21 6 (dk_at dksL_law_33 15 rfl rfl)
theorem dL_law_1010 : decode cL_law 1010 = .ok (.i2l, 1) := dk_133 (dk_at dksL_law_33 17 rfl rfl)
theorem dL_law_1011 : decode cL_law 1011 = .ok (.lcmp, 1) := dk_148 (dk_at dksL_law_33 18 rfl rfl)
theorem dL_law_1012 : decode cL_law 1012 = .ok (.ifCond .eq 5, 3) := dk_153 0 5 (dk_at dksL_law_33 19 rfl rfl)
theorem dL_law_1015 : decode cL_law 1015 = .ok (.iconst 0, 1) := dk_3 (dk_at dksL_law_33 22 rfl rfl)
theorem dL_law_1016 : decode cL_law 1016 = .ok (.ireturn, 1) := dk_172 (dk_at dksL_law_33 23 rfl rfl)
theorem dL_law_1017 : decode cL_law 1017 = .ok (.goto 2137, 3) := dk_167 8 89 (dk_at dksL_law_34 0 rfl rfl)
theorem dL_law_1020 : decode cL_law 1020 = .ok (.aload_n 1, 1) := dk_43 (dk_at dksL_law_34 3 rfl rfl)
theorem dL_law_1021 : decode cL_law 1021 = .ok (.aload_n 0, 1) := dk_42 (dk_at dksL_law_34 4 rfl rfl)
theorem dL_law_1022 : decode cL_law 1022 = .ok (.iload 4, 2) := dk_21 4 (dk_at dksL_law_34 5 rfl rfl)
theorem dL_law_1024 : decode cL_law 1024 = .ok (.iconst 1, 1) := dk_4 (dk_at dksL_law_34 7 rfl rfl)
theorem dL_law_1025 : decode cL_law 1025 = .ok (.iadd, 1) := dk_96 (dk_at dksL_law_34 8 rfl rfl)
theorem dL_law_1026 : decode cL_law 1026 = .ok (.iaload, 1) := dk_46 (dk_at dksL_law_34 9 rfl rfl)
theorem dL_law_1027 : decode cL_law 1027 = .ok (.aload_n 3, 1) := dk_45 (dk_at dksL_law_34 10 rfl rfl)
theorem dL_law_1028 : decode cL_law 1028 = .ok (.invokestatic 233, 3) := dk_184 0 233 (dk_at dksL_law_34 11 rfl rfl)
theorem dL_law_1031 : decode cL_law 1031 = .ok (.istore 5, 2) := dk_54 5 (dk_at dksL_law_34 14 rfl rfl)
theorem dL_law_1033 : decode cL_law 1033 = .ok (.aload_n 2, 1) := dk_44 (dk_at dksL_law_34 16 rfl rfl)
theorem dL_law_1034 : decode cL_law 1034 = .ok (.aload_n 0, 1) := dk_42 (dk_at dksL_law_34 17 rfl rfl)
theorem dL_law_1035 : decode cL_law 1035 = .ok (.iload 4, 2) := dk_21 4 (dk_at dksL_law_34 18 rfl rfl)
theorem dL_law_1037 : decode cL_law 1037 = .ok (.iconst 1, 1) := dk_4 (dk_at dksL_law_34 20 rfl rfl)
theorem dL_law_1038 : decode cL_law 1038 = .ok (.iadd, 1) := dk_96 (dk_at dksL_law_34 21 rfl rfl)
theorem dL_law_1039 : decode cL_law 1039 = .ok (.iaload, 1) := dk_46 (dk_at dksL_law_34 22 rfl rfl)
theorem dL_law_1040 : decode cL_law 1040 = .ok (.invokevirtual 235, 3) := dk_182 0 235 (dk_at dksL_law_35 0 rfl rfl)
theorem dL_law_1043 : decode cL_law 1043 = .ok (.istore 6, 2) := dk_54 6 (dk_at dksL_law_35 3 rfl rfl)
theorem dL_law_1045 : decode cL_law 1045 = .ok (.aload_n 2, 1) := dk_44 (dk_at dksL_law_35 5 rfl rfl)
theorem dL_law_1046 : decode cL_law 1046 = .ok (.invokevirtual 169, 3) := dk_182 0 169 (dk_at dksL_law_35 6 rfl rfl)
theorem dL_law_1049 : decode cL_law 1049 = .ok (.iload 5, 2) := dk_21 5 (dk_at dksL_law_35 9 rfl rfl)
theorem dL_law_1051 : decode cL_law 1051 = .ok (.if_icmp .eq 5, 3) := dk_159 0 5 (dk_at dksL_law_35 11 rfl rfl)
theorem dL_law_1054 : decode cL_law 1054 = .ok (.iconst 0, 1) := dk_3 (dk_at dksL_law_35 14 rfl rfl)
theorem dL_law_1055 : decode cL_law 1055 = .ok (.ireturn, 1) := dk_172 (dk_at dksL_law_35 15 rfl rfl)
theorem dL_law_1056 : decode cL_law 1056 = .ok (.iload 5, 2) := dk_21 5 (dk_at dksL_law_35 16 rfl rfl)
theorem dL_law_1058 : decode cL_law 1058 = .ok (.ifCond .ne 15, 3) := dk_154 0 15 (dk_at dksL_law_35 18 rfl rfl)
theorem dL_law_1061 : decode cL_law 1061 = .ok (.aload_n 3, 1) := dk_45 (dk_at dksL_law_35 21 rfl rfl)
theorem dL_law_1062 : decode cL_law 1062 = .ok (.iconst 0, 1) := dk_3 (dk_at dksL_law_35 22 rfl rfl)
theorem dL_law_1063 : decode cL_law 1063 = .ok (.laload, 1) := dk_47 (dk_at dksL_law_35 23 rfl rfl)
theorem dL_law_1064 : decode cL_law 1064 = .ok (.iload 6, 2) := dk_21 6 (dk_at dksL_law_36 0 rfl rfl)
theorem dL_law_1066 : decode cL_law 1066 = .ok (.i2l, 1) := dk_133 (dk_at dksL_law_36 2 rfl rfl)
theorem dL_law_1067 : decode cL_law 1067 = .ok (.lcmp, 1) := dk_148 (dk_at dksL_law_36 3 rfl rfl)
theorem dL_law_1068 : decode cL_law 1068 = .ok (.ifCond .eq 5, 3) := dk_153 0 5 (dk_at dksL_law_36 4 rfl rfl)
theorem dL_law_1071 : decode cL_law 1071 = .ok (.iconst 0, 1) := dk_3 (dk_at dksL_law_36 7 rfl rfl)
theorem dL_law_1072 : decode cL_law 1072 = .ok (.ireturn, 1) := dk_172 (dk_at dksL_law_36 8 rfl rfl)
theorem dL_law_1073 : decode cL_law 1073 = .ok (.goto 2081, 3) := dk_167 8 33 (dk_at dksL_law_36 9 rfl rfl)
theorem dL_law_1076 : decode cL_law 1076 = .ok (.aload_n 1, 1) := dk_43 (dk_at dksL_law_36 12 rfl rfl)
theorem dL_law_1077 : decode cL_law 1077 = .ok (.aload_n 0, 1) := dk_42 (dk_at dksL_law_36 13 rfl rfl)
theorem dL_law_1078 : decode cL_law 1078 = .ok (.iload 4, 2) := dk_21 4 (dk_at dksL_law_36 14 rfl rfl)
theorem dL_law_1080 : decode cL_law 1080 = .ok (.iconst 1, 1) := dk_4 (dk_at dksL_law_36 16 rfl rfl)
theorem dL_law_1081 : decode cL_law 1081 = .ok (.iadd, 1) := dk_96 (dk_at dksL_law_36 17 rfl rfl)
theorem dL_law_1082 : decode cL_law 1082 = .ok (.iaload, 1) := dk_46 (dk_at dksL_law_36 18 rfl rfl)
theorem dL_law_1083 : decode cL_law 1083 = .ok (.aload_n 3, 1) := dk_45 (dk_at dksL_law_36 19 rfl rfl)
theorem dL_law_1084 : decode cL_law 1084 = .ok (.invokestatic 236, 3) := dk_184 0 236 (dk_at dksL_law_36 20 rfl rfl)
theorem dL_law_1087 : decode cL_law 1087 = .ok (.istore 5, 2) := dk_54 5 (dk_at dksL_law_37 0 rfl rfl)
theorem dL_law_1089 : decode cL_law 1089 = .ok (.aload_n 2, 1) := dk_44 (dk_at dksL_law_37 2 rfl rfl)
theorem dL_law_1090 : decode cL_law 1090 = .ok (.aload_n 0, 1) := dk_42 (dk_at dksL_law_37 3 rfl rfl)
theorem dL_law_1091 : decode cL_law 1091 = .ok (.iload 4, 2) := dk_21 4 (dk_at dksL_law_37 4 rfl rfl)
theorem dL_law_1093 : decode cL_law 1093 = .ok (.iconst 1, 1) := dk_4 (dk_at dksL_law_37 6 rfl rfl)
theorem dL_law_1094 : decode cL_law 1094 = .ok (.iadd, 1) := dk_96 (dk_at dksL_law_37 7 rfl rfl)
theorem dL_law_1095 : decode cL_law 1095 = .ok (.iaload, 1) := dk_46 (dk_at dksL_law_37 8 rfl rfl)
theorem dL_law_1096 : decode cL_law 1096 = .ok (.invokevirtual 238, 3) := dk_182 0 238 (dk_at dksL_law_37 9 rfl rfl)
theorem dL_law_1099 : decode cL_law 1099 = .ok (.istore 6, 2) := dk_54 6 (dk_at dksL_law_37 12 rfl rfl)
theorem dL_law_1101 : decode cL_law 1101 = .ok (.aload_n 2, 1) := dk_44 (dk_at dksL_law_37 14 rfl rfl)
theorem dL_law_1102 : decode cL_law 1102 = .ok (.invokevirtual 169, 3) := dk_182 0 169 (dk_at dksL_law_37 15 rfl rfl)
theorem dL_law_1105 : decode cL_law 1105 = .ok (.iload 5, 2) := dk_21 5 (dk_at dksL_law_37 18 rfl rfl)
theorem dL_law_1107 : decode cL_law 1107 = .ok (.if_icmp .eq 5, 3) := dk_159 0 5 (dk_at dksL_law_37 20 rfl rfl)
theorem dL_law_1110 : decode cL_law 1110 = .ok (.iconst 0, 1) := dk_3 (dk_at dksL_law_37 23 rfl rfl)
theorem dL_law_1111 : decode cL_law 1111 = .ok (.ireturn, 1) := dk_172 (dk_at dksL_law_38 0 rfl rfl)
theorem dL_law_1112 : decode cL_law 1112 = .ok (.iload 5, 2) := dk_21 5 (dk_at dksL_law_38 1 rfl rfl)
theorem dL_law_1114 : decode cL_law 1114 = .ok (.ifCond .ne 15, 3) := dk_154 0 15 (dk_at dksL_law_38 3 rfl rfl)
theorem dL_law_1117 : decode cL_law 1117 = .ok (.aload_n 3, 1) := dk_45 (dk_at dksL_law_38 6 rfl rfl)
theorem dL_law_1118 : decode cL_law 1118 = .ok (.iconst 0, 1) := dk_3 (dk_at dksL_law_38 7 rfl rfl)
theorem dL_law_1119 : decode cL_law 1119 = .ok (.laload, 1) := dk_47 (dk_at dksL_law_38 8 rfl rfl)
theorem dL_law_1120 : decode cL_law 1120 = .ok (.iload 6, 2) := dk_21 6 (dk_at dksL_law_38 9 rfl rfl)
theorem dL_law_1122 : decode cL_law 1122 = .ok (.i2l, 1) := dk_133 (dk_at dksL_law_38 11 rfl rfl)
theorem dL_law_1123 : decode cL_law 1123 = .ok (.lcmp, 1) := dk_148 (dk_at dksL_law_38 12 rfl rfl)
theorem dL_law_1124 : decode cL_law 1124 = .ok (.ifCond .eq 5, 3) := dk_153 0 5 (dk_at dksL_law_38 13 rfl rfl)
theorem dL_law_1127 : decode cL_law 1127 = .ok (.iconst 0, 1) := dk_3 (dk_at dksL_law_38 16 rfl rfl)
theorem dL_law_1128 : decode cL_law 1128 = .ok (.ireturn, 1) := dk_172 (dk_at dksL_law_38 17 rfl rfl)
theorem dL_law_1129 : decode cL_law 1129 = .ok (.goto 2025, 3) := dk_167 7 233 (dk_at dksL_law_38 18 rfl rfl)
theorem dL_law_1132 : decode cL_law 1132 = .ok (.aload_n 1, 1) := dk_43 (dk_at dksL_law_38 21 rfl rfl)
theorem dL_law_1133 : decode cL_law 1133 = .ok (.aload_n 0, 1) := dk_42 (dk_at dksL_law_38 22 rfl rfl)
theorem dL_law_1134 : decode cL_law 1134 = .ok (.iload 4, 2) := dk_21 4 (dk_at dksL_law_39 0 rfl rfl)
theorem dL_law_1136 : decode cL_law 1136 = .ok (.iconst 1, 1) := dk_4 (dk_at dksL_law_39 2 rfl rfl)
theorem dL_law_1137 : decode cL_law 1137 = .ok (.iadd, 1) := dk_96 (dk_at dksL_law_39 3 rfl rfl)
theorem dL_law_1138 : decode cL_law 1138 = .ok (.iaload, 1) := dk_46 (dk_at dksL_law_39 4 rfl rfl)
theorem dL_law_1139 : decode cL_law 1139 = .ok (.aload_n 3, 1) := dk_45 (dk_at dksL_law_39 5 rfl rfl)
theorem dL_law_1140 : decode cL_law 1140 = .ok (.invokestatic 239, 3) := dk_184 0 239 (dk_at dksL_law_39 6 rfl rfl)
theorem dL_law_1143 : decode cL_law 1143 = .ok (.istore 5, 2) := dk_54 5 (dk_at dksL_law_39 9 rfl rfl)
theorem dL_law_1145 : decode cL_law 1145 = .ok (.aload_n 2, 1) := dk_44 (dk_at dksL_law_39 11 rfl rfl)
theorem dL_law_1146 : decode cL_law 1146 = .ok (.aload_n 0, 1) := dk_42 (dk_at dksL_law_39 12 rfl rfl)
theorem dL_law_1147 : decode cL_law 1147 = .ok (.iload 4, 2) := dk_21 4 (dk_at dksL_law_39 13 rfl rfl)
theorem dL_law_1149 : decode cL_law 1149 = .ok (.iconst 1, 1) := dk_4 (dk_at dksL_law_39 15 rfl rfl)
theorem dL_law_1150 : decode cL_law 1150 = .ok (.iadd, 1) := dk_96 (dk_at dksL_law_39 16 rfl rfl)
theorem dL_law_1151 : decode cL_law 1151 = .ok (.iaload, 1) := dk_46 (dk_at dksL_law_39 17 rfl rfl)
theorem dL_law_1152 : decode cL_law 1152 = .ok (.invokevirtual 241, 3) := dk_182 0 241 (dk_at dksL_law_39 18 rfl rfl)
theorem dL_law_1155 : decode cL_law 1155 = .ok (.istore 6, 2) := dk_54 6 (dk_at dksL_law_39 21 rfl rfl)
theorem dL_law_1157 : decode cL_law 1157 = .ok (.aload_n 2, 1) := dk_44 (dk_at dksL_law_39 23 rfl rfl)
theorem dL_law_1158 : decode cL_law 1158 = .ok (.invokevirtual 169, 3) := dk_182 0 169 (dk_at dksL_law_40 0 rfl rfl)
theorem dL_law_1161 : decode cL_law 1161 = .ok (.iload 5, 2) := dk_21 5 (dk_at dksL_law_40 3 rfl rfl)
theorem dL_law_1163 : decode cL_law 1163 = .ok (.if_icmp .eq 5, 3) := dk_159 0 5 (dk_at dksL_law_40 5 rfl rfl)
theorem dL_law_1166 : decode cL_law 1166 = .ok (.iconst 0, 1) := dk_3 (dk_at dksL_law_40 8 rfl rfl)
theorem dL_law_1167 : decode cL_law 1167 = .ok (.ireturn, 1) := dk_172 (dk_at dksL_law_40 9 rfl rfl)
theorem dL_law_1168 : decode cL_law 1168 = .ok (.iload 5, 2) := dk_21 5 (dk_at dksL_law_40 10 rfl rfl)
theorem dL_law_1170 : decode cL_law 1170 = .ok (.ifCond .ne 15, 3) := dk_154 0 15 (dk_at dksL_law_40 12 rfl rfl)
theorem dL_law_1173 : decode cL_law 1173 = .ok (.aload_n 3, 1) := dk_45 (dk_at dksL_law_40 15 rfl rfl)
theorem dL_law_1174 : decode cL_law 1174 = .ok (.iconst 0, 1) := dk_3 (dk_at dksL_law_40 16 rfl rfl)
theorem dL_law_1175 : decode cL_law 1175 = .ok (.laload, 1) := dk_47 (dk_at dksL_law_40 17 rfl rfl)
theorem dL_law_1176 : decode cL_law 1176 = .ok (.iload 6, 2) := dk_21 6 (dk_at dksL_law_40 18 rfl rfl)
theorem dL_law_1178 : decode cL_law 1178 = .ok (.i2l, 1) := dk_133 (dk_at dksL_law_40 20 rfl rfl)
theorem dL_law_1179 : decode cL_law 1179 = .ok (.lcmp, 1) := dk_148 (dk_at dksL_law_40 21 rfl rfl)
theorem dL_law_1180 : decode cL_law 1180 = .ok (.ifCond .eq 5, 3) := dk_153 0 5 (dk_at dksL_law_41 0 rfl rfl)
theorem dL_law_1183 : decode cL_law 1183 = .ok (.iconst 0, 1) := dk_3 (dk_at dksL_law_41 3 rfl rfl)
theorem dL_law_1184 : decode cL_law 1184 = .ok (.ireturn, 1) := dk_172 (dk_at dksL_law_41 4 rfl rfl)
theorem dL_law_1185 : decode cL_law 1185 = .ok (.goto 1969, 3) := dk_167 7 177 (dk_at dksL_law_41 5 rfl rfl)
theorem dL_law_1188 : decode cL_law 1188 = .ok (.aload_n 1, 1) := dk_43 (dk_at dksL_law_41 8 rfl rfl)
theorem dL_law_1189 : decode cL_law 1189 = .ok (.aload_n 0, 1) := dk_42 (dk_at dksL_law_41 9 rfl rfl)
theorem dL_law_1190 : decode cL_law 1190 = .ok (.iload 4, 2) := dk_21 4 (dk_at dksL_law_41 10 rfl rfl)
theorem dL_law_1192 : decode cL_law 1192 = .ok (.iconst 1, 1) := dk_4 (dk_at dksL_law_41 12 rfl rfl)
theorem dL_law_1193 : decode cL_law 1193 = .ok (.iadd, 1) := dk_96 (dk_at dksL_law_41 13 rfl rfl)
theorem dL_law_1194 : decode cL_law 1194 = .ok (.iaload, 1) := dk_46 (dk_at dksL_law_41 14 rfl rfl)
theorem dL_law_1195 : decode cL_law 1195 = .ok (.aload_n 3, 1) := dk_45 (dk_at dksL_law_41 15 rfl rfl)
theorem dL_law_1196 : decode cL_law 1196 = .ok (.invokestatic 242, 3) := dk_184 0 242 (dk_at dksL_law_41 16 rfl rfl)
theorem dL_law_1199 : decode cL_law 1199 = .ok (.istore 5, 2) := dk_54 5 (dk_at dksL_law_41 19 rfl rfl)
theorem dL_law_1201 : decode cL_law 1201 = .ok (.aload_n 2, 1) := dk_44 (dk_at dksL_law_41 21 rfl rfl)
theorem dL_law_1202 : decode cL_law 1202 = .ok (.aload_n 0, 1) := dk_42 (dk_at dksL_law_41 22 rfl rfl)
theorem dL_law_1203 : decode cL_law 1203 = .ok (.iload 4, 2) := dk_21 4 (dk_at dksL_law_42 0 rfl rfl)
theorem dL_law_1205 : decode cL_law 1205 = .ok (.iconst 1, 1) := dk_4 (dk_at dksL_law_42 2 rfl rfl)
theorem dL_law_1206 : decode cL_law 1206 = .ok (.iadd, 1) := dk_96 (dk_at dksL_law_42 3 rfl rfl)
theorem dL_law_1207 : decode cL_law 1207 = .ok (.iaload, 1) := dk_46 (dk_at dksL_law_42 4 rfl rfl)
theorem dL_law_1208 : decode cL_law 1208 = .ok (.invokevirtual 244, 3) := dk_182 0 244 (dk_at dksL_law_42 5 rfl rfl)
theorem dL_law_1211 : decode cL_law 1211 = .ok (.istore 6, 2) := dk_54 6 (dk_at dksL_law_42 8 rfl rfl)
theorem dL_law_1213 : decode cL_law 1213 = .ok (.aload_n 2, 1) := dk_44 (dk_at dksL_law_42 10 rfl rfl)
theorem dL_law_1214 : decode cL_law 1214 = .ok (.invokevirtual 169, 3) := dk_182 0 169 (dk_at dksL_law_42 11 rfl rfl)
theorem dL_law_1217 : decode cL_law 1217 = .ok (.iload 5, 2) := dk_21 5 (dk_at dksL_law_42 14 rfl rfl)
theorem dL_law_1219 : decode cL_law 1219 = .ok (.if_icmp .eq 5, 3) := dk_159 0 5 (dk_at dksL_law_42 16 rfl rfl)
theorem dL_law_1222 : decode cL_law 1222 = .ok (.iconst 0, 1) := dk_3 (dk_at dksL_law_42 19 rfl rfl)
theorem dL_law_1223 : decode cL_law 1223 = .ok (.ireturn, 1) := dk_172 (dk_at dksL_law_42 20 rfl rfl)
theorem dL_law_1224 : decode cL_law 1224 = .ok (.iload 5, 2) := dk_21 5 (dk_at dksL_law_42 21 rfl rfl)
theorem dL_law_1226 : decode cL_law 1226 = .ok (.ifCond .ne 15, 3) := dk_154 0 15 (dk_at dksL_law_43 0 rfl rfl)
theorem dL_law_1229 : decode cL_law 1229 = .ok (.aload_n 3, 1) := dk_45 (dk_at dksL_law_43 3 rfl rfl)
theorem dL_law_1230 : decode cL_law 1230 = .ok (.iconst 0, 1) := dk_3 (dk_at dksL_law_43 4 rfl rfl)
theorem dL_law_1231 : decode cL_law 1231 = .ok (.laload, 1) := dk_47 (dk_at dksL_law_43 5 rfl rfl)
theorem dL_law_1232 : decode cL_law 1232 = .ok (.iload 6, 2) := dk_21 6 (dk_at dksL_law_43 6 rfl rfl)
theorem dL_law_1234 : decode cL_law 1234 = .ok (.i2l, 1) := dk_133 (dk_at dksL_law_43 8 rfl rfl)
theorem dL_law_1235 : decode cL_law 1235 = .ok (.lcmp, 1) := dk_148 (dk_at dksL_law_43 9 rfl rfl)
theorem dL_law_1236 : decode cL_law 1236 = .ok (.ifCond .eq 5, 3) := dk_153 0 5 (dk_at dksL_law_43 10 rfl rfl)
theorem dL_law_1239 : decode cL_law 1239 = .ok (.iconst 0, 1) := dk_3 (dk_at dksL_law_43 13 rfl rfl)
theorem dL_law_1240 : decode cL_law 1240 = .ok (.ireturn, 1) := dk_172 (dk_at dksL_law_43 14 rfl rfl)
theorem dL_law_1241 : decode cL_law 1241 = .ok (.goto 1913, 3) := dk_167 7 121 (dk_at dksL_law_43 15 rfl rfl)
theorem dL_law_1244 : decode cL_law 1244 = .ok (.aload_n 1, 1) := dk_43 (dk_at dksL_law_43 18 rfl rfl)
theorem dL_law_1245 : decode cL_law 1245 = .ok (.aload_n 0, 1) := dk_42 (dk_at dksL_law_43 19 rfl rfl)
theorem dL_law_1246 : decode cL_law 1246 = .ok (.iload 4, 2) := dk_21 4 (dk_at dksL_law_43 20 rfl rfl)
theorem dL_law_1248 : decode cL_law 1248 = .ok (.iconst 1, 1) := dk_4 (dk_at dksL_law_43 22 rfl rfl)
theorem dL_law_1249 : decode cL_law 1249 = .ok (.iadd, 1) := dk_96 (dk_at dksL_law_43 23 rfl rfl)
theorem dL_law_1250 : decode cL_law 1250 = .ok (.iaload, 1) := dk_46 (dk_at dksL_law_44 0 rfl rfl)
theorem dL_law_1251 : decode cL_law 1251 = .ok (.aload_n 3, 1) := dk_45 (dk_at dksL_law_44 1 rfl rfl)
theorem dL_law_1252 : decode cL_law 1252 = .ok (.invokestatic 245, 3) := dk_184 0 245 (dk_at dksL_law_44 2 rfl rfl)
theorem dL_law_1255 : decode cL_law 1255 = .ok (.istore 5, 2) := dk_54 5 (dk_at dksL_law_44 5 rfl rfl)
theorem dL_law_1257 : decode cL_law 1257 = .ok (.aload_n 2, 1) := dk_44 (dk_at dksL_law_44 7 rfl rfl)
theorem dL_law_1258 : decode cL_law 1258 = .ok (.aload_n 0, 1) := dk_42 (dk_at dksL_law_44 8 rfl rfl)
theorem dL_law_1259 : decode cL_law 1259 = .ok (.iload 4, 2) := dk_21 4 (dk_at dksL_law_44 9 rfl rfl)
theorem dL_law_1261 : decode cL_law 1261 = .ok (.iconst 1, 1) := dk_4 (dk_at dksL_law_44 11 rfl rfl)
theorem dL_law_1262 : decode cL_law 1262 = .ok (.iadd, 1) := dk_96 (dk_at dksL_law_44 12 rfl rfl)
theorem dL_law_1263 : decode cL_law 1263 = .ok (.iaload, 1) := dk_46 (dk_at dksL_law_44 13 rfl rfl)
theorem dL_law_1264 : decode cL_law 1264 = .ok (.invokevirtual 247, 3) := dk_182 0 247 (dk_at dksL_law_44 14 rfl rfl)
theorem dL_law_1267 : decode cL_law 1267 = .ok (.istore 6, 2) := dk_54 6 (dk_at dksL_law_44 17 rfl rfl)
theorem dL_law_1269 : decode cL_law 1269 = .ok (.aload_n 2, 1) := dk_44 (dk_at dksL_law_44 19 rfl rfl)
theorem dL_law_1270 : decode cL_law 1270 = .ok (.invokevirtual 169, 3) := dk_182 0 169 (dk_at dksL_law_44 20 rfl rfl)
theorem dL_law_1273 : decode cL_law 1273 = .ok (.iload 5, 2) := dk_21 5 (dk_at dksL_law_45 0 rfl rfl)
theorem dL_law_1275 : decode cL_law 1275 = .ok (.if_icmp .eq 5, 3) := dk_159 0 5 (dk_at dksL_law_45 2 rfl rfl)
theorem dL_law_1278 : decode cL_law 1278 = .ok (.iconst 0, 1) := dk_3 (dk_at dksL_law_45 5 rfl rfl)
theorem dL_law_1279 : decode cL_law 1279 = .ok (.ireturn, 1) := dk_172 (dk_at dksL_law_45 6 rfl rfl)
theorem dL_law_1280 : decode cL_law 1280 = .ok (.iload 5, 2) := dk_21 5 (dk_at dksL_law_45 7 rfl rfl)
theorem dL_law_1282 : decode cL_law 1282 = .ok (.ifCond .ne 15, 3) := dk_154 0 15 (dk_at dksL_law_45 9 rfl rfl)
theorem dL_law_1285 : decode cL_law 1285 = .ok (.aload_n 3, 1) := dk_45 (dk_at dksL_law_45 12 rfl rfl)
theorem dL_law_1286 : decode cL_law 1286 = .ok (.iconst 0, 1) := dk_3 (dk_at dksL_law_45 13 rfl rfl)
theorem dL_law_1287 : decode cL_law 1287 = .ok (.laload, 1) := dk_47 (dk_at dksL_law_45 14 rfl rfl)
theorem dL_law_1288 : decode cL_law 1288 = .ok (.iload 6, 2) := dk_21 6 (dk_at dksL_law_45 15 rfl rfl)
theorem dL_law_1290 : decode cL_law 1290 = .ok (.i2l, 1) := dk_133 (dk_at dksL_law_45 17 rfl rfl)
theorem dL_law_1291 : decode cL_law 1291 = .ok (.lcmp, 1) := dk_148 (dk_at dksL_law_45 18 rfl rfl)
theorem dL_law_1292 : decode cL_law 1292 = .ok (.ifCond .eq 5, 3) := dk_153 0 5 (dk_at dksL_law_45 19 rfl rfl)
theorem dL_law_1295 : decode cL_law 1295 = .ok (.iconst 0, 1) := dk_3 (dk_at dksL_law_45 22 rfl rfl)
theorem dL_law_1296 : decode cL_law 1296 = .ok (.ireturn, 1) := dk_172 (dk_at dksL_law_45 23 rfl rfl)
theorem dL_law_1297 : decode cL_law 1297 = .ok (.goto 1857, 3) := dk_167 7 65 (dk_at dksL_law_46 0 rfl rfl)
theorem dL_law_1300 : decode cL_law 1300 = .ok (.aload_n 1, 1) := dk_43 (dk_at dksL_law_46 3 rfl rfl)
theorem dL_law_1301 : decode cL_law 1301 = .ok (.aload_n 0, 1) := dk_42 (dk_at dksL_law_46 4 rfl rfl)
theorem dL_law_1302 : decode cL_law 1302 = .ok (.iload 4, 2) := dk_21 4 (dk_at dksL_law_46 5 rfl rfl)
theorem dL_law_1304 : decode cL_law 1304 = .ok (.iconst 1, 1) := dk_4 (dk_at dksL_law_46 7 rfl rfl)
theorem dL_law_1305 : decode cL_law 1305 = .ok (.iadd, 1) := dk_96 (dk_at dksL_law_46 8 rfl rfl)
theorem dL_law_1306 : decode cL_law 1306 = .ok (.iaload, 1) := dk_46 (dk_at dksL_law_46 9 rfl rfl)
theorem dL_law_1307 : decode cL_law 1307 = .ok (.aload_n 0, 1) := dk_42 (dk_at dksL_law_46 10 rfl rfl)
theorem dL_law_1308 : decode cL_law 1308 = .ok (.iload 4, 2) := dk_21 4 (dk_at dksL_law_46 11 rfl rfl)
theorem dL_law_1310 : decode cL_law 1310 = .ok (.iconst 2, 1) := dk_5 (dk_at dksL_law_46 13 rfl rfl)
theorem dL_law_1311 : decode cL_law 1311 = .ok (.iadd, 1) := dk_96 (dk_at dksL_law_46 14 rfl rfl)
theorem dL_law_1312 : decode cL_law 1312 = .ok (.iaload, 1) := dk_46 (dk_at dksL_law_46 15 rfl rfl)
theorem dL_law_1313 : decode cL_law 1313 = .ok (.aload_n 0, 1) := dk_42 (dk_at dksL_law_46 16 rfl rfl)
theorem dL_law_1314 : decode cL_law 1314 = .ok (.iload 4, 2) := dk_21 4 (dk_at dksL_law_46 17 rfl rfl)
theorem dL_law_1316 : decode cL_law 1316 = .ok (.iconst 3, 1) := dk_6 (dk_at dksL_law_46 19 rfl rfl)
theorem dL_law_1317 : decode cL_law 1317 = .ok (.iadd, 1) := dk_96 (dk_at dksL_law_46 20 rfl rfl)
theorem dL_law_1318 : decode cL_law 1318 = .ok (.iaload, 1) := dk_46 (dk_at dksL_law_46 21 rfl rfl)
theorem dL_law_1319 : decode cL_law 1319 = .ok (.aload_n 3, 1) := dk_45 (dk_at dksL_law_46 22 rfl rfl)
theorem dL_law_1320 : decode cL_law 1320 = .ok (.invokestatic 248, 3) := dk_184 0 248 (dk_at dksL_law_47 0 rfl rfl)
theorem dL_law_1323 : decode cL_law 1323 = .ok (.istore 5, 2) := dk_54 5 (dk_at dksL_law_47 3 rfl rfl)
theorem dL_law_1325 : decode cL_law 1325 = .ok (.aload_n 2, 1) := dk_44 (dk_at dksL_law_47 5 rfl rfl)
theorem dL_law_1326 : decode cL_law 1326 = .ok (.aload_n 0, 1) := dk_42 (dk_at dksL_law_47 6 rfl rfl)
theorem dL_law_1327 : decode cL_law 1327 = .ok (.iload 4, 2) := dk_21 4 (dk_at dksL_law_47 7 rfl rfl)
theorem dL_law_1329 : decode cL_law 1329 = .ok (.iconst 1, 1) := dk_4 (dk_at dksL_law_47 9 rfl rfl)
theorem dL_law_1330 : decode cL_law 1330 = .ok (.iadd, 1) := dk_96 (dk_at dksL_law_47 10 rfl rfl)
theorem dL_law_1331 : decode cL_law 1331 = .ok (.iaload, 1) := dk_46 (dk_at dksL_law_47 11 rfl rfl)
theorem dL_law_1332 : decode cL_law 1332 = .ok (.aload_n 0, 1) := dk_42 (dk_at dksL_law_47 12 rfl rfl)
theorem dL_law_1333 : decode cL_law 1333 = .ok (.iload 4, 2) := dk_21 4 (dk_at dksL_law_47 13 rfl rfl)
theorem dL_law_1335 : decode cL_law 1335 = .ok (.iconst 2, 1) := dk_5 (dk_at dksL_law_47 15 rfl rfl)
theorem dL_law_1336 : decode cL_law 1336 = .ok (.iadd, 1) := dk_96 (dk_at dksL_law_47 16 rfl rfl)
theorem dL_law_1337 : decode cL_law 1337 = .ok (.iaload, 1) := dk_46 (dk_at dksL_law_47 17 rfl rfl)
theorem dL_law_1338 : decode cL_law 1338 = .ok (.aload_n 0, 1) := dk_42 (dk_at dksL_law_47 18 rfl rfl)
theorem dL_law_1339 : decode cL_law 1339 = .ok (.iload 4, 2) := dk_21 4 (dk_at dksL_law_47 19 rfl rfl)
theorem dL_law_1341 : decode cL_law 1341 = .ok (.iconst 3, 1) := dk_6 (dk_at dksL_law_47 21 rfl rfl)
theorem dL_law_1342 : decode cL_law 1342 = .ok (.iadd, 1) := dk_96 (dk_at dksL_law_47 22 rfl rfl)
theorem dL_law_1343 : decode cL_law 1343 = .ok (.iaload, 1) := dk_46 (dk_at dksL_law_47 23 rfl rfl)
theorem dL_law_1344 : decode cL_law 1344 = .ok (.invokevirtual 250, 3) := dk_182 0 250 (dk_at dksL_law_48 0 rfl rfl)
theorem dL_law_1347 : decode cL_law 1347 = .ok (.istore 6, 2) := dk_54 6 (dk_at dksL_law_48 3 rfl rfl)
theorem dL_law_1349 : decode cL_law 1349 = .ok (.aload_n 2, 1) := dk_44 (dk_at dksL_law_48 5 rfl rfl)
theorem dL_law_1350 : decode cL_law 1350 = .ok (.invokevirtual 169, 3) := dk_182 0 169 (dk_at dksL_law_48 6 rfl rfl)
theorem dL_law_1353 : decode cL_law 1353 = .ok (.iload 5, 2) := dk_21 5 (dk_at dksL_law_48 9 rfl rfl)
theorem dL_law_1355 : decode cL_law 1355 = .ok (.if_icmp .eq 5, 3) := dk_159 0 5 (dk_at dksL_law_48 11 rfl rfl)
theorem dL_law_1358 : decode cL_law 1358 = .ok (.iconst 0, 1) := dk_3 (dk_at dksL_law_48 14 rfl rfl)
theorem dL_law_1359 : decode cL_law 1359 = .ok (.ireturn, 1) := dk_172 (dk_at dksL_law_48 15 rfl rfl)
theorem dL_law_1360 : decode cL_law 1360 = .ok (.iload 5, 2) := dk_21 5 (dk_at dksL_law_48 16 rfl rfl)
theorem dL_law_1362 : decode cL_law 1362 = .ok (.ifCond .ne 15, 3) := dk_154 0 15 (dk_at dksL_law_48 18 rfl rfl)
theorem dL_law_1365 : decode cL_law 1365 = .ok (.aload_n 3, 1) := dk_45 (dk_at dksL_law_48 21 rfl rfl)
theorem dL_law_1366 : decode cL_law 1366 = .ok (.iconst 0, 1) := dk_3 (dk_at dksL_law_48 22 rfl rfl)
theorem dL_law_1367 : decode cL_law 1367 = .ok (.laload, 1) := dk_47 (dk_at dksL_law_48 23 rfl rfl)
theorem dL_law_1368 : decode cL_law 1368 = .ok (.iload 6, 2) := dk_21 6 (dk_at dksL_law_49 0 rfl rfl)
theorem dL_law_1370 : decode cL_law 1370 = .ok (.i2l, 1) := dk_133 (dk_at dksL_law_49 2 rfl rfl)
theorem dL_law_1371 : decode cL_law 1371 = .ok (.lcmp, 1) := dk_148 (dk_at dksL_law_49 3 rfl rfl)
theorem dL_law_1372 : decode cL_law 1372 = .ok (.ifCond .eq 5, 3) := dk_153 0 5 (dk_at dksL_law_49 4 rfl rfl)
theorem dL_law_1375 : decode cL_law 1375 = .ok (.iconst 0, 1) := dk_3 (dk_at dksL_law_49 7 rfl rfl)
theorem dL_law_1376 : decode cL_law 1376 = .ok (.ireturn, 1) := dk_172 (dk_at dksL_law_49 8 rfl rfl)
theorem dL_law_1377 : decode cL_law 1377 = .ok (.goto 1777, 3) := dk_167 6 241 (dk_at dksL_law_49 9 rfl rfl)
theorem dL_law_1380 : decode cL_law 1380 = .ok (.aload_n 1, 1) := dk_43 (dk_at dksL_law_49 12 rfl rfl)
theorem dL_law_1381 : decode cL_law 1381 = .ok (.aload_n 0, 1) := dk_42 (dk_at dksL_law_49 13 rfl rfl)
theorem dL_law_1382 : decode cL_law 1382 = .ok (.iload 4, 2) := dk_21 4 (dk_at dksL_law_49 14 rfl rfl)
theorem dL_law_1384 : decode cL_law 1384 = .ok (.iconst 1, 1) := dk_4 (dk_at dksL_law_49 16 rfl rfl)
theorem dL_law_1385 : decode cL_law 1385 = .ok (.iadd, 1) := dk_96 (dk_at dksL_law_49 17 rfl rfl)
theorem dL_law_1386 : decode cL_law 1386 = .ok (.iaload, 1) := dk_46 (dk_at dksL_law_49 18 rfl rfl)
theorem dL_law_1387 : decode cL_law 1387 = .ok (.aload_n 0, 1) := dk_42 (dk_at dksL_law_49 19 rfl rfl)
theorem dL_law_1388 : decode cL_law 1388 = .ok (.iload 4, 2) := dk_21 4 (dk_at dksL_law_49 20 rfl rfl)
theorem dL_law_1390 : decode cL_law 1390 = .ok (.iconst 2, 1) := dk_5 (dk_at dksL_law_49 22 rfl rfl)
theorem dL_law_1391 : decode cL_law 1391 = .ok (.iadd, 1) := dk_96 (dk_at dksL_law_49 23 rfl rfl)
theorem dL_law_1392 : decode cL_law 1392 = .ok (.iaload, 1) := dk_46 (dk_at dksL_law_50 0 rfl rfl)
theorem dL_law_1393 : decode cL_law 1393 = .ok (.aload_n 0, 1) := dk_42 (dk_at dksL_law_50 1 rfl rfl)
theorem dL_law_1394 : decode cL_law 1394 = .ok (.iload 4, 2) := dk_21 4 (dk_at dksL_law_50 2 rfl rfl)
theorem dL_law_1396 : decode cL_law 1396 = .ok (.iconst 3, 1) := dk_6 (dk_at dksL_law_50 4 rfl rfl)
theorem dL_law_1397 : decode cL_law 1397 = .ok (.iadd, 1) := dk_96 (dk_at dksL_law_50 5 rfl rfl)
theorem dL_law_1398 : decode cL_law 1398 = .ok (.iaload, 1) := dk_46 (dk_at dksL_law_50 6 rfl rfl)
theorem dL_law_1399 : decode cL_law 1399 = .ok (.aload_n 0, 1) := dk_42 (dk_at dksL_law_50 7 rfl rfl)
theorem dL_law_1400 : decode cL_law 1400 = .ok (.iload 4, 2) := dk_21 4 (dk_at dksL_law_50 8 rfl rfl)
theorem dL_law_1402 : decode cL_law 1402 = .ok (.iconst 4, 1) := dk_7 (dk_at dksL_law_50 10 rfl rfl)
theorem dL_law_1403 : decode cL_law 1403 = .ok (.iadd, 1) := dk_96 (dk_at dksL_law_50 11 rfl rfl)
theorem dL_law_1404 : decode cL_law 1404 = .ok (.iaload, 1) := dk_46 (dk_at dksL_law_50 12 rfl rfl)
theorem dL_law_1405 : decode cL_law 1405 = .ok (.aload_n 3, 1) := dk_45 (dk_at dksL_law_50 13 rfl rfl)
theorem dL_law_1406 : decode cL_law 1406 = .ok (.invokestatic 251, 3) := dk_184 0 251 (dk_at dksL_law_50 14 rfl rfl)
theorem dL_law_1409 : decode cL_law 1409 = .ok (.istore 5, 2) := dk_54 5 (dk_at dksL_law_50 17 rfl rfl)
theorem dL_law_1411 : decode cL_law 1411 = .ok (.aload_n 2, 1) := dk_44 (dk_at dksL_law_50 19 rfl rfl)
theorem dL_law_1412 : decode cL_law 1412 = .ok (.aload_n 0, 1) := dk_42 (dk_at dksL_law_50 20 rfl rfl)
theorem dL_law_1413 : decode cL_law 1413 = .ok (.iload 4, 2) := dk_21 4 (dk_at dksL_law_50 21 rfl rfl)
theorem dL_law_1415 : decode cL_law 1415 = .ok (.iconst 1, 1) := dk_4 (dk_at dksL_law_50 23 rfl rfl)
theorem dL_law_1416 : decode cL_law 1416 = .ok (.iadd, 1) := dk_96 (dk_at dksL_law_51 0 rfl rfl)
theorem dL_law_1417 : decode cL_law 1417 = .ok (.iaload, 1) := dk_46 (dk_at dksL_law_51 1 rfl rfl)
theorem dL_law_1418 : decode cL_law 1418 = .ok (.aload_n 0, 1) := dk_42 (dk_at dksL_law_51 2 rfl rfl)
theorem dL_law_1419 : decode cL_law 1419 = .ok (.iload 4, 2) := dk_21 4 (dk_at dksL_law_51 3 rfl rfl)
theorem dL_law_1421 : decode cL_law 1421 = .ok (.iconst 2, 1) := dk_5 (dk_at dksL_law_51 5 rfl rfl)
theorem dL_law_1422 : decode cL_law 1422 = .ok (.iadd, 1) := dk_96 (dk_at dksL_law_51 6 rfl rfl)
theorem dL_law_1423 : decode cL_law 1423 = .ok (.iaload, 1) := dk_46 (dk_at dksL_law_51 7 rfl rfl)
theorem dL_law_1424 : decode cL_law 1424 = .ok (.aload_n 0, 1) := dk_42 (dk_at dksL_law_51 8 rfl rfl)
theorem dL_law_1425 : decode cL_law 1425 = .ok (.iload 4, 2) := dk_21 4 (dk_at dksL_law_51 9 rfl rfl)
theorem dL_law_1427 : decode cL_law 1427 = .ok (.iconst 3, 1) := dk_6 (dk_at dksL_law_51 11 rfl rfl)
theorem dL_law_1428 : decode cL_law 1428 = .ok (.iadd, 1) := dk_96 (dk_at dksL_law_51 12 rfl rfl)
theorem dL_law_1429 : decode cL_law 1429 = .ok (.iaload, 1) := dk_46 (dk_at dksL_law_51 13 rfl rfl)
theorem dL_law_1430 : decode cL_law 1430 = .ok (.aload_n 0, 1) := dk_42 (dk_at dksL_law_51 14 rfl rfl)
theorem dL_law_1431 : decode cL_law 1431 = .ok (.iload 4, 2) := dk_21 4 (dk_at dksL_law_51 15 rfl rfl)
theorem dL_law_1433 : decode cL_law 1433 = .ok (.iconst 4, 1) := dk_7 (dk_at dksL_law_51 17 rfl rfl)
theorem dL_law_1434 : decode cL_law 1434 = .ok (.iadd, 1) := dk_96 (dk_at dksL_law_51 18 rfl rfl)
theorem dL_law_1435 : decode cL_law 1435 = .ok (.iaload, 1) := dk_46 (dk_at dksL_law_51 19 rfl rfl)
theorem dL_law_1436 : decode cL_law 1436 = .ok (.invokevirtual 254, 3) := dk_182 0 254 (dk_at dksL_law_51 20 rfl rfl)
theorem dL_law_1439 : decode cL_law 1439 = .ok (.istore 6, 2) := dk_54 6 (dk_at dksL_law_52 0 rfl rfl)
theorem dL_law_1441 : decode cL_law 1441 = .ok (.aload_n 2, 1) := dk_44 (dk_at dksL_law_52 2 rfl rfl)
theorem dL_law_1442 : decode cL_law 1442 = .ok (.invokevirtual 169, 3) := dk_182 0 169 (dk_at dksL_law_52 3 rfl rfl)
theorem dL_law_1445 : decode cL_law 1445 = .ok (.iload 5, 2) := dk_21 5 (dk_at dksL_law_52 6 rfl rfl)
theorem dL_law_1447 : decode cL_law 1447 = .ok (.if_icmp .eq 5, 3) := dk_159 0 5 (dk_at dksL_law_52 8 rfl rfl)
theorem dL_law_1450 : decode cL_law 1450 = .ok (.iconst 0, 1) := dk_3 (dk_at dksL_law_52 11 rfl rfl)
theorem dL_law_1451 : decode cL_law 1451 = .ok (.ireturn, 1) := dk_172 (dk_at dksL_law_52 12 rfl rfl)
theorem dL_law_1452 : decode cL_law 1452 = .ok (.iload 5, 2) := dk_21 5 (dk_at dksL_law_52 13 rfl rfl)
theorem dL_law_1454 : decode cL_law 1454 = .ok (.ifCond .ne 15, 3) := dk_154 0 15 (dk_at dksL_law_52 15 rfl rfl)
theorem dL_law_1457 : decode cL_law 1457 = .ok (.aload_n 3, 1) := dk_45 (dk_at dksL_law_52 18 rfl rfl)
theorem dL_law_1458 : decode cL_law 1458 = .ok (.iconst 0, 1) := dk_3 (dk_at dksL_law_52 19 rfl rfl)
theorem dL_law_1459 : decode cL_law 1459 = .ok (.laload, 1) := dk_47 (dk_at dksL_law_52 20 rfl rfl)
theorem dL_law_1460 : decode cL_law 1460 = .ok (.iload 6, 2) := dk_21 6 (dk_at dksL_law_52 21 rfl rfl)
theorem dL_law_1462 : decode cL_law 1462 = .ok (.i2l, 1) := dk_133 (dk_at dksL_law_52 23 rfl rfl)
theorem dL_law_1463 : decode cL_law 1463 = .ok (.lcmp, 1) := dk_148 (dk_at dksL_law_53 0 rfl rfl)
theorem dL_law_1464 : decode cL_law 1464 = .ok (.ifCond .eq 5, 3) := dk_153 0 5 (dk_at dksL_law_53 1 rfl rfl)
theorem dL_law_1467 : decode cL_law 1467 = .ok (.iconst 0, 1) := dk_3 (dk_at dksL_law_53 4 rfl rfl)
theorem dL_law_1468 : decode cL_law 1468 = .ok (.ireturn, 1) := dk_172 (dk_at dksL_law_53 5 rfl rfl)
theorem dL_law_1469 : decode cL_law 1469 = .ok (.goto 1685, 3) := dk_167 6 149 (dk_at dksL_law_53 6 rfl rfl)
theorem dL_law_1472 : decode cL_law 1472 = .ok (.aload_n 1, 1) := dk_43 (dk_at dksL_law_53 9 rfl rfl)
theorem dL_law_1473 : decode cL_law 1473 = .ok (.aload_n 0, 1) := dk_42 (dk_at dksL_law_53 10 rfl rfl)
theorem dL_law_1474 : decode cL_law 1474 = .ok (.iload 4, 2) := dk_21 4 (dk_at dksL_law_53 11 rfl rfl)
theorem dL_law_1476 : decode cL_law 1476 = .ok (.iconst 1, 1) := dk_4 (dk_at dksL_law_53 13 rfl rfl)
theorem dL_law_1477 : decode cL_law 1477 = .ok (.iadd, 1) := dk_96 (dk_at dksL_law_53 14 rfl rfl)
theorem dL_law_1478 : decode cL_law 1478 = .ok (.iaload, 1) := dk_46 (dk_at dksL_law_53 15 rfl rfl)
theorem dL_law_1479 : decode cL_law 1479 = .ok (.aload_n 0, 1) := dk_42 (dk_at dksL_law_53 16 rfl rfl)
theorem dL_law_1480 : decode cL_law 1480 = .ok (.iload 4, 2) := dk_21 4 (dk_at dksL_law_53 17 rfl rfl)
theorem dL_law_1482 : decode cL_law 1482 = .ok (.iconst 2, 1) := dk_5 (dk_at dksL_law_53 19 rfl rfl)
theorem dL_law_1483 : decode cL_law 1483 = .ok (.iadd, 1) := dk_96 (dk_at dksL_law_53 20 rfl rfl)
theorem dL_law_1484 : decode cL_law 1484 = .ok (.iaload, 1) := dk_46 (dk_at dksL_law_53 21 rfl rfl)
theorem dL_law_1485 : decode cL_law 1485 = .ok (.aload_n 3, 1) := dk_45 (dk_at dksL_law_53 22 rfl rfl)
theorem dL_law_1486 : decode cL_law 1486 = .ok (.invokestatic 255, 3) := dk_184 0 255 (dk_at dksL_law_54 0 rfl rfl)
theorem dL_law_1489 : decode cL_law 1489 = .ok (.istore 5, 2) := dk_54 5 (dk_at dksL_law_54 3 rfl rfl)
theorem dL_law_1491 : decode cL_law 1491 = .ok (.aload_n 2, 1) := dk_44 (dk_at dksL_law_54 5 rfl rfl)
theorem dL_law_1492 : decode cL_law 1492 = .ok (.aload_n 0, 1) := dk_42 (dk_at dksL_law_54 6 rfl rfl)
theorem dL_law_1493 : decode cL_law 1493 = .ok (.iload 4, 2) := dk_21 4 (dk_at dksL_law_54 7 rfl rfl)
theorem dL_law_1495 : decode cL_law 1495 = .ok (.iconst 1, 1) := dk_4 (dk_at dksL_law_54 9 rfl rfl)
theorem dL_law_1496 : decode cL_law 1496 = .ok (.iadd, 1) := dk_96 (dk_at dksL_law_54 10 rfl rfl)
theorem dL_law_1497 : decode cL_law 1497 = .ok (.iaload, 1) := dk_46 (dk_at dksL_law_54 11 rfl rfl)
theorem dL_law_1498 : decode cL_law 1498 = .ok (.aload_n 0, 1) := dk_42 (dk_at dksL_law_54 12 rfl rfl)
theorem dL_law_1499 : decode cL_law 1499 = .ok (.iload 4, 2) := dk_21 4 (dk_at dksL_law_54 13 rfl rfl)
theorem dL_law_1501 : decode cL_law 1501 = .ok (.iconst 2, 1) := dk_5 (dk_at dksL_law_54 15 rfl rfl)
theorem dL_law_1502 : decode cL_law 1502 = .ok (.iadd, 1) := dk_96 (dk_at dksL_law_54 16 rfl rfl)
theorem dL_law_1503 : decode cL_law 1503 = .ok (.iaload, 1) := dk_46 (dk_at dksL_law_54 17 rfl rfl)
theorem dL_law_1504 : decode cL_law 1504 = .ok (.invokevirtual 258, 3) := dk_182 1 2 (dk_at dksL_law_54 18 rfl rfl)
theorem dL_law_1507 : decode cL_law 1507 = .ok (.istore 6, 2) := dk_54 6 (dk_at dksL_law_54 21 rfl rfl)
theorem dL_law_1509 : decode cL_law 1509 = .ok (.aload_n 2, 1) := dk_44 (dk_at dksL_law_54 23 rfl rfl)
theorem dL_law_1510 : decode cL_law 1510 = .ok (.invokevirtual 169, 3) := dk_182 0 169 (dk_at dksL_law_55 0 rfl rfl)
theorem dL_law_1513 : decode cL_law 1513 = .ok (.iload 5, 2) := dk_21 5 (dk_at dksL_law_55 3 rfl rfl)
theorem dL_law_1515 : decode cL_law 1515 = .ok (.if_icmp .eq 5, 3) := dk_159 0 5 (dk_at dksL_law_55 5 rfl rfl)
theorem dL_law_1518 : decode cL_law 1518 = .ok (.iconst 0, 1) := dk_3 (dk_at dksL_law_55 8 rfl rfl)
theorem dL_law_1519 : decode cL_law 1519 = .ok (.ireturn, 1) := dk_172 (dk_at dksL_law_55 9 rfl rfl)
theorem dL_law_1520 : decode cL_law 1520 = .ok (.iload 5, 2) := dk_21 5 (dk_at dksL_law_55 10 rfl rfl)
theorem dL_law_1522 : decode cL_law 1522 = .ok (.ifCond .ne 15, 3) := dk_154 0 15 (dk_at dksL_law_55 12 rfl rfl)
theorem dL_law_1525 : decode cL_law 1525 = .ok (.aload_n 3, 1) := dk_45 (dk_at dksL_law_55 15 rfl rfl)
theorem dL_law_1526 : decode cL_law 1526 = .ok (.iconst 0, 1) := dk_3 (dk_at dksL_law_55 16 rfl rfl)
theorem dL_law_1527 : decode cL_law 1527 = .ok (.laload, 1) := dk_47 (dk_at dksL_law_55 17 rfl rfl)
theorem dL_law_1528 : decode cL_law 1528 = .ok (.iload 6, 2) := dk_21 6 (dk_at dksL_law_55 18 rfl rfl)
theorem dL_law_1530 : decode cL_law 1530 = .ok (.i2l, 1) := dk_133 (dk_at dksL_law_55 20 rfl rfl)
theorem dL_law_1531 : decode cL_law 1531 = .ok (.lcmp, 1) := dk_148 (dk_at dksL_law_55 21 rfl rfl)
theorem dL_law_1532 : decode cL_law 1532 = .ok (.ifCond .eq 5, 3) := dk_153 0 5 (dk_at dksL_law_56 0 rfl rfl)
theorem dL_law_1535 : decode cL_law 1535 = .ok (.iconst 0, 1) := dk_3 (dk_at dksL_law_56 3 rfl rfl)
theorem dL_law_1536 : decode cL_law 1536 = .ok (.ireturn, 1) := dk_172 (dk_at dksL_law_56 4 rfl rfl)
theorem dL_law_1537 : decode cL_law 1537 = .ok (.goto 1617, 3) := dk_167 6 81 (dk_at dksL_law_56 5 rfl rfl)
theorem dL_law_1540 : decode cL_law 1540 = .ok (.aload_n 1, 1) := dk_43 (dk_at dksL_law_56 8 rfl rfl)
theorem dL_law_1541 : decode cL_law 1541 = .ok (.aload_n 0, 1) := dk_42 (dk_at dksL_law_56 9 rfl rfl)
theorem dL_law_1542 : decode cL_law 1542 = .ok (.iload 4, 2) := dk_21 4 (dk_at dksL_law_56 10 rfl rfl)
theorem dL_law_1544 : decode cL_law 1544 = .ok (.iconst 1, 1) := dk_4 (dk_at dksL_law_56 12 rfl rfl)
theorem dL_law_1545 : decode cL_law 1545 = .ok (.iadd, 1) := dk_96 (dk_at dksL_law_56 13 rfl rfl)
theorem dL_law_1546 : decode cL_law 1546 = .ok (.iaload, 1) := dk_46 (dk_at dksL_law_56 14 rfl rfl)
theorem dL_law_1547 : decode cL_law 1547 = .ok (.aload_n 3, 1) := dk_45 (dk_at dksL_law_56 15 rfl rfl)
theorem dL_law_1548 : decode cL_law 1548 = .ok (.invokestatic 259, 3) := dk_184 1 3 (dk_at dksL_law_56 16 rfl rfl)
theorem dL_law_1551 : decode cL_law 1551 = .ok (.istore 5, 2) := dk_54 5 (dk_at dksL_law_56 19 rfl rfl)
theorem dL_law_1553 : decode cL_law 1553 = .ok (.aload_n 2, 1) := dk_44 (dk_at dksL_law_56 21 rfl rfl)
theorem dL_law_1554 : decode cL_law 1554 = .ok (.aload_n 0, 1) := dk_42 (dk_at dksL_law_56 22 rfl rfl)
theorem dL_law_1555 : decode cL_law 1555 = .ok (.iload 4, 2) := dk_21 4 (dk_at dksL_law_57 0 rfl rfl)
theorem dL_law_1557 : decode cL_law 1557 = .ok (.iconst 1, 1) := dk_4 (dk_at dksL_law_57 2 rfl rfl)
theorem dL_law_1558 : decode cL_law 1558 = .ok (.iadd, 1) := dk_96 (dk_at dksL_law_57 3 rfl rfl)
theorem dL_law_1559 : decode cL_law 1559 = .ok (.iaload, 1) := dk_46 (dk_at dksL_law_57 4 rfl rfl)
theorem dL_law_1560 : decode cL_law 1560 = .ok (.invokevirtual 261, 3) := dk_182 1 5 (dk_at dksL_law_57 5 rfl rfl)
theorem dL_law_1563 : decode cL_law 1563 = .ok (.istore 6, 2) := dk_54 6 (dk_at dksL_law_57 8 rfl rfl)
theorem dL_law_1565 : decode cL_law 1565 = .ok (.aload_n 2, 1) := dk_44 (dk_at dksL_law_57 10 rfl rfl)
theorem dL_law_1566 : decode cL_law 1566 = .ok (.invokevirtual 169, 3) := dk_182 0 169 (dk_at dksL_law_57 11 rfl rfl)
theorem dL_law_1569 : decode cL_law 1569 = .ok (.iload 5, 2) := dk_21 5 (dk_at dksL_law_57 14 rfl rfl)
theorem dL_law_1571 : decode cL_law 1571 = .ok (.if_icmp .eq 5, 3) := dk_159 0 5 (dk_at dksL_law_57 16 rfl rfl)
theorem dL_law_1574 : decode cL_law 1574 = .ok (.iconst 0, 1) := dk_3 (dk_at dksL_law_57 19 rfl rfl)
theorem dL_law_1575 : decode cL_law 1575 = .ok (.ireturn, 1) := dk_172 (dk_at dksL_law_57 20 rfl rfl)
theorem dL_law_1576 : decode cL_law 1576 = .ok (.iload 5, 2) := dk_21 5 (dk_at dksL_law_57 21 rfl rfl)
theorem dL_law_1578 : decode cL_law 1578 = .ok (.ifCond .ne 15, 3) := dk_154 0 15 (dk_at dksL_law_58 0 rfl rfl)
theorem dL_law_1581 : decode cL_law 1581 = .ok (.aload_n 3, 1) := dk_45 (dk_at dksL_law_58 3 rfl rfl)
theorem dL_law_1582 : decode cL_law 1582 = .ok (.iconst 0, 1) := dk_3 (dk_at dksL_law_58 4 rfl rfl)
theorem dL_law_1583 : decode cL_law 1583 = .ok (.laload, 1) := dk_47 (dk_at dksL_law_58 5 rfl rfl)
theorem dL_law_1584 : decode cL_law 1584 = .ok (.iload 6, 2) := dk_21 6 (dk_at dksL_law_58 6 rfl rfl)
theorem dL_law_1586 : decode cL_law 1586 = .ok (.i2l, 1) := dk_133 (dk_at dksL_law_58 8 rfl rfl)
theorem dL_law_1587 : decode cL_law 1587 = .ok (.lcmp, 1) := dk_148 (dk_at dksL_law_58 9 rfl rfl)
theorem dL_law_1588 : decode cL_law 1588 = .ok (.ifCond .eq 5, 3) := dk_153 0 5 (dk_at dksL_law_58 10 rfl rfl)
theorem dL_law_1591 : decode cL_law 1591 = .ok (.iconst 0, 1) := dk_3 (dk_at dksL_law_58 13 rfl rfl)
theorem dL_law_1592 : decode cL_law 1592 = .ok (.ireturn, 1) := dk_172 (dk_at dksL_law_58 14 rfl rfl)
theorem dL_law_1593 : decode cL_law 1593 = .ok (.goto 1561, 3) := dk_167 6 25 (dk_at dksL_law_58 15 rfl rfl)
theorem dL_law_1596 : decode cL_law 1596 = .ok (.aload_n 1, 1) := dk_43 (dk_at dksL_law_58 18 rfl rfl)
theorem dL_law_1597 : decode cL_law 1597 = .ok (.aload_n 0, 1) := dk_42 (dk_at dksL_law_58 19 rfl rfl)
theorem dL_law_1598 : decode cL_law 1598 = .ok (.iload 4, 2) := dk_21 4 (dk_at dksL_law_58 20 rfl rfl)
theorem dL_law_1600 : decode cL_law 1600 = .ok (.iconst 1, 1) := dk_4 (dk_at dksL_law_58 22 rfl rfl)
theorem dL_law_1601 : decode cL_law 1601 = .ok (.iadd, 1) := dk_96 (dk_at dksL_law_58 23 rfl rfl)
theorem dL_law_1602 : decode cL_law 1602 = .ok (.iaload, 1) := dk_46 (dk_at dksL_law_59 0 rfl rfl)
theorem dL_law_1603 : decode cL_law 1603 = .ok (.aload_n 3, 1) := dk_45 (dk_at dksL_law_59 1 rfl rfl)
theorem dL_law_1604 : decode cL_law 1604 = .ok (.invokestatic 262, 3) := dk_184 1 6 (dk_at dksL_law_59 2 rfl rfl)
theorem dL_law_1607 : decode cL_law 1607 = .ok (.istore 5, 2) := dk_54 5 (dk_at dksL_law_59 5 rfl rfl)
theorem dL_law_1609 : decode cL_law 1609 = .ok (.aload_n 2, 1) := dk_44 (dk_at dksL_law_59 7 rfl rfl)
theorem dL_law_1610 : decode cL_law 1610 = .ok (.aload_n 0, 1) := dk_42 (dk_at dksL_law_59 8 rfl rfl)
theorem dL_law_1611 : decode cL_law 1611 = .ok (.iload 4, 2) := dk_21 4 (dk_at dksL_law_59 9 rfl rfl)
theorem dL_law_1613 : decode cL_law 1613 = .ok (.iconst 1, 1) := dk_4 (dk_at dksL_law_59 11 rfl rfl)
theorem dL_law_1614 : decode cL_law 1614 = .ok (.iadd, 1) := dk_96 (dk_at dksL_law_59 12 rfl rfl)
theorem dL_law_1615 : decode cL_law 1615 = .ok (.iaload, 1) := dk_46 (dk_at dksL_law_59 13 rfl rfl)
theorem dL_law_1616 : decode cL_law 1616 = .ok (.invokevirtual 264, 3) := dk_182 1 8 (dk_at dksL_law_59 14 rfl rfl)
theorem dL_law_1619 : decode cL_law 1619 = .ok (.istore 6, 2) := dk_54 6 (dk_at dksL_law_59 17 rfl rfl)
theorem dL_law_1621 : decode cL_law 1621 = .ok (.aload_n 2, 1) := dk_44 (dk_at dksL_law_59 19 rfl rfl)
theorem dL_law_1622 : decode cL_law 1622 = .ok (.invokevirtual 169, 3) := dk_182 0 169 (dk_at dksL_law_59 20 rfl rfl)
theorem dL_law_1625 : decode cL_law 1625 = .ok (.iload 5, 2) := dk_21 5 (dk_at dksL_law_60 0 rfl rfl)
theorem dL_law_1627 : decode cL_law 1627 = .ok (.if_icmp .eq 5, 3) := dk_159 0 5 (dk_at dksL_law_60 2 rfl rfl)
theorem dL_law_1630 : decode cL_law 1630 = .ok (.iconst 0, 1) := dk_3 (dk_at dksL_law_60 5 rfl rfl)
theorem dL_law_1631 : decode cL_law 1631 = .ok (.ireturn, 1) := dk_172 (dk_at dksL_law_60 6 rfl rfl)
theorem dL_law_1632 : decode cL_law 1632 = .ok (.iload 5, 2) := dk_21 5 (dk_at dksL_law_60 7 rfl rfl)
theorem dL_law_1634 : decode cL_law 1634 = .ok (.ifCond .ne 15, 3) := dk_154 0 15 (dk_at dksL_law_60 9 rfl rfl)
theorem dL_law_1637 : decode cL_law 1637 = .ok (.aload_n 3, 1) := dk_45 (dk_at dksL_law_60 12 rfl rfl)
theorem dL_law_1638 : decode cL_law 1638 = .ok (.iconst 0, 1) := dk_3 (dk_at dksL_law_60 13 rfl rfl)
theorem dL_law_1639 : decode cL_law 1639 = .ok (.laload, 1) := dk_47 (dk_at dksL_law_60 14 rfl rfl)
theorem dL_law_1640 : decode cL_law 1640 = .ok (.iload 6, 2) := dk_21 6 (dk_at dksL_law_60 15 rfl rfl)
theorem dL_law_1642 : decode cL_law 1642 = .ok (.i2l, 1) := dk_133 (dk_at dksL_law_60 17 rfl rfl)
theorem dL_law_1643 : decode cL_law 1643 = .ok (.lcmp, 1) := dk_148 (dk_at dksL_law_60 18 rfl rfl)
theorem dL_law_1644 : decode cL_law 1644 = .ok (.ifCond .eq 5, 3) := dk_153 0 5 (dk_at dksL_law_60 19 rfl rfl)
theorem dL_law_1647 : decode cL_law 1647 = .ok (.iconst 0, 1) := dk_3 (dk_at dksL_law_60 22 rfl rfl)
theorem dL_law_1648 : decode cL_law 1648 = .ok (.ireturn, 1) := dk_172 (dk_at dksL_law_60 23 rfl rfl)
theorem dL_law_1649 : decode cL_law 1649 = .ok (.goto 1505, 3) := dk_167 5 225 (dk_at dksL_law_61 0 rfl rfl)
theorem dL_law_1652 : decode cL_law 1652 = .ok (.aload_n 1, 1) := dk_43 (dk_at dksL_law_61 3 rfl rfl)
theorem dL_law_1653 : decode cL_law 1653 = .ok (.aload_n 0, 1) := dk_42 (dk_at dksL_law_61 4 rfl rfl)
theorem dL_law_1654 : decode cL_law 1654 = .ok (.iload 4, 2) := dk_21 4 (dk_at dksL_law_61 5 rfl rfl)
theorem dL_law_1656 : decode cL_law 1656 = .ok (.iconst 1, 1) := dk_4 (dk_at dksL_law_61 7 rfl rfl)
theorem dL_law_1657 : decode cL_law 1657 = .ok (.iadd, 1) := dk_96 (dk_at dksL_law_61 8 rfl rfl)
theorem dL_law_1658 : decode cL_law 1658 = .ok (.iaload, 1) := dk_46 (dk_at dksL_law_61 9 rfl rfl)
theorem dL_law_1659 : decode cL_law 1659 = .ok (.aload_n 3, 1) := dk_45 (dk_at dksL_law_61 10 rfl rfl)
theorem dL_law_1660 : decode cL_law 1660 = .ok (.invokestatic 265, 3) := dk_184 1 9 (dk_at dksL_law_61 11 rfl rfl)
theorem dL_law_1663 : decode cL_law 1663 = .ok (.istore 5, 2) := dk_54 5 (dk_at dksL_law_61 14 rfl rfl)
theorem dL_law_1665 : decode cL_law 1665 = .ok (.aload_n 2, 1) := dk_44 (dk_at dksL_law_61 16 rfl rfl)
theorem dL_law_1666 : decode cL_law 1666 = .ok (.aload_n 0, 1) := dk_42 (dk_at dksL_law_61 17 rfl rfl)
theorem dL_law_1667 : decode cL_law 1667 = .ok (.iload 4, 2) := dk_21 4 (dk_at dksL_law_61 18 rfl rfl)
theorem dL_law_1669 : decode cL_law 1669 = .ok (.iconst 1, 1) := dk_4 (dk_at dksL_law_61 20 rfl rfl)
theorem dL_law_1670 : decode cL_law 1670 = .ok (.iadd, 1) := dk_96 (dk_at dksL_law_61 21 rfl rfl)
theorem dL_law_1671 : decode cL_law 1671 = .ok (.iaload, 1) := dk_46 (dk_at dksL_law_61 22 rfl rfl)
theorem dL_law_1672 : decode cL_law 1672 = .ok (.invokevirtual 267, 3) := dk_182 1 11 (dk_at dksL_law_62 0 rfl rfl)
theorem dL_law_1675 : decode cL_law 1675 = .ok (.istore 6, 2) := dk_54 6 (dk_at dksL_law_62 3 rfl rfl)
theorem dL_law_1677 : decode cL_law 1677 = .ok (.aload_n 2, 1) := dk_44 (dk_at dksL_law_62 5 rfl rfl)
theorem dL_law_1678 : decode cL_law 1678 = .ok (.invokevirtual 169, 3) := dk_182 0 169 (dk_at dksL_law_62 6 rfl rfl)
theorem dL_law_1681 : decode cL_law 1681 = .ok (.iload 5, 2) := dk_21 5 (dk_at dksL_law_62 9 rfl rfl)
theorem dL_law_1683 : decode cL_law 1683 = .ok (.if_icmp .eq 5, 3) := dk_159 0 5 (dk_at dksL_law_62 11 rfl rfl)
theorem dL_law_1686 : decode cL_law 1686 = .ok (.iconst 0, 1) := dk_3 (dk_at dksL_law_62 14 rfl rfl)
theorem dL_law_1687 : decode cL_law 1687 = .ok (.ireturn, 1) := dk_172 (dk_at dksL_law_62 15 rfl rfl)
theorem dL_law_1688 : decode cL_law 1688 = .ok (.iload 5, 2) := dk_21 5 (dk_at dksL_law_62 16 rfl rfl)
theorem dL_law_1690 : decode cL_law 1690 = .ok (.ifCond .ne 15, 3) := dk_154 0 15 (dk_at dksL_law_62 18 rfl rfl)
theorem dL_law_1693 : decode cL_law 1693 = .ok (.aload_n 3, 1) := dk_45 (dk_at dksL_law_62 21 rfl rfl)
theorem dL_law_1694 : decode cL_law 1694 = .ok (.iconst 0, 1) := dk_3 (dk_at dksL_law_62 22 rfl rfl)
theorem dL_law_1695 : decode cL_law 1695 = .ok (.laload, 1) := dk_47 (dk_at dksL_law_62 23 rfl rfl)
theorem dL_law_1696 : decode cL_law 1696 = .ok (.iload 6, 2) := dk_21 6 (dk_at dksL_law_63 0 rfl rfl)
theorem dL_law_1698 : decode cL_law 1698 = .ok (.i2l, 1) := dk_133 (dk_at dksL_law_63 2 rfl rfl)
theorem dL_law_1699 : decode cL_law 1699 = .ok (.lcmp, 1) := dk_148 (dk_at dksL_law_63 3 rfl rfl)
theorem dL_law_1700 : decode cL_law 1700 = .ok (.ifCond .eq 5, 3) := dk_153 0 5 (dk_at dksL_law_63 4 rfl rfl)
theorem dL_law_1703 : decode cL_law 1703 = .ok (.iconst 0, 1) := dk_3 (dk_at dksL_law_63 7 rfl rfl)
theorem dL_law_1704 : decode cL_law 1704 = .ok (.ireturn, 1) := dk_172 (dk_at dksL_law_63 8 rfl rfl)
theorem dL_law_1705 : decode cL_law 1705 = .ok (.goto 1449, 3) := dk_167 5 169 (dk_at dksL_law_63 9 rfl rfl)
theorem dL_law_1708 : decode cL_law 1708 = .ok (.aload_n 1, 1) := dk_43 (dk_at dksL_law_63 12 rfl rfl)
theorem dL_law_1709 : decode cL_law 1709 = .ok (.aload_n 0, 1) := dk_42 (dk_at dksL_law_63 13 rfl rfl)
theorem dL_law_1710 : decode cL_law 1710 = .ok (.iload 4, 2) := dk_21 4 (dk_at dksL_law_63 14 rfl rfl)
theorem dL_law_1712 : decode cL_law 1712 = .ok (.iconst 1, 1) := dk_4 (dk_at dksL_law_63 16 rfl rfl)
theorem dL_law_1713 : decode cL_law 1713 = .ok (.iadd, 1) := dk_96 (dk_at dksL_law_63 17 rfl rfl)
theorem dL_law_1714 : decode cL_law 1714 = .ok (.iaload, 1) := dk_46 (dk_at dksL_law_63 18 rfl rfl)
theorem dL_law_1715 : decode cL_law 1715 = .ok (.aload_n 0, 1) := dk_42 (dk_at dksL_law_63 19 rfl rfl)
theorem dL_law_1716 : decode cL_law 1716 = .ok (.iload 4, 2) := dk_21 4 (dk_at dksL_law_63 20 rfl rfl)
theorem dL_law_1718 : decode cL_law 1718 = .ok (.iconst 2, 1) := dk_5 (dk_at dksL_law_63 22 rfl rfl)
theorem dL_law_1719 : decode cL_law 1719 = .ok (.iadd, 1) := dk_96 (dk_at dksL_law_63 23 rfl rfl)
theorem dL_law_1720 : decode cL_law 1720 = .ok (.iaload, 1) := dk_46 (dk_at dksL_law_64 0 rfl rfl)
theorem dL_law_1721 : decode cL_law 1721 = .ok (.aload_n 3, 1) := dk_45 (dk_at dksL_law_64 1 rfl rfl)
theorem dL_law_1722 : decode cL_law 1722 = .ok (.invokestatic 268, 3) := dk_184 1 12 (dk_at dksL_law_64 2 rfl rfl)
theorem dL_law_1725 : decode cL_law 1725 = .ok (.istore 5, 2) := dk_54 5 (dk_at dksL_law_64 5 rfl rfl)
theorem dL_law_1727 : decode cL_law 1727 = .ok (.aload_n 2, 1) := dk_44 (dk_at dksL_law_64 7 rfl rfl)
theorem dL_law_1728 : decode cL_law 1728 = .ok (.aload_n 0, 1) := dk_42 (dk_at dksL_law_64 8 rfl rfl)
theorem dL_law_1729 : decode cL_law 1729 = .ok (.iload 4, 2) := dk_21 4 (dk_at dksL_law_64 9 rfl rfl)
theorem dL_law_1731 : decode cL_law 1731 = .ok (.iconst 1, 1) := dk_4 (dk_at dksL_law_64 11 rfl rfl)
theorem dL_law_1732 : decode cL_law 1732 = .ok (.iadd, 1) := dk_96 (dk_at dksL_law_64 12 rfl rfl)
theorem dL_law_1733 : decode cL_law 1733 = .ok (.iaload, 1) := dk_46 (dk_at dksL_law_64 13 rfl rfl)
theorem dL_law_1734 : decode cL_law 1734 = .ok (.aload_n 0, 1) := dk_42 (dk_at dksL_law_64 14 rfl rfl)
theorem dL_law_1735 : decode cL_law 1735 = .ok (.iload 4, 2) := dk_21 4 (dk_at dksL_law_64 15 rfl rfl)
theorem dL_law_1737 : decode cL_law 1737 = .ok (.iconst 2, 1) := dk_5 (dk_at dksL_law_64 17 rfl rfl)
theorem dL_law_1738 : decode cL_law 1738 = .ok (.iadd, 1) := dk_96 (dk_at dksL_law_64 18 rfl rfl)
theorem dL_law_1739 : decode cL_law 1739 = .ok (.iaload, 1) := dk_46 (dk_at dksL_law_64 19 rfl rfl)
theorem dL_law_1740 : decode cL_law 1740 = .ok (.invokevirtual 270, 3) := dk_182 1 14 (dk_at dksL_law_64 20 rfl rfl)
theorem dL_law_1743 : decode cL_law 1743 = .ok (.istore 6, 2) := dk_54 6 (dk_at dksL_law_65 0 rfl rfl)
theorem dL_law_1745 : decode cL_law 1745 = .ok (.aload_n 2, 1) := dk_44 (dk_at dksL_law_65 2 rfl rfl)
theorem dL_law_1746 : decode cL_law 1746 = .ok (.invokevirtual 169, 3) := dk_182 0 169 (dk_at dksL_law_65 3 rfl rfl)
theorem dL_law_1749 : decode cL_law 1749 = .ok (.iload 5, 2) := dk_21 5 (dk_at dksL_law_65 6 rfl rfl)
theorem dL_law_1751 : decode cL_law 1751 = .ok (.if_icmp .eq 5, 3) := dk_159 0 5 (dk_at dksL_law_65 8 rfl rfl)
theorem dL_law_1754 : decode cL_law 1754 = .ok (.iconst 0, 1) := dk_3 (dk_at dksL_law_65 11 rfl rfl)
theorem dL_law_1755 : decode cL_law 1755 = .ok (.ireturn, 1) := dk_172 (dk_at dksL_law_65 12 rfl rfl)
theorem dL_law_1756 : decode cL_law 1756 = .ok (.iload 5, 2) := dk_21 5 (dk_at dksL_law_65 13 rfl rfl)
theorem dL_law_1758 : decode cL_law 1758 = .ok (.ifCond .ne 22, 3) := dk_154 0 22 (dk_at dksL_law_65 15 rfl rfl)
theorem dL_law_1761 : decode cL_law 1761 = .ok (.aload_n 3, 1) := dk_45 (dk_at dksL_law_65 18 rfl rfl)
theorem dL_law_1762 : decode cL_law 1762 = .ok (.iconst 0, 1) := dk_3 (dk_at dksL_law_65 19 rfl rfl)
theorem dL_law_1763 : decode cL_law 1763 = .ok (.laload, 1) := dk_47 (dk_at dksL_law_65 20 rfl rfl)
theorem dL_law_1764 : decode cL_law 1764 = .ok (.iload 6, 2) := dk_21 6 (dk_at dksL_law_65 21 rfl rfl)
theorem dL_law_1766 : decode cL_law 1766 = .ok (.ifCond .eq 7, 3) := dk_153 0 7 (dk_at dksL_law_66 0 rfl rfl)
theorem dL_law_1769 : decode cL_law 1769 = .ok (.lconst 1, 1) := dk_10 (dk_at dksL_law_66 3 rfl rfl)
theorem dL_law_1770 : decode cL_law 1770 = .ok (.goto 4, 3) := dk_167 0 4 (dk_at dksL_law_66 4 rfl rfl)
theorem dL_law_1773 : decode cL_law 1773 = .ok (.lconst 0, 1) := dk_9 (dk_at dksL_law_66 7 rfl rfl)
theorem dL_law_1774 : decode cL_law 1774 = .ok (.lcmp, 1) := dk_148 (dk_at dksL_law_66 8 rfl rfl)
theorem dL_law_1775 : decode cL_law 1775 = .ok (.ifCond .eq 5, 3) := dk_153 0 5 (dk_at dksL_law_66 9 rfl rfl)
theorem dL_law_1778 : decode cL_law 1778 = .ok (.iconst 0, 1) := dk_3 (dk_at dksL_law_66 12 rfl rfl)
theorem dL_law_1779 : decode cL_law 1779 = .ok (.ireturn, 1) := dk_172 (dk_at dksL_law_66 13 rfl rfl)
theorem dL_law_1780 : decode cL_law 1780 = .ok (.goto 1374, 3) := dk_167 5 94 (dk_at dksL_law_66 14 rfl rfl)
theorem dL_law_1783 : decode cL_law 1783 = .ok (.aload_n 1, 1) := dk_43 (dk_at dksL_law_66 17 rfl rfl)
theorem dL_law_1784 : decode cL_law 1784 = .ok (.aload_n 0, 1) := dk_42 (dk_at dksL_law_66 18 rfl rfl)
theorem dL_law_1785 : decode cL_law 1785 = .ok (.iload 4, 2) := dk_21 4 (dk_at dksL_law_66 19 rfl rfl)
theorem dL_law_1787 : decode cL_law 1787 = .ok (.iconst 1, 1) := dk_4 (dk_at dksL_law_66 21 rfl rfl)
theorem dL_law_1788 : decode cL_law 1788 = .ok (.iadd, 1) := dk_96 (dk_at dksL_law_66 22 rfl rfl)
theorem dL_law_1789 : decode cL_law 1789 = .ok (.iaload, 1) := dk_46 (dk_at dksL_law_66 23 rfl rfl)
theorem dL_law_1790 : decode cL_law 1790 = .ok (.aload_n 0, 1) := dk_42 (dk_at dksL_law_67 0 rfl rfl)
theorem dL_law_1791 : decode cL_law 1791 = .ok (.iload 4, 2) := dk_21 4 (dk_at dksL_law_67 1 rfl rfl)
theorem dL_law_1793 : decode cL_law 1793 = .ok (.iconst 2, 1) := dk_5 (dk_at dksL_law_67 3 rfl rfl)
theorem dL_law_1794 : decode cL_law 1794 = .ok (.iadd, 1) := dk_96 (dk_at dksL_law_67 4 rfl rfl)
theorem dL_law_1795 : decode cL_law 1795 = .ok (.iaload, 1) := dk_46 (dk_at dksL_law_67 5 rfl rfl)
theorem dL_law_1796 : decode cL_law 1796 = .ok (.aload_n 0, 1) := dk_42 (dk_at dksL_law_67 6 rfl rfl)
theorem dL_law_1797 : decode cL_law 1797 = .ok (.iload 4, 2) := dk_21 4 (dk_at dksL_law_67 7 rfl rfl)
theorem dL_law_1799 : decode cL_law 1799 = .ok (.iconst 3, 1) := dk_6 (dk_at dksL_law_67 9 rfl rfl)
theorem dL_law_1800 : decode cL_law 1800 = .ok (.iadd, 1) := dk_96 (dk_at dksL_law_67 10 rfl rfl)
theorem dL_law_1801 : decode cL_law 1801 = .ok (.iaload, 1) := dk_46 (dk_at dksL_law_67 11 rfl rfl)
theorem dL_law_1802 : decode cL_law 1802 = .ok (.aload_n 3, 1) := dk_45 (dk_at dksL_law_67 12 rfl rfl)
theorem dL_law_1803 : decode cL_law 1803 = .ok (.invokestatic 271, 3) := dk_184 1 15 (dk_at dksL_law_67 13 rfl rfl)
theorem dL_law_1806 : decode cL_law 1806 = .ok (.istore 5, 2) := dk_54 5 (dk_at dksL_law_67 16 rfl rfl)
theorem dL_law_1808 : decode cL_law 1808 = .ok (.aload_n 2, 1) := dk_44 (dk_at dksL_law_67 18 rfl rfl)
theorem dL_law_1809 : decode cL_law 1809 = .ok (.aload_n 0, 1) := dk_42 (dk_at dksL_law_67 19 rfl rfl)
theorem dL_law_1810 : decode cL_law 1810 = .ok (.iload 4, 2) := dk_21 4 (dk_at dksL_law_67 20 rfl rfl)
theorem dL_law_1812 : decode cL_law 1812 = .ok (.iconst 1, 1) := dk_4 (dk_at dksL_law_67 22 rfl rfl)
theorem dL_law_1813 : decode cL_law 1813 = .ok (.iadd, 1) := dk_96 (dk_at dksL_law_67 23 rfl rfl)
theorem dL_law_1814 : decode cL_law 1814 = .ok (.iaload, 1) := dk_46 (dk_at dksL_law_68 0 rfl rfl)
theorem dL_law_1815 : decode cL_law 1815 = .ok (.aload_n 0, 1) := dk_42 (dk_at dksL_law_68 1 rfl rfl)
theorem dL_law_1816 : decode cL_law 1816 = .ok (.iload 4, 2) := dk_21 4 (dk_at dksL_law_68 2 rfl rfl)
theorem dL_law_1818 : decode cL_law 1818 = .ok (.iconst 2, 1) := dk_5 (dk_at dksL_law_68 4 rfl rfl)
theorem dL_law_1819 : decode cL_law 1819 = .ok (.iadd, 1) := dk_96 (dk_at dksL_law_68 5 rfl rfl)
theorem dL_law_1820 : decode cL_law 1820 = .ok (.iaload, 1) := dk_46 (dk_at dksL_law_68 6 rfl rfl)
theorem dL_law_1821 : decode cL_law 1821 = .ok (.aload_n 0, 1) := dk_42 (dk_at dksL_law_68 7 rfl rfl)
theorem dL_law_1822 : decode cL_law 1822 = .ok (.iload 4, 2) := dk_21 4 (dk_at dksL_law_68 8 rfl rfl)
theorem dL_law_1824 : decode cL_law 1824 = .ok (.iconst 3, 1) := dk_6 (dk_at dksL_law_68 10 rfl rfl)
theorem dL_law_1825 : decode cL_law 1825 = .ok (.iadd, 1) := dk_96 (dk_at dksL_law_68 11 rfl rfl)
theorem dL_law_1826 : decode cL_law 1826 = .ok (.iaload, 1) := dk_46 (dk_at dksL_law_68 12 rfl rfl)
theorem dL_law_1827 : decode cL_law 1827 = .ok (.invokevirtual 273, 3) := dk_182 1 17 (dk_at dksL_law_68 13 rfl rfl)
theorem dL_law_1830 : decode cL_law 1830 = .ok (.istore 6, 2) := dk_54 6 (dk_at dksL_law_68 16 rfl rfl)
theorem dL_law_1832 : decode cL_law 1832 = .ok (.aload_n 2, 1) := dk_44 (dk_at dksL_law_68 18 rfl rfl)
theorem dL_law_1833 : decode cL_law 1833 = .ok (.invokevirtual 169, 3) := dk_182 0 169 (dk_at dksL_law_68 19 rfl rfl)
theorem dL_law_1836 : decode cL_law 1836 = .ok (.iload 5, 2) := dk_21 5 (dk_at dksL_law_68 22 rfl rfl)
theorem dL_law_1838 : decode cL_law 1838 = .ok (.if_icmp .eq 5, 3) := dk_159 0 5 (dk_at dksL_law_69 0 rfl rfl)
theorem dL_law_1841 : decode cL_law 1841 = .ok (.iconst 0, 1) := dk_3 (dk_at dksL_law_69 3 rfl rfl)
theorem dL_law_1842 : decode cL_law 1842 = .ok (.ireturn, 1) := dk_172 (dk_at dksL_law_69 4 rfl rfl)
theorem dL_law_1843 : decode cL_law 1843 = .ok (.iload 5, 2) := dk_21 5 (dk_at dksL_law_69 5 rfl rfl)
theorem dL_law_1845 : decode cL_law 1845 = .ok (.ifCond .ne 15, 3) := dk_154 0 15 (dk_at dksL_law_69 7 rfl rfl)
theorem dL_law_1848 : decode cL_law 1848 = .ok (.aload_n 3, 1) := dk_45 (dk_at dksL_law_69 10 rfl rfl)
theorem dL_law_1849 : decode cL_law 1849 = .ok (.iconst 0, 1) := dk_3 (dk_at dksL_law_69 11 rfl rfl)
theorem dL_law_1850 : decode cL_law 1850 = .ok (.laload, 1) := dk_47 (dk_at dksL_law_69 12 rfl rfl)
theorem dL_law_1851 : decode cL_law 1851 = .ok (.iload 6, 2) := dk_21 6 (dk_at dksL_law_69 13 rfl rfl)
theorem dL_law_1853 : decode cL_law 1853 = .ok (.i2l, 1) := dk_133 (dk_at dksL_law_69 15 rfl rfl)
theorem dL_law_1854 : decode cL_law 1854 = .ok (.lcmp, 1) := dk_148 (dk_at dksL_law_69 16 rfl rfl)
theorem dL_law_1855 : decode cL_law 1855 = .ok (.ifCond .eq 5, 3) := dk_153 0 5 (dk_at dksL_law_69 17 rfl rfl)
theorem dL_law_1858 : decode cL_law 1858 = .ok (.iconst 0, 1) := dk_3 (dk_at dksL_law_69 20 rfl rfl)
theorem dL_law_1859 : decode cL_law 1859 = .ok (.ireturn, 1) := dk_172 (dk_at dksL_law_69 21 rfl rfl)
theorem dL_law_1860 : decode cL_law 1860 = .ok (.goto 1294, 3) := dk_167 5 14 (dk_at dksL_law_70 0 rfl rfl)
theorem dL_law_1863 : decode cL_law 1863 = .ok (.aload_n 1, 1) := dk_43 (dk_at dksL_law_70 3 rfl rfl)
theorem dL_law_1864 : decode cL_law 1864 = .ok (.aload_n 0, 1) := dk_42 (dk_at dksL_law_70 4 rfl rfl)
theorem dL_law_1865 : decode cL_law 1865 = .ok (.iload 4, 2) := dk_21 4 (dk_at dksL_law_70 5 rfl rfl)
theorem dL_law_1867 : decode cL_law 1867 = .ok (.iconst 1, 1) := dk_4 (dk_at dksL_law_70 7 rfl rfl)
theorem dL_law_1868 : decode cL_law 1868 = .ok (.iadd, 1) := dk_96 (dk_at dksL_law_70 8 rfl rfl)
theorem dL_law_1869 : decode cL_law 1869 = .ok (.iaload, 1) := dk_46 (dk_at dksL_law_70 9 rfl rfl)
theorem dL_law_1870 : decode cL_law 1870 = .ok (.aload_n 3, 1) := dk_45 (dk_at dksL_law_70 10 rfl rfl)
theorem dL_law_1871 : decode cL_law 1871 = .ok (.invokestatic 274, 3) := dk_184 1 18 (dk_at dksL_law_70 11 rfl rfl)
theorem dL_law_1874 : decode cL_law 1874 = .ok (.istore 5, 2) := dk_54 5 (dk_at dksL_law_70 14 rfl rfl)
theorem dL_law_1876 : decode cL_law 1876 = .ok (.aload_n 2, 1) := dk_44 (dk_at dksL_law_70 16 rfl rfl)
theorem dL_law_1877 : decode cL_law 1877 = .ok (.aload_n 0, 1) := dk_42 (dk_at dksL_law_70 17 rfl rfl)
theorem dL_law_1878 : decode cL_law 1878 = .ok (.iload 4, 2) := dk_21 4 (dk_at dksL_law_70 18 rfl rfl)
theorem dL_law_1880 : decode cL_law 1880 = .ok (.iconst 1, 1) := dk_4 (dk_at dksL_law_70 20 rfl rfl)
theorem dL_law_1881 : decode cL_law 1881 = .ok (.iadd, 1) := dk_96 (dk_at dksL_law_70 21 rfl rfl)
theorem dL_law_1882 : decode cL_law 1882 = .ok (.iaload, 1) := dk_46 (dk_at dksL_law_70 22 rfl rfl)
theorem dL_law_1883 : decode cL_law 1883 = .ok (.invokevirtual 276, 3) := dk_182 1 20 (dk_at dksL_law_71 0 rfl rfl)
theorem dL_law_1886 : decode cL_law 1886 = .ok (.istore 6, 2) := dk_54 6 (dk_at dksL_law_71 3 rfl rfl)
theorem dL_law_1888 : decode cL_law 1888 = .ok (.aload_n 2, 1) := dk_44 (dk_at dksL_law_71 5 rfl rfl)
theorem dL_law_1889 : decode cL_law 1889 = .ok (.invokevirtual 169, 3) := dk_182 0 169 (dk_at dksL_law_71 6 rfl rfl)
theorem dL_law_1892 : decode cL_law 1892 = .ok (.iload 5, 2) := dk_21 5 (dk_at dksL_law_71 9 rfl rfl)
theorem dL_law_1894 : decode cL_law 1894 = .ok (.if_icmp .eq 5, 3) := dk_159 0 5 (dk_at dksL_law_71 11 rfl rfl)
theorem dL_law_1897 : decode cL_law 1897 = .ok (.iconst 0, 1) := dk_3 (dk_at dksL_law_71 14 rfl rfl)
theorem dL_law_1898 : decode cL_law 1898 = .ok (.ireturn, 1) := dk_172 (dk_at dksL_law_71 15 rfl rfl)
theorem dL_law_1899 : decode cL_law 1899 = .ok (.iload 5, 2) := dk_21 5 (dk_at dksL_law_71 16 rfl rfl)
theorem dL_law_1901 : decode cL_law 1901 = .ok (.ifCond .ne 15, 3) := dk_154 0 15 (dk_at dksL_law_71 18 rfl rfl)
theorem dL_law_1904 : decode cL_law 1904 = .ok (.aload_n 3, 1) := dk_45 (dk_at dksL_law_71 21 rfl rfl)
theorem dL_law_1905 : decode cL_law 1905 = .ok (.iconst 0, 1) := dk_3 (dk_at dksL_law_71 22 rfl rfl)
theorem dL_law_1906 : decode cL_law 1906 = .ok (.laload, 1) := dk_47 (dk_at dksL_law_71 23 rfl rfl)
theorem dL_law_1907 : decode cL_law 1907 = .ok (.iload 6, 2) := dk_21 6 (dk_at dksL_law_72 0 rfl rfl)
theorem dL_law_1909 : decode cL_law 1909 = .ok (.i2l, 1) := dk_133 (dk_at dksL_law_72 2 rfl rfl)
theorem dL_law_1910 : decode cL_law 1910 = .ok (.lcmp, 1) := dk_148 (dk_at dksL_law_72 3 rfl rfl)
theorem dL_law_1911 : decode cL_law 1911 = .ok (.ifCond .eq 5, 3) := dk_153 0 5 (dk_at dksL_law_72 4 rfl rfl)
theorem dL_law_1914 : decode cL_law 1914 = .ok (.iconst 0, 1) := dk_3 (dk_at dksL_law_72 7 rfl rfl)
theorem dL_law_1915 : decode cL_law 1915 = .ok (.ireturn, 1) := dk_172 (dk_at dksL_law_72 8 rfl rfl)
theorem dL_law_1916 : decode cL_law 1916 = .ok (.goto 1238, 3) := dk_167 4 214 (dk_at dksL_law_72 9 rfl rfl)
theorem dL_law_1919 : decode cL_law 1919 = .ok (.aload_n 1, 1) := dk_43 (dk_at dksL_law_72 12 rfl rfl)
theorem dL_law_1920 : decode cL_law 1920 = .ok (.invokevirtual 277, 3) := dk_182 1 21 (dk_at dksL_law_72 13 rfl rfl)
theorem dL_law_1923 : decode cL_law 1923 = .ok (.aload_n 2, 1) := dk_44 (dk_at dksL_law_72 16 rfl rfl)
theorem dL_law_1924 : decode cL_law 1924 = .ok (.invokevirtual 280, 3) := dk_182 1 24 (dk_at dksL_law_72 17 rfl rfl)
theorem dL_law_1927 : decode cL_law 1927 = .ok (.if_icmp .eq 1227, 3) := dk_159 4 203 (dk_at dksL_law_72 20 rfl rfl)
theorem dL_law_1930 : decode cL_law 1930 = .ok (.iconst 0, 1) := dk_3 (dk_at dksL_law_72 23 rfl rfl)
theorem dL_law_1931 : decode cL_law 1931 = .ok (.ireturn, 1) := dk_172 (dk_at dksL_law_73 0 rfl rfl)
theorem dL_law_1932 : decode cL_law 1932 = .ok (.aload_n 1, 1) := dk_43 (dk_at dksL_law_73 1 rfl rfl)
theorem dL_law_1933 : decode cL_law 1933 = .ok (.aload_n 0, 1) := dk_42 (dk_at dksL_law_73 2 rfl rfl)
theorem dL_law_1934 : decode cL_law 1934 = .ok (.iload 4, 2) := dk_21 4 (dk_at dksL_law_73 3 rfl rfl)
theorem dL_law_1936 : decode cL_law 1936 = .ok (.iconst 1, 1) := dk_4 (dk_at dksL_law_73 5 rfl rfl)
theorem dL_law_1937 : decode cL_law 1937 = .ok (.iadd, 1) := dk_96 (dk_at dksL_law_73 6 rfl rfl)
theorem dL_law_1938 : decode cL_law 1938 = .ok (.iaload, 1) := dk_46 (dk_at dksL_law_73 7 rfl rfl)
theorem dL_law_1939 : decode cL_law 1939 = .ok (.aload_n 3, 1) := dk_45 (dk_at dksL_law_73 8 rfl rfl)
theorem dL_law_1940 : decode cL_law 1940 = .ok (.invokestatic 281, 3) := dk_184 1 25 (dk_at dksL_law_73 9 rfl rfl)
theorem dL_law_1943 : decode cL_law 1943 = .ok (.istore 5, 2) := dk_54 5 (dk_at dksL_law_73 12 rfl rfl)
theorem dL_law_1945 : decode cL_law 1945 = .ok (.aload_n 2, 1) := dk_44 (dk_at dksL_law_73 14 rfl rfl)
theorem dL_law_1946 : decode cL_law 1946 = .ok (.aload_n 0, 1) := dk_42 (dk_at dksL_law_73 15 rfl rfl)
theorem dL_law_1947 : decode cL_law 1947 = .ok (.iload 4, 2) := dk_21 4 (dk_at dksL_law_73 16 rfl rfl)
theorem dL_law_1949 : decode cL_law 1949 = .ok (.iconst 1, 1) := dk_4 (dk_at dksL_law_73 18 rfl rfl)
theorem dL_law_1950 : decode cL_law 1950 = .ok (.iadd, 1) := dk_96 (dk_at dksL_law_73 19 rfl rfl)
theorem dL_law_1951 : decode cL_law 1951 = .ok (.iaload, 1) := dk_46 (dk_at dksL_law_73 20 rfl rfl)
theorem dL_law_1952 : decode cL_law 1952 = .ok (.invokevirtual 283, 3) := dk_182 1 27 (dk_at dksL_law_73 21 rfl rfl)
theorem dL_law_1955 : decode cL_law 1955 = .ok (.istore 6, 2) := dk_54 6 (dk_at dksL_law_74 0 rfl rfl)
theorem dL_law_1957 : decode cL_law 1957 = .ok (.aload_n 2, 1) := dk_44 (dk_at dksL_law_74 2 rfl rfl)
theorem dL_law_1958 : decode cL_law 1958 = .ok (.invokevirtual 169, 3) := dk_182 0 169 (dk_at dksL_law_74 3 rfl rfl)
theorem dL_law_1961 : decode cL_law 1961 = .ok (.iload 5, 2) := dk_21 5 (dk_at dksL_law_74 6 rfl rfl)
theorem dL_law_1963 : decode cL_law 1963 = .ok (.if_icmp .eq 5, 3) := dk_159 0 5 (dk_at dksL_law_74 8 rfl rfl)
theorem dL_law_1966 : decode cL_law 1966 = .ok (.iconst 0, 1) := dk_3 (dk_at dksL_law_74 11 rfl rfl)
theorem dL_law_1967 : decode cL_law 1967 = .ok (.ireturn, 1) := dk_172 (dk_at dksL_law_74 12 rfl rfl)
theorem dL_law_1968 : decode cL_law 1968 = .ok (.iload 5, 2) := dk_21 5 (dk_at dksL_law_74 13 rfl rfl)
theorem dL_law_1970 : decode cL_law 1970 = .ok (.ifCond .ne 15, 3) := dk_154 0 15 (dk_at dksL_law_74 15 rfl rfl)
theorem dL_law_1973 : decode cL_law 1973 = .ok (.aload_n 3, 1) := dk_45 (dk_at dksL_law_74 18 rfl rfl)
theorem dL_law_1974 : decode cL_law 1974 = .ok (.iconst 0, 1) := dk_3 (dk_at dksL_law_74 19 rfl rfl)
theorem dL_law_1975 : decode cL_law 1975 = .ok (.laload, 1) := dk_47 (dk_at dksL_law_74 20 rfl rfl)
theorem dL_law_1976 : decode cL_law 1976 = .ok (.iload 6, 2) := dk_21 6 (dk_at dksL_law_74 21 rfl rfl)
theorem dL_law_1978 : decode cL_law 1978 = .ok (.i2l, 1) := dk_133 (dk_at dksL_law_74 23 rfl rfl)
theorem dL_law_1979 : decode cL_law 1979 = .ok (.lcmp, 1) := dk_148 (dk_at dksL_law_75 0 rfl rfl)
theorem dL_law_1980 : decode cL_law 1980 = .ok (.ifCond .eq 5, 3) := dk_153 0 5 (dk_at dksL_law_75 1 rfl rfl)
theorem dL_law_1983 : decode cL_law 1983 = .ok (.iconst 0, 1) := dk_3 (dk_at dksL_law_75 4 rfl rfl)
theorem dL_law_1984 : decode cL_law 1984 = .ok (.ireturn, 1) := dk_172 (dk_at dksL_law_75 5 rfl rfl)
theorem dL_law_1985 : decode cL_law 1985 = .ok (.goto 1169, 3) := dk_167 4 145 (dk_at dksL_law_75 6 rfl rfl)
theorem dL_law_1988 : decode cL_law 1988 = .ok (.aload_n 1, 1) := dk_43 (dk_at dksL_law_75 9 rfl rfl)
theorem dL_law_1989 : decode cL_law 1989 = .ok (.aload_n 0, 1) := dk_42 (dk_at dksL_law_75 10 rfl rfl)
theorem dL_law_1990 : decode cL_law 1990 = .ok (.iload 4, 2) := dk_21 4 (dk_at dksL_law_75 11 rfl rfl)
theorem dL_law_1992 : decode cL_law 1992 = .ok (.iconst 1, 1) := dk_4 (dk_at dksL_law_75 13 rfl rfl)
theorem dL_law_1993 : decode cL_law 1993 = .ok (.iadd, 1) := dk_96 (dk_at dksL_law_75 14 rfl rfl)
theorem dL_law_1994 : decode cL_law 1994 = .ok (.iaload, 1) := dk_46 (dk_at dksL_law_75 15 rfl rfl)
theorem dL_law_1995 : decode cL_law 1995 = .ok (.aload_n 3, 1) := dk_45 (dk_at dksL_law_75 16 rfl rfl)
theorem dL_law_1996 : decode cL_law 1996 = .ok (.invokestatic 284, 3) := dk_184 1 28 (dk_at dksL_law_75 17 rfl rfl)
theorem dL_law_1999 : decode cL_law 1999 = .ok (.istore 5, 2) := dk_54 5 (dk_at dksL_law_75 20 rfl rfl)
theorem dL_law_2001 : decode cL_law 2001 = .ok (.aload_n 2, 1) := dk_44 (dk_at dksL_law_75 22 rfl rfl)
theorem dL_law_2002 : decode cL_law 2002 = .ok (.aload_n 0, 1) := dk_42 (dk_at dksL_law_75 23 rfl rfl)
theorem dL_law_2003 : decode cL_law 2003 = .ok (.iload 4, 2) := dk_21 4 (dk_at dksL_law_76 0 rfl rfl)
theorem dL_law_2005 : decode cL_law 2005 = .ok (.iconst 1, 1) := dk_4 (dk_at dksL_law_76 2 rfl rfl)
theorem dL_law_2006 : decode cL_law 2006 = .ok (.iadd, 1) := dk_96 (dk_at dksL_law_76 3 rfl rfl)
theorem dL_law_2007 : decode cL_law 2007 = .ok (.iaload, 1) := dk_46 (dk_at dksL_law_76 4 rfl rfl)
theorem dL_law_2008 : decode cL_law 2008 = .ok (.invokevirtual 286, 3) := dk_182 1 30 (dk_at dksL_law_76 5 rfl rfl)
theorem dL_law_2011 : decode cL_law 2011 = .ok (.istore 6, 2) := dk_54 6 (dk_at dksL_law_76 8 rfl rfl)
theorem dL_law_2013 : decode cL_law 2013 = .ok (.aload_n 2, 1) := dk_44 (dk_at dksL_law_76 10 rfl rfl)
theorem dL_law_2014 : decode cL_law 2014 = .ok (.invokevirtual 169, 3) := dk_182 0 169 (dk_at dksL_law_76 11 rfl rfl)
theorem dL_law_2017 : decode cL_law 2017 = .ok (.iload 5, 2) := dk_21 5 (dk_at dksL_law_76 14 rfl rfl)
theorem dL_law_2019 : decode cL_law 2019 = .ok (.if_icmp .eq 5, 3) := dk_159 0 5 (dk_at dksL_law_76 16 rfl rfl)
theorem dL_law_2022 : decode cL_law 2022 = .ok (.iconst 0, 1) := dk_3 (dk_at dksL_law_76 19 rfl rfl)
theorem dL_law_2023 : decode cL_law 2023 = .ok (.ireturn, 1) := dk_172 (dk_at dksL_law_76 20 rfl rfl)
theorem dL_law_2024 : decode cL_law 2024 = .ok (.iload 5, 2) := dk_21 5 (dk_at dksL_law_76 21 rfl rfl)
theorem dL_law_2026 : decode cL_law 2026 = .ok (.ifCond .ne 15, 3) := dk_154 0 15 (dk_at dksL_law_77 0 rfl rfl)
theorem dL_law_2029 : decode cL_law 2029 = .ok (.aload_n 3, 1) := dk_45 (dk_at dksL_law_77 3 rfl rfl)
theorem dL_law_2030 : decode cL_law 2030 = .ok (.iconst 0, 1) := dk_3 (dk_at dksL_law_77 4 rfl rfl)
theorem dL_law_2031 : decode cL_law 2031 = .ok (.laload, 1) := dk_47 (dk_at dksL_law_77 5 rfl rfl)
theorem dL_law_2032 : decode cL_law 2032 = .ok (.iload 6, 2) := dk_21 6 (dk_at dksL_law_77 6 rfl rfl)
theorem dL_law_2034 : decode cL_law 2034 = .ok (.i2l, 1) := dk_133 (dk_at dksL_law_77 8 rfl rfl)
theorem dL_law_2035 : decode cL_law 2035 = .ok (.lcmp, 1) := dk_148 (dk_at dksL_law_77 9 rfl rfl)
theorem dL_law_2036 : decode cL_law 2036 = .ok (.ifCond .eq 5, 3) := dk_153 0 5 (dk_at dksL_law_77 10 rfl rfl)
theorem dL_law_2039 : decode cL_law 2039 = .ok (.iconst 0, 1) := dk_3 (dk_at dksL_law_77 13 rfl rfl)
theorem dL_law_2040 : decode cL_law 2040 = .ok (.ireturn, 1) := dk_172 (dk_at dksL_law_77 14 rfl rfl)
theorem dL_law_2041 : decode cL_law 2041 = .ok (.goto 1113, 3) := dk_167 4 89 (dk_at dksL_law_77 15 rfl rfl)
theorem dL_law_2044 : decode cL_law 2044 = .ok (.aload_n 1, 1) := dk_43 (dk_at dksL_law_77 18 rfl rfl)
theorem dL_law_2045 : decode cL_law 2045 = .ok (.invokevirtual 287, 3) := dk_182 1 31 (dk_at dksL_law_77 19 rfl rfl)
theorem dL_law_2048 : decode cL_law 2048 = .ok (.aload_n 2, 1) := dk_44 (dk_at dksL_law_77 22 rfl rfl)
theorem dL_law_2049 : decode cL_law 2049 = .ok (.invokevirtual 290, 3) := dk_182 1 34 (dk_at dksL_law_78 0 rfl rfl)
theorem dL_law_2052 : decode cL_law 2052 = .ok (.if_icmp .eq 1102, 3) := dk_159 4 78 (dk_at dksL_law_78 3 rfl rfl)
theorem dL_law_2055 : decode cL_law 2055 = .ok (.iconst 0, 1) := dk_3 (dk_at dksL_law_78 6 rfl rfl)
theorem dL_law_2056 : decode cL_law 2056 = .ok (.ireturn, 1) := dk_172 (dk_at dksL_law_78 7 rfl rfl)
theorem dL_law_2057 : decode cL_law 2057 = .ok (.aload_n 1, 1) := dk_43 (dk_at dksL_law_78 8 rfl rfl)
theorem dL_law_2058 : decode cL_law 2058 = .ok (.invokevirtual 291, 3) := dk_182 1 35 (dk_at dksL_law_78 9 rfl rfl)
theorem dL_law_2061 : decode cL_law 2061 = .ok (.aload_n 2, 1) := dk_44 (dk_at dksL_law_78 12 rfl rfl)
theorem dL_law_2062 : decode cL_law 2062 = .ok (.invokevirtual 294, 3) := dk_182 1 38 (dk_at dksL_law_78 13 rfl rfl)
theorem dL_law_2065 : decode cL_law 2065 = .ok (.if_icmp .eq 1089, 3) := dk_159 4 65 (dk_at dksL_law_78 16 rfl rfl)
theorem dL_law_2068 : decode cL_law 2068 = .ok (.iconst 0, 1) := dk_3 (dk_at dksL_law_78 19 rfl rfl)
theorem dL_law_2069 : decode cL_law 2069 = .ok (.ireturn, 1) := dk_172 (dk_at dksL_law_78 20 rfl rfl)
theorem dL_law_2070 : decode cL_law 2070 = .ok (.aload_n 1, 1) := dk_43 (dk_at dksL_law_78 21 rfl rfl)
theorem dL_law_2071 : decode cL_law 2071 = .ok (.invokevirtual 295, 3) := dk_182 1 39 (dk_at dksL_law_79 0 rfl rfl)
theorem dL_law_2074 : decode cL_law 2074 = .ok (.aload_n 2, 1) := dk_44 (dk_at dksL_law_79 3 rfl rfl)
theorem dL_law_2075 : decode cL_law 2075 = .ok (.invokevirtual 298, 3) := dk_182 1 42 (dk_at dksL_law_79 4 rfl rfl)
theorem dL_law_2078 : decode cL_law 2078 = .ok (.if_icmp .eq 1076, 3) := dk_159 4 52 (dk_at dksL_law_79 7 rfl rfl)
theorem dL_law_2081 : decode cL_law 2081 = .ok (.iconst 0, 1) := dk_3 (dk_at dksL_law_79 10 rfl rfl)
theorem dL_law_2082 : decode cL_law 2082 = .ok (.ireturn, 1) := dk_172 (dk_at dksL_law_79 11 rfl rfl)
theorem dL_law_2083 : decode cL_law 2083 = .ok (.aload_n 1, 1) := dk_43 (dk_at dksL_law_79 12 rfl rfl)
theorem dL_law_2084 : decode cL_law 2084 = .ok (.aload_n 0, 1) := dk_42 (dk_at dksL_law_79 13 rfl rfl)
theorem dL_law_2085 : decode cL_law 2085 = .ok (.iload 4, 2) := dk_21 4 (dk_at dksL_law_79 14 rfl rfl)
theorem dL_law_2087 : decode cL_law 2087 = .ok (.iconst 1, 1) := dk_4 (dk_at dksL_law_79 16 rfl rfl)
theorem dL_law_2088 : decode cL_law 2088 = .ok (.iadd, 1) := dk_96 (dk_at dksL_law_79 17 rfl rfl)
theorem dL_law_2089 : decode cL_law 2089 = .ok (.iaload, 1) := dk_46 (dk_at dksL_law_79 18 rfl rfl)
theorem dL_law_2090 : decode cL_law 2090 = .ok (.aload_n 0, 1) := dk_42 (dk_at dksL_law_79 19 rfl rfl)
theorem dL_law_2091 : decode cL_law 2091 = .ok (.iload 4, 2) := dk_21 4 (dk_at dksL_law_79 20 rfl rfl)
theorem dL_law_2093 : decode cL_law 2093 = .ok (.iconst 2, 1) := dk_5 (dk_at dksL_law_79 22 rfl rfl)
theorem dL_law_2094 : decode cL_law 2094 = .ok (.iadd, 1) := dk_96 (dk_at dksL_law_79 23 rfl rfl)
theorem dL_law_2095 : decode cL_law 2095 = .ok (.iaload, 1) := dk_46 (dk_at dksL_law_80 0 rfl rfl)
theorem dL_law_2096 : decode cL_law 2096 = .ok (.aload_n 3, 1) := dk_45 (dk_at dksL_law_80 1 rfl rfl)
theorem dL_law_2097 : decode cL_law 2097 = .ok (.invokestatic 299, 3) := dk_184 1 43 (dk_at dksL_law_80 2 rfl rfl)
theorem dL_law_2100 : decode cL_law 2100 = .ok (.istore 5, 2) := dk_54 5 (dk_at dksL_law_80 5 rfl rfl)
theorem dL_law_2102 : decode cL_law 2102 = .ok (.aload_n 2, 1) := dk_44 (dk_at dksL_law_80 7 rfl rfl)
theorem dL_law_2103 : decode cL_law 2103 = .ok (.aload_n 0, 1) := dk_42 (dk_at dksL_law_80 8 rfl rfl)
theorem dL_law_2104 : decode cL_law 2104 = .ok (.iload 4, 2) := dk_21 4 (dk_at dksL_law_80 9 rfl rfl)
theorem dL_law_2106 : decode cL_law 2106 = .ok (.iconst 1, 1) := dk_4 (dk_at dksL_law_80 11 rfl rfl)
theorem dL_law_2107 : decode cL_law 2107 = .ok (.iadd, 1) := dk_96 (dk_at dksL_law_80 12 rfl rfl)
theorem dL_law_2108 : decode cL_law 2108 = .ok (.iaload, 1) := dk_46 (dk_at dksL_law_80 13 rfl rfl)
theorem dL_law_2109 : decode cL_law 2109 = .ok (.aload_n 0, 1) := dk_42 (dk_at dksL_law_80 14 rfl rfl)
theorem dL_law_2110 : decode cL_law 2110 = .ok (.iload 4, 2) := dk_21 4 (dk_at dksL_law_80 15 rfl rfl)
theorem dL_law_2112 : decode cL_law 2112 = .ok (.iconst 2, 1) := dk_5 (dk_at dksL_law_80 17 rfl rfl)
theorem dL_law_2113 : decode cL_law 2113 = .ok (.iadd, 1) := dk_96 (dk_at dksL_law_80 18 rfl rfl)
theorem dL_law_2114 : decode cL_law 2114 = .ok (.iaload, 1) := dk_46 (dk_at dksL_law_80 19 rfl rfl)
theorem dL_law_2115 : decode cL_law 2115 = .ok (.invokevirtual 301, 3) := dk_182 1 45 (dk_at dksL_law_80 20 rfl rfl)
theorem dL_law_2118 : decode cL_law 2118 = .ok (.istore 6, 2) := dk_54 6 (dk_at dksL_law_81 0 rfl rfl)
theorem dL_law_2120 : decode cL_law 2120 = .ok (.aload_n 2, 1) := dk_44 (dk_at dksL_law_81 2 rfl rfl)
theorem dL_law_2121 : decode cL_law 2121 = .ok (.invokevirtual 169, 3) := dk_182 0 169 (dk_at dksL_law_81 3 rfl rfl)
theorem dL_law_2124 : decode cL_law 2124 = .ok (.iload 5, 2) := dk_21 5 (dk_at dksL_law_81 6 rfl rfl)
theorem dL_law_2126 : decode cL_law 2126 = .ok (.if_icmp .eq 5, 3) := dk_159 0 5 (dk_at dksL_law_81 8 rfl rfl)
theorem dL_law_2129 : decode cL_law 2129 = .ok (.iconst 0, 1) := dk_3 (dk_at dksL_law_81 11 rfl rfl)
theorem dL_law_2130 : decode cL_law 2130 = .ok (.ireturn, 1) := dk_172 (dk_at dksL_law_81 12 rfl rfl)
theorem dL_law_2131 : decode cL_law 2131 = .ok (.iload 5, 2) := dk_21 5 (dk_at dksL_law_81 13 rfl rfl)
theorem dL_law_2133 : decode cL_law 2133 = .ok (.ifCond .ne 15, 3) := dk_154 0 15 (dk_at dksL_law_81 15 rfl rfl)
theorem dL_law_2136 : decode cL_law 2136 = .ok (.aload_n 3, 1) := dk_45 (dk_at dksL_law_81 18 rfl rfl)
theorem dL_law_2137 : decode cL_law 2137 = .ok (.iconst 0, 1) := dk_3 (dk_at dksL_law_81 19 rfl rfl)
theorem dL_law_2138 : decode cL_law 2138 = .ok (.laload, 1) := dk_47 (dk_at dksL_law_81 20 rfl rfl)
theorem dL_law_2139 : decode cL_law 2139 = .ok (.iload 6, 2) := dk_21 6 (dk_at dksL_law_81 21 rfl rfl)
theorem dL_law_2141 : decode cL_law 2141 = .ok (.i2l, 1) := dk_133 (dk_at dksL_law_81 23 rfl rfl)
theorem dL_law_2142 : decode cL_law 2142 = .ok (.lcmp, 1) := dk_148 (dk_at dksL_law_82 0 rfl rfl)
theorem dL_law_2143 : decode cL_law 2143 = .ok (.ifCond .eq 5, 3) := dk_153 0 5 (dk_at dksL_law_82 1 rfl rfl)
theorem dL_law_2146 : decode cL_law 2146 = .ok (.iconst 0, 1) := dk_3 (dk_at dksL_law_82 4 rfl rfl)
theorem dL_law_2147 : decode cL_law 2147 = .ok (.ireturn, 1) := dk_172 (dk_at dksL_law_82 5 rfl rfl)
theorem dL_law_2148 : decode cL_law 2148 = .ok (.goto 1006, 3) := dk_167 3 238 (dk_at dksL_law_82 6 rfl rfl)
theorem dL_law_2151 : decode cL_law 2151 = .ok (.aload_n 1, 1) := dk_43 (dk_at dksL_law_82 9 rfl rfl)
theorem dL_law_2152 : decode cL_law 2152 = .ok (.aload_n 3, 1) := dk_45 (dk_at dksL_law_82 10 rfl rfl)
theorem dL_law_2153 : decode cL_law 2153 = .ok (.invokestatic 302, 3) := dk_184 1 46 (dk_at dksL_law_82 11 rfl rfl)
theorem dL_law_2156 : decode cL_law 2156 = .ok (.istore 5, 2) := dk_54 5 (dk_at dksL_law_82 14 rfl rfl)
theorem dL_law_2158 : decode cL_law 2158 = .ok (.aload_n 2, 1) := dk_44 (dk_at dksL_law_82 16 rfl rfl)
theorem dL_law_2159 : decode cL_law 2159 = .ok (.invokevirtual 305, 3) := dk_182 1 49 (dk_at dksL_law_82 17 rfl rfl)
theorem dL_law_2162 : decode cL_law 2162 = .ok (.istore 6, 2) := dk_54 6 (dk_at dksL_law_82 20 rfl rfl)
theorem dL_law_2164 : decode cL_law 2164 = .ok (.aload_n 2, 1) := dk_44 (dk_at dksL_law_82 22 rfl rfl)
theorem dL_law_2165 : decode cL_law 2165 = .ok (.invokevirtual 169, 3) := dk_182 0 169 (dk_at dksL_law_83 0 rfl rfl)
theorem dL_law_2168 : decode cL_law 2168 = .ok (.iload 5, 2) := dk_21 5 (dk_at dksL_law_83 3 rfl rfl)
theorem dL_law_2170 : decode cL_law 2170 = .ok (.if_icmp .eq 5, 3) := dk_159 0 5 (dk_at dksL_law_83 5 rfl rfl)
theorem dL_law_2173 : decode cL_law 2173 = .ok (.iconst 0, 1) := dk_3 (dk_at dksL_law_83 8 rfl rfl)
theorem dL_law_2174 : decode cL_law 2174 = .ok (.ireturn, 1) := dk_172 (dk_at dksL_law_83 9 rfl rfl)
theorem dL_law_2175 : decode cL_law 2175 = .ok (.iload 5, 2) := dk_21 5 (dk_at dksL_law_83 10 rfl rfl)
theorem dL_law_2177 : decode cL_law 2177 = .ok (.ifCond .ne 15, 3) := dk_154 0 15 (dk_at dksL_law_83 12 rfl rfl)
theorem dL_law_2180 : decode cL_law 2180 = .ok (.aload_n 3, 1) := dk_45 (dk_at dksL_law_83 15 rfl rfl)
theorem dL_law_2181 : decode cL_law 2181 = .ok (.iconst 0, 1) := dk_3 (dk_at dksL_law_83 16 rfl rfl)
theorem dL_law_2182 : decode cL_law 2182 = .ok (.laload, 1) := dk_47 (dk_at dksL_law_83 17 rfl rfl)
theorem dL_law_2183 : decode cL_law 2183 = .ok (.iload 6, 2) := dk_21 6 (dk_at dksL_law_83 18 rfl rfl)
theorem dL_law_2185 : decode cL_law 2185 = .ok (.i2l, 1) := dk_133 (dk_at dksL_law_83 20 rfl rfl)
theorem dL_law_2186 : decode cL_law 2186 = .ok (.lcmp, 1) := dk_148 (dk_at dksL_law_83 21 rfl rfl)
theorem dL_law_2187 : decode cL_law 2187 = .ok (.ifCond .eq 5, 3) := dk_153 0 5 (dk_at dksL_law_84 0 rfl rfl)
theorem dL_law_2190 : decode cL_law 2190 = .ok (.iconst 0, 1) := dk_3 (dk_at dksL_law_84 3 rfl rfl)
theorem dL_law_2191 : decode cL_law 2191 = .ok (.ireturn, 1) := dk_172 (dk_at dksL_law_84 4 rfl rfl)
theorem dL_law_2192 : decode cL_law 2192 = .ok (.goto 962, 3) := dk_167 3 194 (dk_at dksL_law_84 5 rfl rfl)
theorem dL_law_2195 : decode cL_law 2195 = .ok (.aload_n 1, 1) := dk_43 (dk_at dksL_law_84 8 rfl rfl)
theorem dL_law_2196 : decode cL_law 2196 = .ok (.aload_n 0, 1) := dk_42 (dk_at dksL_law_84 9 rfl rfl)
theorem dL_law_2197 : decode cL_law 2197 = .ok (.iload 4, 2) := dk_21 4 (dk_at dksL_law_84 10 rfl rfl)
theorem dL_law_2199 : decode cL_law 2199 = .ok (.iconst 1, 1) := dk_4 (dk_at dksL_law_84 12 rfl rfl)
theorem dL_law_2200 : decode cL_law 2200 = .ok (.iadd, 1) := dk_96 (dk_at dksL_law_84 13 rfl rfl)
theorem dL_law_2201 : decode cL_law 2201 = .ok (.iaload, 1) := dk_46 (dk_at dksL_law_84 14 rfl rfl)
theorem dL_law_2202 : decode cL_law 2202 = .ok (.aload_n 3, 1) := dk_45 (dk_at dksL_law_84 15 rfl rfl)
theorem dL_law_2203 : decode cL_law 2203 = .ok (.invokestatic 306, 3) := dk_184 1 50 (dk_at dksL_law_84 16 rfl rfl)
theorem dL_law_2206 : decode cL_law 2206 = .ok (.istore 5, 2) := dk_54 5 (dk_at dksL_law_84 19 rfl rfl)
theorem dL_law_2208 : decode cL_law 2208 = .ok (.aload_n 2, 1) := dk_44 (dk_at dksL_law_84 21 rfl rfl)
theorem dL_law_2209 : decode cL_law 2209 = .ok (.aload_n 0, 1) := dk_42 (dk_at dksL_law_84 22 rfl rfl)
theorem dL_law_2210 : decode cL_law 2210 = .ok (.iload 4, 2) := dk_21 4 (dk_at dksL_law_85 0 rfl rfl)
theorem dL_law_2212 : decode cL_law 2212 = .ok (.iconst 1, 1) := dk_4 (dk_at dksL_law_85 2 rfl rfl)
theorem dL_law_2213 : decode cL_law 2213 = .ok (.iadd, 1) := dk_96 (dk_at dksL_law_85 3 rfl rfl)
theorem dL_law_2214 : decode cL_law 2214 = .ok (.iaload, 1) := dk_46 (dk_at dksL_law_85 4 rfl rfl)
theorem dL_law_2215 : decode cL_law 2215 = .ok (.invokevirtual 308, 3) := dk_182 1 52 (dk_at dksL_law_85 5 rfl rfl)
theorem dL_law_2218 : decode cL_law 2218 = .ok (.istore 6, 2) := dk_54 6 (dk_at dksL_law_85 8 rfl rfl)
theorem dL_law_2220 : decode cL_law 2220 = .ok (.aload_n 2, 1) := dk_44 (dk_at dksL_law_85 10 rfl rfl)
theorem dL_law_2221 : decode cL_law 2221 = .ok (.invokevirtual 169, 3) := dk_182 0 169 (dk_at dksL_law_85 11 rfl rfl)
theorem dL_law_2224 : decode cL_law 2224 = .ok (.iload 5, 2) := dk_21 5 (dk_at dksL_law_85 14 rfl rfl)
theorem dL_law_2226 : decode cL_law 2226 = .ok (.if_icmp .eq 5, 3) := dk_159 0 5 (dk_at dksL_law_85 16 rfl rfl)
theorem dL_law_2229 : decode cL_law 2229 = .ok (.iconst 0, 1) := dk_3 (dk_at dksL_law_85 19 rfl rfl)
theorem dL_law_2230 : decode cL_law 2230 = .ok (.ireturn, 1) := dk_172 (dk_at dksL_law_85 20 rfl rfl)
theorem dL_law_2231 : decode cL_law 2231 = .ok (.iload 5, 2) := dk_21 5 (dk_at dksL_law_85 21 rfl rfl)
theorem dL_law_2233 : decode cL_law 2233 = .ok (.ifCond .ne 15, 3) := dk_154 0 15 (dk_at dksL_law_86 0 rfl rfl)
theorem dL_law_2236 : decode cL_law 2236 = .ok (.aload_n 3, 1) := dk_45 (dk_at dksL_law_86 3 rfl rfl)
theorem dL_law_2237 : decode cL_law 2237 = .ok (.iconst 0, 1) := dk_3 (dk_at dksL_law_86 4 rfl rfl)
theorem dL_law_2238 : decode cL_law 2238 = .ok (.laload, 1) := dk_47 (dk_at dksL_law_86 5 rfl rfl)
theorem dL_law_2239 : decode cL_law 2239 = .ok (.iload 6, 2) := dk_21 6 (dk_at dksL_law_86 6 rfl rfl)
theorem dL_law_2241 : decode cL_law 2241 = .ok (.i2l, 1) := dk_133 (dk_at dksL_law_86 8 rfl rfl)
theorem dL_law_2242 : decode cL_law 2242 = .ok (.lcmp, 1) := dk_148 (dk_at dksL_law_86 9 rfl rfl)
theorem dL_law_2243 : decode cL_law 2243 = .ok (.ifCond .eq 5, 3) := dk_153 0 5 (dk_at dksL_law_86 10 rfl rfl)
theorem dL_law_2246 : decode cL_law 2246 = .ok (.iconst 0, 1) := dk_3 (dk_at dksL_law_86 13 rfl rfl)
theorem dL_law_2247 : decode cL_law 2247 = .ok (.ireturn, 1) := dk_172 (dk_at dksL_law_86 14 rfl rfl)
theorem dL_law_2248 : decode cL_law 2248 = .ok (.goto 906, 3) := dk_167 3 138 (dk_at dksL_law_86 15 rfl rfl)
theorem dL_law_2251 : decode cL_law 2251 = .ok (.aload_n 1, 1) := dk_43 (dk_at dksL_law_86 18 rfl rfl)
theorem dL_law_2252 : decode cL_law 2252 = .ok (.aload_n 0, 1) := dk_42 (dk_at dksL_law_86 19 rfl rfl)
theorem dL_law_2253 : decode cL_law 2253 = .ok (.iload 4, 2) := dk_21 4 (dk_at dksL_law_86 20 rfl rfl)
theorem dL_law_2255 : decode cL_law 2255 = .ok (.iconst 1, 1) := dk_4 (dk_at dksL_law_86 22 rfl rfl)
theorem dL_law_2256 : decode cL_law 2256 = .ok (.iadd, 1) := dk_96 (dk_at dksL_law_86 23 rfl rfl)
theorem dL_law_2257 : decode cL_law 2257 = .ok (.iaload, 1) := dk_46 (dk_at dksL_law_87 0 rfl rfl)
theorem dL_law_2258 : decode cL_law 2258 = .ok (.aload_n 3, 1) := dk_45 (dk_at dksL_law_87 1 rfl rfl)
theorem dL_law_2259 : decode cL_law 2259 = .ok (.invokestatic 309, 3) := dk_184 1 53 (dk_at dksL_law_87 2 rfl rfl)
theorem dL_law_2262 : decode cL_law 2262 = .ok (.istore 5, 2) := dk_54 5 (dk_at dksL_law_87 5 rfl rfl)
theorem dL_law_2264 : decode cL_law 2264 = .ok (.aload_n 2, 1) := dk_44 (dk_at dksL_law_87 7 rfl rfl)
theorem dL_law_2265 : decode cL_law 2265 = .ok (.aload_n 0, 1) := dk_42 (dk_at dksL_law_87 8 rfl rfl)
theorem dL_law_2266 : decode cL_law 2266 = .ok (.iload 4, 2) := dk_21 4 (dk_at dksL_law_87 9 rfl rfl)
theorem dL_law_2268 : decode cL_law 2268 = .ok (.iconst 1, 1) := dk_4 (dk_at dksL_law_87 11 rfl rfl)
theorem dL_law_2269 : decode cL_law 2269 = .ok (.iadd, 1) := dk_96 (dk_at dksL_law_87 12 rfl rfl)
theorem dL_law_2270 : decode cL_law 2270 = .ok (.iaload, 1) := dk_46 (dk_at dksL_law_87 13 rfl rfl)
theorem dL_law_2271 : decode cL_law 2271 = .ok (.invokevirtual 311, 3) := dk_182 1 55 (dk_at dksL_law_87 14 rfl rfl)
theorem dL_law_2274 : decode cL_law 2274 = .ok (.istore 6, 2) := dk_54 6 (dk_at dksL_law_87 17 rfl rfl)
theorem dL_law_2276 : decode cL_law 2276 = .ok (.aload_n 2, 1) := dk_44 (dk_at dksL_law_87 19 rfl rfl)
theorem dL_law_2277 : decode cL_law 2277 = .ok (.invokevirtual 169, 3) := dk_182 0 169 (dk_at dksL_law_87 20 rfl rfl)
theorem dL_law_2280 : decode cL_law 2280 = .ok (.iload 5, 2) := dk_21 5 (dk_at dksL_law_88 0 rfl rfl)
theorem dL_law_2282 : decode cL_law 2282 = .ok (.if_icmp .eq 5, 3) := dk_159 0 5 (dk_at dksL_law_88 2 rfl rfl)
theorem dL_law_2285 : decode cL_law 2285 = .ok (.iconst 0, 1) := dk_3 (dk_at dksL_law_88 5 rfl rfl)
theorem dL_law_2286 : decode cL_law 2286 = .ok (.ireturn, 1) := dk_172 (dk_at dksL_law_88 6 rfl rfl)
theorem dL_law_2287 : decode cL_law 2287 = .ok (.iload 5, 2) := dk_21 5 (dk_at dksL_law_88 7 rfl rfl)
theorem dL_law_2289 : decode cL_law 2289 = .ok (.ifCond .ne 15, 3) := dk_154 0 15 (dk_at dksL_law_88 9 rfl rfl)
theorem dL_law_2292 : decode cL_law 2292 = .ok (.aload_n 3, 1) := dk_45 (dk_at dksL_law_88 12 rfl rfl)
theorem dL_law_2293 : decode cL_law 2293 = .ok (.iconst 0, 1) := dk_3 (dk_at dksL_law_88 13 rfl rfl)
theorem dL_law_2294 : decode cL_law 2294 = .ok (.laload, 1) := dk_47 (dk_at dksL_law_88 14 rfl rfl)
theorem dL_law_2295 : decode cL_law 2295 = .ok (.iload 6, 2) := dk_21 6 (dk_at dksL_law_88 15 rfl rfl)
theorem dL_law_2297 : decode cL_law 2297 = .ok (.i2l, 1) := dk_133 (dk_at dksL_law_88 17 rfl rfl)
theorem dL_law_2298 : decode cL_law 2298 = .ok (.lcmp, 1) := dk_148 (dk_at dksL_law_88 18 rfl rfl)
theorem dL_law_2299 : decode cL_law 2299 = .ok (.ifCond .eq 5, 3) := dk_153 0 5 (dk_at dksL_law_88 19 rfl rfl)
theorem dL_law_2302 : decode cL_law 2302 = .ok (.iconst 0, 1) := dk_3 (dk_at dksL_law_88 22 rfl rfl)
theorem dL_law_2303 : decode cL_law 2303 = .ok (.ireturn, 1) := dk_172 (dk_at dksL_law_88 23 rfl rfl)
theorem dL_law_2304 : decode cL_law 2304 = .ok (.goto 850, 3) := dk_167 3 82 (dk_at dksL_law_89 0 rfl rfl)
theorem dL_law_2307 : decode cL_law 2307 = .ok (.aload_n 1, 1) := dk_43 (dk_at dksL_law_89 3 rfl rfl)
theorem dL_law_2308 : decode cL_law 2308 = .ok (.aload_n 0, 1) := dk_42 (dk_at dksL_law_89 4 rfl rfl)
theorem dL_law_2309 : decode cL_law 2309 = .ok (.iload 4, 2) := dk_21 4 (dk_at dksL_law_89 5 rfl rfl)
theorem dL_law_2311 : decode cL_law 2311 = .ok (.iconst 1, 1) := dk_4 (dk_at dksL_law_89 7 rfl rfl)
theorem dL_law_2312 : decode cL_law 2312 = .ok (.iadd, 1) := dk_96 (dk_at dksL_law_89 8 rfl rfl)
theorem dL_law_2313 : decode cL_law 2313 = .ok (.iaload, 1) := dk_46 (dk_at dksL_law_89 9 rfl rfl)
theorem dL_law_2314 : decode cL_law 2314 = .ok (.aload_n 3, 1) := dk_45 (dk_at dksL_law_89 10 rfl rfl)
theorem dL_law_2315 : decode cL_law 2315 = .ok (.invokestatic 312, 3) := dk_184 1 56 (dk_at dksL_law_89 11 rfl rfl)
theorem dL_law_2318 : decode cL_law 2318 = .ok (.istore 5, 2) := dk_54 5 (dk_at dksL_law_89 14 rfl rfl)
theorem dL_law_2320 : decode cL_law 2320 = .ok (.aload_n 2, 1) := dk_44 (dk_at dksL_law_89 16 rfl rfl)
theorem dL_law_2321 : decode cL_law 2321 = .ok (.aload_n 0, 1) := dk_42 (dk_at dksL_law_89 17 rfl rfl)
theorem dL_law_2322 : decode cL_law 2322 = .ok (.iload 4, 2) := dk_21 4 (dk_at dksL_law_89 18 rfl rfl)
theorem dL_law_2324 : decode cL_law 2324 = .ok (.iconst 1, 1) := dk_4 (dk_at dksL_law_89 20 rfl rfl)
theorem dL_law_2325 : decode cL_law 2325 = .ok (.iadd, 1) := dk_96 (dk_at dksL_law_89 21 rfl rfl)
theorem dL_law_2326 : decode cL_law 2326 = .ok (.iaload, 1) := dk_46 (dk_at dksL_law_89 22 rfl rfl)
theorem dL_law_2327 : decode cL_law 2327 = .ok (.invokevirtual 314, 3) := dk_182 1 58 (dk_at dksL_law_90 0 rfl rfl)
theorem dL_law_2330 : decode cL_law 2330 = .ok (.istore 6, 2) := dk_54 6 (dk_at dksL_law_90 3 rfl rfl)
theorem dL_law_2332 : decode cL_law 2332 = .ok (.aload_n 2, 1) := dk_44 (dk_at dksL_law_90 5 rfl rfl)
theorem dL_law_2333 : decode cL_law 2333 = .ok (.invokevirtual 169, 3) := dk_182 0 169 (dk_at dksL_law_90 6 rfl rfl)
theorem dL_law_2336 : decode cL_law 2336 = .ok (.iload 5, 2) := dk_21 5 (dk_at dksL_law_90 9 rfl rfl)
theorem dL_law_2338 : decode cL_law 2338 = .ok (.if_icmp .eq 5, 3) := dk_159 0 5 (dk_at dksL_law_90 11 rfl rfl)
theorem dL_law_2341 : decode cL_law 2341 = .ok (.iconst 0, 1) := dk_3 (dk_at dksL_law_90 14 rfl rfl)
theorem dL_law_2342 : decode cL_law 2342 = .ok (.ireturn, 1) := dk_172 (dk_at dksL_law_90 15 rfl rfl)
theorem dL_law_2343 : decode cL_law 2343 = .ok (.iload 5, 2) := dk_21 5 (dk_at dksL_law_90 16 rfl rfl)
theorem dL_law_2345 : decode cL_law 2345 = .ok (.ifCond .ne 15, 3) := dk_154 0 15 (dk_at dksL_law_90 18 rfl rfl)
theorem dL_law_2348 : decode cL_law 2348 = .ok (.aload_n 3, 1) := dk_45 (dk_at dksL_law_90 21 rfl rfl)
theorem dL_law_2349 : decode cL_law 2349 = .ok (.iconst 0, 1) := dk_3 (dk_at dksL_law_90 22 rfl rfl)
theorem dL_law_2350 : decode cL_law 2350 = .ok (.laload, 1) := dk_47 (dk_at dksL_law_90 23 rfl rfl)
theorem dL_law_2351 : decode cL_law 2351 = .ok (.iload 6, 2) := dk_21 6 (dk_at dksL_law_91 0 rfl rfl)
theorem dL_law_2353 : decode cL_law 2353 = .ok (.i2l, 1) := dk_133 (dk_at dksL_law_91 2 rfl rfl)
theorem dL_law_2354 : decode cL_law 2354 = .ok (.lcmp, 1) := dk_148 (dk_at dksL_law_91 3 rfl rfl)
theorem dL_law_2355 : decode cL_law 2355 = .ok (.ifCond .eq 5, 3) := dk_153 0 5 (dk_at dksL_law_91 4 rfl rfl)
theorem dL_law_2358 : decode cL_law 2358 = .ok (.iconst 0, 1) := dk_3 (dk_at dksL_law_91 7 rfl rfl)
theorem dL_law_2359 : decode cL_law 2359 = .ok (.ireturn, 1) := dk_172 (dk_at dksL_law_91 8 rfl rfl)
theorem dL_law_2360 : decode cL_law 2360 = .ok (.goto 794, 3) := dk_167 3 26 (dk_at dksL_law_91 9 rfl rfl)
theorem dL_law_2363 : decode cL_law 2363 = .ok (.aload_n 1, 1) := dk_43 (dk_at dksL_law_91 12 rfl rfl)
theorem dL_law_2364 : decode cL_law 2364 = .ok (.aload_n 0, 1) := dk_42 (dk_at dksL_law_91 13 rfl rfl)
theorem dL_law_2365 : decode cL_law 2365 = .ok (.iload 4, 2) := dk_21 4 (dk_at dksL_law_91 14 rfl rfl)
theorem dL_law_2367 : decode cL_law 2367 = .ok (.iconst 1, 1) := dk_4 (dk_at dksL_law_91 16 rfl rfl)
theorem dL_law_2368 : decode cL_law 2368 = .ok (.iadd, 1) := dk_96 (dk_at dksL_law_91 17 rfl rfl)
theorem dL_law_2369 : decode cL_law 2369 = .ok (.iaload, 1) := dk_46 (dk_at dksL_law_91 18 rfl rfl)
theorem dL_law_2370 : decode cL_law 2370 = .ok (.aload_n 3, 1) := dk_45 (dk_at dksL_law_91 19 rfl rfl)
theorem dL_law_2371 : decode cL_law 2371 = .ok (.invokestatic 315, 3) := dk_184 1 59 (dk_at dksL_law_91 20 rfl rfl)
theorem dL_law_2374 : decode cL_law 2374 = .ok (.istore 5, 2) := dk_54 5 (dk_at dksL_law_92 0 rfl rfl)
theorem dL_law_2376 : decode cL_law 2376 = .ok (.aload_n 2, 1) := dk_44 (dk_at dksL_law_92 2 rfl rfl)
theorem dL_law_2377 : decode cL_law 2377 = .ok (.aload_n 0, 1) := dk_42 (dk_at dksL_law_92 3 rfl rfl)
theorem dL_law_2378 : decode cL_law 2378 = .ok (.iload 4, 2) := dk_21 4 (dk_at dksL_law_92 4 rfl rfl)
theorem dL_law_2380 : decode cL_law 2380 = .ok (.iconst 1, 1) := dk_4 (dk_at dksL_law_92 6 rfl rfl)
theorem dL_law_2381 : decode cL_law 2381 = .ok (.iadd, 1) := dk_96 (dk_at dksL_law_92 7 rfl rfl)
theorem dL_law_2382 : decode cL_law 2382 = .ok (.iaload, 1) := dk_46 (dk_at dksL_law_92 8 rfl rfl)
theorem dL_law_2383 : decode cL_law 2383 = .ok (.invokevirtual 317, 3) := dk_182 1 61 (dk_at dksL_law_92 9 rfl rfl)
theorem dL_law_2386 : decode cL_law 2386 = .ok (.istore 6, 2) := dk_54 6 (dk_at dksL_law_92 12 rfl rfl)
theorem dL_law_2388 : decode cL_law 2388 = .ok (.aload_n 2, 1) := dk_44 (dk_at dksL_law_92 14 rfl rfl)
theorem dL_law_2389 : decode cL_law 2389 = .ok (.invokevirtual 169, 3) := dk_182 0 169 (dk_at dksL_law_92 15 rfl rfl)
theorem dL_law_2392 : decode cL_law 2392 = .ok (.iload 5, 2) := dk_21 5 (dk_at dksL_law_92 18 rfl rfl)
theorem dL_law_2394 : decode cL_law 2394 = .ok (.if_icmp .eq 5, 3) := dk_159 0 5 (dk_at dksL_law_92 20 rfl rfl)
theorem dL_law_2397 : decode cL_law 2397 = .ok (.iconst 0, 1) := dk_3 (dk_at dksL_law_92 23 rfl rfl)
theorem dL_law_2398 : decode cL_law 2398 = .ok (.ireturn, 1) := dk_172 (dk_at dksL_law_93 0 rfl rfl)
theorem dL_law_2399 : decode cL_law 2399 = .ok (.iload 5, 2) := dk_21 5 (dk_at dksL_law_93 1 rfl rfl)
theorem dL_law_2401 : decode cL_law 2401 = .ok (.ifCond .ne 15, 3) := dk_154 0 15 (dk_at dksL_law_93 3 rfl rfl)
theorem dL_law_2404 : decode cL_law 2404 = .ok (.aload_n 3, 1) := dk_45 (dk_at dksL_law_93 6 rfl rfl)
theorem dL_law_2405 : decode cL_law 2405 = .ok (.iconst 0, 1) := dk_3 (dk_at dksL_law_93 7 rfl rfl)
theorem dL_law_2406 : decode cL_law 2406 = .ok (.laload, 1) := dk_47 (dk_at dksL_law_93 8 rfl rfl)
theorem dL_law_2407 : decode cL_law 2407 = .ok (.iload 6, 2) := dk_21 6 (dk_at dksL_law_93 9 rfl rfl)
theorem dL_law_2409 : decode cL_law 2409 = .ok (.i2l, 1) := dk_133 (dk_at dksL_law_93 11 rfl rfl)
theorem dL_law_2410 : decode cL_law 2410 = .ok (.lcmp, 1) := dk_148 (dk_at dksL_law_93 12 rfl rfl)
theorem dL_law_2411 : decode cL_law 2411 = .ok (.ifCond .eq 5, 3) := dk_153 0 5 (dk_at dksL_law_93 13 rfl rfl)
theorem dL_law_2414 : decode cL_law 2414 = .ok (.iconst 0, 1) := dk_3 (dk_at dksL_law_93 16 rfl rfl)
theorem dL_law_2415 : decode cL_law 2415 = .ok (.ireturn, 1) := dk_172 (dk_at dksL_law_93 17 rfl rfl)
theorem dL_law_2416 : decode cL_law 2416 = .ok (.goto 738, 3) := dk_167 2 226 (dk_at dksL_law_93 18 rfl rfl)
theorem dL_law_2419 : decode cL_law 2419 = .ok (.aload_n 1, 1) := dk_43 (dk_at dksL_law_93 21 rfl rfl)
theorem dL_law_2420 : decode cL_law 2420 = .ok (.aload_n 0, 1) := dk_42 (dk_at dksL_law_93 22 rfl rfl)
theorem dL_law_2421 : decode cL_law 2421 = .ok (.iload 4, 2) := dk_21 4 (dk_at dksL_law_94 0 rfl rfl)
theorem dL_law_2423 : decode cL_law 2423 = .ok (.iconst 1, 1) := dk_4 (dk_at dksL_law_94 2 rfl rfl)
theorem dL_law_2424 : decode cL_law 2424 = .ok (.iadd, 1) := dk_96 (dk_at dksL_law_94 3 rfl rfl)
theorem dL_law_2425 : decode cL_law 2425 = .ok (.iaload, 1) := dk_46 (dk_at dksL_law_94 4 rfl rfl)
theorem dL_law_2426 : decode cL_law 2426 = .ok (.aload_n 3, 1) := dk_45 (dk_at dksL_law_94 5 rfl rfl)
theorem dL_law_2427 : decode cL_law 2427 = .ok (.invokestatic 318, 3) := dk_184 1 62 (dk_at dksL_law_94 6 rfl rfl)
theorem dL_law_2430 : decode cL_law 2430 = .ok (.istore 5, 2) := dk_54 5 (dk_at dksL_law_94 9 rfl rfl)
theorem dL_law_2432 : decode cL_law 2432 = .ok (.aload_n 2, 1) := dk_44 (dk_at dksL_law_94 11 rfl rfl)
theorem dL_law_2433 : decode cL_law 2433 = .ok (.aload_n 0, 1) := dk_42 (dk_at dksL_law_94 12 rfl rfl)
theorem dL_law_2434 : decode cL_law 2434 = .ok (.iload 4, 2) := dk_21 4 (dk_at dksL_law_94 13 rfl rfl)
theorem dL_law_2436 : decode cL_law 2436 = .ok (.iconst 1, 1) := dk_4 (dk_at dksL_law_94 15 rfl rfl)
theorem dL_law_2437 : decode cL_law 2437 = .ok (.iadd, 1) := dk_96 (dk_at dksL_law_94 16 rfl rfl)
theorem dL_law_2438 : decode cL_law 2438 = .ok (.iaload, 1) := dk_46 (dk_at dksL_law_94 17 rfl rfl)
theorem dL_law_2439 : decode cL_law 2439 = .ok (.invokevirtual 320, 3) := dk_182 1 64 (dk_at dksL_law_94 18 rfl rfl)
theorem dL_law_2442 : decode cL_law 2442 = .ok (.istore 6, 2) := dk_54 6 (dk_at dksL_law_94 21 rfl rfl)
theorem dL_law_2444 : decode cL_law 2444 = .ok (.aload_n 2, 1) := dk_44 (dk_at dksL_law_94 23 rfl rfl)
theorem dL_law_2445 : decode cL_law 2445 = .ok (.invokevirtual 169, 3) := dk_182 0 169 (dk_at dksL_law_95 0 rfl rfl)
theorem dL_law_2448 : decode cL_law 2448 = .ok (.iload 5, 2) := dk_21 5 (dk_at dksL_law_95 3 rfl rfl)
theorem dL_law_2450 : decode cL_law 2450 = .ok (.if_icmp .eq 5, 3) := dk_159 0 5 (dk_at dksL_law_95 5 rfl rfl)
theorem dL_law_2453 : decode cL_law 2453 = .ok (.iconst 0, 1) := dk_3 (dk_at dksL_law_95 8 rfl rfl)
theorem dL_law_2454 : decode cL_law 2454 = .ok (.ireturn, 1) := dk_172 (dk_at dksL_law_95 9 rfl rfl)
theorem dL_law_2455 : decode cL_law 2455 = .ok (.iload 5, 2) := dk_21 5 (dk_at dksL_law_95 10 rfl rfl)
theorem dL_law_2457 : decode cL_law 2457 = .ok (.ifCond .ne 15, 3) := dk_154 0 15 (dk_at dksL_law_95 12 rfl rfl)
theorem dL_law_2460 : decode cL_law 2460 = .ok (.aload_n 3, 1) := dk_45 (dk_at dksL_law_95 15 rfl rfl)
theorem dL_law_2461 : decode cL_law 2461 = .ok (.iconst 0, 1) := dk_3 (dk_at dksL_law_95 16 rfl rfl)
theorem dL_law_2462 : decode cL_law 2462 = .ok (.laload, 1) := dk_47 (dk_at dksL_law_95 17 rfl rfl)
theorem dL_law_2463 : decode cL_law 2463 = .ok (.iload 6, 2) := dk_21 6 (dk_at dksL_law_95 18 rfl rfl)
theorem dL_law_2465 : decode cL_law 2465 = .ok (.i2l, 1) := dk_133 (dk_at dksL_law_95 20 rfl rfl)
theorem dL_law_2466 : decode cL_law 2466 = .ok (.lcmp, 1) := dk_148 (dk_at dksL_law_95 21 rfl rfl)
theorem dL_law_2467 : decode cL_law 2467 = .ok (.ifCond .eq 5, 3) := dk_153 0 5 (dk_at dksL_law_96 0 rfl rfl)
theorem dL_law_2470 : decode cL_law 2470 = .ok (.iconst 0, 1) := dk_3 (dk_at dksL_law_96 3 rfl rfl)
theorem dL_law_2471 : decode cL_law 2471 = .ok (.ireturn, 1) := dk_172 (dk_at dksL_law_96 4 rfl rfl)
theorem dL_law_2472 : decode cL_law 2472 = .ok (.goto 682, 3) := dk_167 2 170 (dk_at dksL_law_96 5 rfl rfl)
theorem dL_law_2475 : decode cL_law 2475 = .ok (.aload_n 1, 1) := dk_43 (dk_at dksL_law_96 8 rfl rfl)
theorem dL_law_2476 : decode cL_law 2476 = .ok (.aload_n 0, 1) := dk_42 (dk_at dksL_law_96 9 rfl rfl)
theorem dL_law_2477 : decode cL_law 2477 = .ok (.iload 4, 2) := dk_21 4 (dk_at dksL_law_96 10 rfl rfl)
theorem dL_law_2479 : decode cL_law 2479 = .ok (.iconst 1, 1) := dk_4 (dk_at dksL_law_96 12 rfl rfl)
theorem dL_law_2480 : decode cL_law 2480 = .ok (.iadd, 1) := dk_96 (dk_at dksL_law_96 13 rfl rfl)
theorem dL_law_2481 : decode cL_law 2481 = .ok (.iaload, 1) := dk_46 (dk_at dksL_law_96 14 rfl rfl)
theorem dL_law_2482 : decode cL_law 2482 = .ok (.aload_n 3, 1) := dk_45 (dk_at dksL_law_96 15 rfl rfl)
theorem dL_law_2483 : decode cL_law 2483 = .ok (.invokestatic 321, 3) := dk_184 1 65 (dk_at dksL_law_96 16 rfl rfl)
theorem dL_law_2486 : decode cL_law 2486 = .ok (.istore 5, 2) := dk_54 5 (dk_at dksL_law_96 19 rfl rfl)
theorem dL_law_2488 : decode cL_law 2488 = .ok (.aload_n 2, 1) := dk_44 (dk_at dksL_law_96 21 rfl rfl)
theorem dL_law_2489 : decode cL_law 2489 = .ok (.aload_n 0, 1) := dk_42 (dk_at dksL_law_96 22 rfl rfl)
theorem dL_law_2490 : decode cL_law 2490 = .ok (.iload 4, 2) := dk_21 4 (dk_at dksL_law_97 0 rfl rfl)
theorem dL_law_2492 : decode cL_law 2492 = .ok (.iconst 1, 1) := dk_4 (dk_at dksL_law_97 2 rfl rfl)
theorem dL_law_2493 : decode cL_law 2493 = .ok (.iadd, 1) := dk_96 (dk_at dksL_law_97 3 rfl rfl)
theorem dL_law_2494 : decode cL_law 2494 = .ok (.iaload, 1) := dk_46 (dk_at dksL_law_97 4 rfl rfl)
theorem dL_law_2495 : decode cL_law 2495 = .ok (.invokevirtual 323, 3) := dk_182 1 67 (dk_at dksL_law_97 5 rfl rfl)
theorem dL_law_2498 : decode cL_law 2498 = .ok (.istore 6, 2) := dk_54 6 (dk_at dksL_law_97 8 rfl rfl)
theorem dL_law_2500 : decode cL_law 2500 = .ok (.aload_n 2, 1) := dk_44 (dk_at dksL_law_97 10 rfl rfl)
theorem dL_law_2501 : decode cL_law 2501 = .ok (.invokevirtual 169, 3) := dk_182 0 169 (dk_at dksL_law_97 11 rfl rfl)
theorem dL_law_2504 : decode cL_law 2504 = .ok (.iload 5, 2) := dk_21 5 (dk_at dksL_law_97 14 rfl rfl)
theorem dL_law_2506 : decode cL_law 2506 = .ok (.if_icmp .eq 5, 3) := dk_159 0 5 (dk_at dksL_law_97 16 rfl rfl)
theorem dL_law_2509 : decode cL_law 2509 = .ok (.iconst 0, 1) := dk_3 (dk_at dksL_law_97 19 rfl rfl)
theorem dL_law_2510 : decode cL_law 2510 = .ok (.ireturn, 1) := dk_172 (dk_at dksL_law_97 20 rfl rfl)
theorem dL_law_2511 : decode cL_law 2511 = .ok (.iload 5, 2) := dk_21 5 (dk_at dksL_law_97 21 rfl rfl)
theorem dL_law_2513 : decode cL_law 2513 = .ok (.ifCond .ne 15, 3) := dk_154 0 15 (dk_at dksL_law_98 0 rfl rfl)
theorem dL_law_2516 : decode cL_law 2516 = .ok (.aload_n 3, 1) := dk_45 (dk_at dksL_law_98 3 rfl rfl)
theorem dL_law_2517 : decode cL_law 2517 = .ok (.iconst 0, 1) := dk_3 (dk_at dksL_law_98 4 rfl rfl)
theorem dL_law_2518 : decode cL_law 2518 = .ok (.laload, 1) := dk_47 (dk_at dksL_law_98 5 rfl rfl)
theorem dL_law_2519 : decode cL_law 2519 = .ok (.iload 6, 2) := dk_21 6 (dk_at dksL_law_98 6 rfl rfl)
theorem dL_law_2521 : decode cL_law 2521 = .ok (.i2l, 1) := dk_133 (dk_at dksL_law_98 8 rfl rfl)
theorem dL_law_2522 : decode cL_law 2522 = .ok (.lcmp, 1) := dk_148 (dk_at dksL_law_98 9 rfl rfl)
theorem dL_law_2523 : decode cL_law 2523 = .ok (.ifCond .eq 5, 3) := dk_153 0 5 (dk_at dksL_law_98 10 rfl rfl)
theorem dL_law_2526 : decode cL_law 2526 = .ok (.iconst 0, 1) := dk_3 (dk_at dksL_law_98 13 rfl rfl)
theorem dL_law_2527 : decode cL_law 2527 = .ok (.ireturn, 1) := dk_172 (dk_at dksL_law_98 14 rfl rfl)
theorem dL_law_2528 : decode cL_law 2528 = .ok (.goto 626, 3) := dk_167 2 114 (dk_at dksL_law_98 15 rfl rfl)
theorem dL_law_2531 : decode cL_law 2531 = .ok (.aload_n 1, 1) := dk_43 (dk_at dksL_law_98 18 rfl rfl)
theorem dL_law_2532 : decode cL_law 2532 = .ok (.aload_n 3, 1) := dk_45 (dk_at dksL_law_98 19 rfl rfl)
theorem dL_law_2533 : decode cL_law 2533 = .ok (.invokestatic 324, 3) := dk_184 1 68 (dk_at dksL_law_98 20 rfl rfl)
theorem dL_law_2536 : decode cL_law 2536 = .ok (.istore 5, 2) := dk_54 5 (dk_at dksL_law_99 0 rfl rfl)
theorem dL_law_2538 : decode cL_law 2538 = .ok (.aload_n 2, 1) := dk_44 (dk_at dksL_law_99 2 rfl rfl)
theorem dL_law_2539 : decode cL_law 2539 = .ok (.invokevirtual 326, 3) := dk_182 1 70 (dk_at dksL_law_99 3 rfl rfl)
theorem dL_law_2542 : decode cL_law 2542 = .ok (.istore 6, 2) := dk_54 6 (dk_at dksL_law_99 6 rfl rfl)
theorem dL_law_2544 : decode cL_law 2544 = .ok (.aload_n 2, 1) := dk_44 (dk_at dksL_law_99 8 rfl rfl)
theorem dL_law_2545 : decode cL_law 2545 = .ok (.invokevirtual 169, 3) := dk_182 0 169 (dk_at dksL_law_99 9 rfl rfl)
theorem dL_law_2548 : decode cL_law 2548 = .ok (.iload 5, 2) := dk_21 5 (dk_at dksL_law_99 12 rfl rfl)
theorem dL_law_2550 : decode cL_law 2550 = .ok (.if_icmp .eq 5, 3) := dk_159 0 5 (dk_at dksL_law_99 14 rfl rfl)
theorem dL_law_2553 : decode cL_law 2553 = .ok (.iconst 0, 1) := dk_3 (dk_at dksL_law_99 17 rfl rfl)
theorem dL_law_2554 : decode cL_law 2554 = .ok (.ireturn, 1) := dk_172 (dk_at dksL_law_99 18 rfl rfl)
theorem dL_law_2555 : decode cL_law 2555 = .ok (.iload 5, 2) := dk_21 5 (dk_at dksL_law_99 19 rfl rfl)
theorem dL_law_2557 : decode cL_law 2557 = .ok (.ifCond .ne 15, 3) := dk_154 0 15 (dk_at dksL_law_99 21 rfl rfl)
theorem dL_law_2560 : decode cL_law 2560 = .ok (.aload_n 3, 1) := dk_45 (dk_at dksL_law_100 0 rfl rfl)
theorem dL_law_2561 : decode cL_law 2561 = .ok (.iconst 0, 1) := dk_3 (dk_at dksL_law_100 1 rfl rfl)
theorem dL_law_2562 : decode cL_law 2562 = .ok (.laload, 1) := dk_47 (dk_at dksL_law_100 2 rfl rfl)
theorem dL_law_2563 : decode cL_law 2563 = .ok (.iload 6, 2) := dk_21 6 (dk_at dksL_law_100 3 rfl rfl)
theorem dL_law_2565 : decode cL_law 2565 = .ok (.i2l, 1) := dk_133 (dk_at dksL_law_100 5 rfl rfl)
theorem dL_law_2566 : decode cL_law 2566 = .ok (.lcmp, 1) := dk_148 (dk_at dksL_law_100 6 rfl rfl)
theorem dL_law_2567 : decode cL_law 2567 = .ok (.ifCond .eq 5, 3) := dk_153 0 5 (dk_at dksL_law_100 7 rfl rfl)
theorem dL_law_2570 : decode cL_law 2570 = .ok (.iconst 0, 1) := dk_3 (dk_at dksL_law_100 10 rfl rfl)
theorem dL_law_2571 : decode cL_law 2571 = .ok (.ireturn, 1) := dk_172 (dk_at dksL_law_100 11 rfl rfl)
theorem dL_law_2572 : decode cL_law 2572 = .ok (.goto 582, 3) := dk_167 2 70 (dk_at dksL_law_100 12 rfl rfl)
theorem dL_law_2575 : decode cL_law 2575 = .ok (.aload_n 1, 1) := dk_43 (dk_at dksL_law_100 15 rfl rfl)
theorem dL_law_2576 : decode cL_law 2576 = .ok (.aload_n 0, 1) := dk_42 (dk_at dksL_law_100 16 rfl rfl)
theorem dL_law_2577 : decode cL_law 2577 = .ok (.iload 4, 2) := dk_21 4 (dk_at dksL_law_100 17 rfl rfl)
theorem dL_law_2579 : decode cL_law 2579 = .ok (.iconst 1, 1) := dk_4 (dk_at dksL_law_100 19 rfl rfl)
theorem dL_law_2580 : decode cL_law 2580 = .ok (.iadd, 1) := dk_96 (dk_at dksL_law_100 20 rfl rfl)
theorem dL_law_2581 : decode cL_law 2581 = .ok (.iaload, 1) := dk_46 (dk_at dksL_law_100 21 rfl rfl)
theorem dL_law_2582 : decode cL_law 2582 = .ok (.aload_n 3, 1) := dk_45 (dk_at dksL_law_100 22 rfl rfl)
theorem dL_law_2583 : decode cL_law 2583 = .ok (.invokestatic 327, 3) := dk_184 1 71 (dk_at dksL_law_101 0 rfl rfl)
theorem dL_law_2586 : decode cL_law 2586 = .ok (.istore 5, 2) := dk_54 5 (dk_at dksL_law_101 3 rfl rfl)
theorem dL_law_2588 : decode cL_law 2588 = .ok (.aload_n 2, 1) := dk_44 (dk_at dksL_law_101 5 rfl rfl)
theorem dL_law_2589 : decode cL_law 2589 = .ok (.aload_n 0, 1) := dk_42 (dk_at dksL_law_101 6 rfl rfl)
theorem dL_law_2590 : decode cL_law 2590 = .ok (.iload 4, 2) := dk_21 4 (dk_at dksL_law_101 7 rfl rfl)
theorem dL_law_2592 : decode cL_law 2592 = .ok (.iconst 1, 1) := dk_4 (dk_at dksL_law_101 9 rfl rfl)
theorem dL_law_2593 : decode cL_law 2593 = .ok (.iadd, 1) := dk_96 (dk_at dksL_law_101 10 rfl rfl)
theorem dL_law_2594 : decode cL_law 2594 = .ok (.iaload, 1) := dk_46 (dk_at dksL_law_101 11 rfl rfl)
theorem dL_law_2595 : decode cL_law 2595 = .ok (.invokevirtual 329, 3) := dk_182 1 73 (dk_at dksL_law_101 12 rfl rfl)
theorem dL_law_2598 : decode cL_law 2598 = .ok (.istore 6, 2) := dk_54 6 (dk_at dksL_law_101 15 rfl rfl)
theorem dL_law_2600 : decode cL_law 2600 = .ok (.aload_n 2, 1) := dk_44 (dk_at dksL_law_101 17 rfl rfl)
theorem dL_law_2601 : decode cL_law 2601 = .ok (.invokevirtual 169, 3) := dk_182 0 169 (dk_at dksL_law_101 18 rfl rfl)
theorem dL_law_2604 : decode cL_law 2604 = .ok (.iload 5, 2) := dk_21 5 (dk_at dksL_law_101 21 rfl rfl)
theorem dL_law_2606 : decode cL_law 2606 = .ok (.if_icmp .eq 5, 3) := dk_159 0 5 (dk_at dksL_law_102 0 rfl rfl)
theorem dL_law_2609 : decode cL_law 2609 = .ok (.iconst 0, 1) := dk_3 (dk_at dksL_law_102 3 rfl rfl)
theorem dL_law_2610 : decode cL_law 2610 = .ok (.ireturn, 1) := dk_172 (dk_at dksL_law_102 4 rfl rfl)
theorem dL_law_2611 : decode cL_law 2611 = .ok (.iload 5, 2) := dk_21 5 (dk_at dksL_law_102 5 rfl rfl)
theorem dL_law_2613 : decode cL_law 2613 = .ok (.ifCond .ne 15, 3) := dk_154 0 15 (dk_at dksL_law_102 7 rfl rfl)
theorem dL_law_2616 : decode cL_law 2616 = .ok (.aload_n 3, 1) := dk_45 (dk_at dksL_law_102 10 rfl rfl)
theorem dL_law_2617 : decode cL_law 2617 = .ok (.iconst 0, 1) := dk_3 (dk_at dksL_law_102 11 rfl rfl)
theorem dL_law_2618 : decode cL_law 2618 = .ok (.laload, 1) := dk_47 (dk_at dksL_law_102 12 rfl rfl)
theorem dL_law_2619 : decode cL_law 2619 = .ok (.iload 6, 2) := dk_21 6 (dk_at dksL_law_102 13 rfl rfl)
theorem dL_law_2621 : decode cL_law 2621 = .ok (.i2l, 1) := dk_133 (dk_at dksL_law_102 15 rfl rfl)
theorem dL_law_2622 : decode cL_law 2622 = .ok (.lcmp, 1) := dk_148 (dk_at dksL_law_102 16 rfl rfl)
theorem dL_law_2623 : decode cL_law 2623 = .ok (.ifCond .eq 5, 3) := dk_153 0 5 (dk_at dksL_law_102 17 rfl rfl)
theorem dL_law_2626 : decode cL_law 2626 = .ok (.iconst 0, 1) := dk_3 (dk_at dksL_law_102 20 rfl rfl)
theorem dL_law_2627 : decode cL_law 2627 = .ok (.ireturn, 1) := dk_172 (dk_at dksL_law_102 21 rfl rfl)
theorem dL_law_2628 : decode cL_law 2628 = .ok (.goto 526, 3) := dk_167 2 14 (dk_at dksL_law_103 0 rfl rfl)
theorem dL_law_2631 : decode cL_law 2631 = .ok (.aload_n 1, 1) := dk_43 (dk_at dksL_law_103 3 rfl rfl)
theorem dL_law_2632 : decode cL_law 2632 = .ok (.aload_n 0, 1) := dk_42 (dk_at dksL_law_103 4 rfl rfl)
theorem dL_law_2633 : decode cL_law 2633 = .ok (.iload 4, 2) := dk_21 4 (dk_at dksL_law_103 5 rfl rfl)
theorem dL_law_2635 : decode cL_law 2635 = .ok (.iconst 1, 1) := dk_4 (dk_at dksL_law_103 7 rfl rfl)
theorem dL_law_2636 : decode cL_law 2636 = .ok (.iadd, 1) := dk_96 (dk_at dksL_law_103 8 rfl rfl)
theorem dL_law_2637 : decode cL_law 2637 = .ok (.iaload, 1) := dk_46 (dk_at dksL_law_103 9 rfl rfl)
theorem dL_law_2638 : decode cL_law 2638 = .ok (.aload_n 3, 1) := dk_45 (dk_at dksL_law_103 10 rfl rfl)
theorem dL_law_2639 : decode cL_law 2639 = .ok (.invokestatic 330, 3) := dk_184 1 74 (dk_at dksL_law_103 11 rfl rfl)
theorem dL_law_2642 : decode cL_law 2642 = .ok (.istore 5, 2) := dk_54 5 (dk_at dksL_law_103 14 rfl rfl)
theorem dL_law_2644 : decode cL_law 2644 = .ok (.aload_n 2, 1) := dk_44 (dk_at dksL_law_103 16 rfl rfl)
theorem dL_law_2645 : decode cL_law 2645 = .ok (.aload_n 0, 1) := dk_42 (dk_at dksL_law_103 17 rfl rfl)
theorem dL_law_2646 : decode cL_law 2646 = .ok (.iload 4, 2) := dk_21 4 (dk_at dksL_law_103 18 rfl rfl)
theorem dL_law_2648 : decode cL_law 2648 = .ok (.iconst 1, 1) := dk_4 (dk_at dksL_law_103 20 rfl rfl)
theorem dL_law_2649 : decode cL_law 2649 = .ok (.iadd, 1) := dk_96 (dk_at dksL_law_103 21 rfl rfl)
theorem dL_law_2650 : decode cL_law 2650 = .ok (.iaload, 1) := dk_46 (dk_at dksL_law_103 22 rfl rfl)
theorem dL_law_2651 : decode cL_law 2651 = .ok (.invokevirtual 332, 3) := dk_182 1 76 (dk_at dksL_law_104 0 rfl rfl)
theorem dL_law_2654 : decode cL_law 2654 = .ok (.istore 6, 2) := dk_54 6 (dk_at dksL_law_104 3 rfl rfl)
theorem dL_law_2656 : decode cL_law 2656 = .ok (.aload_n 2, 1) := dk_44 (dk_at dksL_law_104 5 rfl rfl)
theorem dL_law_2657 : decode cL_law 2657 = .ok (.invokevirtual 169, 3) := dk_182 0 169 (dk_at dksL_law_104 6 rfl rfl)
theorem dL_law_2660 : decode cL_law 2660 = .ok (.iload 5, 2) := dk_21 5 (dk_at dksL_law_104 9 rfl rfl)
theorem dL_law_2662 : decode cL_law 2662 = .ok (.if_icmp .eq 5, 3) := dk_159 0 5 (dk_at dksL_law_104 11 rfl rfl)
theorem dL_law_2665 : decode cL_law 2665 = .ok (.iconst 0, 1) := dk_3 (dk_at dksL_law_104 14 rfl rfl)
theorem dL_law_2666 : decode cL_law 2666 = .ok (.ireturn, 1) := dk_172 (dk_at dksL_law_104 15 rfl rfl)
theorem dL_law_2667 : decode cL_law 2667 = .ok (.iload 5, 2) := dk_21 5 (dk_at dksL_law_104 16 rfl rfl)
theorem dL_law_2669 : decode cL_law 2669 = .ok (.ifCond .ne 15, 3) := dk_154 0 15 (dk_at dksL_law_104 18 rfl rfl)
theorem dL_law_2672 : decode cL_law 2672 = .ok (.aload_n 3, 1) := dk_45 (dk_at dksL_law_104 21 rfl rfl)
theorem dL_law_2673 : decode cL_law 2673 = .ok (.iconst 0, 1) := dk_3 (dk_at dksL_law_104 22 rfl rfl)
theorem dL_law_2674 : decode cL_law 2674 = .ok (.laload, 1) := dk_47 (dk_at dksL_law_104 23 rfl rfl)
theorem dL_law_2675 : decode cL_law 2675 = .ok (.iload 6, 2) := dk_21 6 (dk_at dksL_law_105 0 rfl rfl)
theorem dL_law_2677 : decode cL_law 2677 = .ok (.i2l, 1) := dk_133 (dk_at dksL_law_105 2 rfl rfl)
theorem dL_law_2678 : decode cL_law 2678 = .ok (.lcmp, 1) := dk_148 (dk_at dksL_law_105 3 rfl rfl)
theorem dL_law_2679 : decode cL_law 2679 = .ok (.ifCond .eq 5, 3) := dk_153 0 5 (dk_at dksL_law_105 4 rfl rfl)
theorem dL_law_2682 : decode cL_law 2682 = .ok (.iconst 0, 1) := dk_3 (dk_at dksL_law_105 7 rfl rfl)
theorem dL_law_2683 : decode cL_law 2683 = .ok (.ireturn, 1) := dk_172 (dk_at dksL_law_105 8 rfl rfl)
theorem dL_law_2684 : decode cL_law 2684 = .ok (.goto 470, 3) := dk_167 1 214 (dk_at dksL_law_105 9 rfl rfl)
theorem dL_law_2687 : decode cL_law 2687 = .ok (.aload_n 1, 1) := dk_43 (dk_at dksL_law_105 12 rfl rfl)
theorem dL_law_2688 : decode cL_law 2688 = .ok (.aload_n 0, 1) := dk_42 (dk_at dksL_law_105 13 rfl rfl)
theorem dL_law_2689 : decode cL_law 2689 = .ok (.iload 4, 2) := dk_21 4 (dk_at dksL_law_105 14 rfl rfl)
theorem dL_law_2691 : decode cL_law 2691 = .ok (.iconst 1, 1) := dk_4 (dk_at dksL_law_105 16 rfl rfl)
theorem dL_law_2692 : decode cL_law 2692 = .ok (.iadd, 1) := dk_96 (dk_at dksL_law_105 17 rfl rfl)
theorem dL_law_2693 : decode cL_law 2693 = .ok (.iaload, 1) := dk_46 (dk_at dksL_law_105 18 rfl rfl)
theorem dL_law_2694 : decode cL_law 2694 = .ok (.aload_n 3, 1) := dk_45 (dk_at dksL_law_105 19 rfl rfl)
theorem dL_law_2695 : decode cL_law 2695 = .ok (.invokestatic 333, 3) := dk_184 1 77 (dk_at dksL_law_105 20 rfl rfl)
theorem dL_law_2698 : decode cL_law 2698 = .ok (.istore 5, 2) := dk_54 5 (dk_at dksL_law_106 0 rfl rfl)
theorem dL_law_2700 : decode cL_law 2700 = .ok (.aload_n 2, 1) := dk_44 (dk_at dksL_law_106 2 rfl rfl)
theorem dL_law_2701 : decode cL_law 2701 = .ok (.aload_n 0, 1) := dk_42 (dk_at dksL_law_106 3 rfl rfl)
theorem dL_law_2702 : decode cL_law 2702 = .ok (.iload 4, 2) := dk_21 4 (dk_at dksL_law_106 4 rfl rfl)
theorem dL_law_2704 : decode cL_law 2704 = .ok (.iconst 1, 1) := dk_4 (dk_at dksL_law_106 6 rfl rfl)
theorem dL_law_2705 : decode cL_law 2705 = .ok (.iadd, 1) := dk_96 (dk_at dksL_law_106 7 rfl rfl)
theorem dL_law_2706 : decode cL_law 2706 = .ok (.iaload, 1) := dk_46 (dk_at dksL_law_106 8 rfl rfl)
theorem dL_law_2707 : decode cL_law 2707 = .ok (.invokevirtual 335, 3) := dk_182 1 79 (dk_at dksL_law_106 9 rfl rfl)
theorem dL_law_2710 : decode cL_law 2710 = .ok (.istore 6, 2) := dk_54 6 (dk_at dksL_law_106 12 rfl rfl)
theorem dL_law_2712 : decode cL_law 2712 = .ok (.aload_n 2, 1) := dk_44 (dk_at dksL_law_106 14 rfl rfl)
theorem dL_law_2713 : decode cL_law 2713 = .ok (.invokevirtual 169, 3) := dk_182 0 169 (dk_at dksL_law_106 15 rfl rfl)
theorem dL_law_2716 : decode cL_law 2716 = .ok (.iload 5, 2) := dk_21 5 (dk_at dksL_law_106 18 rfl rfl)
theorem dL_law_2718 : decode cL_law 2718 = .ok (.if_icmp .eq 5, 3) := dk_159 0 5 (dk_at dksL_law_106 20 rfl rfl)
theorem dL_law_2721 : decode cL_law 2721 = .ok (.iconst 0, 1) := dk_3 (dk_at dksL_law_106 23 rfl rfl)
theorem dL_law_2722 : decode cL_law 2722 = .ok (.ireturn, 1) := dk_172 (dk_at dksL_law_107 0 rfl rfl)
theorem dL_law_2723 : decode cL_law 2723 = .ok (.iload 5, 2) := dk_21 5 (dk_at dksL_law_107 1 rfl rfl)
theorem dL_law_2725 : decode cL_law 2725 = .ok (.ifCond .ne 15, 3) := dk_154 0 15 (dk_at dksL_law_107 3 rfl rfl)
theorem dL_law_2728 : decode cL_law 2728 = .ok (.aload_n 3, 1) := dk_45 (dk_at dksL_law_107 6 rfl rfl)
theorem dL_law_2729 : decode cL_law 2729 = .ok (.iconst 0, 1) := dk_3 (dk_at dksL_law_107 7 rfl rfl)
theorem dL_law_2730 : decode cL_law 2730 = .ok (.laload, 1) := dk_47 (dk_at dksL_law_107 8 rfl rfl)
theorem dL_law_2731 : decode cL_law 2731 = .ok (.iload 6, 2) := dk_21 6 (dk_at dksL_law_107 9 rfl rfl)
theorem dL_law_2733 : decode cL_law 2733 = .ok (.i2l, 1) := dk_133 (dk_at dksL_law_107 11 rfl rfl)
theorem dL_law_2734 : decode cL_law 2734 = .ok (.lcmp, 1) := dk_148 (dk_at dksL_law_107 12 rfl rfl)
theorem dL_law_2735 : decode cL_law 2735 = .ok (.ifCond .eq 5, 3) := dk_153 0 5 (dk_at dksL_law_107 13 rfl rfl)
theorem dL_law_2738 : decode cL_law 2738 = .ok (.iconst 0, 1) := dk_3 (dk_at dksL_law_107 16 rfl rfl)
theorem dL_law_2739 : decode cL_law 2739 = .ok (.ireturn, 1) := dk_172 (dk_at dksL_law_107 17 rfl rfl)
theorem dL_law_2740 : decode cL_law 2740 = .ok (.goto 414, 3) := dk_167 1 158 (dk_at dksL_law_107 18 rfl rfl)
theorem dL_law_2743 : decode cL_law 2743 = .ok (.aload_n 1, 1) := dk_43 (dk_at dksL_law_107 21 rfl rfl)
theorem dL_law_2744 : decode cL_law 2744 = .ok (.aload_n 0, 1) := dk_42 (dk_at dksL_law_107 22 rfl rfl)
theorem dL_law_2745 : decode cL_law 2745 = .ok (.iload 4, 2) := dk_21 4 (dk_at dksL_law_108 0 rfl rfl)
theorem dL_law_2747 : decode cL_law 2747 = .ok (.iconst 1, 1) := dk_4 (dk_at dksL_law_108 2 rfl rfl)
theorem dL_law_2748 : decode cL_law 2748 = .ok (.iadd, 1) := dk_96 (dk_at dksL_law_108 3 rfl rfl)
theorem dL_law_2749 : decode cL_law 2749 = .ok (.iaload, 1) := dk_46 (dk_at dksL_law_108 4 rfl rfl)
theorem dL_law_2750 : decode cL_law 2750 = .ok (.aload_n 0, 1) := dk_42 (dk_at dksL_law_108 5 rfl rfl)
theorem dL_law_2751 : decode cL_law 2751 = .ok (.iload 4, 2) := dk_21 4 (dk_at dksL_law_108 6 rfl rfl)
theorem dL_law_2753 : decode cL_law 2753 = .ok (.iconst 2, 1) := dk_5 (dk_at dksL_law_108 8 rfl rfl)
theorem dL_law_2754 : decode cL_law 2754 = .ok (.iadd, 1) := dk_96 (dk_at dksL_law_108 9 rfl rfl)
theorem dL_law_2755 : decode cL_law 2755 = .ok (.iaload, 1) := dk_46 (dk_at dksL_law_108 10 rfl rfl)
theorem dL_law_2756 : decode cL_law 2756 = .ok (.aload_n 3, 1) := dk_45 (dk_at dksL_law_108 11 rfl rfl)
theorem dL_law_2757 : decode cL_law 2757 = .ok (.invokestatic 336, 3) := dk_184 1 80 (dk_at dksL_law_108 12 rfl rfl)
theorem dL_law_2760 : decode cL_law 2760 = .ok (.istore 5, 2) := dk_54 5 (dk_at dksL_law_108 15 rfl rfl)
theorem dL_law_2762 : decode cL_law 2762 = .ok (.aload_n 2, 1) := dk_44 (dk_at dksL_law_108 17 rfl rfl)
theorem dL_law_2763 : decode cL_law 2763 = .ok (.aload_n 0, 1) := dk_42 (dk_at dksL_law_108 18 rfl rfl)
theorem dL_law_2764 : decode cL_law 2764 = .ok (.iload 4, 2) := dk_21 4 (dk_at dksL_law_108 19 rfl rfl)
theorem dL_law_2766 : decode cL_law 2766 = .ok (.iconst 1, 1) := dk_4 (dk_at dksL_law_108 21 rfl rfl)
theorem dL_law_2767 : decode cL_law 2767 = .ok (.iadd, 1) := dk_96 (dk_at dksL_law_108 22 rfl rfl)
theorem dL_law_2768 : decode cL_law 2768 = .ok (.iaload, 1) := dk_46 (dk_at dksL_law_108 23 rfl rfl)
theorem dL_law_2769 : decode cL_law 2769 = .ok (.aload_n 0, 1) := dk_42 (dk_at dksL_law_109 0 rfl rfl)
theorem dL_law_2770 : decode cL_law 2770 = .ok (.iload 4, 2) := dk_21 4 (dk_at dksL_law_109 1 rfl rfl)
theorem dL_law_2772 : decode cL_law 2772 = .ok (.iconst 2, 1) := dk_5 (dk_at dksL_law_109 3 rfl rfl)
theorem dL_law_2773 : decode cL_law 2773 = .ok (.iadd, 1) := dk_96 (dk_at dksL_law_109 4 rfl rfl)
theorem dL_law_2774 : decode cL_law 2774 = .ok (.iaload, 1) := dk_46 (dk_at dksL_law_109 5 rfl rfl)
theorem dL_law_2775 : decode cL_law 2775 = .ok (.invokevirtual 338, 3) := dk_182 1 82 (dk_at dksL_law_109 6 rfl rfl)
theorem dL_law_2778 : decode cL_law 2778 = .ok (.istore 6, 2) := dk_54 6 (dk_at dksL_law_109 9 rfl rfl)
theorem dL_law_2780 : decode cL_law 2780 = .ok (.aload_n 2, 1) := dk_44 (dk_at dksL_law_109 11 rfl rfl)
theorem dL_law_2781 : decode cL_law 2781 = .ok (.invokevirtual 169, 3) := dk_182 0 169 (dk_at dksL_law_109 12 rfl rfl)
theorem dL_law_2784 : decode cL_law 2784 = .ok (.iload 5, 2) := dk_21 5 (dk_at dksL_law_109 15 rfl rfl)
theorem dL_law_2786 : decode cL_law 2786 = .ok (.if_icmp .eq 5, 3) := dk_159 0 5 (dk_at dksL_law_109 17 rfl rfl)
theorem dL_law_2789 : decode cL_law 2789 = .ok (.iconst 0, 1) := dk_3 (dk_at dksL_law_109 20 rfl rfl)
theorem dL_law_2790 : decode cL_law 2790 = .ok (.ireturn, 1) := dk_172 (dk_at dksL_law_109 21 rfl rfl)
theorem dL_law_2791 : decode cL_law 2791 = .ok (.iload 5, 2) := dk_21 5 (dk_at dksL_law_109 22 rfl rfl)
theorem dL_law_2793 : decode cL_law 2793 = .ok (.ifCond .ne 15, 3) := dk_154 0 15 (dk_at dksL_law_110 0 rfl rfl)
theorem dL_law_2796 : decode cL_law 2796 = .ok (.aload_n 3, 1) := dk_45 (dk_at dksL_law_110 3 rfl rfl)
theorem dL_law_2797 : decode cL_law 2797 = .ok (.iconst 0, 1) := dk_3 (dk_at dksL_law_110 4 rfl rfl)
theorem dL_law_2798 : decode cL_law 2798 = .ok (.laload, 1) := dk_47 (dk_at dksL_law_110 5 rfl rfl)
theorem dL_law_2799 : decode cL_law 2799 = .ok (.iload 6, 2) := dk_21 6 (dk_at dksL_law_110 6 rfl rfl)
theorem dL_law_2801 : decode cL_law 2801 = .ok (.i2l, 1) := dk_133 (dk_at dksL_law_110 8 rfl rfl)
theorem dL_law_2802 : decode cL_law 2802 = .ok (.lcmp, 1) := dk_148 (dk_at dksL_law_110 9 rfl rfl)
theorem dL_law_2803 : decode cL_law 2803 = .ok (.ifCond .eq 5, 3) := dk_153 0 5 (dk_at dksL_law_110 10 rfl rfl)
theorem dL_law_2806 : decode cL_law 2806 = .ok (.iconst 0, 1) := dk_3 (dk_at dksL_law_110 13 rfl rfl)
theorem dL_law_2807 : decode cL_law 2807 = .ok (.ireturn, 1) := dk_172 (dk_at dksL_law_110 14 rfl rfl)
theorem dL_law_2808 : decode cL_law 2808 = .ok (.goto 346, 3) := dk_167 1 90 (dk_at dksL_law_110 15 rfl rfl)
theorem dL_law_2811 : decode cL_law 2811 = .ok (.aload_n 1, 1) := dk_43 (dk_at dksL_law_110 18 rfl rfl)
theorem dL_law_2812 : decode cL_law 2812 = .ok (.aload_n 0, 1) := dk_42 (dk_at dksL_law_110 19 rfl rfl)
theorem dL_law_2813 : decode cL_law 2813 = .ok (.iload 4, 2) := dk_21 4 (dk_at dksL_law_110 20 rfl rfl)
theorem dL_law_2815 : decode cL_law 2815 = .ok (.iconst 1, 1) := dk_4 (dk_at dksL_law_110 22 rfl rfl)
theorem dL_law_2816 : decode cL_law 2816 = .ok (.iadd, 1) := dk_96 (dk_at dksL_law_110 23 rfl rfl)
theorem dL_law_2817 : decode cL_law 2817 = .ok (.iaload, 1) := dk_46 (dk_at dksL_law_111 0 rfl rfl)
theorem dL_law_2818 : decode cL_law 2818 = .ok (.aload_n 0, 1) := dk_42 (dk_at dksL_law_111 1 rfl rfl)
theorem dL_law_2819 : decode cL_law 2819 = .ok (.iload 4, 2) := dk_21 4 (dk_at dksL_law_111 2 rfl rfl)
theorem dL_law_2821 : decode cL_law 2821 = .ok (.iconst 2, 1) := dk_5 (dk_at dksL_law_111 4 rfl rfl)
theorem dL_law_2822 : decode cL_law 2822 = .ok (.iadd, 1) := dk_96 (dk_at dksL_law_111 5 rfl rfl)
theorem dL_law_2823 : decode cL_law 2823 = .ok (.iaload, 1) := dk_46 (dk_at dksL_law_111 6 rfl rfl)
theorem dL_law_2824 : decode cL_law 2824 = .ok (.aload_n 0, 1) := dk_42 (dk_at dksL_law_111 7 rfl rfl)
theorem dL_law_2825 : decode cL_law 2825 = .ok (.iload 4, 2) := dk_21 4 (dk_at dksL_law_111 8 rfl rfl)
theorem dL_law_2827 : decode cL_law 2827 = .ok (.iconst 3, 1) := dk_6 (dk_at dksL_law_111 10 rfl rfl)
theorem dL_law_2828 : decode cL_law 2828 = .ok (.iadd, 1) := dk_96 (dk_at dksL_law_111 11 rfl rfl)
theorem dL_law_2829 : decode cL_law 2829 = .ok (.iaload, 1) := dk_46 (dk_at dksL_law_111 12 rfl rfl)
theorem dL_law_2830 : decode cL_law 2830 = .ok (.aload_n 0, 1) := dk_42 (dk_at dksL_law_111 13 rfl rfl)
theorem dL_law_2831 : decode cL_law 2831 = .ok (.iload 4, 2) := dk_21 4 (dk_at dksL_law_111 14 rfl rfl)
theorem dL_law_2833 : decode cL_law 2833 = .ok (.iconst 4, 1) := dk_7 (dk_at dksL_law_111 16 rfl rfl)
theorem dL_law_2834 : decode cL_law 2834 = .ok (.iadd, 1) := dk_96 (dk_at dksL_law_111 17 rfl rfl)
theorem dL_law_2835 : decode cL_law 2835 = .ok (.iaload, 1) := dk_46 (dk_at dksL_law_111 18 rfl rfl)
theorem dL_law_2836 : decode cL_law 2836 = .ok (.aload_n 0, 1) := dk_42 (dk_at dksL_law_111 19 rfl rfl)
theorem dL_law_2837 : decode cL_law 2837 = .ok (.iload 4, 2) := dk_21 4 (dk_at dksL_law_111 20 rfl rfl)
theorem dL_law_2839 : decode cL_law 2839 = .ok (.iconst 5, 1) := dk_8 (dk_at dksL_law_111 22 rfl rfl)
theorem dL_law_2840 : decode cL_law 2840 = .ok (.iadd, 1) := dk_96 (dk_at dksL_law_111 23 rfl rfl)
theorem dL_law_2841 : decode cL_law 2841 = .ok (.iaload, 1) := dk_46 (dk_at dksL_law_112 0 rfl rfl)
theorem dL_law_2842 : decode cL_law 2842 = .ok (.aload_n 0, 1) := dk_42 (dk_at dksL_law_112 1 rfl rfl)
theorem dL_law_2843 : decode cL_law 2843 = .ok (.iload 4, 2) := dk_21 4 (dk_at dksL_law_112 2 rfl rfl)
theorem dL_law_2845 : decode cL_law 2845 = .ok (.bipush 6, 2) := dk_16 6 (dk_at dksL_law_112 4 rfl rfl)
theorem dL_law_2847 : decode cL_law 2847 = .ok (.iadd, 1) := dk_96 (dk_at dksL_law_112 6 rfl rfl)
theorem dL_law_2848 : decode cL_law 2848 = .ok (.iaload, 1) := dk_46 (dk_at dksL_law_112 7 rfl rfl)
theorem dL_law_2849 : decode cL_law 2849 = .ok (.aload_n 3, 1) := dk_45 (dk_at dksL_law_112 8 rfl rfl)
theorem dL_law_2850 : decode cL_law 2850 = .ok (.invokestatic 339, 3) := dk_184 1 83 (dk_at dksL_law_112 9 rfl rfl)
theorem dL_law_2853 : decode cL_law 2853 = .ok (.istore 5, 2) := dk_54 5 (dk_at dksL_law_112 12 rfl rfl)
theorem dL_law_2855 : decode cL_law 2855 = .ok (.aload_n 2, 1) := dk_44 (dk_at dksL_law_112 14 rfl rfl)
theorem dL_law_2856 : decode cL_law 2856 = .ok (.aload_n 0, 1) := dk_42 (dk_at dksL_law_112 15 rfl rfl)
theorem dL_law_2857 : decode cL_law 2857 = .ok (.iload 4, 2) := dk_21 4 (dk_at dksL_law_112 16 rfl rfl)
theorem dL_law_2859 : decode cL_law 2859 = .ok (.iconst 1, 1) := dk_4 (dk_at dksL_law_112 18 rfl rfl)
theorem dL_law_2860 : decode cL_law 2860 = .ok (.iadd, 1) := dk_96 (dk_at dksL_law_112 19 rfl rfl)
theorem dL_law_2861 : decode cL_law 2861 = .ok (.iaload, 1) := dk_46 (dk_at dksL_law_112 20 rfl rfl)
theorem dL_law_2862 : decode cL_law 2862 = .ok (.aload_n 0, 1) := dk_42 (dk_at dksL_law_112 21 rfl rfl)
theorem dL_law_2863 : decode cL_law 2863 = .ok (.iload 4, 2) := dk_21 4 (dk_at dksL_law_112 22 rfl rfl)
theorem dL_law_2865 : decode cL_law 2865 = .ok (.iconst 2, 1) := dk_5 (dk_at dksL_law_113 0 rfl rfl)
theorem dL_law_2866 : decode cL_law 2866 = .ok (.iadd, 1) := dk_96 (dk_at dksL_law_113 1 rfl rfl)
theorem dL_law_2867 : decode cL_law 2867 = .ok (.iaload, 1) := dk_46 (dk_at dksL_law_113 2 rfl rfl)
theorem dL_law_2868 : decode cL_law 2868 = .ok (.aload_n 0, 1) := dk_42 (dk_at dksL_law_113 3 rfl rfl)
theorem dL_law_2869 : decode cL_law 2869 = .ok (.iload 4, 2) := dk_21 4 (dk_at dksL_law_113 4 rfl rfl)
theorem dL_law_2871 : decode cL_law 2871 = .ok (.iconst 3, 1) := dk_6 (dk_at dksL_law_113 6 rfl rfl)
theorem dL_law_2872 : decode cL_law 2872 = .ok (.iadd, 1) := dk_96 (dk_at dksL_law_113 7 rfl rfl)
theorem dL_law_2873 : decode cL_law 2873 = .ok (.iaload, 1) := dk_46 (dk_at dksL_law_113 8 rfl rfl)
theorem dL_law_2874 : decode cL_law 2874 = .ok (.aload_n 0, 1) := dk_42 (dk_at dksL_law_113 9 rfl rfl)
theorem dL_law_2875 : decode cL_law 2875 = .ok (.iload 4, 2) := dk_21 4 (dk_at dksL_law_113 10 rfl rfl)
theorem dL_law_2877 : decode cL_law 2877 = .ok (.iconst 4, 1) := dk_7 (dk_at dksL_law_113 12 rfl rfl)
theorem dL_law_2878 : decode cL_law 2878 = .ok (.iadd, 1) := dk_96 (dk_at dksL_law_113 13 rfl rfl)
theorem dL_law_2879 : decode cL_law 2879 = .ok (.iaload, 1) := dk_46 (dk_at dksL_law_113 14 rfl rfl)
theorem dL_law_2880 : decode cL_law 2880 = .ok (.aload_n 0, 1) := dk_42 (dk_at dksL_law_113 15 rfl rfl)
theorem dL_law_2881 : decode cL_law 2881 = .ok (.iload 4, 2) := dk_21 4 (dk_at dksL_law_113 16 rfl rfl)
theorem dL_law_2883 : decode cL_law 2883 = .ok (.iconst 5, 1) := dk_8 (dk_at dksL_law_113 18 rfl rfl)
theorem dL_law_2884 : decode cL_law 2884 = .ok (.iadd, 1) := dk_96 (dk_at dksL_law_113 19 rfl rfl)
theorem dL_law_2885 : decode cL_law 2885 = .ok (.iaload, 1) := dk_46 (dk_at dksL_law_113 20 rfl rfl)
theorem dL_law_2886 : decode cL_law 2886 = .ok (.aload_n 0, 1) := dk_42 (dk_at dksL_law_113 21 rfl rfl)
theorem dL_law_2887 : decode cL_law 2887 = .ok (.iload 4, 2) := dk_21 4 (dk_at dksL_law_113 22 rfl rfl)
theorem dL_law_2889 : decode cL_law 2889 = .ok (.bipush 6, 2) := dk_16 6 (dk_at dksL_law_114 0 rfl rfl)
theorem dL_law_2891 : decode cL_law 2891 = .ok (.iadd, 1) := dk_96 (dk_at dksL_law_114 2 rfl rfl)
theorem dL_law_2892 : decode cL_law 2892 = .ok (.iaload, 1) := dk_46 (dk_at dksL_law_114 3 rfl rfl)
theorem dL_law_2893 : decode cL_law 2893 = .ok (.invokevirtual 342, 3) := dk_182 1 86 (dk_at dksL_law_114 4 rfl rfl)
theorem dL_law_2896 : decode cL_law 2896 = .ok (.istore 6, 2) := dk_54 6 (dk_at dksL_law_114 7 rfl rfl)
theorem dL_law_2898 : decode cL_law 2898 = .ok (.aload_n 2, 1) := dk_44 (dk_at dksL_law_114 9 rfl rfl)
theorem dL_law_2899 : decode cL_law 2899 = .ok (.invokevirtual 169, 3) := dk_182 0 169 (dk_at dksL_law_114 10 rfl rfl)
theorem dL_law_2902 : decode cL_law 2902 = .ok (.iload 5, 2) := dk_21 5 (dk_at dksL_law_114 13 rfl rfl)
theorem dL_law_2904 : decode cL_law 2904 = .ok (.if_icmp .eq 5, 3) := dk_159 0 5 (dk_at dksL_law_114 15 rfl rfl)
theorem dL_law_2907 : decode cL_law 2907 = .ok (.iconst 0, 1) := dk_3 (dk_at dksL_law_114 18 rfl rfl)
theorem dL_law_2908 : decode cL_law 2908 = .ok (.ireturn, 1) := dk_172 (dk_at dksL_law_114 19 rfl rfl)
theorem dL_law_2909 : decode cL_law 2909 = .ok (.iload 5, 2) := dk_21 5 (dk_at dksL_law_114 20 rfl rfl)
theorem dL_law_2911 : decode cL_law 2911 = .ok (.ifCond .ne 15, 3) := dk_154 0 15 (dk_at dksL_law_115 0 rfl rfl)
theorem dL_law_2914 : decode cL_law 2914 = .ok (.aload_n 3, 1) := dk_45 (dk_at dksL_law_115 3 rfl rfl)
theorem dL_law_2915 : decode cL_law 2915 = .ok (.iconst 0, 1) := dk_3 (dk_at dksL_law_115 4 rfl rfl)
theorem dL_law_2916 : decode cL_law 2916 = .ok (.laload, 1) := dk_47 (dk_at dksL_law_115 5 rfl rfl)
theorem dL_law_2917 : decode cL_law 2917 = .ok (.iload 6, 2) := dk_21 6 (dk_at dksL_law_115 6 rfl rfl)
theorem dL_law_2919 : decode cL_law 2919 = .ok (.i2l, 1) := dk_133 (dk_at dksL_law_115 8 rfl rfl)
theorem dL_law_2920 : decode cL_law 2920 = .ok (.lcmp, 1) := dk_148 (dk_at dksL_law_115 9 rfl rfl)
theorem dL_law_2921 : decode cL_law 2921 = .ok (.ifCond .eq 5, 3) := dk_153 0 5 (dk_at dksL_law_115 10 rfl rfl)
theorem dL_law_2924 : decode cL_law 2924 = .ok (.iconst 0, 1) := dk_3 (dk_at dksL_law_115 13 rfl rfl)
theorem dL_law_2925 : decode cL_law 2925 = .ok (.ireturn, 1) := dk_172 (dk_at dksL_law_115 14 rfl rfl)
theorem dL_law_2926 : decode cL_law 2926 = .ok (.goto 228, 3) := dk_167 0 228 (dk_at dksL_law_115 15 rfl rfl)
theorem dL_law_2929 : decode cL_law 2929 = .ok (.aload_n 1, 1) := dk_43 (dk_at dksL_law_115 18 rfl rfl)
theorem dL_law_2930 : decode cL_law 2930 = .ok (.aload_n 0, 1) := dk_42 (dk_at dksL_law_115 19 rfl rfl)
theorem dL_law_2931 : decode cL_law 2931 = .ok (.iload 4, 2) := dk_21 4 (dk_at dksL_law_115 20 rfl rfl)
theorem dL_law_2933 : decode cL_law 2933 = .ok (.iconst 1, 1) := dk_4 (dk_at dksL_law_115 22 rfl rfl)
theorem dL_law_2934 : decode cL_law 2934 = .ok (.iadd, 1) := dk_96 (dk_at dksL_law_115 23 rfl rfl)
theorem dL_law_2935 : decode cL_law 2935 = .ok (.iaload, 1) := dk_46 (dk_at dksL_law_116 0 rfl rfl)
theorem dL_law_2936 : decode cL_law 2936 = .ok (.aload_n 3, 1) := dk_45 (dk_at dksL_law_116 1 rfl rfl)
theorem dL_law_2937 : decode cL_law 2937 = .ok (.invokestatic 343, 3) := dk_184 1 87 (dk_at dksL_law_116 2 rfl rfl)
theorem dL_law_2940 : decode cL_law 2940 = .ok (.istore 5, 2) := dk_54 5 (dk_at dksL_law_116 5 rfl rfl)
theorem dL_law_2942 : decode cL_law 2942 = .ok (.aload_n 2, 1) := dk_44 (dk_at dksL_law_116 7 rfl rfl)
theorem dL_law_2943 : decode cL_law 2943 = .ok (.aload_n 0, 1) := dk_42 (dk_at dksL_law_116 8 rfl rfl)
theorem dL_law_2944 : decode cL_law 2944 = .ok (.iload 4, 2) := dk_21 4 (dk_at dksL_law_116 9 rfl rfl)
theorem dL_law_2946 : decode cL_law 2946 = .ok (.iconst 1, 1) := dk_4 (dk_at dksL_law_116 11 rfl rfl)
theorem dL_law_2947 : decode cL_law 2947 = .ok (.iadd, 1) := dk_96 (dk_at dksL_law_116 12 rfl rfl)
theorem dL_law_2948 : decode cL_law 2948 = .ok (.iaload, 1) := dk_46 (dk_at dksL_law_116 13 rfl rfl)
theorem dL_law_2949 : decode cL_law 2949 = .ok (.invokevirtual 345, 3) := dk_182 1 89 (dk_at dksL_law_116 14 rfl rfl)
theorem dL_law_2952 : decode cL_law 2952 = .ok (.istore 6, 2) := dk_54 6 (dk_at dksL_law_116 17 rfl rfl)
theorem dL_law_2954 : decode cL_law 2954 = .ok (.aload_n 2, 1) := dk_44 (dk_at dksL_law_116 19 rfl rfl)
theorem dL_law_2955 : decode cL_law 2955 = .ok (.invokevirtual 169, 3) := dk_182 0 169 (dk_at dksL_law_116 20 rfl rfl)
theorem dL_law_2958 : decode cL_law 2958 = .ok (.iload 5, 2) := dk_21 5 (dk_at dksL_law_117 0 rfl rfl)
theorem dL_law_2960 : decode cL_law 2960 = .ok (.if_icmp .eq 5, 3) := dk_159 0 5 (dk_at dksL_law_117 2 rfl rfl)
theorem dL_law_2963 : decode cL_law 2963 = .ok (.iconst 0, 1) := dk_3 (dk_at dksL_law_117 5 rfl rfl)
theorem dL_law_2964 : decode cL_law 2964 = .ok (.ireturn, 1) := dk_172 (dk_at dksL_law_117 6 rfl rfl)
theorem dL_law_2965 : decode cL_law 2965 = .ok (.iload 5, 2) := dk_21 5 (dk_at dksL_law_117 7 rfl rfl)
theorem dL_law_2967 : decode cL_law 2967 = .ok (.ifCond .ne 15, 3) := dk_154 0 15 (dk_at dksL_law_117 9 rfl rfl)
theorem dL_law_2970 : decode cL_law 2970 = .ok (.aload_n 3, 1) := dk_45 (dk_at dksL_law_117 12 rfl rfl)
theorem dL_law_2971 : decode cL_law 2971 = .ok (.iconst 0, 1) := dk_3 (dk_at dksL_law_117 13 rfl rfl)
theorem dL_law_2972 : decode cL_law 2972 = .ok (.laload, 1) := dk_47 (dk_at dksL_law_117 14 rfl rfl)
theorem dL_law_2973 : decode cL_law 2973 = .ok (.iload 6, 2) := dk_21 6 (dk_at dksL_law_117 15 rfl rfl)
theorem dL_law_2975 : decode cL_law 2975 = .ok (.i2l, 1) := dk_133 (dk_at dksL_law_117 17 rfl rfl)
theorem dL_law_2976 : decode cL_law 2976 = .ok (.lcmp, 1) := dk_148 (dk_at dksL_law_117 18 rfl rfl)
theorem dL_law_2977 : decode cL_law 2977 = .ok (.ifCond .eq 5, 3) := dk_153 0 5 (dk_at dksL_law_117 19 rfl rfl)
theorem dL_law_2980 : decode cL_law 2980 = .ok (.iconst 0, 1) := dk_3 (dk_at dksL_law_117 22 rfl rfl)
theorem dL_law_2981 : decode cL_law 2981 = .ok (.ireturn, 1) := dk_172 (dk_at dksL_law_117 23 rfl rfl)
theorem dL_law_2982 : decode cL_law 2982 = .ok (.goto 172, 3) := dk_167 0 172 (dk_at dksL_law_118 0 rfl rfl)
theorem dL_law_2985 : decode cL_law 2985 = .ok (.aload_n 1, 1) := dk_43 (dk_at dksL_law_118 3 rfl rfl)
theorem dL_law_2986 : decode cL_law 2986 = .ok (.aload_n 3, 1) := dk_45 (dk_at dksL_law_118 4 rfl rfl)
theorem dL_law_2987 : decode cL_law 2987 = .ok (.invokestatic 346, 3) := dk_184 1 90 (dk_at dksL_law_118 5 rfl rfl)
theorem dL_law_2990 : decode cL_law 2990 = .ok (.istore 5, 2) := dk_54 5 (dk_at dksL_law_118 8 rfl rfl)
theorem dL_law_2992 : decode cL_law 2992 = .ok (.aload_n 2, 1) := dk_44 (dk_at dksL_law_118 10 rfl rfl)
theorem dL_law_2993 : decode cL_law 2993 = .ok (.invokevirtual 348, 3) := dk_182 1 92 (dk_at dksL_law_118 11 rfl rfl)
theorem dL_law_2996 : decode cL_law 2996 = .ok (.istore 6, 2) := dk_54 6 (dk_at dksL_law_118 14 rfl rfl)
theorem dL_law_2998 : decode cL_law 2998 = .ok (.aload_n 2, 1) := dk_44 (dk_at dksL_law_118 16 rfl rfl)
theorem dL_law_2999 : decode cL_law 2999 = .ok (.invokevirtual 169, 3) := dk_182 0 169 (dk_at dksL_law_118 17 rfl rfl)
theorem dL_law_3002 : decode cL_law 3002 = .ok (.iload 5, 2) := dk_21 5 (dk_at dksL_law_118 20 rfl rfl)
theorem dL_law_3004 : decode cL_law 3004 = .ok (.if_icmp .eq 5, 3) := dk_159 0 5 (dk_at dksL_law_119 0 rfl rfl)
theorem dL_law_3007 : decode cL_law 3007 = .ok (.iconst 0, 1) := dk_3 (dk_at dksL_law_119 3 rfl rfl)
theorem dL_law_3008 : decode cL_law 3008 = .ok (.ireturn, 1) := dk_172 (dk_at dksL_law_119 4 rfl rfl)
theorem dL_law_3009 : decode cL_law 3009 = .ok (.iload 5, 2) := dk_21 5 (dk_at dksL_law_119 5 rfl rfl)
theorem dL_law_3011 : decode cL_law 3011 = .ok (.ifCond .ne 15, 3) := dk_154 0 15 (dk_at dksL_law_119 7 rfl rfl)
theorem dL_law_3014 : decode cL_law 3014 = .ok (.aload_n 3, 1) := dk_45 (dk_at dksL_law_119 10 rfl rfl)
theorem dL_law_3015 : decode cL_law 3015 = .ok (.iconst 0, 1) := dk_3 (dk_at dksL_law_119 11 rfl rfl)
theorem dL_law_3016 : decode cL_law 3016 = .ok (.laload, 1) := dk_47 (dk_at dksL_law_119 12 rfl rfl)
theorem dL_law_3017 : decode cL_law 3017 = .ok (.iload 6, 2) := dk_21 6 (dk_at dksL_law_119 13 rfl rfl)
theorem dL_law_3019 : decode cL_law 3019 = .ok (.i2l, 1) := dk_133 (dk_at dksL_law_119 15 rfl rfl)
theorem dL_law_3020 : decode cL_law 3020 = .ok (.lcmp, 1) := dk_148 (dk_at dksL_law_119 16 rfl rfl)
theorem dL_law_3021 : decode cL_law 3021 = .ok (.ifCond .eq 5, 3) := dk_153 0 5 (dk_at dksL_law_119 17 rfl rfl)
theorem dL_law_3024 : decode cL_law 3024 = .ok (.iconst 0, 1) := dk_3 (dk_at dksL_law_119 20 rfl rfl)
theorem dL_law_3025 : decode cL_law 3025 = .ok (.ireturn, 1) := dk_172 (dk_at dksL_law_119 21 rfl rfl)
theorem dL_law_3026 : decode cL_law 3026 = .ok (.goto 128, 3) := dk_167 0 128 (dk_at dksL_law_120 0 rfl rfl)
theorem dL_law_3029 : decode cL_law 3029 = .ok (.aload_n 1, 1) := dk_43 (dk_at dksL_law_120 3 rfl rfl)
theorem dL_law_3030 : decode cL_law 3030 = .ok (.invokevirtual 349, 3) := dk_182 1 93 (dk_at dksL_law_120 4 rfl rfl)
theorem dL_law_3033 : decode cL_law 3033 = .ok (.aload_n 2, 1) := dk_44 (dk_at dksL_law_120 7 rfl rfl)
theorem dL_law_3034 : decode cL_law 3034 = .ok (.invokevirtual 352, 3) := dk_182 1 96 (dk_at dksL_law_120 8 rfl rfl)
theorem dL_law_3037 : decode cL_law 3037 = .ok (.if_icmp .eq 117, 3) := dk_159 0 117 (dk_at dksL_law_120 11 rfl rfl)
theorem dL_law_3040 : decode cL_law 3040 = .ok (.iconst 0, 1) := dk_3 (dk_at dksL_law_120 14 rfl rfl)
theorem dL_law_3041 : decode cL_law 3041 = .ok (.ireturn, 1) := dk_172 (dk_at dksL_law_120 15 rfl rfl)
theorem dL_law_3042 : decode cL_law 3042 = .ok (.aload_n 1, 1) := dk_43 (dk_at dksL_law_120 16 rfl rfl)
theorem dL_law_3043 : decode cL_law 3043 = .ok (.aload_n 0, 1) := dk_42 (dk_at dksL_law_120 17 rfl rfl)
theorem dL_law_3044 : decode cL_law 3044 = .ok (.iload 4, 2) := dk_21 4 (dk_at dksL_law_120 18 rfl rfl)
theorem dL_law_3046 : decode cL_law 3046 = .ok (.iconst 1, 1) := dk_4 (dk_at dksL_law_120 20 rfl rfl)
theorem dL_law_3047 : decode cL_law 3047 = .ok (.iadd, 1) := dk_96 (dk_at dksL_law_120 21 rfl rfl)
theorem dL_law_3048 : decode cL_law 3048 = .ok (.iaload, 1) := dk_46 (dk_at dksL_law_120 22 rfl rfl)
theorem dL_law_3049 : decode cL_law 3049 = .ok (.aload_n 3, 1) := dk_45 (dk_at dksL_law_120 23 rfl rfl)
theorem dL_law_3050 : decode cL_law 3050 = .ok (.invokestatic 353, 3) := dk_184 1 97 (dk_at dksL_law_121 0 rfl rfl)
theorem dL_law_3053 : decode cL_law 3053 = .ok (.istore 5, 2) := dk_54 5 (dk_at dksL_law_121 3 rfl rfl)
theorem dL_law_3055 : decode cL_law 3055 = .ok (.aload_n 2, 1) := dk_44 (dk_at dksL_law_121 5 rfl rfl)
theorem dL_law_3056 : decode cL_law 3056 = .ok (.aload_n 0, 1) := dk_42 (dk_at dksL_law_121 6 rfl rfl)
theorem dL_law_3057 : decode cL_law 3057 = .ok (.iload 4, 2) := dk_21 4 (dk_at dksL_law_121 7 rfl rfl)
theorem dL_law_3059 : decode cL_law 3059 = .ok (.iconst 1, 1) := dk_4 (dk_at dksL_law_121 9 rfl rfl)
theorem dL_law_3060 : decode cL_law 3060 = .ok (.iadd, 1) := dk_96 (dk_at dksL_law_121 10 rfl rfl)
theorem dL_law_3061 : decode cL_law 3061 = .ok (.iaload, 1) := dk_46 (dk_at dksL_law_121 11 rfl rfl)
theorem dL_law_3062 : decode cL_law 3062 = .ok (.invokevirtual 355, 3) := dk_182 1 99 (dk_at dksL_law_121 12 rfl rfl)
theorem dL_law_3065 : decode cL_law 3065 = .ok (.istore 6, 2) := dk_54 6 (dk_at dksL_law_121 15 rfl rfl)
theorem dL_law_3067 : decode cL_law 3067 = .ok (.aload_n 2, 1) := dk_44 (dk_at dksL_law_121 17 rfl rfl)
theorem dL_law_3068 : decode cL_law 3068 = .ok (.invokevirtual 169, 3) := dk_182 0 169 (dk_at dksL_law_121 18 rfl rfl)
theorem dL_law_3071 : decode cL_law 3071 = .ok (.iload 5, 2) := dk_21 5 (dk_at dksL_law_121 21 rfl rfl)
theorem dL_law_3073 : decode cL_law 3073 = .ok (.if_icmp .eq 5, 3) := dk_159 0 5 (dk_at dksL_law_122 0 rfl rfl)
theorem dL_law_3076 : decode cL_law 3076 = .ok (.iconst 0, 1) := dk_3 (dk_at dksL_law_122 3 rfl rfl)
theorem dL_law_3077 : decode cL_law 3077 = .ok (.ireturn, 1) := dk_172 (dk_at dksL_law_122 4 rfl rfl)
theorem dL_law_3078 : decode cL_law 3078 = .ok (.iload 5, 2) := dk_21 5 (dk_at dksL_law_122 5 rfl rfl)
theorem dL_law_3080 : decode cL_law 3080 = .ok (.ifCond .ne 15, 3) := dk_154 0 15 (dk_at dksL_law_122 7 rfl rfl)
theorem dL_law_3083 : decode cL_law 3083 = .ok (.aload_n 3, 1) := dk_45 (dk_at dksL_law_122 10 rfl rfl)
theorem dL_law_3084 : decode cL_law 3084 = .ok (.iconst 0, 1) := dk_3 (dk_at dksL_law_122 11 rfl rfl)
theorem dL_law_3085 : decode cL_law 3085 = .ok (.laload, 1) := dk_47 (dk_at dksL_law_122 12 rfl rfl)
theorem dL_law_3086 : decode cL_law 3086 = .ok (.iload 6, 2) := dk_21 6 (dk_at dksL_law_122 13 rfl rfl)
theorem dL_law_3088 : decode cL_law 3088 = .ok (.i2l, 1) := dk_133 (dk_at dksL_law_122 15 rfl rfl)
theorem dL_law_3089 : decode cL_law 3089 = .ok (.lcmp, 1) := dk_148 (dk_at dksL_law_122 16 rfl rfl)
theorem dL_law_3090 : decode cL_law 3090 = .ok (.ifCond .eq 5, 3) := dk_153 0 5 (dk_at dksL_law_122 17 rfl rfl)
theorem dL_law_3093 : decode cL_law 3093 = .ok (.iconst 0, 1) := dk_3 (dk_at dksL_law_122 20 rfl rfl)
theorem dL_law_3094 : decode cL_law 3094 = .ok (.ireturn, 1) := dk_172 (dk_at dksL_law_122 21 rfl rfl)
theorem dL_law_3095 : decode cL_law 3095 = .ok (.goto 59, 3) := dk_167 0 59 (dk_at dksL_law_123 0 rfl rfl)
theorem dL_law_3098 : decode cL_law 3098 = .ok (.aload_n 1, 1) := dk_43 (dk_at dksL_law_123 3 rfl rfl)
theorem dL_law_3099 : decode cL_law 3099 = .ok (.aload_n 0, 1) := dk_42 (dk_at dksL_law_123 4 rfl rfl)
theorem dL_law_3100 : decode cL_law 3100 = .ok (.iload 4, 2) := dk_21 4 (dk_at dksL_law_123 5 rfl rfl)
theorem dL_law_3102 : decode cL_law 3102 = .ok (.iconst 1, 1) := dk_4 (dk_at dksL_law_123 7 rfl rfl)
theorem dL_law_3103 : decode cL_law 3103 = .ok (.iadd, 1) := dk_96 (dk_at dksL_law_123 8 rfl rfl)
theorem dL_law_3104 : decode cL_law 3104 = .ok (.iaload, 1) := dk_46 (dk_at dksL_law_123 9 rfl rfl)
theorem dL_law_3105 : decode cL_law 3105 = .ok (.aload_n 3, 1) := dk_45 (dk_at dksL_law_123 10 rfl rfl)
theorem dL_law_3106 : decode cL_law 3106 = .ok (.invokestatic 356, 3) := dk_184 1 100 (dk_at dksL_law_123 11 rfl rfl)
theorem dL_law_3109 : decode cL_law 3109 = .ok (.istore 5, 2) := dk_54 5 (dk_at dksL_law_123 14 rfl rfl)
theorem dL_law_3111 : decode cL_law 3111 = .ok (.aload_n 2, 1) := dk_44 (dk_at dksL_law_123 16 rfl rfl)
theorem dL_law_3112 : decode cL_law 3112 = .ok (.aload_n 0, 1) := dk_42 (dk_at dksL_law_123 17 rfl rfl)
theorem dL_law_3113 : decode cL_law 3113 = .ok (.iload 4, 2) := dk_21 4 (dk_at dksL_law_123 18 rfl rfl)
theorem dL_law_3115 : decode cL_law 3115 = .ok (.iconst 1, 1) := dk_4 (dk_at dksL_law_123 20 rfl rfl)
theorem dL_law_3116 : decode cL_law 3116 = .ok (.iadd, 1) := dk_96 (dk_at dksL_law_123 21 rfl rfl)
theorem dL_law_3117 : decode cL_law 3117 = .ok (.iaload, 1) := dk_46 (dk_at dksL_law_123 22 rfl rfl)
theorem dL_law_3118 : decode cL_law 3118 = .ok (.invokevirtual 358, 3) := dk_182 1 102 (dk_at dksL_law_124 0 rfl rfl)
theorem dL_law_3121 : decode cL_law 3121 = .ok (.istore 6, 2) := dk_54 6 (dk_at dksL_law_124 3 rfl rfl)
theorem dL_law_3123 : decode cL_law 3123 = .ok (.aload_n 2, 1) := dk_44 (dk_at dksL_law_124 5 rfl rfl)
theorem dL_law_3124 : decode cL_law 3124 = .ok (.invokevirtual 169, 3) := dk_182 0 169 (dk_at dksL_law_124 6 rfl rfl)
theorem dL_law_3127 : decode cL_law 3127 = .ok (.iload 5, 2) := dk_21 5 (dk_at dksL_law_124 9 rfl rfl)
theorem dL_law_3129 : decode cL_law 3129 = .ok (.if_icmp .eq 5, 3) := dk_159 0 5 (dk_at dksL_law_124 11 rfl rfl)
theorem dL_law_3132 : decode cL_law 3132 = .ok (.iconst 0, 1) := dk_3 (dk_at dksL_law_124 14 rfl rfl)
theorem dL_law_3133 : decode cL_law 3133 = .ok (.ireturn, 1) := dk_172 (dk_at dksL_law_124 15 rfl rfl)
theorem dL_law_3134 : decode cL_law 3134 = .ok (.iload 5, 2) := dk_21 5 (dk_at dksL_law_124 16 rfl rfl)
theorem dL_law_3136 : decode cL_law 3136 = .ok (.ifCond .ne 15, 3) := dk_154 0 15 (dk_at dksL_law_124 18 rfl rfl)
theorem dL_law_3139 : decode cL_law 3139 = .ok (.aload_n 3, 1) := dk_45 (dk_at dksL_law_124 21 rfl rfl)
theorem dL_law_3140 : decode cL_law 3140 = .ok (.iconst 0, 1) := dk_3 (dk_at dksL_law_124 22 rfl rfl)
theorem dL_law_3141 : decode cL_law 3141 = .ok (.laload, 1) := dk_47 (dk_at dksL_law_124 23 rfl rfl)
theorem dL_law_3142 : decode cL_law 3142 = .ok (.iload 6, 2) := dk_21 6 (dk_at dksL_law_125 0 rfl rfl)
theorem dL_law_3144 : decode cL_law 3144 = .ok (.i2l, 1) := dk_133 (dk_at dksL_law_125 2 rfl rfl)
theorem dL_law_3145 : decode cL_law 3145 = .ok (.lcmp, 1) := dk_148 (dk_at dksL_law_125 3 rfl rfl)
theorem dL_law_3146 : decode cL_law 3146 = .ok (.ifCond .eq 5, 3) := dk_153 0 5 (dk_at dksL_law_125 4 rfl rfl)
theorem dL_law_3149 : decode cL_law 3149 = .ok (.iconst 0, 1) := dk_3 (dk_at dksL_law_125 7 rfl rfl)
theorem dL_law_3150 : decode cL_law 3150 = .ok (.ireturn, 1) := dk_172 (dk_at dksL_law_125 8 rfl rfl)
theorem dL_law_3151 : decode cL_law 3151 = .ok (.goto 3, 3) := dk_167 0 3 (dk_at dksL_law_125 9 rfl rfl)
theorem dL_law_3154 : decode cL_law 3154 = .ok (.iinc 4 7, 3) := dk_132 4 7 (dk_at dksL_law_125 12 rfl rfl)
theorem dL_law_3157 : decode cL_law 3157 = .ok (.goto (-3134), 3) := dk_167 243 194 (dk_at dksL_law_125 15 rfl rfl)
theorem dL_law_3160 : decode cL_law 3160 = .ok (.iconst 1, 1) := dk_4 (dk_at dksL_law_125 18 rfl rfl)
theorem dL_law_3161 : decode cL_law 3161 = .ok (.ireturn, 1) := dk_172 (dk_at dksL_law_125 19 rfl rfl)


/-! SpectrumAccessLaw -/
set_option maxRecDepth 100000
def RX0 : String := "SpectrumAccessLaw"
