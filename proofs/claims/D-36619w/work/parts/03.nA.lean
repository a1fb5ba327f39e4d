/-! java/lang/AbstractStringBuilder -/
set_option maxRecDepth 100000
def RJ0 : String := "java/lang/AbstractStringBuilder"
abbrev cJ0_init : ByteArray := prog_5_method_2_code
def yJ0_init : MethodName := ⟨RJ0, "<init>", "(I)V"⟩
def dkwJ0_init_1 : List UInt8 := [167, 0, 16, 42, 27, 184, 0, 26, 181, 0, 15, 42, 4, 181, 0, 22, 177]
abbrev dktJ0_init_1 : List UInt8 := dkwJ0_init_1 ++ []
def dkwJ0_init_0 : List UInt8 := [42, 183, 0, 3, 178, 0, 18, 153, 0, 18, 42, 27, 188, 8, 181, 0, 15, 42, 3, 181, 0, 22]
abbrev dktJ0_init_0 : List UInt8 := dkwJ0_init_0 ++ dktJ0_init_1
theorem dksJ0_init_0 : cJ0_init.data.toList.drop 0 = dktJ0_init_0 := by decide +kernel
theorem dksJ0_init_1 : cJ0_init.data.toList.drop 22 = dktJ0_init_1 := dk_seg dksJ0_init_0 22 rfl rfl
theorem dJ0_init_0 : decode cJ0_init 0 = .ok (.aload_n 0, 1) := dk_42 (dk_at dksJ0_init_0 0 rfl rfl)
theorem dJ0_init_1 : decode cJ0_init 1 = .ok (.invokespecial 3, 3) := dk_183 0 3 (dk_at dksJ0_init_0 1 rfl rfl)
theorem dJ0_init_4 : decode cJ0_init 4 = .ok (.getstatic 18, 3) := dk_178 0 18 (dk_at dksJ0_init_0 4 rfl rfl)
theorem dJ0_init_7 : decode cJ0_init 7 = .ok (.ifCond .eq 18, 3) := dk_153 0 18 (dk_at dksJ0_init_0 7 rfl rfl)
theorem dJ0_init_10 : decode cJ0_init 10 = .ok (.aload_n 0, 1) := dk_42 (dk_at dksJ0_init_0 10 rfl rfl)
theorem dJ0_init_11 : decode cJ0_init 11 = .ok (.iload_n 1, 1) := dk_27 (dk_at dksJ0_init_0 11 rfl rfl)
theorem dJ0_init_12 : decode cJ0_init 12 = .ok (.newarray .byte, 2) := dk_188_8 (dk_at dksJ0_init_0 12 rfl rfl)
theorem dJ0_init_14 : decode cJ0_init 14 = .ok (.putfield 15, 3) := dk_181 0 15 (dk_at dksJ0_init_0 14 rfl rfl)
theorem dJ0_init_17 : decode cJ0_init 17 = .ok (.aload_n 0, 1) := dk_42 (dk_at dksJ0_init_0 17 rfl rfl)
theorem dJ0_init_18 : decode cJ0_init 18 = .ok (.iconst 0, 1) := dk_3 (dk_at dksJ0_init_0 18 rfl rfl)
theorem dJ0_init_19 : decode cJ0_init 19 = .ok (.putfield 22, 3) := dk_181 0 22 (dk_at dksJ0_init_0 19 rfl rfl)
theorem dJ0_init_22 : decode cJ0_init 22 = .ok (.goto 16, 3) := dk_167 0 16 (dk_at dksJ0_init_1 0 rfl rfl)
theorem dJ0_init_25 : decode cJ0_init 25 = .ok (.aload_n 0, 1) := dk_42 (dk_at dksJ0_init_1 3 rfl rfl)
theorem dJ0_init_26 : decode cJ0_init 26 = .ok (.iload_n 1, 1) := dk_27 (dk_at dksJ0_init_1 4 rfl rfl)
theorem dJ0_init_27 : decode cJ0_init 27 = .ok (.invokestatic 26, 3) := dk_184 0 26 (dk_at dksJ0_init_1 5 rfl rfl)
theorem dJ0_init_30 : decode cJ0_init 30 = .ok (.putfield 15, 3) := dk_181 0 15 (dk_at dksJ0_init_1 8 rfl rfl)
theorem dJ0_init_33 : decode cJ0_init 33 = .ok (.aload_n 0, 1) := dk_42 (dk_at dksJ0_init_1 11 rfl rfl)
theorem dJ0_init_34 : decode cJ0_init 34 = .ok (.iconst 1, 1) := dk_4 (dk_at dksJ0_init_1 12 rfl rfl)
theorem dJ0_init_35 : decode cJ0_init 35 = .ok (.putfield 22, 3) := dk_181 0 22 (dk_at dksJ0_init_1 13 rfl rfl)
theorem dJ0_init_38 : decode cJ0_init 38 = .ok (.return_, 1) := dk_177 (dk_at dksJ0_init_1 16 rfl rfl)
abbrev cJ0_ensureCapacityInternal : ByteArray := prog_5_method_9_code
def yJ0_ensureCapacityInternal : MethodName := ⟨RJ0, "ensureCapacityInternal", "(I)V"⟩
def dkwJ0_ensureCapacityInternal_1 : List UInt8 := [182, 0, 104, 42, 180, 0, 22, 120, 184, 0, 108, 181, 0, 15, 177]
abbrev dktJ0_ensureCapacityInternal_1 : List UInt8 := dkwJ0_ensureCapacityInternal_1 ++ []
def dkwJ0_ensureCapacityInternal_0 : List UInt8 := [42, 180, 0, 15, 190, 42, 180, 0, 22, 122, 61, 27, 28, 100, 158, 0, 24, 42, 42, 180, 0, 15, 42, 27]
abbrev dktJ0_ensureCapacityInternal_0 : List UInt8 := dkwJ0_ensureCapacityInternal_0 ++ dktJ0_ensureCapacityInternal_1
theorem dksJ0_ensureCapacityInternal_0 : cJ0_ensureCapacityInternal.data.toList.drop 0 = dktJ0_ensureCapacityInternal_0 := by decide +kernel
theorem dksJ0_ensureCapacityInternal_1 : cJ0_ensureCapacityInternal.data.toList.drop 24 = dktJ0_ensureCapacityInternal_1 := dk_seg dksJ0_ensureCapacityInternal_0 24 rfl rfl
theorem dJ0_ensureCapacityInternal_0 : decode cJ0_ensureCapacityInternal 0 = .ok (.aload_n 0, 1) := dk_42 (dk_at dksJ0_ensureCapacityInternal_0 0 rfl rfl)
theorem dJ0_ensureCapacityInternal_1 : decode cJ0_ensureCapacityInternal 1 = .ok (.getfield 15, 3) := dk_180 0 15 (dk_at dksJ0_ensureCapacityInternal_0 1 rfl rfl)
theorem dJ0_ensureCapacityInternal_4 : decode cJ0_ensureCapacityInternal 4 = .ok (.arraylength, 1) := dk_190 (dk_at dksJ0_ensureCapacityInternal_0 4 rfl rfl)
theorem dJ0_ensureCapacityInternal_5 : decode cJ0_ensureCapacityInternal 5 = .ok (.aload_n 0, 1) := dk_42 (dk_at dksJ0_ensureCapacityInternal_0 5 rfl rfl)
theorem dJ0_ensureCapacityInternal_6 : decode cJ0_ensureCapacityInternal 6 = .ok (.getfield 22, 3) := dk_180 0 22 (dk_at dksJ0_ensureCapacityInternal_0 6 rfl rfl)
theorem dJ0_ensureCapacityInternal_9 : decode cJ0_ensureCapacityInternal 9 = .ok (.ishr, 1) := dk_122 (dk_at dksJ0_ensureCapacityInternal_0 9 rfl rfl)
theorem dJ0_ensureCapacityInternal_10 : decode cJ0_ensureCapacityInternal 10 = .ok (.istore_n 2, 1) := dk_61 (dk_at dksJ0_ensureCapacityInternal_0 10 rfl rfl)
theorem dJ0_ensureCapacityInternal_11 : decode cJ0_ensureCapacityInternal 11 = .ok (.iload_n 1, 1) := dk_27 (dk_at dksJ0_ensureCapacityInternal_0 11 rfl rfl)
theorem dJ0_ensureCapacityInternal_12 : decode cJ0_ensureCapacityInternal 12 = .ok (.iload_n 2, 1) := dk_28 (dk_at dksJ0_ensureCapacityInternal_0 12 rfl rfl)
theorem dJ0_ensureCapacityInternal_13 : decode cJ0_ensureCapacityInternal 13 = .ok (.isub, 1) := dk_100 (dk_at dksJ0_ensureCapacityInternal_0 13 rfl rfl)
theorem dJ0_ensureCapacityInternal_14 : decode cJ0_ensureCapacityInternal 14 = .ok (.ifCond .le 24, 3) := dk_158 0 24 (dk_at dksJ0_ensureCapacityInternal_0 14 rfl rfl)
theorem dJ0_ensureCapacityInternal_17 : decode cJ0_ensureCapacityInternal 17 = .ok (.aload_n 0, 1) := dk_42 (dk_at dksJ0_ensureCapacityInternal_0 17 rfl rfl)
theorem dJ0_ensureCapacityInternal_18 : decode cJ0_ensureCapacityInternal 18 = .ok (.aload_n 0, 1) := dk_42 (dk_at dksJ0_ensureCapacityInternal_0 18 rfl rfl)
theorem dJ0_ensureCapacityInternal_19 : decode cJ0_ensureCapacityInternal 19 = .ok (.getfield 15, 3) := dk_180 0 15 (dk_at dksJ0_ensureCapacityInternal_0 19 rfl rfl)
theorem dJ0_ensureCapacityInternal_22 : decode cJ0_ensureCapacityInternal 22 = .ok (.aload_n 0, 1) := dk_42 (dk_at dksJ0_ensureCapacityInternal_0 22 rfl rfl)
theorem dJ0_ensureCapacityInternal_23 : decode cJ0_ensureCapacityInternal 23 = .ok (.iload_n 1, 1) := dk_27 (dk_at dksJ0_ensureCapacityInternal_0 23 rfl rfl)
theorem dJ0_ensureCapacityInternal_24 : decode cJ0_ensureCapacityInternal 24 = .ok (.invokevirtual 104, 3) := dk_182 0 104 (dk_at dksJ0_ensureCapacityInternal_1 0 rfl rfl)
theorem dJ0_ensureCapacityInternal_27 : decode cJ0_ensureCapacityInternal 27 = .ok (.aload_n 0, 1) := dk_42 (dk_at dksJ0_ensureCapacityInternal_1 3 rfl rfl)
theorem dJ0_ensureCapacityInternal_28 : decode cJ0_ensureCapacityInternal 28 = .ok (.getfield 22, 3) := dk_180 0 22 (dk_at dksJ0_ensureCapacityInternal_1 4 rfl rfl)
theorem dJ0_ensureCapacityInternal_31 : decode cJ0_ensureCapacityInternal 31 = .ok (.ishl, 1) := dk_120 (dk_at dksJ0_ensureCapacityInternal_1 7 rfl rfl)
theorem dJ0_ensureCapacityInternal_32 : decode cJ0_ensureCapacityInternal 32 = .ok (.invokestatic 108, 3) := dk_184 0 108 (dk_at dksJ0_ensureCapacityInternal_1 8 rfl rfl)
theorem dJ0_ensureCapacityInternal_35 : decode cJ0_ensureCapacityInternal 35 = .ok (.putfield 15, 3) := dk_181 0 15 (dk_at dksJ0_ensureCapacityInternal_1 11 rfl rfl)
theorem dJ0_ensureCapacityInternal_38 : decode cJ0_ensureCapacityInternal 38 = .ok (.return_, 1) := dk_177 (dk_at dksJ0_ensureCapacityInternal_1 14 rfl rfl)
abbrev cJ0_newCapacity : ByteArray := prog_5_method_10_code
def yJ0_newCapacity : MethodName := ⟨RJ0, "newCapacity", "(I)I"⟩
def dkwJ0_newCapacity_2 : List UInt8 := [183, 0, 124, 191, 21, 5, 42, 180, 0, 22, 122, 172]
abbrev dktJ0_newCapacity_2 : List UInt8 := dkwJ0_newCapacity_2 ++ []
def dkwJ0_newCapacity_1 : List UInt8 := [180, 0, 22, 120, 96, 184, 0, 114, 54, 5, 21, 5, 18, 39, 160, 0, 13, 187, 0, 120, 89, 18, 122]
abbrev dktJ0_newCapacity_1 : List UInt8 := dkwJ0_newCapacity_1 ++ dktJ0_newCapacity_2
def dkwJ0_newCapacity_0 : List UInt8 := [42, 180, 0, 15, 190, 61, 27, 42, 180, 0, 22, 120, 62, 29, 28, 100, 54, 4, 28, 21, 4, 28, 5, 42]
abbrev dktJ0_newCapacity_0 : List UInt8 := dkwJ0_newCapacity_0 ++ dktJ0_newCapacity_1
theorem dksJ0_newCapacity_0 : cJ0_newCapacity.data.toList.drop 0 = dktJ0_newCapacity_0 := by decide +kernel
theorem dksJ0_newCapacity_1 : cJ0_newCapacity.data.toList.drop 24 = dktJ0_newCapacity_1 := dk_seg dksJ0_newCapacity_0 24 rfl rfl
theorem dksJ0_newCapacity_2 : cJ0_newCapacity.data.toList.drop 47 = dktJ0_newCapacity_2 := dk_seg dksJ0_newCapacity_1 23 rfl rfl
theorem dJ0_newCapacity_0 : decode cJ0_newCapacity 0 = .ok (.aload_n 0, 1) := dk_42 (dk_at dksJ0_newCapacity_0 0 rfl rfl)
theorem dJ0_newCapacity_1 : decode cJ0_newCapacity 1 = .ok (.getfield 15, 3) := dk_180 0 15 (dk_at dksJ0_newCapacity_0 1 rfl rfl)
theorem dJ0_newCapacity_4 : decode cJ0_newCapacity 4 = .ok (.arraylength, 1) := dk_190 (dk_at dksJ0_newCapacity_0 4 rfl rfl)
theorem dJ0_newCapacity_5 : decode cJ0_newCapacity 5 = .ok (.istore_n 2, 1) := dk_61 (dk_at dksJ0_newCapacity_0 5 rfl rfl)
theorem dJ0_newCapacity_6 : decode cJ0_newCapacity 6 = .ok (.iload_n 1, 1) := dk_27 (dk_at dksJ0_newCapacity_0 6 rfl rfl)
theorem dJ0_newCapacity_7 : decode cJ0_newCapacity 7 = .ok (.aload_n 0, 1) := dk_42 (dk_at dksJ0_newCapacity_0 7 rfl rfl)
theorem dJ0_newCapacity_8 : decode cJ0_newCapacity 8 = .ok (.getfield 22, 3) := dk_180 0 22 (dk_at dksJ0_newCapacity_0 8 rfl rfl)
theorem dJ0_newCapacity_11 : decode cJ0_newCapacity 11 = .ok (.ishl, 1) := dk_120 (dk_at dksJ0_newCapacity_0 11 rfl rfl)
theorem dJ0_newCapacity_12 : decode cJ0_newCapacity 12 = .ok (.istore_n 3, 1) := dk_62 (dk_at dksJ0_newCapacity_0 12 rfl rfl)
theorem dJ0_newCapacity_13 : decode cJ0_newCapacity 13 = .ok (.iload_n 3, 1) := dk_29 (dk_at dksJ0_newCapacity_0 13 rfl rfl)
theorem dJ0_newCapacity_14 : decode cJ0_newCapacity 14 = .ok (.iload_n 2, 1) := dk_28 (dk_at dksJ0_newCapacity_0 14 rfl rfl)
theorem dJ0_newCapacity_15 : decode cJ0_newCapacity 15 = .ok (.isub, 1) := dk_100 (dk_at dksJ0_newCapacity_0 15 rfl rfl)
theorem dJ0_newCapacity_16 : decode cJ0_newCapacity 16 = .ok (.istore 4, 2) := dk_54 4 (dk_at dksJ0_newCapacity_0 16 rfl rfl)
theorem dJ0_newCapacity_18 : decode cJ0_newCapacity 18 = .ok (.iload_n 2, 1) := dk_28 (dk_at dksJ0_newCapacity_0 18 rfl rfl)
theorem dJ0_newCapacity_19 : decode cJ0_newCapacity 19 = .ok (.iload 4, 2) := dk_21 4 (dk_at dksJ0_newCapacity_0 19 rfl rfl)
theorem dJ0_newCapacity_21 : decode cJ0_newCapacity 21 = .ok (.iload_n 2, 1) := dk_28 (dk_at dksJ0_newCapacity_0 21 rfl rfl)
theorem dJ0_newCapacity_22 : decode cJ0_newCapacity 22 = .ok (.iconst 2, 1) := dk_5 (dk_at dksJ0_newCapacity_0 22 rfl rfl)
theorem dJ0_newCapacity_23 : decode cJ0_newCapacity 23 = .ok (.aload_n 0, 1) := dk_42 (dk_at dksJ0_newCapacity_0 23 rfl rfl)
theorem dJ0_newCapacity_24 : decode cJ0_newCapacity 24 = .ok (.getfield 22, 3) := dk_180 0 22 (dk_at dksJ0_newCapacity_1 0 rfl rfl)
theorem dJ0_newCapacity_27 : decode cJ0_newCapacity 27 = .ok (.ishl, 1) := dk_120 (dk_at dksJ0_newCapacity_1 3 rfl rfl)
theorem dJ0_newCapacity_28 : decode cJ0_newCapacity 28 = .ok (.iadd, 1) := dk_96 (dk_at dksJ0_newCapacity_1 4 rfl rfl)
theorem dJ0_newCapacity_29 : decode cJ0_newCapacity 29 = .ok (.invokestatic 114, 3) := dk_184 0 114 (dk_at dksJ0_newCapacity_1 5 rfl rfl)
theorem dJ0_newCapacity_32 : decode cJ0_newCapacity 32 = .ok (.istore 5, 2) := dk_54 5 (dk_at dksJ0_newCapacity_1 8 rfl rfl)
theorem dJ0_newCapacity_34 : decode cJ0_newCapacity 34 = .ok (.iload 5, 2) := dk_21 5 (dk_at dksJ0_newCapacity_1 10 rfl rfl)
theorem dJ0_newCapacity_36 : decode cJ0_newCapacity 36 = .ok (.ldc 39, 2) := dk_18 39 (dk_at dksJ0_newCapacity_1 12 rfl rfl)
theorem dJ0_newCapacity_38 : decode cJ0_newCapacity 38 = .ok (.if_icmp .ne 13, 3) := dk_160 0 13 (dk_at dksJ0_newCapacity_1 14 rfl rfl)
theorem dJ0_newCapacity_41 : decode cJ0_newCapacity 41 = .ok (.new 120, 3) := dk_187 0 120 (dk_at dksJ0_newCapacity_1 17 rfl rfl)
theorem dJ0_newCapacity_44 : decode cJ0_newCapacity 44 = .ok (.dup, 1) := dk_89 (dk_at dksJ0_newCapacity_1 20 rfl rfl)
theorem dJ0_newCapacity_45 : decode cJ0_newCapacity 45 = .ok (.ldc 122, 2) := dk_18 122 (dk_at dksJ0_newCapacity_1 21 rfl rfl)
theorem dJ0_newCapacity_47 : decode cJ0_newCapacity 47 = .ok (.invokespecial 124, 3) := dk_183 0 124 (dk_at dksJ0_newCapacity_2 0 rfl rfl)
theorem dJ0_newCapacity_50 : decode cJ0_newCapacity 50 = .ok (.athrow, 1) := dk_191 (dk_at dksJ0_newCapacity_2 3 rfl rfl)
theorem dJ0_newCapacity_51 : decode cJ0_newCapacity 51 = .ok (.iload 5, 2) := dk_21 5 (dk_at dksJ0_newCapacity_2 4 rfl rfl)
theorem dJ0_newCapacity_53 : decode cJ0_newCapacity 53 = .ok (.aload_n 0, 1) := dk_42 (dk_at dksJ0_newCapacity_2 6 rfl rfl)
theorem dJ0_newCapacity_54 : decode cJ0_newCapacity 54 = .ok (.getfield 22, 3) := dk_180 0 22 (dk_at dksJ0_newCapacity_2 7 rfl rfl)
theorem dJ0_newCapacity_57 : decode cJ0_newCapacity 57 = .ok (.ishr, 1) := dk_122 (dk_at dksJ0_newCapacity_2 10 rfl rfl)
theorem dJ0_newCapacity_58 : decode cJ0_newCapacity 58 = .ok (.ireturn, 1) := dk_172 (dk_at dksJ0_newCapacity_2 11 rfl rfl)
abbrev cJ0_isLatin1 : ByteArray := prog_5_method_68_code
def yJ0_isLatin1 : MethodName := ⟨RJ0, "isLatin1", "()Z"⟩
def dkwJ0_isLatin1_0 : List UInt8 := [178, 0, 18, 153, 0, 14, 42, 180, 0, 22, 154, 0, 7, 4, 167, 0, 4, 3, 172]
abbrev dktJ0_isLatin1_0 : List UInt8 := dkwJ0_isLatin1_0 ++ []
theorem dksJ0_isLatin1_0 : cJ0_isLatin1.data.toList.drop 0 = dktJ0_isLatin1_0 := by decide +kernel
theorem dJ0_isLatin1_0 : decode cJ0_isLatin1 0 = .ok (.getstatic 18, 3) := dk_178 0 18 (dk_at dksJ0_isLatin1_0 0 rfl rfl)
theorem dJ0_isLatin1_3 : decode cJ0_isLatin1 3 = .ok (.ifCond .eq 14, 3) := dk_153 0 14 (dk_at dksJ0_isLatin1_0 3 rfl rfl)
theorem dJ0_isLatin1_6 : decode cJ0_isLatin1 6 = .ok (.aload_n 0, 1) := dk_42 (dk_at dksJ0_isLatin1_0 6 rfl rfl)
theorem dJ0_isLatin1_7 : decode cJ0_isLatin1 7 = .ok (.getfield 22, 3) := dk_180 0 22 (dk_at dksJ0_isLatin1_0 7 rfl rfl)
theorem dJ0_isLatin1_10 : decode cJ0_isLatin1 10 = .ok (.ifCond .ne 7, 3) := dk_154 0 7 (dk_at dksJ0_isLatin1_0 10 rfl rfl)
theorem dJ0_isLatin1_13 : decode cJ0_isLatin1 13 = .ok (.iconst 1, 1) := dk_4 (dk_at dksJ0_isLatin1_0 13 rfl rfl)
theorem dJ0_isLatin1_14 : decode cJ0_isLatin1 14 = .ok (.goto 4, 3) := dk_167 0 4 (dk_at dksJ0_isLatin1_0 14 rfl rfl)
theorem dJ0_isLatin1_17 : decode cJ0_isLatin1 17 = .ok (.iconst 0, 1) := dk_3 (dk_at dksJ0_isLatin1_0 17 rfl rfl)
theorem dJ0_isLatin1_18 : decode cJ0_isLatin1 18 = .ok (.ireturn, 1) := dk_172 (dk_at dksJ0_isLatin1_0 18 rfl rfl)
abbrev cJ0_append_2 : ByteArray := prog_5_method_22_code
def yJ0_append_2 : MethodName := ⟨RJ0, "append", "(Ljava/lang/String;)Ljava/lang/AbstractStringBuilder;"⟩
def dkwJ0_append_2_1 : List UInt8 := [42, 42, 180, 0, 79, 43, 182, 0, 208, 42, 89, 180, 0, 79, 28, 96, 181, 0, 79, 42, 176]
abbrev dktJ0_append_2_1 : List UInt8 := dkwJ0_append_2_1 ++ []
def dkwJ0_append_2_0 : List UInt8 := [43, 199, 0, 8, 42, 182, 0, 204, 176, 43, 182, 0, 32, 61, 42, 42, 180, 0, 79, 28, 96, 182, 0, 100]
abbrev dktJ0_append_2_0 : List UInt8 := dkwJ0_append_2_0 ++ dktJ0_append_2_1
theorem dksJ0_append_2_0 : cJ0_append_2.data.toList.drop 0 = dktJ0_append_2_0 := by decide +kernel
theorem dksJ0_append_2_1 : cJ0_append_2.data.toList.drop 24 = dktJ0_append_2_1 := dk_seg dksJ0_append_2_0 24 rfl rfl
theorem dJ0_append_2_0 : decode cJ0_append_2 0 = .ok (.aload_n 1, 1) := dk_43 (dk_at dksJ0_append_2_0 0 rfl rfl)
theorem dJ0_append_2_1 : decode cJ0_append_2 1 = .ok (.ifnonnull 8, 3) := dk_199 0 8 (dk_at dksJ0_append_2_0 1 rfl rfl)
theorem dJ0_append_2_4 : decode cJ0_append_2 4 = .ok (.aload_n 0, 1) := dk_42 (dk_at dksJ0_append_2_0 4 rfl rfl)
theorem dJ0_append_2_5 : decode cJ0_append_2 5 = .ok (.invokevirtual 204, 3) := dk_182 0 204 (dk_at dksJ0_append_2_0 5 rfl rfl)
theorem dJ0_append_2_8 : decode cJ0_append_2 8 = .ok (.areturn, 1) := dk_176 (dk_at dksJ0_append_2_0 8 rfl rfl)
theorem dJ0_append_2_9 : decode cJ0_append_2 9 = .ok (.aload_n 1, 1) := dk_43 (dk_at dksJ0_append_2_0 9 rfl rfl)
theorem dJ0_append_2_10 : decode cJ0_append_2 10 = .ok (.invokevirtual 32, 3) := dk_182 0 32 (dk_at dksJ0_append_2_0 10 rfl rfl)
theorem dJ0_append_2_13 : decode cJ0_append_2 13 = .ok (.istore_n 2, 1) := dk_61 (dk_at dksJ0_append_2_0 13 rfl rfl)
theorem dJ0_append_2_14 : decode cJ0_append_2 14 = .ok (.aload_n 0, 1) := dk_42 (dk_at dksJ0_append_2_0 14 rfl rfl)
theorem dJ0_append_2_15 : decode cJ0_append_2 15 = .ok (.aload_n 0, 1) := dk_42 (dk_at dksJ0_append_2_0 15 rfl rfl)
theorem dJ0_append_2_16 : decode cJ0_append_2 16 = .ok (.getfield 79, 3) := dk_180 0 79 (dk_at dksJ0_append_2_0 16 rfl rfl)
theorem dJ0_append_2_19 : decode cJ0_append_2 19 = .ok (.iload_n 2, 1) := dk_28 (dk_at dksJ0_append_2_0 19 rfl rfl)
theorem dJ0_append_2_20 : decode cJ0_append_2 20 = .ok (.iadd, 1) := dk_96 (dk_at dksJ0_append_2_0 20 rfl rfl)
theorem dJ0_append_2_21 : decode cJ0_append_2 21 = .ok (.invokevirtual 100, 3) := dk_182 0 100 (dk_at dksJ0_append_2_0 21 rfl rfl)
theorem dJ0_append_2_24 : decode cJ0_append_2 24 = .ok (.aload_n 0, 1) := dk_42 (dk_at dksJ0_append_2_1 0 rfl rfl)
theorem dJ0_append_2_25 : decode cJ0_append_2 25 = .ok (.aload_n 0, 1) := dk_42 (dk_at dksJ0_append_2_1 1 rfl rfl)
theorem dJ0_append_2_26 : decode cJ0_append_2 26 = .ok (.getfield 79, 3) := dk_180 0 79 (dk_at dksJ0_append_2_1 2 rfl rfl)
theorem dJ0_append_2_29 : decode cJ0_append_2 29 = .ok (.aload_n 1, 1) := dk_43 (dk_at dksJ0_append_2_1 5 rfl rfl)
theorem dJ0_append_2_30 : decode cJ0_append_2 30 = .ok (.invokevirtual 208, 3) := dk_182 0 208 (dk_at dksJ0_append_2_1 6 rfl rfl)
theorem dJ0_append_2_33 : decode cJ0_append_2 33 = .ok (.aload_n 0, 1) := dk_42 (dk_at dksJ0_append_2_1 9 rfl rfl)
theorem dJ0_append_2_34 : decode cJ0_append_2 34 = .ok (.dup, 1) := dk_89 (dk_at dksJ0_append_2_1 10 rfl rfl)
theorem dJ0_append_2_35 : decode cJ0_append_2 35 = .ok (.getfield 79, 3) := dk_180 0 79 (dk_at dksJ0_append_2_1 11 rfl rfl)
theorem dJ0_append_2_38 : decode cJ0_append_2 38 = .ok (.iload_n 2, 1) := dk_28 (dk_at dksJ0_append_2_1 14 rfl rfl)
theorem dJ0_append_2_39 : decode cJ0_append_2 39 = .ok (.iadd, 1) := dk_96 (dk_at dksJ0_append_2_1 15 rfl rfl)
theorem dJ0_append_2_40 : decode cJ0_append_2 40 = .ok (.putfield 79, 3) := dk_181 0 79 (dk_at dksJ0_append_2_1 16 rfl rfl)
theorem dJ0_append_2_43 : decode cJ0_append_2 43 = .ok (.aload_n 0, 1) := dk_42 (dk_at dksJ0_append_2_1 19 rfl rfl)
theorem dJ0_append_2_44 : decode cJ0_append_2 44 = .ok (.areturn, 1) := dk_176 (dk_at dksJ0_append_2_1 20 rfl rfl)
abbrev cJ0_putStringAt : ByteArray := prog_5_method_73_code
def yJ0_putStringAt : MethodName := ⟨RJ0, "putStringAt", "(ILjava/lang/String;)V"⟩
def dkwJ0_putStringAt_0 : List UInt8 := [42, 44, 182, 1, 141, 44, 42, 180, 0, 15, 27, 42, 180, 0, 22, 182, 1, 143, 177]
abbrev dktJ0_putStringAt_0 : List UInt8 := dkwJ0_putStringAt_0 ++ []
theorem dksJ0_putStringAt_0 : cJ0_putStringAt.data.toList.drop 0 = dktJ0_putStringAt_0 := by decide +kernel
theorem dJ0_putStringAt_0 : decode cJ0_putStringAt 0 = .ok (.aload_n 0, 1) := dk_42 (dk_at dksJ0_putStringAt_0 0 rfl rfl)
theorem dJ0_putStringAt_1 : decode cJ0_putStringAt 1 = .ok (.aload_n 2, 1) := dk_44 (dk_at dksJ0_putStringAt_0 1 rfl rfl)
theorem dJ0_putStringAt_2 : decode cJ0_putStringAt 2 = .ok (.invokevirtual 397, 3) := dk_182 1 141 (dk_at dksJ0_putStringAt_0 2 rfl rfl)
theorem dJ0_putStringAt_5 : decode cJ0_putStringAt 5 = .ok (.aload_n 2, 1) := dk_44 (dk_at dksJ0_putStringAt_0 5 rfl rfl)
theorem dJ0_putStringAt_6 : decode cJ0_putStringAt 6 = .ok (.aload_n 0, 1) := dk_42 (dk_at dksJ0_putStringAt_0 6 rfl rfl)
theorem dJ0_putStringAt_7 : decode cJ0_putStringAt 7 = .ok (.getfield 15, 3) := dk_180 0 15 (dk_at dksJ0_putStringAt_0 7 rfl rfl)
theorem dJ0_putStringAt_10 : decode cJ0_putStringAt 10 = .ok (.iload_n 1, 1) := dk_27 (dk_at dksJ0_putStringAt_0 10 rfl rfl)
theorem dJ0_putStringAt_11 : decode cJ0_putStringAt 11 = .ok (.aload_n 0, 1) := dk_42 (dk_at dksJ0_putStringAt_0 11 rfl rfl)
theorem dJ0_putStringAt_12 : decode cJ0_putStringAt 12 = .ok (.getfield 22, 3) := dk_180 0 22 (dk_at dksJ0_putStringAt_0 12 rfl rfl)
theorem dJ0_putStringAt_15 : decode cJ0_putStringAt 15 = .ok (.invokevirtual 399, 3) := dk_182 1 143 (dk_at dksJ0_putStringAt_0 15 rfl rfl)
theorem dJ0_putStringAt_18 : decode cJ0_putStringAt 18 = .ok (.return_, 1) := dk_177 (dk_at dksJ0_putStringAt_0 18 rfl rfl)
abbrev cJ0_inflateIfNeededFor : ByteArray := prog_5_method_71_code
def yJ0_inflateIfNeededFor : MethodName := ⟨RJ0, "inflateIfNeededFor", "(Ljava/lang/String;)V"⟩
def dkwJ0_inflateIfNeededFor_0 : List UInt8 := [178, 0, 18, 153, 0, 18, 42, 180, 0, 22, 43, 182, 0, 40, 159, 0, 7, 42, 182, 0, 195, 177]
abbrev dktJ0_inflateIfNeededFor_0 : List UInt8 := dkwJ0_inflateIfNeededFor_0 ++ []
theorem dksJ0_inflateIfNeededFor_0 : cJ0_inflateIfNeededFor.data.toList.drop 0 = dktJ0_inflateIfNeededFor_0 := by decide +kernel
theorem dJ0_inflateIfNeededFor_0 : decode cJ0_inflateIfNeededFor 0 = .ok (.getstatic 18, 3) := dk_178 0 18 (dk_at dksJ0_inflateIfNeededFor_0 0 rfl rfl)
theorem dJ0_inflateIfNeededFor_3 : decode cJ0_inflateIfNeededFor 3 = .ok (.ifCond .eq 18, 3) := dk_153 0 18 (dk_at dksJ0_inflateIfNeededFor_0 3 rfl rfl)
theorem dJ0_inflateIfNeededFor_6 : decode cJ0_inflateIfNeededFor 6 = .ok (.aload_n 0, 1) := dk_42 (dk_at dksJ0_inflateIfNeededFor_0 6 rfl rfl)
theorem dJ0_inflateIfNeededFor_7 : decode cJ0_inflateIfNeededFor 7 = .ok (.getfield 22, 3) := dk_180 0 22 (dk_at dksJ0_inflateIfNeededFor_0 7 rfl rfl)
theorem dJ0_inflateIfNeededFor_10 : decode cJ0_inflateIfNeededFor 10 = .ok (.aload_n 1, 1) := dk_43 (dk_at dksJ0_inflateIfNeededFor_0 10 rfl rfl)
theorem dJ0_inflateIfNeededFor_11 : decode cJ0_inflateIfNeededFor 11 = .ok (.invokevirtual 40, 3) := dk_182 0 40 (dk_at dksJ0_inflateIfNeededFor_0 11 rfl rfl)
theorem dJ0_inflateIfNeededFor_14 : decode cJ0_inflateIfNeededFor 14 = .ok (.if_icmp .eq 7, 3) := dk_159 0 7 (dk_at dksJ0_inflateIfNeededFor_0 14 rfl rfl)
theorem dJ0_inflateIfNeededFor_17 : decode cJ0_inflateIfNeededFor 17 = .ok (.aload_n 0, 1) := dk_42 (dk_at dksJ0_inflateIfNeededFor_0 17 rfl rfl)
theorem dJ0_inflateIfNeededFor_18 : decode cJ0_inflateIfNeededFor 18 = .ok (.invokevirtual 195, 3) := dk_182 0 195 (dk_at dksJ0_inflateIfNeededFor_0 18 rfl rfl)
theorem dJ0_inflateIfNeededFor_21 : decode cJ0_inflateIfNeededFor 21 = .ok (.return_, 1) := dk_177 (dk_at dksJ0_inflateIfNeededFor_0 21 rfl rfl)
abbrev cJ0_getValue : ByteArray := prog_5_method_64_code
def yJ0_getValue : MethodName := ⟨RJ0, "getValue", "()[B"⟩
theorem dJ0_getValue_0 : decode cJ0_getValue 0 = .ok (.aload_n 0, 1) := by decide +kernel
theorem dJ0_getValue_1 : decode cJ0_getValue 1 = .ok (.getfield 15, 3) := by decide +kernel
theorem dJ0_getValue_4 : decode cJ0_getValue 4 = .ok (.areturn, 1) := by decide +kernel
abbrev cJ0_length : ByteArray := prog_5_method_6_code
def yJ0_length : MethodName := ⟨RJ0, "length", "()I"⟩
theorem dJ0_length_0 : decode cJ0_length 0 = .ok (.aload_n 0, 1) := by decide +kernel
theorem dJ0_length_1 : decode cJ0_length 1 = .ok (.getfield 79, 3) := by decide +kernel
theorem dJ0_length_4 : decode cJ0_length 4 = .ok (.ireturn, 1) := by decide +kernel
abbrev cJ0_setLength : ByteArray := prog_5_method_13_code
def yJ0_setLength : MethodName := ⟨RJ0, "setLength", "(I)V"⟩
def dkwJ0_setLength_3 : List UInt8 := [164, 0, 8, 42, 4, 181, 0, 73, 42, 27, 181, 0, 79, 177]
abbrev dktJ0_setLength_3 : List UInt8 := dkwJ0_setLength_3 ++ []
def dkwJ0_setLength_2 : List UInt8 := [167, 0, 31, 42, 180, 0, 15, 42, 180, 0, 79, 27, 184, 0, 137, 167, 0, 16, 42, 180, 0, 79, 27]
abbrev dktJ0_setLength_2 : List UInt8 := dkwJ0_setLength_2 ++ dktJ0_setLength_3
def dkwJ0_setLength_1 : List UInt8 := [162, 0, 40, 42, 182, 0, 83, 153, 0, 18, 42, 180, 0, 15, 42, 180, 0, 79, 27, 184, 0, 133]
abbrev dktJ0_setLength_1 : List UInt8 := dkwJ0_setLength_1 ++ dktJ0_setLength_2
def dkwJ0_setLength_0 : List UInt8 := [27, 156, 0, 12, 187, 0, 129, 89, 27, 183, 0, 131, 191, 42, 27, 182, 0, 100, 42, 180, 0, 79, 27]
abbrev dktJ0_setLength_0 : List UInt8 := dkwJ0_setLength_0 ++ dktJ0_setLength_1
theorem dksJ0_setLength_0 : cJ0_setLength.data.toList.drop 0 = dktJ0_setLength_0 := by decide +kernel
theorem dksJ0_setLength_1 : cJ0_setLength.data.toList.drop 23 = dktJ0_setLength_1 := dk_seg dksJ0_setLength_0 23 rfl rfl
theorem dksJ0_setLength_2 : cJ0_setLength.data.toList.drop 45 = dktJ0_setLength_2 := dk_seg dksJ0_setLength_1 22 rfl rfl
theorem dksJ0_setLength_3 : cJ0_setLength.data.toList.drop 68 = dktJ0_setLength_3 := dk_seg dksJ0_setLength_2 23 rfl rfl
theorem dJ0_setLength_0 : decode cJ0_setLength 0 = .ok (.iload_n 1, 1) := dk_27 (dk_at dksJ0_setLength_0 0 rfl rfl)
theorem dJ0_setLength_1 : decode cJ0_setLength 1 = .ok (.ifCond .ge 12, 3) := dk_156 0 12 (dk_at dksJ0_setLength_0 1 rfl rfl)
theorem dJ0_setLength_4 : decode cJ0_setLength 4 = .ok (.new 129, 3) := dk_187 0 129 (dk_at dksJ0_setLength_0 4 rfl rfl)
theorem dJ0_setLength_7 : decode cJ0_setLength 7 = .ok (.dup, 1) := dk_89 (dk_at dksJ0_setLength_0 7 rfl rfl)
theorem dJ0_setLength_8 : decode cJ0_setLength 8 = .ok (.iload_n 1, 1) := dk_27 (dk_at dksJ0_setLength_0 8 rfl rfl)
theorem dJ0_setLength_9 : decode cJ0_setLength 9 = .ok (.invokespecial 131, 3) := dk_183 0 131 (dk_at dksJ0_setLength_0 9 rfl rfl)
theorem dJ0_setLength_12 : decode cJ0_setLength 12 = .ok (.athrow, 1) := dk_191 (dk_at dksJ0_setLength_0 12 rfl rfl)
theorem dJ0_setLength_13 : decode cJ0_setLength 13 = .ok (.aload_n 0, 1) := dk_42 (dk_at dksJ0_setLength_0 13 rfl rfl)
theorem dJ0_setLength_14 : decode cJ0_setLength 14 = .ok (.iload_n 1, 1) := dk_27 (dk_at dksJ0_setLength_0 14 rfl rfl)
theorem dJ0_setLength_15 : decode cJ0_setLength 15 = .ok (.invokevirtual 100, 3) := dk_182 0 100 (dk_at dksJ0_setLength_0 15 rfl rfl)
theorem dJ0_setLength_18 : decode cJ0_setLength 18 = .ok (.aload_n 0, 1) := dk_42 (dk_at dksJ0_setLength_0 18 rfl rfl)
theorem dJ0_setLength_19 : decode cJ0_setLength 19 = .ok (.getfield 79, 3) := dk_180 0 79 (dk_at dksJ0_setLength_0 19 rfl rfl)
theorem dJ0_setLength_22 : decode cJ0_setLength 22 = .ok (.iload_n 1, 1) := dk_27 (dk_at dksJ0_setLength_0 22 rfl rfl)
theorem dJ0_setLength_23 : decode cJ0_setLength 23 = .ok (.if_icmp .ge 40, 3) := dk_162 0 40 (dk_at dksJ0_setLength_1 0 rfl rfl)
theorem dJ0_setLength_26 : decode cJ0_setLength 26 = .ok (.aload_n 0, 1) := dk_42 (dk_at dksJ0_setLength_1 3 rfl rfl)
theorem dJ0_setLength_27 : decode cJ0_setLength 27 = .ok (.invokevirtual 83, 3) := dk_182 0 83 (dk_at dksJ0_setLength_1 4 rfl rfl)
theorem dJ0_setLength_30 : decode cJ0_setLength 30 = .ok (.ifCond .eq 18, 3) := dk_153 0 18 (dk_at dksJ0_setLength_1 7 rfl rfl)
theorem dJ0_setLength_33 : decode cJ0_setLength 33 = .ok (.aload_n 0, 1) := dk_42 (dk_at dksJ0_setLength_1 10 rfl rfl)
theorem dJ0_setLength_34 : decode cJ0_setLength 34 = .ok (.getfield 15, 3) := dk_180 0 15 (dk_at dksJ0_setLength_1 11 rfl rfl)
theorem dJ0_setLength_37 : decode cJ0_setLength 37 = .ok (.aload_n 0, 1) := dk_42 (dk_at dksJ0_setLength_1 14 rfl rfl)
theorem dJ0_setLength_38 : decode cJ0_setLength 38 = .ok (.getfield 79, 3) := dk_180 0 79 (dk_at dksJ0_setLength_1 15 rfl rfl)
theorem dJ0_setLength_41 : decode cJ0_setLength 41 = .ok (.iload_n 1, 1) := dk_27 (dk_at dksJ0_setLength_1 18 rfl rfl)
theorem dJ0_setLength_42 : decode cJ0_setLength 42 = .ok (.invokestatic 133, 3) := dk_184 0 133 (dk_at dksJ0_setLength_1 19 rfl rfl)
theorem dJ0_setLength_45 : decode cJ0_setLength 45 = .ok (.goto 31, 3) := dk_167 0 31 (dk_at dksJ0_setLength_2 0 rfl rfl)
theorem dJ0_setLength_48 : decode cJ0_setLength 48 = .ok (.aload_n 0, 1) := dk_42 (dk_at dksJ0_setLength_2 3 rfl rfl)
theorem dJ0_setLength_49 : decode cJ0_setLength 49 = .ok (.getfield 15, 3) := dk_180 0 15 (dk_at dksJ0_setLength_2 4 rfl rfl)
theorem dJ0_setLength_52 : decode cJ0_setLength 52 = .ok (.aload_n 0, 1) := dk_42 (dk_at dksJ0_setLength_2 7 rfl rfl)
theorem dJ0_setLength_53 : decode cJ0_setLength 53 = .ok (.getfield 79, 3) := dk_180 0 79 (dk_at dksJ0_setLength_2 8 rfl rfl)
theorem dJ0_setLength_56 : decode cJ0_setLength 56 = .ok (.iload_n 1, 1) := dk_27 (dk_at dksJ0_setLength_2 11 rfl rfl)
theorem dJ0_setLength_57 : decode cJ0_setLength 57 = .ok (.invokestatic 137, 3) := dk_184 0 137 (dk_at dksJ0_setLength_2 12 rfl rfl)
theorem dJ0_setLength_60 : decode cJ0_setLength 60 = .ok (.goto 16, 3) := dk_167 0 16 (dk_at dksJ0_setLength_2 15 rfl rfl)
theorem dJ0_setLength_63 : decode cJ0_setLength 63 = .ok (.aload_n 0, 1) := dk_42 (dk_at dksJ0_setLength_2 18 rfl rfl)
theorem dJ0_setLength_64 : decode cJ0_setLength 64 = .ok (.getfield 79, 3) := dk_180 0 79 (dk_at dksJ0_setLength_2 19 rfl rfl)
theorem dJ0_setLength_67 : decode cJ0_setLength 67 = .ok (.iload_n 1, 1) := dk_27 (dk_at dksJ0_setLength_2 22 rfl rfl)
theorem dJ0_setLength_68 : decode cJ0_setLength 68 = .ok (.if_icmp .le 8, 3) := dk_164 0 8 (dk_at dksJ0_setLength_3 0 rfl rfl)
theorem dJ0_setLength_71 : decode cJ0_setLength 71 = .ok (.aload_n 0, 1) := dk_42 (dk_at dksJ0_setLength_3 3 rfl rfl)
theorem dJ0_setLength_72 : decode cJ0_setLength 72 = .ok (.iconst 1, 1) := dk_4 (dk_at dksJ0_setLength_3 4 rfl rfl)
theorem dJ0_setLength_73 : decode cJ0_setLength 73 = .ok (.putfield 73, 3) := dk_181 0 73 (dk_at dksJ0_setLength_3 5 rfl rfl)
theorem dJ0_setLength_76 : decode cJ0_setLength 76 = .ok (.aload_n 0, 1) := dk_42 (dk_at dksJ0_setLength_3 8 rfl rfl)
theorem dJ0_setLength_77 : decode cJ0_setLength 77 = .ok (.iload_n 1, 1) := dk_27 (dk_at dksJ0_setLength_3 9 rfl rfl)
theorem dJ0_setLength_78 : decode cJ0_setLength 78 = .ok (.putfield 79, 3) := dk_181 0 79 (dk_at dksJ0_setLength_3 10 rfl rfl)
theorem dJ0_setLength_81 : decode cJ0_setLength 81 = .ok (.return_, 1) := dk_177 (dk_at dksJ0_setLength_3 13 rfl rfl)
abbrev cJ0_reverse : ByteArray := prog_5_method_60_code
def yJ0_reverse : MethodName := ⟨RJ0, "reverse", "()Ljava/lang/AbstractStringBuilder;"⟩
def dkwJ0_reverse_3 : List UInt8 := [184, 1, 102, 42, 176]
abbrev dktJ0_reverse_3 : List UInt8 := dkwJ0_reverse_3 ++ []
def dkwJ0_reverse_2 : List UInt8 := [43, 21, 5, 51, 84, 43, 21, 5, 21, 6, 84, 132, 4, 255, 167, 255, 222, 167, 0, 8, 43, 28]
abbrev dktJ0_reverse_2 : List UInt8 := dkwJ0_reverse_2 ++ dktJ0_reverse_3
def dkwJ0_reverse_1 : List UInt8 := [4, 122, 54, 4, 21, 4, 155, 0, 35, 29, 21, 4, 100, 54, 5, 43, 21, 4, 51, 54, 6, 43, 21, 4]
abbrev dktJ0_reverse_1 : List UInt8 := dkwJ0_reverse_1 ++ dktJ0_reverse_2
def dkwJ0_reverse_0 : List UInt8 := [42, 180, 0, 15, 76, 42, 180, 0, 79, 61, 28, 4, 100, 62, 42, 182, 0, 83, 153, 0, 50, 29, 4, 100]
abbrev dktJ0_reverse_0 : List UInt8 := dkwJ0_reverse_0 ++ dktJ0_reverse_1
theorem dksJ0_reverse_0 : cJ0_reverse.data.toList.drop 0 = dktJ0_reverse_0 := by decide +kernel
theorem dksJ0_reverse_1 : cJ0_reverse.data.toList.drop 24 = dktJ0_reverse_1 := dk_seg dksJ0_reverse_0 24 rfl rfl
theorem dksJ0_reverse_2 : cJ0_reverse.data.toList.drop 48 = dktJ0_reverse_2 := dk_seg dksJ0_reverse_1 24 rfl rfl
theorem dksJ0_reverse_3 : cJ0_reverse.data.toList.drop 70 = dktJ0_reverse_3 := dk_seg dksJ0_reverse_2 22 rfl rfl
theorem dJ0_reverse_0 : decode cJ0_reverse 0 = .ok (.aload_n 0, 1) := dk_42 (dk_at dksJ0_reverse_0 0 rfl rfl)
theorem dJ0_reverse_1 : decode cJ0_reverse 1 = .ok (.getfield 15, 3) := dk_180 0 15 (dk_at dksJ0_reverse_0 1 rfl rfl)
theorem dJ0_reverse_4 : decode cJ0_reverse 4 = .ok (.astore_n 1, 1) := dk_76 (dk_at dksJ0_reverse_0 4 rfl rfl)
theorem dJ0_reverse_5 : decode cJ0_reverse 5 = .ok (.aload_n 0, 1) := dk_42 (dk_at dksJ0_reverse_0 5 rfl rfl)
theorem dJ0_reverse_6 : decode cJ0_reverse 6 = .ok (.getfield 79, 3) := dk_180 0 79 (dk_at dksJ0_reverse_0 6 rfl rfl)
theorem dJ0_reverse_9 : decode cJ0_reverse 9 = .ok (.istore_n 2, 1) := dk_61 (dk_at dksJ0_reverse_0 9 rfl rfl)
theorem dJ0_reverse_10 : decode cJ0_reverse 10 = .ok (.iload_n 2, 1) := dk_28 (dk_at dksJ0_reverse_0 10 rfl rfl)
theorem dJ0_reverse_11 : decode cJ0_reverse 11 = .ok (.iconst 1, 1) := dk_4 (dk_at dksJ0_reverse_0 11 rfl rfl)
theorem dJ0_reverse_12 : decode cJ0_reverse 12 = .ok (.isub, 1) := dk_100 (dk_at dksJ0_reverse_0 12 rfl rfl)
theorem dJ0_reverse_13 : decode cJ0_reverse 13 = .ok (.istore_n 3, 1) := dk_62 (dk_at dksJ0_reverse_0 13 rfl rfl)
theorem dJ0_reverse_14 : decode cJ0_reverse 14 = .ok (.aload_n 0, 1) := dk_42 (dk_at dksJ0_reverse_0 14 rfl rfl)
theorem dJ0_reverse_15 : decode cJ0_reverse 15 = .ok (.invokevirtual 83, 3) := dk_182 0 83 (dk_at dksJ0_reverse_0 15 rfl rfl)
theorem dJ0_reverse_18 : decode cJ0_reverse 18 = .ok (.ifCond .eq 50, 3) := dk_153 0 50 (dk_at dksJ0_reverse_0 18 rfl rfl)
theorem dJ0_reverse_21 : decode cJ0_reverse 21 = .ok (.iload_n 3, 1) := dk_29 (dk_at dksJ0_reverse_0 21 rfl rfl)
theorem dJ0_reverse_22 : decode cJ0_reverse 22 = .ok (.iconst 1, 1) := dk_4 (dk_at dksJ0_reverse_0 22 rfl rfl)
theorem dJ0_reverse_23 : decode cJ0_reverse 23 = .ok (.isub, 1) := dk_100 (dk_at dksJ0_reverse_0 23 rfl rfl)
theorem dJ0_reverse_24 : decode cJ0_reverse 24 = .ok (.iconst 1, 1) := dk_4 (dk_at dksJ0_reverse_1 0 rfl rfl)
theorem dJ0_reverse_25 : decode cJ0_reverse 25 = .ok (.ishr, 1) := dk_122 (dk_at dksJ0_reverse_1 1 rfl rfl)
theorem dJ0_reverse_26 : decode cJ0_reverse 26 = .ok (.istore 4, 2) := dk_54 4 (dk_at dksJ0_reverse_1 2 rfl rfl)
theorem dJ0_reverse_28 : decode cJ0_reverse 28 = .ok (.iload 4, 2) := dk_21 4 (dk_at dksJ0_reverse_1 4 rfl rfl)
theorem dJ0_reverse_30 : decode cJ0_reverse 30 = .ok (.ifCond .lt 35, 3) := dk_155 0 35 (dk_at dksJ0_reverse_1 6 rfl rfl)
theorem dJ0_reverse_33 : decode cJ0_reverse 33 = .ok (.iload_n 3, 1) := dk_29 (dk_at dksJ0_reverse_1 9 rfl rfl)
theorem dJ0_reverse_34 : decode cJ0_reverse 34 = .ok (.iload 4, 2) := dk_21 4 (dk_at dksJ0_reverse_1 10 rfl rfl)
theorem dJ0_reverse_36 : decode cJ0_reverse 36 = .ok (.isub, 1) := dk_100 (dk_at dksJ0_reverse_1 12 rfl rfl)
theorem dJ0_reverse_37 : decode cJ0_reverse 37 = .ok (.istore 5, 2) := dk_54 5 (dk_at dksJ0_reverse_1 13 rfl rfl)
theorem dJ0_reverse_39 : decode cJ0_reverse 39 = .ok (.aload_n 1, 1) := dk_43 (dk_at dksJ0_reverse_1 15 rfl rfl)
theorem dJ0_reverse_40 : decode cJ0_reverse 40 = .ok (.iload 4, 2) := dk_21 4 (dk_at dksJ0_reverse_1 16 rfl rfl)
theorem dJ0_reverse_42 : decode cJ0_reverse 42 = .ok (.baload, 1) := dk_51 (dk_at dksJ0_reverse_1 18 rfl rfl)
theorem dJ0_reverse_43 : decode cJ0_reverse 43 = .ok (.istore 6, 2) := dk_54 6 (dk_at dksJ0_reverse_1 19 rfl rfl)
theorem dJ0_reverse_45 : decode cJ0_reverse 45 = .ok (.aload_n 1, 1) := dk_43 (dk_at dksJ0_reverse_1 21 rfl rfl)
theorem dJ0_reverse_46 : decode cJ0_reverse 46 = .ok (.iload 4, 2) := dk_21 4 (dk_at dksJ0_reverse_1 22 rfl rfl)
theorem dJ0_reverse_48 : decode cJ0_reverse 48 = .ok (.aload_n 1, 1) := dk_43 (dk_at dksJ0_reverse_2 0 rfl rfl)
theorem dJ0_reverse_49 : decode cJ0_reverse 49 = .ok (.iload 5, 2) := dk_21 5 (dk_at dksJ0_reverse_2 1 rfl rfl)
theorem dJ0_reverse_51 : decode cJ0_reverse 51 = .ok (.baload, 1) := dk_51 (dk_at dksJ0_reverse_2 3 rfl rfl)
theorem dJ0_reverse_52 : decode cJ0_reverse 52 = .ok (.bastore, 1) := dk_84 (dk_at dksJ0_reverse_2 4 rfl rfl)
theorem dJ0_reverse_53 : decode cJ0_reverse 53 = .ok (.aload_n 1, 1) := dk_43 (dk_at dksJ0_reverse_2 5 rfl rfl)
theorem dJ0_reverse_54 : decode cJ0_reverse 54 = .ok (.iload 5, 2) := dk_21 5 (dk_at dksJ0_reverse_2 6 rfl rfl)
theorem dJ0_reverse_56 : decode cJ0_reverse 56 = .ok (.iload 6, 2) := dk_21 6 (dk_at dksJ0_reverse_2 8 rfl rfl)
theorem dJ0_reverse_58 : decode cJ0_reverse 58 = .ok (.bastore, 1) := dk_84 (dk_at dksJ0_reverse_2 10 rfl rfl)
theorem dJ0_reverse_59 : decode cJ0_reverse 59 = .ok (.iinc 4 (-1), 3) := dk_132 4 255 (dk_at dksJ0_reverse_2 11 rfl rfl)
theorem dJ0_reverse_62 : decode cJ0_reverse 62 = .ok (.goto (-34), 3) := dk_167 255 222 (dk_at dksJ0_reverse_2 14 rfl rfl)
theorem dJ0_reverse_65 : decode cJ0_reverse 65 = .ok (.goto 8, 3) := dk_167 0 8 (dk_at dksJ0_reverse_2 17 rfl rfl)
theorem dJ0_reverse_68 : decode cJ0_reverse 68 = .ok (.aload_n 1, 1) := dk_43 (dk_at dksJ0_reverse_2 20 rfl rfl)
theorem dJ0_reverse_69 : decode cJ0_reverse 69 = .ok (.iload_n 2, 1) := dk_28 (dk_at dksJ0_reverse_2 21 rfl rfl)
theorem dJ0_reverse_70 : decode cJ0_reverse 70 = .ok (.invokestatic 358, 3) := dk_184 1 102 (dk_at dksJ0_reverse_3 0 rfl rfl)
theorem dJ0_reverse_73 : decode cJ0_reverse 73 = .ok (.aload_n 0, 1) := dk_42 (dk_at dksJ0_reverse_3 3 rfl rfl)
theorem dJ0_reverse_74 : decode cJ0_reverse 74 = .ok (.areturn, 1) := dk_176 (dk_at dksJ0_reverse_3 4 rfl rfl)
abbrev cJ0_append_3 : ByteArray := prog_5_method_31_code
def yJ0_append_3 : MethodName := ⟨RJ0, "append", "(C)Ljava/lang/AbstractStringBuilder;"⟩
def dkwJ0_append_3_3 : List UInt8 := [181, 0, 79, 27, 184, 0, 197, 42, 176]
abbrev dktJ0_append_3_3 : List UInt8 := dkwJ0_append_3_3 ++ []
def dkwJ0_append_3_2 : List UInt8 := [182, 0, 83, 153, 0, 7, 42, 182, 0, 195, 42, 180, 0, 15, 42, 89, 180, 0, 79, 90, 4, 96]
abbrev dktJ0_append_3_2 : List UInt8 := dkwJ0_append_3_2 ++ dktJ0_append_3_3
def dkwJ0_append_3_1 : List UInt8 := [42, 180, 0, 15, 42, 89, 180, 0, 79, 90, 4, 96, 181, 0, 79, 27, 145, 84, 167, 0, 33, 42]
abbrev dktJ0_append_3_1 : List UInt8 := dkwJ0_append_3_1 ++ dktJ0_append_3_2
def dkwJ0_append_3_0 : List UInt8 := [42, 42, 180, 0, 79, 4, 96, 182, 0, 100, 42, 182, 0, 83, 153, 0, 31, 27, 184, 0, 191, 153, 0, 24]
abbrev dktJ0_append_3_0 : List UInt8 := dkwJ0_append_3_0 ++ dktJ0_append_3_1
theorem dksJ0_append_3_0 : cJ0_append_3.data.toList.drop 0 = dktJ0_append_3_0 := by decide +kernel
theorem dksJ0_append_3_1 : cJ0_append_3.data.toList.drop 24 = dktJ0_append_3_1 := dk_seg dksJ0_append_3_0 24 rfl rfl
theorem dksJ0_append_3_2 : cJ0_append_3.data.toList.drop 46 = dktJ0_append_3_2 := dk_seg dksJ0_append_3_1 22 rfl rfl
theorem dksJ0_append_3_3 : cJ0_append_3.data.toList.drop 68 = dktJ0_append_3_3 := dk_seg dksJ0_append_3_2 22 rfl rfl
theorem dJ0_append_3_0 : decode cJ0_append_3 0 = .ok (.aload_n 0, 1) := dk_42 (dk_at dksJ0_append_3_0 0 rfl rfl)
theorem dJ0_append_3_1 : decode cJ0_append_3 1 = .ok (.aload_n 0, 1) := dk_42 (dk_at dksJ0_append_3_0 1 rfl rfl)
theorem dJ0_append_3_2 : decode cJ0_append_3 2 = .ok (.getfield 79, 3) := dk_180 0 79 (dk_at dksJ0_append_3_0 2 rfl rfl)
theorem dJ0_append_3_5 : decode cJ0_append_3 5 = .ok (.iconst 1, 1) := dk_4 (dk_at dksJ0_append_3_0 5 rfl rfl)
theorem dJ0_append_3_6 : decode cJ0_append_3 6 = .ok (.iadd, 1) := dk_96 (dk_at dksJ0_append_3_0 6 rfl rfl)
theorem dJ0_append_3_7 : decode cJ0_append_3 7 = .ok (.invokevirtual 100, 3) := dk_182 0 100 (dk_at dksJ0_append_3_0 7 rfl rfl)
theorem dJ0_append_3_10 : decode cJ0_append_3 10 = .ok (.aload_n 0, 1) := dk_42 (dk_at dksJ0_append_3_0 10 rfl rfl)
theorem dJ0_append_3_11 : decode cJ0_append_3 11 = .ok (.invokevirtual 83, 3) := dk_182 0 83 (dk_at dksJ0_append_3_0 11 rfl rfl)
theorem dJ0_append_3_14 : decode cJ0_append_3 14 = .ok (.ifCond .eq 31, 3) := dk_153 0 31 (dk_at dksJ0_append_3_0 14 rfl rfl)
theorem dJ0_append_3_17 : decode cJ0_append_3 17 = .ok (.iload_n 1, 1) := dk_27 (dk_at dksJ0_append_3_0 17 rfl rfl)
theorem dJ0_append_3_18 : decode cJ0_append_3 18 = .ok (.invokestatic 191, 3) := dk_184 0 191 (dk_at dksJ0_append_3_0 18 rfl rfl)
theorem dJ0_append_3_21 : decode cJ0_append_3 21 = .ok (.ifCond .eq 24, 3) := dk_153 0 24 (dk_at dksJ0_append_3_0 21 rfl rfl)
theorem dJ0_append_3_24 : decode cJ0_append_3 24 = .ok (.aload_n 0, 1) := dk_42 (dk_at dksJ0_append_3_1 0 rfl rfl)
theorem dJ0_append_3_25 : decode cJ0_append_3 25 = .ok (.getfield 15, 3) := dk_180 0 15 (dk_at dksJ0_append_3_1 1 rfl rfl)
theorem dJ0_append_3_28 : decode cJ0_append_3 28 = .ok (.aload_n 0, 1) := dk_42 (dk_at dksJ0_append_3_1 4 rfl rfl)
theorem dJ0_append_3_29 : decode cJ0_append_3 29 = .ok (.dup, 1) := dk_89 (dk_at dksJ0_append_3_1 5 rfl rfl)
theorem dJ0_append_3_30 : decode cJ0_append_3 30 = .ok (.getfield 79, 3) := dk_180 0 79 (dk_at dksJ0_append_3_1 6 rfl rfl)
theorem dJ0_append_3_33 : decode cJ0_append_3 33 = .ok (.dup_x1, 1) := dk_90 (dk_at dksJ0_append_3_1 9 rfl rfl)
theorem dJ0_append_3_34 : decode cJ0_append_3 34 = .ok (.iconst 1, 1) := dk_4 (dk_at dksJ0_append_3_1 10 rfl rfl)
theorem dJ0_append_3_35 : decode cJ0_append_3 35 = .ok (.iadd, 1) := dk_96 (dk_at dksJ0_append_3_1 11 rfl rfl)
theorem dJ0_append_3_36 : decode cJ0_append_3 36 = .ok (.putfield 79, 3) := dk_181 0 79 (dk_at dksJ0_append_3_1 12 rfl rfl)
theorem dJ0_append_3_39 : decode cJ0_append_3 39 = .ok (.iload_n 1, 1) := dk_27 (dk_at dksJ0_append_3_1 15 rfl rfl)
theorem dJ0_append_3_40 : decode cJ0_append_3 40 = .ok (.i2b, 1) := dk_145 (dk_at dksJ0_append_3_1 16 rfl rfl)
theorem dJ0_append_3_41 : decode cJ0_append_3 41 = .ok (.bastore, 1) := dk_84 (dk_at dksJ0_append_3_1 17 rfl rfl)
theorem dJ0_append_3_42 : decode cJ0_append_3 42 = .ok (.goto 33, 3) := dk_167 0 33 (dk_at dksJ0_append_3_1 18 rfl rfl)
theorem dJ0_append_3_45 : decode cJ0_append_3 45 = .ok (.aload_n 0, 1) := dk_42 (dk_at dksJ0_append_3_1 21 rfl rfl)
theorem dJ0_append_3_46 : decode cJ0_append_3 46 = .ok (.invokevirtual 83, 3) := dk_182 0 83 (dk_at dksJ0_append_3_2 0 rfl rfl)
theorem dJ0_append_3_49 : decode cJ0_append_3 49 = .ok (.ifCond .eq 7, 3) := dk_153 0 7 (dk_at dksJ0_append_3_2 3 rfl rfl)
theorem dJ0_append_3_52 : decode cJ0_append_3 52 = .ok (.aload_n 0, 1) := dk_42 (dk_at dksJ0_append_3_2 6 rfl rfl)
theorem dJ0_append_3_53 : decode cJ0_append_3 53 = .ok (.invokevirtual 195, 3) := dk_182 0 195 (dk_at dksJ0_append_3_2 7 rfl rfl)
theorem dJ0_append_3_56 : decode cJ0_append_3 56 = .ok (.aload_n 0, 1) := dk_42 (dk_at dksJ0_append_3_2 10 rfl rfl)
theorem dJ0_append_3_57 : decode cJ0_append_3 57 = .ok (.getfield 15, 3) := dk_180 0 15 (dk_at dksJ0_append_3_2 11 rfl rfl)
theorem dJ0_append_3_60 : decode cJ0_append_3 60 = .ok (.aload_n 0, 1) := dk_42 (dk_at dksJ0_append_3_2 14 rfl rfl)
theorem dJ0_append_3_61 : decode cJ0_append_3 61 = .ok (.dup, 1) := dk_89 (dk_at dksJ0_append_3_2 15 rfl rfl)
theorem dJ0_append_3_62 : decode cJ0_append_3 62 = .ok (.getfield 79, 3) := dk_180 0 79 (dk_at dksJ0_append_3_2 16 rfl rfl)
theorem dJ0_append_3_65 : decode cJ0_append_3 65 = .ok (.dup_x1, 1) := dk_90 (dk_at dksJ0_append_3_2 19 rfl rfl)
theorem dJ0_append_3_66 : decode cJ0_append_3 66 = .ok (.iconst 1, 1) := dk_4 (dk_at dksJ0_append_3_2 20 rfl rfl)
theorem dJ0_append_3_67 : decode cJ0_append_3 67 = .ok (.iadd, 1) := dk_96 (dk_at dksJ0_append_3_2 21 rfl rfl)
theorem dJ0_append_3_68 : decode cJ0_append_3 68 = .ok (.putfield 79, 3) := dk_181 0 79 (dk_at dksJ0_append_3_3 0 rfl rfl)
theorem dJ0_append_3_71 : decode cJ0_append_3 71 = .ok (.iload_n 1, 1) := dk_27 (dk_at dksJ0_append_3_3 3 rfl rfl)
theorem dJ0_append_3_72 : decode cJ0_append_3 72 = .ok (.invokestatic 197, 3) := dk_184 0 197 (dk_at dksJ0_append_3_3 4 rfl rfl)
theorem dJ0_append_3_75 : decode cJ0_append_3 75 = .ok (.aload_n 0, 1) := dk_42 (dk_at dksJ0_append_3_3 7 rfl rfl)
theorem dJ0_append_3_76 : decode cJ0_append_3 76 = .ok (.areturn, 1) := dk_176 (dk_at dksJ0_append_3_3 8 rfl rfl)
abbrev cJ0_substring : ByteArray := prog_5_method_40_code
def yJ0_substring : MethodName := ⟨RJ0, "substring", "(I)Ljava/lang/String;"⟩
def dkwJ0_substring_0 : List UInt8 := [42, 27, 42, 180, 0, 79, 182, 1, 44, 176]
abbrev dktJ0_substring_0 : List UInt8 := dkwJ0_substring_0 ++ []
theorem dksJ0_substring_0 : cJ0_substring.data.toList.drop 0 = dktJ0_substring_0 := by decide +kernel
theorem dJ0_substring_0 : decode cJ0_substring 0 = .ok (.aload_n 0, 1) := dk_42 (dk_at dksJ0_substring_0 0 rfl rfl)
theorem dJ0_substring_1 : decode cJ0_substring 1 = .ok (.iload_n 1, 1) := dk_27 (dk_at dksJ0_substring_0 1 rfl rfl)
theorem dJ0_substring_2 : decode cJ0_substring 2 = .ok (.aload_n 0, 1) := dk_42 (dk_at dksJ0_substring_0 2 rfl rfl)
theorem dJ0_substring_3 : decode cJ0_substring 3 = .ok (.getfield 79, 3) := dk_180 0 79 (dk_at dksJ0_substring_0 3 rfl rfl)
theorem dJ0_substring_6 : decode cJ0_substring 6 = .ok (.invokevirtual 300, 3) := dk_182 1 44 (dk_at dksJ0_substring_0 6 rfl rfl)
theorem dJ0_substring_9 : decode cJ0_substring 9 = .ok (.areturn, 1) := dk_176 (dk_at dksJ0_substring_0 9 rfl rfl)
abbrev cJ0_substring_2 : ByteArray := prog_5_method_42_code
def yJ0_substring_2 : MethodName := ⟨RJ0, "substring", "(II)Ljava/lang/String;"⟩
def dkwJ0_substring_2_1 : List UInt8 := [27, 28, 27, 100, 184, 1, 48, 176, 42, 180, 0, 15, 27, 28, 27, 100, 184, 1, 52, 176]
abbrev dktJ0_substring_2_1 : List UInt8 := dkwJ0_substring_2_1 ++ []
def dkwJ0_substring_2_0 : List UInt8 := [27, 28, 42, 180, 0, 79, 178, 0, 179, 184, 0, 161, 87, 42, 182, 0, 83, 153, 0, 15, 42, 180, 0, 15]
abbrev dktJ0_substring_2_0 : List UInt8 := dkwJ0_substring_2_0 ++ dktJ0_substring_2_1
theorem dksJ0_substring_2_0 : cJ0_substring_2.data.toList.drop 0 = dktJ0_substring_2_0 := by decide +kernel
theorem dksJ0_substring_2_1 : cJ0_substring_2.data.toList.drop 24 = dktJ0_substring_2_1 := dk_seg dksJ0_substring_2_0 24 rfl rfl
theorem dJ0_substring_2_0 : decode cJ0_substring_2 0 = .ok (.iload_n 1, 1) := dk_27 (dk_at dksJ0_substring_2_0 0 rfl rfl)
theorem dJ0_substring_2_1 : decode cJ0_substring_2 1 = .ok (.iload_n 2, 1) := dk_28 (dk_at dksJ0_substring_2_0 1 rfl rfl)
theorem dJ0_substring_2_2 : decode cJ0_substring_2 2 = .ok (.aload_n 0, 1) := dk_42 (dk_at dksJ0_substring_2_0 2 rfl rfl)
theorem dJ0_substring_2_3 : decode cJ0_substring_2 3 = .ok (.getfield 79, 3) := dk_180 0 79 (dk_at dksJ0_substring_2_0 3 rfl rfl)
theorem dJ0_substring_2_6 : decode cJ0_substring_2 6 = .ok (.getstatic 179, 3) := dk_178 0 179 (dk_at dksJ0_substring_2_0 6 rfl rfl)
theorem dJ0_substring_2_9 : decode cJ0_substring_2 9 = .ok (.invokestatic 161, 3) := dk_184 0 161 (dk_at dksJ0_substring_2_0 9 rfl rfl)
theorem dJ0_substring_2_12 : decode cJ0_substring_2 12 = .ok (.pop, 1) := dk_87 (dk_at dksJ0_substring_2_0 12 rfl rfl)
theorem dJ0_substring_2_13 : decode cJ0_substring_2 13 = .ok (.aload_n 0, 1) := dk_42 (dk_at dksJ0_substring_2_0 13 rfl rfl)
theorem dJ0_substring_2_14 : decode cJ0_substring_2 14 = .ok (.invokevirtual 83, 3) := dk_182 0 83 (dk_at dksJ0_substring_2_0 14 rfl rfl)
theorem dJ0_substring_2_17 : decode cJ0_substring_2 17 = .ok (.ifCond .eq 15, 3) := dk_153 0 15 (dk_at dksJ0_substring_2_0 17 rfl rfl)
theorem dJ0_substring_2_20 : decode cJ0_substring_2 20 = .ok (.aload_n 0, 1) := dk_42 (dk_at dksJ0_substring_2_0 20 rfl rfl)
theorem dJ0_substring_2_21 : decode cJ0_substring_2 21 = .ok (.getfield 15, 3) := dk_180 0 15 (dk_at dksJ0_substring_2_0 21 rfl rfl)
theorem dJ0_substring_2_24 : decode cJ0_substring_2 24 = .ok (.iload_n 1, 1) := dk_27 (dk_at dksJ0_substring_2_1 0 rfl rfl)
theorem dJ0_substring_2_25 : decode cJ0_substring_2 25 = .ok (.iload_n 2, 1) := dk_28 (dk_at dksJ0_substring_2_1 1 rfl rfl)
theorem dJ0_substring_2_26 : decode cJ0_substring_2 26 = .ok (.iload_n 1, 1) := dk_27 (dk_at dksJ0_substring_2_1 2 rfl rfl)
theorem dJ0_substring_2_27 : decode cJ0_substring_2 27 = .ok (.isub, 1) := dk_100 (dk_at dksJ0_substring_2_1 3 rfl rfl)
theorem dJ0_substring_2_28 : decode cJ0_substring_2 28 = .ok (.invokestatic 304, 3) := dk_184 1 48 (dk_at dksJ0_substring_2_1 4 rfl rfl)
theorem dJ0_substring_2_31 : decode cJ0_substring_2 31 = .ok (.areturn, 1) := dk_176 (dk_at dksJ0_substring_2_1 7 rfl rfl)
theorem dJ0_substring_2_32 : decode cJ0_substring_2 32 = .ok (.aload_n 0, 1) := dk_42 (dk_at dksJ0_substring_2_1 8 rfl rfl)
theorem dJ0_substring_2_33 : decode cJ0_substring_2 33 = .ok (.getfield 15, 3) := dk_180 0 15 (dk_at dksJ0_substring_2_1 9 rfl rfl)
theorem dJ0_substring_2_36 : decode cJ0_substring_2 36 = .ok (.iload_n 1, 1) := dk_27 (dk_at dksJ0_substring_2_1 12 rfl rfl)
theorem dJ0_substring_2_37 : decode cJ0_substring_2 37 = .ok (.iload_n 2, 1) := dk_28 (dk_at dksJ0_substring_2_1 13 rfl rfl)
theorem dJ0_substring_2_38 : decode cJ0_substring_2 38 = .ok (.iload_n 1, 1) := dk_27 (dk_at dksJ0_substring_2_1 14 rfl rfl)
theorem dJ0_substring_2_39 : decode cJ0_substring_2 39 = .ok (.isub, 1) := dk_100 (dk_at dksJ0_substring_2_1 15 rfl rfl)
theorem dJ0_substring_2_40 : decode cJ0_substring_2 40 = .ok (.invokestatic 308, 3) := dk_184 1 52 (dk_at dksJ0_substring_2_1 16 rfl rfl)
theorem dJ0_substring_2_43 : decode cJ0_substring_2 43 = .ok (.areturn, 1) := dk_176 (dk_at dksJ0_substring_2_1 19 rfl rfl)
abbrev cJ0_charAt : ByteArray := prog_5_method_14_code
def yJ0_charAt : MethodName := ⟨RJ0, "charAt", "(I)C"⟩
def dkwJ0_charAt_1 : List UInt8 := [21, 4, 184, 0, 144, 28, 154, 0, 12, 45, 27, 51, 17, 0, 255, 126, 146, 172, 45, 27, 184, 0, 148, 172]
abbrev dktJ0_charAt_1 : List UInt8 := dkwJ0_charAt_1 ++ []
def dkwJ0_charAt_0 : List UInt8 := [42, 180, 0, 22, 61, 42, 180, 0, 15, 78, 42, 180, 0, 79, 45, 190, 28, 122, 184, 0, 138, 54, 4, 27]
abbrev dktJ0_charAt_0 : List UInt8 := dkwJ0_charAt_0 ++ dktJ0_charAt_1
theorem dksJ0_charAt_0 : cJ0_charAt.data.toList.drop 0 = dktJ0_charAt_0 := by decide +kernel
theorem dksJ0_charAt_1 : cJ0_charAt.data.toList.drop 24 = dktJ0_charAt_1 := dk_seg dksJ0_charAt_0 24 rfl rfl
theorem dJ0_charAt_0 : decode cJ0_charAt 0 = .ok (.aload_n 0, 1) := dk_42 (dk_at dksJ0_charAt_0 0 rfl rfl)
theorem dJ0_charAt_1 : decode cJ0_charAt 1 = .ok (.getfield 22, 3) := dk_180 0 22 (dk_at dksJ0_charAt_0 1 rfl rfl)
theorem dJ0_charAt_4 : decode cJ0_charAt 4 = .ok (.istore_n 2, 1) := dk_61 (dk_at dksJ0_charAt_0 4 rfl rfl)
theorem dJ0_charAt_5 : decode cJ0_charAt 5 = .ok (.aload_n 0, 1) := dk_42 (dk_at dksJ0_charAt_0 5 rfl rfl)
theorem dJ0_charAt_6 : decode cJ0_charAt 6 = .ok (.getfield 15, 3) := dk_180 0 15 (dk_at dksJ0_charAt_0 6 rfl rfl)
theorem dJ0_charAt_9 : decode cJ0_charAt 9 = .ok (.astore_n 3, 1) := dk_78 (dk_at dksJ0_charAt_0 9 rfl rfl)
theorem dJ0_charAt_10 : decode cJ0_charAt 10 = .ok (.aload_n 0, 1) := dk_42 (dk_at dksJ0_charAt_0 10 rfl rfl)
theorem dJ0_charAt_11 : decode cJ0_charAt 11 = .ok (.getfield 79, 3) := dk_180 0 79 (dk_at dksJ0_charAt_0 11 rfl rfl)
theorem dJ0_charAt_14 : decode cJ0_charAt 14 = .ok (.aload_n 3, 1) := dk_45 (dk_at dksJ0_charAt_0 14 rfl rfl)
theorem dJ0_charAt_15 : decode cJ0_charAt 15 = .ok (.arraylength, 1) := dk_190 (dk_at dksJ0_charAt_0 15 rfl rfl)
theorem dJ0_charAt_16 : decode cJ0_charAt 16 = .ok (.iload_n 2, 1) := dk_28 (dk_at dksJ0_charAt_0 16 rfl rfl)
theorem dJ0_charAt_17 : decode cJ0_charAt 17 = .ok (.ishr, 1) := dk_122 (dk_at dksJ0_charAt_0 17 rfl rfl)
theorem dJ0_charAt_18 : decode cJ0_charAt 18 = .ok (.invokestatic 138, 3) := dk_184 0 138 (dk_at dksJ0_charAt_0 18 rfl rfl)
theorem dJ0_charAt_21 : decode cJ0_charAt 21 = .ok (.istore 4, 2) := dk_54 4 (dk_at dksJ0_charAt_0 21 rfl rfl)
theorem dJ0_charAt_23 : decode cJ0_charAt 23 = .ok (.iload_n 1, 1) := dk_27 (dk_at dksJ0_charAt_0 23 rfl rfl)
theorem dJ0_charAt_24 : decode cJ0_charAt 24 = .ok (.iload 4, 2) := dk_21 4 (dk_at dksJ0_charAt_1 0 rfl rfl)
theorem dJ0_charAt_26 : decode cJ0_charAt 26 = .ok (.invokestatic 144, 3) := dk_184 0 144 (dk_at dksJ0_charAt_1 2 rfl rfl)
theorem dJ0_charAt_29 : decode cJ0_charAt 29 = .ok (.iload_n 2, 1) := dk_28 (dk_at dksJ0_charAt_1 5 rfl rfl)
theorem dJ0_charAt_30 : decode cJ0_charAt 30 = .ok (.ifCond .ne 12, 3) := dk_154 0 12 (dk_at dksJ0_charAt_1 6 rfl rfl)
theorem dJ0_charAt_33 : decode cJ0_charAt 33 = .ok (.aload_n 3, 1) := dk_45 (dk_at dksJ0_charAt_1 9 rfl rfl)
theorem dJ0_charAt_34 : decode cJ0_charAt 34 = .ok (.iload_n 1, 1) := dk_27 (dk_at dksJ0_charAt_1 10 rfl rfl)
theorem dJ0_charAt_35 : decode cJ0_charAt 35 = .ok (.baload, 1) := dk_51 (dk_at dksJ0_charAt_1 11 rfl rfl)
theorem dJ0_charAt_36 : decode cJ0_charAt 36 = .ok (.sipush 255, 3) := dk_17 0 255 (dk_at dksJ0_charAt_1 12 rfl rfl)
theorem dJ0_charAt_39 : decode cJ0_charAt 39 = .ok (.iand, 1) := dk_126 (dk_at dksJ0_charAt_1 15 rfl rfl)
theorem dJ0_charAt_40 : decode cJ0_charAt 40 = .ok (.i2c, 1) := dk_146 (dk_at dksJ0_charAt_1 16 rfl rfl)
theorem dJ0_charAt_41 : decode cJ0_charAt 41 = .ok (.ireturn, 1) := dk_172 (dk_at dksJ0_charAt_1 17 rfl rfl)
theorem dJ0_charAt_42 : decode cJ0_charAt 42 = .ok (.aload_n 3, 1) := dk_45 (dk_at dksJ0_charAt_1 18 rfl rfl)
theorem dJ0_charAt_43 : decode cJ0_charAt 43 = .ok (.iload_n 1, 1) := dk_27 (dk_at dksJ0_charAt_1 19 rfl rfl)
theorem dJ0_charAt_44 : decode cJ0_charAt 44 = .ok (.invokestatic 148, 3) := dk_184 0 148 (dk_at dksJ0_charAt_1 20 rfl rfl)
theorem dJ0_charAt_47 : decode cJ0_charAt 47 = .ok (.ireturn, 1) := dk_172 (dk_at dksJ0_charAt_1 23 rfl rfl)
abbrev cJ0_insert : ByteArray := prog_5_method_51_code
def yJ0_insert : MethodName := ⟨RJ0, "insert", "(IC)Ljava/lang/AbstractStringBuilder;"⟩
def dkwJ0_insert_3 : List UInt8 := [180, 0, 15, 27, 28, 184, 0, 197, 42, 176]
abbrev dktJ0_insert_3 : List UInt8 := dkwJ0_insert_3 ++ []
def dkwJ0_insert_2 : List UInt8 := [42, 180, 0, 15, 27, 28, 145, 84, 167, 0, 23, 42, 182, 0, 83, 153, 0, 7, 42, 182, 0, 195, 42]
abbrev dktJ0_insert_2 : List UInt8 := dkwJ0_insert_2 ++ dktJ0_insert_3
def dkwJ0_insert_1 : List UInt8 := [42, 89, 180, 0, 79, 4, 96, 181, 0, 79, 42, 182, 0, 83, 153, 0, 21, 28, 184, 0, 191, 153, 0, 14]
abbrev dktJ0_insert_1 : List UInt8 := dkwJ0_insert_1 ++ dktJ0_insert_2
def dkwJ0_insert_0 : List UInt8 := [27, 42, 180, 0, 79, 184, 1, 59, 42, 42, 180, 0, 79, 4, 96, 182, 0, 100, 42, 27, 4, 182, 1, 27]
abbrev dktJ0_insert_0 : List UInt8 := dkwJ0_insert_0 ++ dktJ0_insert_1
theorem dksJ0_insert_0 : cJ0_insert.data.toList.drop 0 = dktJ0_insert_0 := by decide +kernel
theorem dksJ0_insert_1 : cJ0_insert.data.toList.drop 24 = dktJ0_insert_1 := dk_seg dksJ0_insert_0 24 rfl rfl
theorem dksJ0_insert_2 : cJ0_insert.data.toList.drop 48 = dktJ0_insert_2 := dk_seg dksJ0_insert_1 24 rfl rfl
theorem dksJ0_insert_3 : cJ0_insert.data.toList.drop 71 = dktJ0_insert_3 := dk_seg dksJ0_insert_2 23 rfl rfl
theorem dJ0_insert_0 : decode cJ0_insert 0 = .ok (.iload_n 1, 1) := dk_27 (dk_at dksJ0_insert_0 0 rfl rfl)
theorem dJ0_insert_1 : decode cJ0_insert 1 = .ok (.aload_n 0, 1) := dk_42 (dk_at dksJ0_insert_0 1 rfl rfl)
theorem dJ0_insert_2 : decode cJ0_insert 2 = .ok (.getfield 79, 3) := dk_180 0 79 (dk_at dksJ0_insert_0 2 rfl rfl)
theorem dJ0_insert_5 : decode cJ0_insert 5 = .ok (.invokestatic 315, 3) := dk_184 1 59 (dk_at dksJ0_insert_0 5 rfl rfl)
theorem dJ0_insert_8 : decode cJ0_insert 8 = .ok (.aload_n 0, 1) := dk_42 (dk_at dksJ0_insert_0 8 rfl rfl)
theorem dJ0_insert_9 : decode cJ0_insert 9 = .ok (.aload_n 0, 1) := dk_42 (dk_at dksJ0_insert_0 9 rfl rfl)
theorem dJ0_insert_10 : decode cJ0_insert 10 = .ok (.getfield 79, 3) := dk_180 0 79 (dk_at dksJ0_insert_0 10 rfl rfl)
theorem dJ0_insert_13 : decode cJ0_insert 13 = .ok (.iconst 1, 1) := dk_4 (dk_at dksJ0_insert_0 13 rfl rfl)
theorem dJ0_insert_14 : decode cJ0_insert 14 = .ok (.iadd, 1) := dk_96 (dk_at dksJ0_insert_0 14 rfl rfl)
theorem dJ0_insert_15 : decode cJ0_insert 15 = .ok (.invokevirtual 100, 3) := dk_182 0 100 (dk_at dksJ0_insert_0 15 rfl rfl)
theorem dJ0_insert_18 : decode cJ0_insert 18 = .ok (.aload_n 0, 1) := dk_42 (dk_at dksJ0_insert_0 18 rfl rfl)
theorem dJ0_insert_19 : decode cJ0_insert 19 = .ok (.iload_n 1, 1) := dk_27 (dk_at dksJ0_insert_0 19 rfl rfl)
theorem dJ0_insert_20 : decode cJ0_insert 20 = .ok (.iconst 1, 1) := dk_4 (dk_at dksJ0_insert_0 20 rfl rfl)
theorem dJ0_insert_21 : decode cJ0_insert 21 = .ok (.invokevirtual 283, 3) := dk_182 1 27 (dk_at dksJ0_insert_0 21 rfl rfl)
theorem dJ0_insert_24 : decode cJ0_insert 24 = .ok (.aload_n 0, 1) := dk_42 (dk_at dksJ0_insert_1 0 rfl rfl)
theorem dJ0_insert_25 : decode cJ0_insert 25 = .ok (.dup, 1) := dk_89 (dk_at dksJ0_insert_1 1 rfl rfl)
theorem dJ0_insert_26 : decode cJ0_insert 26 = .ok (.getfield 79, 3) := dk_180 0 79 (dk_at dksJ0_insert_1 2 rfl rfl)
theorem dJ0_insert_29 : decode cJ0_insert 29 = .ok (.iconst 1, 1) := dk_4 (dk_at dksJ0_insert_1 5 rfl rfl)
theorem dJ0_insert_30 : decode cJ0_insert 30 = .ok (.iadd, 1) := dk_96 (dk_at dksJ0_insert_1 6 rfl rfl)
theorem dJ0_insert_31 : decode cJ0_insert 31 = .ok (.putfield 79, 3) := dk_181 0 79 (dk_at dksJ0_insert_1 7 rfl rfl)
theorem dJ0_insert_34 : decode cJ0_insert 34 = .ok (.aload_n 0, 1) := dk_42 (dk_at dksJ0_insert_1 10 rfl rfl)
theorem dJ0_insert_35 : decode cJ0_insert 35 = .ok (.invokevirtual 83, 3) := dk_182 0 83 (dk_at dksJ0_insert_1 11 rfl rfl)
theorem dJ0_insert_38 : decode cJ0_insert 38 = .ok (.ifCond .eq 21, 3) := dk_153 0 21 (dk_at dksJ0_insert_1 14 rfl rfl)
theorem dJ0_insert_41 : decode cJ0_insert 41 = .ok (.iload_n 2, 1) := dk_28 (dk_at dksJ0_insert_1 17 rfl rfl)
theorem dJ0_insert_42 : decode cJ0_insert 42 = .ok (.invokestatic 191, 3) := dk_184 0 191 (dk_at dksJ0_insert_1 18 rfl rfl)
theorem dJ0_insert_45 : decode cJ0_insert 45 = .ok (.ifCond .eq 14, 3) := dk_153 0 14 (dk_at dksJ0_insert_1 21 rfl rfl)
theorem dJ0_insert_48 : decode cJ0_insert 48 = .ok (.aload_n 0, 1) := dk_42 (dk_at dksJ0_insert_2 0 rfl rfl)
theorem dJ0_insert_49 : decode cJ0_insert 49 = .ok (.getfield 15, 3) := dk_180 0 15 (dk_at dksJ0_insert_2 1 rfl rfl)
theorem dJ0_insert_52 : decode cJ0_insert 52 = .ok (.iload_n 1, 1) := dk_27 (dk_at dksJ0_insert_2 4 rfl rfl)
theorem dJ0_insert_53 : decode cJ0_insert 53 = .ok (.iload_n 2, 1) := dk_28 (dk_at dksJ0_insert_2 5 rfl rfl)
theorem dJ0_insert_54 : decode cJ0_insert 54 = .ok (.i2b, 1) := dk_145 (dk_at dksJ0_insert_2 6 rfl rfl)
theorem dJ0_insert_55 : decode cJ0_insert 55 = .ok (.bastore, 1) := dk_84 (dk_at dksJ0_insert_2 7 rfl rfl)
theorem dJ0_insert_56 : decode cJ0_insert 56 = .ok (.goto 23, 3) := dk_167 0 23 (dk_at dksJ0_insert_2 8 rfl rfl)
theorem dJ0_insert_59 : decode cJ0_insert 59 = .ok (.aload_n 0, 1) := dk_42 (dk_at dksJ0_insert_2 11 rfl rfl)
theorem dJ0_insert_60 : decode cJ0_insert 60 = .ok (.invokevirtual 83, 3) := dk_182 0 83 (dk_at dksJ0_insert_2 12 rfl rfl)
theorem dJ0_insert_63 : decode cJ0_insert 63 = .ok (.ifCond .eq 7, 3) := dk_153 0 7 (dk_at dksJ0_insert_2 15 rfl rfl)
theorem dJ0_insert_66 : decode cJ0_insert 66 = .ok (.aload_n 0, 1) := dk_42 (dk_at dksJ0_insert_2 18 rfl rfl)
theorem dJ0_insert_67 : decode cJ0_insert 67 = .ok (.invokevirtual 195, 3) := dk_182 0 195 (dk_at dksJ0_insert_2 19 rfl rfl)
theorem dJ0_insert_70 : decode cJ0_insert 70 = .ok (.aload_n 0, 1) := dk_42 (dk_at dksJ0_insert_2 22 rfl rfl)
theorem dJ0_insert_71 : decode cJ0_insert 71 = .ok (.getfield 15, 3) := dk_180 0 15 (dk_at dksJ0_insert_3 0 rfl rfl)
theorem dJ0_insert_74 : decode cJ0_insert 74 = .ok (.iload_n 1, 1) := dk_27 (dk_at dksJ0_insert_3 3 rfl rfl)
theorem dJ0_insert_75 : decode cJ0_insert 75 = .ok (.iload_n 2, 1) := dk_28 (dk_at dksJ0_insert_3 4 rfl rfl)
theorem dJ0_insert_76 : decode cJ0_insert 76 = .ok (.invokestatic 197, 3) := dk_184 0 197 (dk_at dksJ0_insert_3 5 rfl rfl)
theorem dJ0_insert_79 : decode cJ0_insert 79 = .ok (.aload_n 0, 1) := dk_42 (dk_at dksJ0_insert_3 8 rfl rfl)
theorem dJ0_insert_80 : decode cJ0_insert 80 = .ok (.areturn, 1) := dk_176 (dk_at dksJ0_insert_3 9 rfl rfl)
abbrev cJ0_shift : ByteArray := prog_5_method_43_code
def yJ0_shift : MethodName := ⟨RJ0, "shift", "(II)V"⟩
def dkwJ0_shift_1 : List UInt8 := [180, 0, 79, 27, 100, 42, 180, 0, 22, 120, 184, 1, 53, 177]
abbrev dktJ0_shift_1 : List UInt8 := dkwJ0_shift_1 ++ []
def dkwJ0_shift_0 : List UInt8 := [42, 180, 0, 15, 27, 42, 180, 0, 22, 120, 42, 180, 0, 15, 27, 28, 96, 42, 180, 0, 22, 120, 42]
abbrev dktJ0_shift_0 : List UInt8 := dkwJ0_shift_0 ++ dktJ0_shift_1
theorem dksJ0_shift_0 : cJ0_shift.data.toList.drop 0 = dktJ0_shift_0 := by decide +kernel
theorem dksJ0_shift_1 : cJ0_shift.data.toList.drop 23 = dktJ0_shift_1 := dk_seg dksJ0_shift_0 23 rfl rfl
theorem dJ0_shift_0 : decode cJ0_shift 0 = .ok (.aload_n 0, 1) := dk_42 (dk_at dksJ0_shift_0 0 rfl rfl)
theorem dJ0_shift_1 : decode cJ0_shift 1 = .ok (.getfield 15, 3) := dk_180 0 15 (dk_at dksJ0_shift_0 1 rfl rfl)
theorem dJ0_shift_4 : decode cJ0_shift 4 = .ok (.iload_n 1, 1) := dk_27 (dk_at dksJ0_shift_0 4 rfl rfl)
theorem dJ0_shift_5 : decode cJ0_shift 5 = .ok (.aload_n 0, 1) := dk_42 (dk_at dksJ0_shift_0 5 rfl rfl)
theorem dJ0_shift_6 : decode cJ0_shift 6 = .ok (.getfield 22, 3) := dk_180 0 22 (dk_at dksJ0_shift_0 6 rfl rfl)
theorem dJ0_shift_9 : decode cJ0_shift 9 = .ok (.ishl, 1) := dk_120 (dk_at dksJ0_shift_0 9 rfl rfl)
theorem dJ0_shift_10 : decode cJ0_shift 10 = .ok (.aload_n 0, 1) := dk_42 (dk_at dksJ0_shift_0 10 rfl rfl)
theorem dJ0_shift_11 : decode cJ0_shift 11 = .ok (.getfield 15, 3) := dk_180 0 15 (dk_at dksJ0_shift_0 11 rfl rfl)
theorem dJ0_shift_14 : decode cJ0_shift 14 = .ok (.iload_n 1, 1) := dk_27 (dk_at dksJ0_shift_0 14 rfl rfl)
theorem dJ0_shift_15 : decode cJ0_shift 15 = .ok (.iload_n 2, 1) := dk_28 (dk_at dksJ0_shift_0 15 rfl rfl)
theorem dJ0_shift_16 : decode cJ0_shift 16 = .ok (.iadd, 1) := dk_96 (dk_at dksJ0_shift_0 16 rfl rfl)
theorem dJ0_shift_17 : decode cJ0_shift 17 = .ok (.aload_n 0, 1) := dk_42 (dk_at dksJ0_shift_0 17 rfl rfl)
theorem dJ0_shift_18 : decode cJ0_shift 18 = .ok (.getfield 22, 3) := dk_180 0 22 (dk_at dksJ0_shift_0 18 rfl rfl)
theorem dJ0_shift_21 : decode cJ0_shift 21 = .ok (.ishl, 1) := dk_120 (dk_at dksJ0_shift_0 21 rfl rfl)
theorem dJ0_shift_22 : decode cJ0_shift 22 = .ok (.aload_n 0, 1) := dk_42 (dk_at dksJ0_shift_0 22 rfl rfl)
theorem dJ0_shift_23 : decode cJ0_shift 23 = .ok (.getfield 79, 3) := dk_180 0 79 (dk_at dksJ0_shift_1 0 rfl rfl)
theorem dJ0_shift_26 : decode cJ0_shift 26 = .ok (.iload_n 1, 1) := dk_27 (dk_at dksJ0_shift_1 3 rfl rfl)
theorem dJ0_shift_27 : decode cJ0_shift 27 = .ok (.isub, 1) := dk_100 (dk_at dksJ0_shift_1 4 rfl rfl)
theorem dJ0_shift_28 : decode cJ0_shift 28 = .ok (.aload_n 0, 1) := dk_42 (dk_at dksJ0_shift_1 5 rfl rfl)
theorem dJ0_shift_29 : decode cJ0_shift 29 = .ok (.getfield 22, 3) := dk_180 0 22 (dk_at dksJ0_shift_1 6 rfl rfl)
theorem dJ0_shift_32 : decode cJ0_shift 32 = .ok (.ishl, 1) := dk_120 (dk_at dksJ0_shift_1 9 rfl rfl)
theorem dJ0_shift_33 : decode cJ0_shift 33 = .ok (.invokestatic 309, 3) := dk_184 1 53 (dk_at dksJ0_shift_1 10 rfl rfl)
theorem dJ0_shift_36 : decode cJ0_shift 36 = .ok (.return_, 1) := dk_177 (dk_at dksJ0_shift_1 13 rfl rfl)
abbrev cJ0_deleteCharAt : ByteArray := prog_5_method_38_code
def yJ0_deleteCharAt : MethodName := ⟨RJ0, "deleteCharAt", "(I)Ljava/lang/AbstractStringBuilder;"⟩
def dkwJ0_deleteCharAt_1 : List UInt8 := [181, 0, 79, 42, 4, 181, 0, 73, 42, 176]
abbrev dktJ0_deleteCharAt_1 : List UInt8 := dkwJ0_deleteCharAt_1 ++ []
def dkwJ0_deleteCharAt_0 : List UInt8 := [27, 42, 180, 0, 79, 184, 0, 144, 42, 27, 4, 96, 2, 182, 1, 27, 42, 89, 180, 0, 79, 4, 100]
abbrev dktJ0_deleteCharAt_0 : List UInt8 := dkwJ0_deleteCharAt_0 ++ dktJ0_deleteCharAt_1
theorem dksJ0_deleteCharAt_0 : cJ0_deleteCharAt.data.toList.drop 0 = dktJ0_deleteCharAt_0 := by decide +kernel
theorem dksJ0_deleteCharAt_1 : cJ0_deleteCharAt.data.toList.drop 23 = dktJ0_deleteCharAt_1 := dk_seg dksJ0_deleteCharAt_0 23 rfl rfl
theorem dJ0_deleteCharAt_0 : decode cJ0_deleteCharAt 0 = .ok (.iload_n 1, 1) := dk_27 (dk_at dksJ0_deleteCharAt_0 0 rfl rfl)
theorem dJ0_deleteCharAt_1 : decode cJ0_deleteCharAt 1 = .ok (.aload_n 0, 1) := dk_42 (dk_at dksJ0_deleteCharAt_0 1 rfl rfl)
theorem dJ0_deleteCharAt_2 : decode cJ0_deleteCharAt 2 = .ok (.getfield 79, 3) := dk_180 0 79 (dk_at dksJ0_deleteCharAt_0 2 rfl rfl)
theorem dJ0_deleteCharAt_5 : decode cJ0_deleteCharAt 5 = .ok (.invokestatic 144, 3) := dk_184 0 144 (dk_at dksJ0_deleteCharAt_0 5 rfl rfl)
theorem dJ0_deleteCharAt_8 : decode cJ0_deleteCharAt 8 = .ok (.aload_n 0, 1) := dk_42 (dk_at dksJ0_deleteCharAt_0 8 rfl rfl)
theorem dJ0_deleteCharAt_9 : decode cJ0_deleteCharAt 9 = .ok (.iload_n 1, 1) := dk_27 (dk_at dksJ0_deleteCharAt_0 9 rfl rfl)
theorem dJ0_deleteCharAt_10 : decode cJ0_deleteCharAt 10 = .ok (.iconst 1, 1) := dk_4 (dk_at dksJ0_deleteCharAt_0 10 rfl rfl)
theorem dJ0_deleteCharAt_11 : decode cJ0_deleteCharAt 11 = .ok (.iadd, 1) := dk_96 (dk_at dksJ0_deleteCharAt_0 11 rfl rfl)
theorem dJ0_deleteCharAt_12 : decode cJ0_deleteCharAt 12 = .ok (.iconst (-1), 1) := dk_2 (dk_at dksJ0_deleteCharAt_0 12 rfl rfl)
theorem dJ0_deleteCharAt_13 : decode cJ0_deleteCharAt 13 = .ok (.invokevirtual 283, 3) := dk_182 1 27 (dk_at dksJ0_deleteCharAt_0 13 rfl rfl)
theorem dJ0_deleteCharAt_16 : decode cJ0_deleteCharAt 16 = .ok (.aload_n 0, 1) := dk_42 (dk_at dksJ0_deleteCharAt_0 16 rfl rfl)
theorem dJ0_deleteCharAt_17 : decode cJ0_deleteCharAt 17 = .ok (.dup, 1) := dk_89 (dk_at dksJ0_deleteCharAt_0 17 rfl rfl)
theorem dJ0_deleteCharAt_18 : decode cJ0_deleteCharAt 18 = .ok (.getfield 79, 3) := dk_180 0 79 (dk_at dksJ0_deleteCharAt_0 18 rfl rfl)
theorem dJ0_deleteCharAt_21 : decode cJ0_deleteCharAt 21 = .ok (.iconst 1, 1) := dk_4 (dk_at dksJ0_deleteCharAt_0 21 rfl rfl)
theorem dJ0_deleteCharAt_22 : decode cJ0_deleteCharAt 22 = .ok (.isub, 1) := dk_100 (dk_at dksJ0_deleteCharAt_0 22 rfl rfl)
theorem dJ0_deleteCharAt_23 : decode cJ0_deleteCharAt 23 = .ok (.putfield 79, 3) := dk_181 0 79 (dk_at dksJ0_deleteCharAt_1 0 rfl rfl)
theorem dJ0_deleteCharAt_26 : decode cJ0_deleteCharAt 26 = .ok (.aload_n 0, 1) := dk_42 (dk_at dksJ0_deleteCharAt_1 3 rfl rfl)
theorem dJ0_deleteCharAt_27 : decode cJ0_deleteCharAt 27 = .ok (.iconst 1, 1) := dk_4 (dk_at dksJ0_deleteCharAt_1 4 rfl rfl)
theorem dJ0_deleteCharAt_28 : decode cJ0_deleteCharAt 28 = .ok (.putfield 73, 3) := dk_181 0 73 (dk_at dksJ0_deleteCharAt_1 5 rfl rfl)
theorem dJ0_deleteCharAt_31 : decode cJ0_deleteCharAt 31 = .ok (.aload_n 0, 1) := dk_42 (dk_at dksJ0_deleteCharAt_1 8 rfl rfl)
theorem dJ0_deleteCharAt_32 : decode cJ0_deleteCharAt 32 = .ok (.areturn, 1) := dk_176 (dk_at dksJ0_deleteCharAt_1 9 rfl rfl)
abbrev cJ0_delete : ByteArray := prog_5_method_36_code
def yJ0_delete : MethodName := ⟨RJ0, "delete", "(II)Ljava/lang/AbstractStringBuilder;"⟩
def dkwJ0_delete_2 : List UInt8 := [42, 4, 181, 0, 73, 42, 176]
abbrev dktJ0_delete_2 : List UInt8 := dkwJ0_delete_2 ++ []
def dkwJ0_delete_1 : List UInt8 := [100, 54, 4, 21, 4, 158, 0, 24, 42, 28, 21, 4, 116, 182, 1, 27, 42, 29, 21, 4, 100, 181, 0, 79]
abbrev dktJ0_delete_1 : List UInt8 := dkwJ0_delete_1 ++ dktJ0_delete_2
def dkwJ0_delete_0 : List UInt8 := [42, 180, 0, 79, 62, 28, 29, 164, 0, 5, 29, 61, 27, 28, 29, 178, 0, 179, 184, 0, 161, 87, 28, 27]
abbrev dktJ0_delete_0 : List UInt8 := dkwJ0_delete_0 ++ dktJ0_delete_1
theorem dksJ0_delete_0 : cJ0_delete.data.toList.drop 0 = dktJ0_delete_0 := by decide +kernel
theorem dksJ0_delete_1 : cJ0_delete.data.toList.drop 24 = dktJ0_delete_1 := dk_seg dksJ0_delete_0 24 rfl rfl
theorem dksJ0_delete_2 : cJ0_delete.data.toList.drop 48 = dktJ0_delete_2 := dk_seg dksJ0_delete_1 24 rfl rfl
theorem dJ0_delete_0 : decode cJ0_delete 0 = .ok (.aload_n 0, 1) := dk_42 (dk_at dksJ0_delete_0 0 rfl rfl)
theorem dJ0_delete_1 : decode cJ0_delete 1 = .ok (.getfield 79, 3) := dk_180 0 79 (dk_at dksJ0_delete_0 1 rfl rfl)
theorem dJ0_delete_4 : decode cJ0_delete 4 = .ok (.istore_n 3, 1) := dk_62 (dk_at dksJ0_delete_0 4 rfl rfl)
theorem dJ0_delete_5 : decode cJ0_delete 5 = .ok (.iload_n 2, 1) := dk_28 (dk_at dksJ0_delete_0 5 rfl rfl)
theorem dJ0_delete_6 : decode cJ0_delete 6 = .ok (.iload_n 3, 1) := dk_29 (dk_at dksJ0_delete_0 6 rfl rfl)
theorem dJ0_delete_7 : decode cJ0_delete 7 = .ok (.if_icmp .le 5, 3) := dk_164 0 5 (dk_at dksJ0_delete_0 7 rfl rfl)
theorem dJ0_delete_10 : decode cJ0_delete 10 = .ok (.iload_n 3, 1) := dk_29 (dk_at dksJ0_delete_0 10 rfl rfl)
theorem dJ0_delete_11 : decode cJ0_delete 11 = .ok (.istore_n 2, 1) := dk_61 (dk_at dksJ0_delete_0 11 rfl rfl)
theorem dJ0_delete_12 : decode cJ0_delete 12 = .ok (.iload_n 1, 1) := dk_27 (dk_at dksJ0_delete_0 12 rfl rfl)
theorem dJ0_delete_13 : decode cJ0_delete 13 = .ok (.iload_n 2, 1) := dk_28 (dk_at dksJ0_delete_0 13 rfl rfl)
theorem dJ0_delete_14 : decode cJ0_delete 14 = .ok (.iload_n 3, 1) := dk_29 (dk_at dksJ0_delete_0 14 rfl rfl)
theorem dJ0_delete_15 : decode cJ0_delete 15 = .ok (.getstatic 179, 3) := dk_178 0 179 (dk_at dksJ0_delete_0 15 rfl rfl)
theorem dJ0_delete_18 : decode cJ0_delete 18 = .ok (.invokestatic 161, 3) := dk_184 0 161 (dk_at dksJ0_delete_0 18 rfl rfl)
theorem dJ0_delete_21 : decode cJ0_delete 21 = .ok (.pop, 1) := dk_87 (dk_at dksJ0_delete_0 21 rfl rfl)
theorem dJ0_delete_22 : decode cJ0_delete 22 = .ok (.iload_n 2, 1) := dk_28 (dk_at dksJ0_delete_0 22 rfl rfl)
theorem dJ0_delete_23 : decode cJ0_delete 23 = .ok (.iload_n 1, 1) := dk_27 (dk_at dksJ0_delete_0 23 rfl rfl)
theorem dJ0_delete_24 : decode cJ0_delete 24 = .ok (.isub, 1) := dk_100 (dk_at dksJ0_delete_1 0 rfl rfl)
theorem dJ0_delete_25 : decode cJ0_delete 25 = .ok (.istore 4, 2) := dk_54 4 (dk_at dksJ0_delete_1 1 rfl rfl)
theorem dJ0_delete_27 : decode cJ0_delete 27 = .ok (.iload 4, 2) := dk_21 4 (dk_at dksJ0_delete_1 3 rfl rfl)
theorem dJ0_delete_29 : decode cJ0_delete 29 = .ok (.ifCond .le 24, 3) := dk_158 0 24 (dk_at dksJ0_delete_1 5 rfl rfl)
theorem dJ0_delete_32 : decode cJ0_delete 32 = .ok (.aload_n 0, 1) := dk_42 (dk_at dksJ0_delete_1 8 rfl rfl)
theorem dJ0_delete_33 : decode cJ0_delete 33 = .ok (.iload_n 2, 1) := dk_28 (dk_at dksJ0_delete_1 9 rfl rfl)
theorem dJ0_delete_34 : decode cJ0_delete 34 = .ok (.iload 4, 2) := dk_21 4 (dk_at dksJ0_delete_1 10 rfl rfl)
theorem dJ0_delete_36 : decode cJ0_delete 36 = .ok (.ineg, 1) := dk_116 (dk_at dksJ0_delete_1 12 rfl rfl)
theorem dJ0_delete_37 : decode cJ0_delete 37 = .ok (.invokevirtual 283, 3) := dk_182 1 27 (dk_at dksJ0_delete_1 13 rfl rfl)
theorem dJ0_delete_40 : decode cJ0_delete 40 = .ok (.aload_n 0, 1) := dk_42 (dk_at dksJ0_delete_1 16 rfl rfl)
theorem dJ0_delete_41 : decode cJ0_delete 41 = .ok (.iload_n 3, 1) := dk_29 (dk_at dksJ0_delete_1 17 rfl rfl)
theorem dJ0_delete_42 : decode cJ0_delete 42 = .ok (.iload 4, 2) := dk_21 4 (dk_at dksJ0_delete_1 18 rfl rfl)
theorem dJ0_delete_44 : decode cJ0_delete 44 = .ok (.isub, 1) := dk_100 (dk_at dksJ0_delete_1 20 rfl rfl)
theorem dJ0_delete_45 : decode cJ0_delete 45 = .ok (.putfield 79, 3) := dk_181 0 79 (dk_at dksJ0_delete_1 21 rfl rfl)
theorem dJ0_delete_48 : decode cJ0_delete 48 = .ok (.aload_n 0, 1) := dk_42 (dk_at dksJ0_delete_2 0 rfl rfl)
theorem dJ0_delete_49 : decode cJ0_delete 49 = .ok (.iconst 1, 1) := dk_4 (dk_at dksJ0_delete_2 1 rfl rfl)
theorem dJ0_delete_50 : decode cJ0_delete 50 = .ok (.putfield 73, 3) := dk_181 0 73 (dk_at dksJ0_delete_2 2 rfl rfl)
theorem dJ0_delete_53 : decode cJ0_delete 53 = .ok (.aload_n 0, 1) := dk_42 (dk_at dksJ0_delete_2 5 rfl rfl)
theorem dJ0_delete_54 : decode cJ0_delete 54 = .ok (.areturn, 1) := dk_176 (dk_at dksJ0_delete_2 6 rfl rfl)
theorem q42 : (Jvm.Cond.initialized "java/lang/AbstractStringBuilder") ∈ lw_all := lw_g (lw_at lw_m1 2 rfl) rfl
theorem q107 : (Jvm.Cond.instanceMethod ({ cls := "java/lang/AbstractStringBuilder", name := "<init>", desc := "(I)V" } : Jvm.MethodName)) ∈ lw_all := lw_g (lw_at lw_m1 67 rfl) rfl
theorem q108 : (Jvm.Cond.code ({ cls := "java/lang/AbstractStringBuilder", name := "<init>", desc := "(I)V" } : Jvm.MethodName) prog_5_method_2_code (2 : Nat) (Option.none : Option Jvm.ClassFile.FieldType)) ∈ lw_all := lw_g (lw_at lw_m1 68 rfl) rfl
theorem q109 : (Jvm.Cond.methodLink "java/lang/AbstractStringBuilder" (3 : Nat) ({ cls := "java/lang/Object", name := "<init>", desc := "()V" } : Jvm.MethodName)) ∈ lw_all := lw_g (lw_at lw_m1 69 rfl) rfl
theorem q110 : (Jvm.Cond.fieldLink "java/lang/AbstractStringBuilder" (18 : Nat) "java/lang/String" "COMPACT_STRINGS" "Z") ∈ lw_all := lw_g (lw_at lw_m1 70 rfl) rfl
theorem q112 : (Jvm.Cond.methodLink "java/lang/AbstractStringBuilder" (26 : Nat) ({ cls := "java/lang/StringUTF16", name := "newBytesFor", desc := "(I)[B" } : Jvm.MethodName)) ∈ lw_all := lw_g (lw_at lw_m1 72 rfl) rfl
theorem q119 : (Jvm.Cond.fieldLink "java/lang/AbstractStringBuilder" (15 : Nat) "java/lang/AbstractStringBuilder" "value" "[B") ∈ lw_all := lw_g (lw_at lw_m1 79 rfl) rfl
theorem q120 : (Jvm.Cond.fieldLink "java/lang/AbstractStringBuilder" (22 : Nat) "java/lang/AbstractStringBuilder" "coder" "B") ∈ lw_all := lw_g (lw_at lw_m1 80 rfl) rfl
theorem q121 : (Jvm.Cond.fieldLink "java/lang/AbstractStringBuilder" (73 : Nat) "java/lang/AbstractStringBuilder" "maybeLatin1" "Z") ∈ lw_all := lw_g (lw_at lw_m1 81 rfl) rfl
theorem q123 : (Jvm.Cond.fieldLink "java/lang/AbstractStringBuilder" (79 : Nat) "java/lang/AbstractStringBuilder" "count" "I") ∈ lw_all := lw_g (lw_at lw_m1 83 rfl) rfl
theorem q125 : (Jvm.Cond.soleField "java/lang/AbstractStringBuilder" "value") ∈ lw_all := lw_g (lw_at lw_m1 85 rfl) rfl
theorem q127 : (Jvm.Cond.soleField "java/lang/AbstractStringBuilder" "coder") ∈ lw_all := lw_g (lw_at lw_m1 87 rfl) rfl
theorem q129 : (Jvm.Cond.soleField "java/lang/AbstractStringBuilder" "maybeLatin1") ∈ lw_all := lw_g (lw_at lw_m1 89 rfl) rfl
theorem q131 : (Jvm.Cond.soleField "java/lang/AbstractStringBuilder" "count") ∈ lw_all := lw_g (lw_at lw_m1 91 rfl) rfl
theorem q269 : (Jvm.Cond.instanceMethod ({ cls := "java/lang/AbstractStringBuilder", name := "append", desc := "(I)Ljava/lang/AbstractStringBuilder;" } : Jvm.MethodName)) ∈ lw_all := lw_g (lw_at lw_m1 229 rfl) rfl
theorem q270 : (Jvm.Cond.code ({ cls := "java/lang/AbstractStringBuilder", name := "append", desc := "(I)Ljava/lang/AbstractStringBuilder;" } : Jvm.MethodName) prog_5_method_32_code (4 : Nat) (Option.some (Jvm.ClassFile.FieldType.object "java/lang/AbstractStringBuilder"))) ∈ lw_all := lw_g (lw_at lw_m1 230 rfl) rfl
theorem q271 : (Jvm.Cond.methodLink "java/lang/AbstractStringBuilder" (245 : Nat) ({ cls := "java/lang/Integer", name := "stringSize", desc := "(I)I" } : Jvm.MethodName)) ∈ lw_all := lw_g (lw_at lw_m1 231 rfl) rfl
theorem q274 : (Jvm.Cond.methodLink "java/lang/AbstractStringBuilder" (100 : Nat) ({ cls := "java/lang/AbstractStringBuilder", name := "ensureCapacityInternal", desc := "(I)V" } : Jvm.MethodName)) ∈ lw_all := lw_g (lw_at lw_m1 234 rfl) rfl
theorem q275 : (Jvm.Cond.privateMethod ({ cls := "java/lang/AbstractStringBuilder", name := "ensureCapacityInternal", desc := "(I)V" } : Jvm.MethodName)) ∈ lw_tbl := lw_at lw_m1 235 rfl
theorem q276 : (Jvm.Cond.instanceMethod ({ cls := "java/lang/AbstractStringBuilder", name := "ensureCapacityInternal", desc := "(I)V" } : Jvm.MethodName)) ∈ lw_all := lw_g (lw_at lw_m1 236 rfl) rfl
theorem q277 : (Jvm.Cond.code ({ cls := "java/lang/AbstractStringBuilder", name := "ensureCapacityInternal", desc := "(I)V" } : Jvm.MethodName) prog_5_method_9_code (3 : Nat) (Option.none : Option Jvm.ClassFile.FieldType)) ∈ lw_all := lw_g (lw_at lw_m1 237 rfl) rfl
theorem q278 : (Jvm.Cond.methodLink "java/lang/AbstractStringBuilder" (104 : Nat) ({ cls := "java/lang/AbstractStringBuilder", name := "newCapacity", desc := "(I)I" } : Jvm.MethodName)) ∈ lw_all := lw_g (lw_at lw_m1 238 rfl) rfl
theorem q279 : (Jvm.Cond.privateMethod ({ cls := "java/lang/AbstractStringBuilder", name := "newCapacity", desc := "(I)I" } : Jvm.MethodName)) ∈ lw_tbl := lw_at lw_m1 239 rfl
theorem q280 : (Jvm.Cond.instanceMethod ({ cls := "java/lang/AbstractStringBuilder", name := "newCapacity", desc := "(I)I" } : Jvm.MethodName)) ∈ lw_all := lw_g (lw_at lw_m2 0 rfl) rfl
theorem q281 : (Jvm.Cond.code ({ cls := "java/lang/AbstractStringBuilder", name := "newCapacity", desc := "(I)I" } : Jvm.MethodName) prog_5_method_10_code (6 : Nat) (Option.some Jvm.ClassFile.FieldType.int)) ∈ lw_all := lw_g (lw_at lw_m2 1 rfl) rfl
theorem q282 : (Jvm.Cond.methodLink "java/lang/AbstractStringBuilder" (114 : Nat) ({ cls := "jdk/internal/util/ArraysSupport", name := "newLength", desc := "(III)I" } : Jvm.MethodName)) ∈ lw_all := lw_g (lw_at lw_m2 2 rfl) rfl
theorem q292 : (Jvm.Cond.constant "java/lang/AbstractStringBuilder" (39 : Nat) (2147483647 : Int32)) ∈ lw_all := lw_g (lw_at lw_m2 12 rfl) rfl
theorem q293 : (Jvm.Cond.methodLink "java/lang/AbstractStringBuilder" (108 : Nat) ({ cls := "java/util/Arrays", name := "copyOf", desc := "([BI)[B" } : Jvm.MethodName)) ∈ lw_all := lw_g (lw_at lw_m2 13 rfl) rfl
theorem q309 : (Jvm.Cond.methodLink "java/lang/AbstractStringBuilder" (83 : Nat) ({ cls := "java/lang/AbstractStringBuilder", name := "isLatin1", desc := "()Z" } : Jvm.MethodName)) ∈ lw_all := lw_g (lw_at lw_m2 29 rfl) rfl
theorem q310 : (Jvm.Cond.instanceMethod ({ cls := "java/lang/AbstractStringBuilder", name := "isLatin1", desc := "()Z" } : Jvm.MethodName)) ∈ lw_all := lw_g (lw_at lw_m2 30 rfl) rfl
theorem q311 : (Jvm.Cond.sameMethod "java/lang/AbstractStringBuilder" "java/lang/AbstractStringBuilder" "isLatin1" "()Z") ∈ lw_all := lw_g (lw_at lw_m2 31 rfl) rfl
theorem q313 : (Jvm.Cond.code ({ cls := "java/lang/AbstractStringBuilder", name := "isLatin1", desc := "()Z" } : Jvm.MethodName) prog_5_method_68_code (1 : Nat) (Option.some Jvm.ClassFile.FieldType.boolean)) ∈ lw_all := lw_g (lw_at lw_m2 33 rfl) rfl
theorem q314 : (Jvm.Cond.methodLink "java/lang/AbstractStringBuilder" (248 : Nat) ({ cls := "java/lang/Integer", name := "getChars", desc := "(II[B)I" } : Jvm.MethodName)) ∈ lw_all := lw_g (lw_at lw_m2 34 rfl) rfl
theorem q321 : (Jvm.Cond.methodLink "java/lang/AbstractStringBuilder" (251 : Nat) ({ cls := "java/lang/StringUTF16", name := "getChars", desc := "(III[B)I" } : Jvm.MethodName)) ∈ lw_all := lw_g (lw_at lw_m2 41 rfl) rfl
theorem q351 : (Jvm.Cond.instanceMethod ({ cls := "java/lang/AbstractStringBuilder", name := "append", desc := "(Ljava/lang/String;)Ljava/lang/AbstractStringBuilder;" } : Jvm.MethodName)) ∈ lw_all := lw_g (lw_at lw_m2 71 rfl) rfl
theorem q352 : (Jvm.Cond.code ({ cls := "java/lang/AbstractStringBuilder", name := "append", desc := "(Ljava/lang/String;)Ljava/lang/AbstractStringBuilder;" } : Jvm.MethodName) prog_5_method_22_code (3 : Nat) (Option.some (Jvm.ClassFile.FieldType.object "java/lang/AbstractStringBuilder"))) ∈ lw_all := lw_g (lw_at lw_m2 72 rfl) rfl
theorem q353 : (Jvm.Cond.methodLink "java/lang/AbstractStringBuilder" (204 : Nat) ({ cls := "java/lang/AbstractStringBuilder", name := "appendNull", desc := "()Ljava/lang/AbstractStringBuilder;" } : Jvm.MethodName)) ∈ lw_all := lw_g (lw_at lw_m2 73 rfl) rfl
theorem q354 : (Jvm.Cond.privateMethod ({ cls := "java/lang/AbstractStringBuilder", name := "appendNull", desc := "()Ljava/lang/AbstractStringBuilder;" } : Jvm.MethodName)) ∈ lw_tbl := lw_at lw_m2 74 rfl
theorem q355 : (Jvm.Cond.instanceMethod ({ cls := "java/lang/AbstractStringBuilder", name := "appendNull", desc := "()Ljava/lang/AbstractStringBuilder;" } : Jvm.MethodName)) ∈ lw_all := lw_g (lw_at lw_m2 75 rfl) rfl
theorem q356 : (Jvm.Cond.code ({ cls := "java/lang/AbstractStringBuilder", name := "appendNull", desc := "()Ljava/lang/AbstractStringBuilder;" } : Jvm.MethodName) prog_5_method_26_code (3 : Nat) (Option.some (Jvm.ClassFile.FieldType.object "java/lang/AbstractStringBuilder"))) ∈ lw_all := lw_g (lw_at lw_m2 76 rfl) rfl
theorem q357 : (Jvm.Cond.methodLink "java/lang/AbstractStringBuilder" (226 : Nat) ({ cls := "java/lang/StringUTF16", name := "putCharsAt", desc := "([BICCCC)I" } : Jvm.MethodName)) ∈ lw_all := lw_g (lw_at lw_m2 77 rfl) rfl
theorem q360 : (Jvm.Cond.methodLink "java/lang/AbstractStringBuilder" (32 : Nat) ({ cls := "java/lang/String", name := "length", desc := "()I" } : Jvm.MethodName)) ∈ lw_all := lw_g (lw_at lw_m2 80 rfl) rfl
theorem q361 : (Jvm.Cond.methodLink "java/lang/AbstractStringBuilder" (208 : Nat) ({ cls := "java/lang/AbstractStringBuilder", name := "putStringAt", desc := "(ILjava/lang/String;)V" } : Jvm.MethodName)) ∈ lw_all := lw_g (lw_at lw_m2 81 rfl) rfl
theorem q362 : (Jvm.Cond.privateMethod ({ cls := "java/lang/AbstractStringBuilder", name := "putStringAt", desc := "(ILjava/lang/String;)V" } : Jvm.MethodName)) ∈ lw_tbl := lw_at lw_m2 82 rfl
theorem q363 : (Jvm.Cond.instanceMethod ({ cls := "java/lang/AbstractStringBuilder", name := "putStringAt", desc := "(ILjava/lang/String;)V" } : Jvm.MethodName)) ∈ lw_all := lw_g (lw_at lw_m2 83 rfl) rfl
theorem q364 : (Jvm.Cond.code ({ cls := "java/lang/AbstractStringBuilder", name := "putStringAt", desc := "(ILjava/lang/String;)V" } : Jvm.MethodName) prog_5_method_73_code (3 : Nat) (Option.none : Option Jvm.ClassFile.FieldType)) ∈ lw_all := lw_g (lw_at lw_m2 84 rfl) rfl
theorem q365 : (Jvm.Cond.methodLink "java/lang/AbstractStringBuilder" (397 : Nat) ({ cls := "java/lang/AbstractStringBuilder", name := "inflateIfNeededFor", desc := "(Ljava/lang/String;)V" } : Jvm.MethodName)) ∈ lw_all := lw_g (lw_at lw_m2 85 rfl) rfl
theorem q366 : (Jvm.Cond.privateMethod ({ cls := "java/lang/AbstractStringBuilder", name := "inflateIfNeededFor", desc := "(Ljava/lang/String;)V" } : Jvm.MethodName)) ∈ lw_tbl := lw_at lw_m2 86 rfl
theorem q367 : (Jvm.Cond.instanceMethod ({ cls := "java/lang/AbstractStringBuilder", name := "inflateIfNeededFor", desc := "(Ljava/lang/String;)V" } : Jvm.MethodName)) ∈ lw_all := lw_g (lw_at lw_m2 87 rfl) rfl
theorem q368 : (Jvm.Cond.code ({ cls := "java/lang/AbstractStringBuilder", name := "inflateIfNeededFor", desc := "(Ljava/lang/String;)V" } : Jvm.MethodName) prog_5_method_71_code (2 : Nat) (Option.none : Option Jvm.ClassFile.FieldType)) ∈ lw_all := lw_g (lw_at lw_m2 88 rfl) rfl
theorem q369 : (Jvm.Cond.methodLink "java/lang/AbstractStringBuilder" (40 : Nat) ({ cls := "java/lang/String", name := "coder", desc := "()B" } : Jvm.MethodName)) ∈ lw_all := lw_g (lw_at lw_m2 89 rfl) rfl
theorem q370 : (Jvm.Cond.methodLink "java/lang/AbstractStringBuilder" (195 : Nat) ({ cls := "java/lang/AbstractStringBuilder", name := "inflate", desc := "()V" } : Jvm.MethodName)) ∈ lw_all := lw_g (lw_at lw_m2 90 rfl) rfl
theorem q371 : (Jvm.Cond.privateMethod ({ cls := "java/lang/AbstractStringBuilder", name := "inflate", desc := "()V" } : Jvm.MethodName)) ∈ lw_tbl := lw_at lw_m2 91 rfl
theorem q372 : (Jvm.Cond.instanceMethod ({ cls := "java/lang/AbstractStringBuilder", name := "inflate", desc := "()V" } : Jvm.MethodName)) ∈ lw_all := lw_g (lw_at lw_m2 92 rfl) rfl
theorem q373 : (Jvm.Cond.code ({ cls := "java/lang/AbstractStringBuilder", name := "inflate", desc := "()V" } : Jvm.MethodName) prog_5_method_11_code (2 : Nat) (Option.none : Option Jvm.ClassFile.FieldType)) ∈ lw_all := lw_g (lw_at lw_m2 93 rfl) rfl
theorem q374 : (Jvm.Cond.methodLink "java/lang/AbstractStringBuilder" (125 : Nat) ({ cls := "java/lang/StringLatin1", name := "inflate", desc := "([BI[BII)V" } : Jvm.MethodName)) ∈ lw_all := lw_g (lw_at lw_m2 94 rfl) rfl
theorem q389 : (Jvm.Cond.methodLink "java/lang/AbstractStringBuilder" (399 : Nat) ({ cls := "java/lang/String", name := "getBytes", desc := "([BIB)V" } : Jvm.MethodName)) ∈ lw_all := lw_g (lw_at lw_m2 109 rfl) rfl
theorem q408 : (Jvm.Cond.instanceMethod ({ cls := "java/lang/AbstractStringBuilder", name := "getValue", desc := "()[B" } : Jvm.MethodName)) ∈ lw_all := lw_g (lw_at lw_m2 128 rfl) rfl
theorem q409 : (Jvm.Cond.sameMethod "java/lang/AbstractStringBuilder" "java/lang/AbstractStringBuilder" "getValue" "()[B") ∈ lw_all := lw_g (lw_at lw_m2 129 rfl) rfl
theorem q411 : (Jvm.Cond.code ({ cls := "java/lang/AbstractStringBuilder", name := "getValue", desc := "()[B" } : Jvm.MethodName) prog_5_method_64_code (1 : Nat) (Option.some (Jvm.ClassFile.FieldType.array Jvm.ClassFile.FieldType.byte))) ∈ lw_all := lw_g (lw_at lw_m2 131 rfl) rfl
theorem q413 : (Jvm.Cond.instanceMethod ({ cls := "java/lang/AbstractStringBuilder", name := "length", desc := "()I" } : Jvm.MethodName)) ∈ lw_all := lw_g (lw_at lw_m2 133 rfl) rfl
theorem q414 : (Jvm.Cond.sameMethod "java/lang/AbstractStringBuilder" "java/lang/AbstractStringBuilder" "length" "()I") ∈ lw_all := lw_g (lw_at lw_m2 134 rfl) rfl
theorem q419 : (Jvm.Cond.code ({ cls := "java/lang/AbstractStringBuilder", name := "length", desc := "()I" } : Jvm.MethodName) prog_5_method_6_code (1 : Nat) (Option.some Jvm.ClassFile.FieldType.int)) ∈ lw_all := lw_g (lw_at lw_m2 139 rfl) rfl
theorem q503 : (Jvm.Cond.instanceMethod ({ cls := "java/lang/AbstractStringBuilder", name := "setLength", desc := "(I)V" } : Jvm.MethodName)) ∈ lw_all := lw_g (lw_at lw_m2 223 rfl) rfl
theorem q504 : (Jvm.Cond.code ({ cls := "java/lang/AbstractStringBuilder", name := "setLength", desc := "(I)V" } : Jvm.MethodName) prog_5_method_13_code (2 : Nat) (Option.none : Option Jvm.ClassFile.FieldType)) ∈ lw_all := lw_g (lw_at lw_m2 224 rfl) rfl
theorem q505 : (Jvm.Cond.classLink "java/lang/AbstractStringBuilder" (129 : Nat) "java/lang/StringIndexOutOfBoundsException") ∈ lw_all := lw_g (lw_at lw_m2 225 rfl) rfl
theorem q507 : (Jvm.Cond.methodLink "java/lang/AbstractStringBuilder" (131 : Nat) ({ cls := "java/lang/StringIndexOutOfBoundsException", name := "<init>", desc := "(I)V" } : Jvm.MethodName)) ∈ lw_all := lw_g (lw_at lw_m2 227 rfl) rfl
theorem q527 : (Jvm.Cond.methodLink "java/lang/AbstractStringBuilder" (133 : Nat) ({ cls := "java/lang/StringLatin1", name := "fillNull", desc := "([BII)V" } : Jvm.MethodName)) ∈ lw_all := lw_g (lw_at lw_m3 7 rfl) rfl
theorem q562 : (Jvm.Cond.methodLink "java/lang/AbstractStringBuilder" (137 : Nat) ({ cls := "java/lang/StringUTF16", name := "fillNull", desc := "([BII)V" } : Jvm.MethodName)) ∈ lw_all := lw_g (lw_at lw_m3 42 rfl) rfl
theorem q576 : (Jvm.Cond.instanceMethod ({ cls := "java/lang/AbstractStringBuilder", name := "reverse", desc := "()Ljava/lang/AbstractStringBuilder;" } : Jvm.MethodName)) ∈ lw_all := lw_g (lw_at lw_m3 56 rfl) rfl
theorem q577 : (Jvm.Cond.code ({ cls := "java/lang/AbstractStringBuilder", name := "reverse", desc := "()Ljava/lang/AbstractStringBuilder;" } : Jvm.MethodName) prog_5_method_60_code (7 : Nat) (Option.some (Jvm.ClassFile.FieldType.object "java/lang/AbstractStringBuilder"))) ∈ lw_all := lw_g (lw_at lw_m3 57 rfl) rfl
theorem q578 : (Jvm.Cond.methodLink "java/lang/AbstractStringBuilder" (358 : Nat) ({ cls := "java/lang/StringUTF16", name := "reverse", desc := "([BI)V" } : Jvm.MethodName)) ∈ lw_all := lw_g (lw_at lw_m3 58 rfl) rfl
theorem q820 : (Jvm.Cond.instanceMethod ({ cls := "java/lang/AbstractStringBuilder", name := "compareTo", desc := "(Ljava/lang/AbstractStringBuilder;)I" } : Jvm.MethodName)) ∈ lw_all := lw_g (lw_at lw_m4 60 rfl) rfl
theorem q821 : (Jvm.Cond.code ({ cls := "java/lang/AbstractStringBuilder", name := "compareTo", desc := "(Ljava/lang/AbstractStringBuilder;)I" } : Jvm.MethodName) prog_5_method_5_code (6 : Nat) (Option.some Jvm.ClassFile.FieldType.int)) ∈ lw_all := lw_g (lw_at lw_m4 61 rfl) rfl
theorem q822 : (Jvm.Cond.methodLink "java/lang/AbstractStringBuilder" (87 : Nat) ({ cls := "java/lang/StringLatin1", name := "compareTo", desc := "([B[BII)I" } : Jvm.MethodName)) ∈ lw_all := lw_g (lw_at lw_m4 62 rfl) rfl
theorem q823 : (Jvm.Cond.methodLink "java/lang/AbstractStringBuilder" (93 : Nat) ({ cls := "java/lang/StringUTF16", name := "compareTo", desc := "([B[BII)I" } : Jvm.MethodName)) ∈ lw_all := lw_g (lw_at lw_m4 63 rfl) rfl
theorem q826 : (Jvm.Cond.methodLink "java/lang/AbstractStringBuilder" (94 : Nat) ({ cls := "java/lang/StringLatin1", name := "compareToUTF16", desc := "([B[BII)I" } : Jvm.MethodName)) ∈ lw_all := lw_g (lw_at lw_m4 66 rfl) rfl
theorem q830 : (Jvm.Cond.methodLink "java/lang/AbstractStringBuilder" (97 : Nat) ({ cls := "java/lang/StringUTF16", name := "compareToLatin1", desc := "([B[BII)I" } : Jvm.MethodName)) ∈ lw_all := lw_g (lw_at lw_m4 70 rfl) rfl
theorem q1176 : (Jvm.Cond.instanceMethod ({ cls := "java/lang/AbstractStringBuilder", name := "append", desc := "(C)Ljava/lang/AbstractStringBuilder;" } : Jvm.MethodName)) ∈ lw_all := lw_g (lw_at lw_m5 176 rfl) rfl
theorem q1177 : (Jvm.Cond.code ({ cls := "java/lang/AbstractStringBuilder", name := "append", desc := "(C)Ljava/lang/AbstractStringBuilder;" } : Jvm.MethodName) prog_5_method_31_code (2 : Nat) (Option.some (Jvm.ClassFile.FieldType.object "java/lang/AbstractStringBuilder"))) ∈ lw_all := lw_g (lw_at lw_m5 177 rfl) rfl
theorem q1178 : (Jvm.Cond.methodLink "java/lang/AbstractStringBuilder" (191 : Nat) ({ cls := "java/lang/StringLatin1", name := "canEncode", desc := "(C)Z" } : Jvm.MethodName)) ∈ lw_all := lw_g (lw_at lw_m5 178 rfl) rfl
theorem q1181 : (Jvm.Cond.methodLink "java/lang/AbstractStringBuilder" (197 : Nat) ({ cls := "java/lang/StringUTF16", name := "putCharSB", desc := "([BII)V" } : Jvm.MethodName)) ∈ lw_all := lw_g (lw_at lw_m5 181 rfl) rfl
theorem q1567 : (Jvm.Cond.instanceMethod ({ cls := "java/lang/AbstractStringBuilder", name := "substring", desc := "(I)Ljava/lang/String;" } : Jvm.MethodName)) ∈ lw_all := lw_g (lw_at lw_m7 87 rfl) rfl
theorem q1568 : (Jvm.Cond.code ({ cls := "java/lang/AbstractStringBuilder", name := "substring", desc := "(I)Ljava/lang/String;" } : Jvm.MethodName) prog_5_method_40_code (2 : Nat) (Option.some (Jvm.ClassFile.FieldType.object "java/lang/String"))) ∈ lw_all := lw_g (lw_at lw_m7 88 rfl) rfl
theorem q1569 : (Jvm.Cond.methodLink "java/lang/AbstractStringBuilder" (300 : Nat) ({ cls := "java/lang/AbstractStringBuilder", name := "substring", desc := "(II)Ljava/lang/String;" } : Jvm.MethodName)) ∈ lw_all := lw_g (lw_at lw_m7 89 rfl) rfl
theorem q1570 : (Jvm.Cond.instanceMethod ({ cls := "java/lang/AbstractStringBuilder", name := "substring", desc := "(II)Ljava/lang/String;" } : Jvm.MethodName)) ∈ lw_all := lw_g (lw_at lw_m7 90 rfl) rfl
theorem q1571 : (Jvm.Cond.sameMethod "java/lang/AbstractStringBuilder" "java/lang/AbstractStringBuilder" "substring" "(II)Ljava/lang/String;") ∈ lw_all := lw_g (lw_at lw_m7 91 rfl) rfl
theorem q1576 : (Jvm.Cond.code ({ cls := "java/lang/AbstractStringBuilder", name := "substring", desc := "(II)Ljava/lang/String;" } : Jvm.MethodName) prog_5_method_42_code (3 : Nat) (Option.some (Jvm.ClassFile.FieldType.object "java/lang/String"))) ∈ lw_all := lw_g (lw_at lw_m7 96 rfl) rfl
theorem q1577 : (Jvm.Cond.fieldLink "java/lang/AbstractStringBuilder" (179 : Nat) "jdk/internal/util/Preconditions" "SIOOBE_FORMATTER" "Ljava/util/function/BiFunction;") ∈ lw_all := lw_g (lw_at lw_m7 97 rfl) rfl
theorem q1578 : (Jvm.Cond.methodLink "java/lang/AbstractStringBuilder" (161 : Nat) ({ cls := "jdk/internal/util/Preconditions", name := "checkFromToIndex", desc := "(IIILjava/util/function/BiFunction;)I" } : Jvm.MethodName)) ∈ lw_all := lw_g (lw_at lw_m7 98 rfl) rfl
theorem q1579 : (Jvm.Cond.methodLink "java/lang/AbstractStringBuilder" (304 : Nat) ({ cls := "java/lang/StringLatin1", name := "newString", desc := "([BII)Ljava/lang/String;" } : Jvm.MethodName)) ∈ lw_all := lw_g (lw_at lw_m7 99 rfl) rfl
theorem q1580 : (Jvm.Cond.methodLink "java/lang/AbstractStringBuilder" (308 : Nat) ({ cls := "java/lang/StringUTF16", name := "newString", desc := "([BII)Ljava/lang/String;" } : Jvm.MethodName)) ∈ lw_all := lw_g (lw_at lw_m7 100 rfl) rfl
theorem q1696 : (Jvm.Cond.instanceMethod ({ cls := "java/lang/AbstractStringBuilder", name := "charAt", desc := "(I)C" } : Jvm.MethodName)) ∈ lw_all := lw_g (lw_at lw_m7 216 rfl) rfl
theorem q1697 : (Jvm.Cond.code ({ cls := "java/lang/AbstractStringBuilder", name := "charAt", desc := "(I)C" } : Jvm.MethodName) prog_5_method_14_code (5 : Nat) (Option.some Jvm.ClassFile.FieldType.char)) ∈ lw_all := lw_g (lw_at lw_m7 217 rfl) rfl
theorem q1698 : (Jvm.Cond.methodLink "java/lang/AbstractStringBuilder" (138 : Nat) ({ cls := "java/lang/Math", name := "min", desc := "(II)I" } : Jvm.MethodName)) ∈ lw_all := lw_g (lw_at lw_m7 218 rfl) rfl
theorem q1699 : (Jvm.Cond.methodLink "java/lang/AbstractStringBuilder" (144 : Nat) ({ cls := "java/lang/String", name := "checkIndex", desc := "(II)V" } : Jvm.MethodName)) ∈ lw_all := lw_g (lw_at lw_m7 219 rfl) rfl
theorem q1700 : (Jvm.Cond.methodLink "java/lang/AbstractStringBuilder" (148 : Nat) ({ cls := "java/lang/StringUTF16", name := "getChar", desc := "([BI)C" } : Jvm.MethodName)) ∈ lw_all := lw_g (lw_at lw_m7 220 rfl) rfl
theorem q1776 : (Jvm.Cond.instanceMethod ({ cls := "java/lang/AbstractStringBuilder", name := "insert", desc := "(IC)Ljava/lang/AbstractStringBuilder;" } : Jvm.MethodName)) ∈ lw_all := lw_g (lw_at lw_m8 56 rfl) rfl
theorem q1777 : (Jvm.Cond.code ({ cls := "java/lang/AbstractStringBuilder", name := "insert", desc := "(IC)Ljava/lang/AbstractStringBuilder;" } : Jvm.MethodName) prog_5_method_51_code (3 : Nat) (Option.some (Jvm.ClassFile.FieldType.object "java/lang/AbstractStringBuilder"))) ∈ lw_all := lw_g (lw_at lw_m8 57 rfl) rfl
theorem q1778 : (Jvm.Cond.methodLink "java/lang/AbstractStringBuilder" (315 : Nat) ({ cls := "java/lang/String", name := "checkOffset", desc := "(II)V" } : Jvm.MethodName)) ∈ lw_all := lw_g (lw_at lw_m8 58 rfl) rfl
theorem q1779 : (Jvm.Cond.methodLink "java/lang/AbstractStringBuilder" (283 : Nat) ({ cls := "java/lang/AbstractStringBuilder", name := "shift", desc := "(II)V" } : Jvm.MethodName)) ∈ lw_all := lw_g (lw_at lw_m8 59 rfl) rfl
theorem q1780 : (Jvm.Cond.privateMethod ({ cls := "java/lang/AbstractStringBuilder", name := "shift", desc := "(II)V" } : Jvm.MethodName)) ∈ lw_tbl := lw_at lw_m8 60 rfl
theorem q1781 : (Jvm.Cond.instanceMethod ({ cls := "java/lang/AbstractStringBuilder", name := "shift", desc := "(II)V" } : Jvm.MethodName)) ∈ lw_all := lw_g (lw_at lw_m8 61 rfl) rfl
theorem q1782 : (Jvm.Cond.code ({ cls := "java/lang/AbstractStringBuilder", name := "shift", desc := "(II)V" } : Jvm.MethodName) prog_5_method_43_code (3 : Nat) (Option.none : Option Jvm.ClassFile.FieldType)) ∈ lw_all := lw_g (lw_at lw_m8 62 rfl) rfl
theorem q1783 : (Jvm.Cond.methodLink "java/lang/AbstractStringBuilder" (309 : Nat) ({ cls := "java/lang/System", name := "arraycopy", desc := "(Ljava/lang/Object;ILjava/lang/Object;II)V" } : Jvm.MethodName)) ∈ lw_all := lw_g (lw_at lw_m8 63 rfl) rfl
theorem q1797 : (Jvm.Cond.instanceMethod ({ cls := "java/lang/AbstractStringBuilder", name := "deleteCharAt", desc := "(I)Ljava/lang/AbstractStringBuilder;" } : Jvm.MethodName)) ∈ lw_all := lw_g (lw_at lw_m8 77 rfl) rfl
theorem q1798 : (Jvm.Cond.code ({ cls := "java/lang/AbstractStringBuilder", name := "deleteCharAt", desc := "(I)Ljava/lang/AbstractStringBuilder;" } : Jvm.MethodName) prog_5_method_38_code (2 : Nat) (Option.some (Jvm.ClassFile.FieldType.object "java/lang/AbstractStringBuilder"))) ∈ lw_all := lw_g (lw_at lw_m8 78 rfl) rfl
theorem q1811 : (Jvm.Cond.instanceMethod ({ cls := "java/lang/AbstractStringBuilder", name := "delete", desc := "(II)Ljava/lang/AbstractStringBuilder;" } : Jvm.MethodName)) ∈ lw_all := lw_g (lw_at lw_m8 91 rfl) rfl
theorem q1812 : (Jvm.Cond.code ({ cls := "java/lang/AbstractStringBuilder", name := "delete", desc := "(II)Ljava/lang/AbstractStringBuilder;" } : Jvm.MethodName) prog_5_method_36_code (5 : Nat) (Option.some (Jvm.ClassFile.FieldType.object "java/lang/AbstractStringBuilder"))) ∈ lw_all := lw_g (lw_at lw_m8 92 rfl) rfl
theorem q2443 : (Jvm.Cond.sameMethod "java/lang/AbstractStringBuilder" "java/lang/AbstractStringBuilder" "append" "(I)Ljava/lang/AbstractStringBuilder;") ∈ lw_all := lw_g (lw_at lw_m11 3 rfl) rfl
theorem q2444 : (Jvm.Cond.sameMethod "java/lang/AbstractStringBuilder" "java/lang/AbstractStringBuilder" "ensureCapacityInternal" "(I)V") ∈ lw_all := lw_g (lw_at lw_m11 4 rfl) rfl
theorem q2445 : (Jvm.Cond.sameMethod "java/lang/AbstractStringBuilder" "java/lang/AbstractStringBuilder" "newCapacity" "(I)I") ∈ lw_all := lw_g (lw_at lw_m11 5 rfl) rfl
theorem q2446 : (Jvm.Cond.sameMethod "java/lang/AbstractStringBuilder" "java/lang/AbstractStringBuilder" "append" "(Ljava/lang/String;)Ljava/lang/AbstractStringBuilder;") ∈ lw_all := lw_g (lw_at lw_m11 6 rfl) rfl
theorem q2447 : (Jvm.Cond.sameMethod "java/lang/AbstractStringBuilder" "java/lang/AbstractStringBuilder" "appendNull" "()Ljava/lang/AbstractStringBuilder;") ∈ lw_all := lw_g (lw_at lw_m11 7 rfl) rfl
theorem q2448 : (Jvm.Cond.sameMethod "java/lang/AbstractStringBuilder" "java/lang/AbstractStringBuilder" "putStringAt" "(ILjava/lang/String;)V") ∈ lw_all := lw_g (lw_at lw_m11 8 rfl) rfl
theorem q2449 : (Jvm.Cond.sameMethod "java/lang/AbstractStringBuilder" "java/lang/AbstractStringBuilder" "inflateIfNeededFor" "(Ljava/lang/String;)V") ∈ lw_all := lw_g (lw_at lw_m11 9 rfl) rfl
theorem q2450 : (Jvm.Cond.sameMethod "java/lang/AbstractStringBuilder" "java/lang/AbstractStringBuilder" "inflate" "()V") ∈ lw_all := lw_g (lw_at lw_m11 10 rfl) rfl
theorem q2452 : (Jvm.Cond.sameMethod "java/lang/AbstractStringBuilder" "java/lang/AbstractStringBuilder" "setLength" "(I)V") ∈ lw_all := lw_g (lw_at lw_m11 12 rfl) rfl
theorem q2453 : (Jvm.Cond.sameMethod "java/lang/AbstractStringBuilder" "java/lang/AbstractStringBuilder" "reverse" "()Ljava/lang/AbstractStringBuilder;") ∈ lw_all := lw_g (lw_at lw_m11 13 rfl) rfl
theorem q2454 : (Jvm.Cond.sameMethod "java/lang/AbstractStringBuilder" "java/lang/AbstractStringBuilder" "compareTo" "(Ljava/lang/AbstractStringBuilder;)I") ∈ lw_all := lw_g (lw_at lw_m11 14 rfl) rfl
theorem q2455 : (Jvm.Cond.sameMethod "java/lang/AbstractStringBuilder" "java/lang/AbstractStringBuilder" "append" "(C)Ljava/lang/AbstractStringBuilder;") ∈ lw_all := lw_g (lw_at lw_m11 15 rfl) rfl
theorem q2466 : (Jvm.Cond.sameMethod "java/lang/AbstractStringBuilder" "java/lang/AbstractStringBuilder" "substring" "(I)Ljava/lang/String;") ∈ lw_all := lw_g (lw_at lw_m11 26 rfl) rfl
theorem q2468 : (Jvm.Cond.sameMethod "java/lang/AbstractStringBuilder" "java/lang/AbstractStringBuilder" "charAt" "(I)C") ∈ lw_all := lw_g (lw_at lw_m11 28 rfl) rfl
theorem q2470 : (Jvm.Cond.sameMethod "java/lang/AbstractStringBuilder" "java/lang/AbstractStringBuilder" "insert" "(IC)Ljava/lang/AbstractStringBuilder;") ∈ lw_all := lw_g (lw_at lw_m11 30 rfl) rfl
theorem q2471 : (Jvm.Cond.sameMethod "java/lang/AbstractStringBuilder" "java/lang/AbstractStringBuilder" "shift" "(II)V") ∈ lw_all := lw_g (lw_at lw_m11 31 rfl) rfl
theorem q2472 : (Jvm.Cond.sameMethod "java/lang/AbstractStringBuilder" "java/lang/AbstractStringBuilder" "deleteCharAt" "(I)Ljava/lang/AbstractStringBuilder;") ∈ lw_all := lw_g (lw_at lw_m11 32 rfl) rfl
theorem q2473 : (Jvm.Cond.sameMethod "java/lang/AbstractStringBuilder" "java/lang/AbstractStringBuilder" "delete" "(II)Ljava/lang/AbstractStringBuilder;") ∈ lw_all := lw_g (lw_at lw_m11 33 rfl) rfl
/-! java/lang/StringBuilder -/
set_option maxRecDepth 100000
def RJ1 : String := "java/lang/StringBuilder"
def TJ1 : u_T := fun k => match k with
  | 0 => ("java/lang/AbstractStringBuilder", "value", "[B", false)
  | 1 => ("java/lang/AbstractStringBuilder", "coder", "B", false)
  | 2 => ("java/lang/AbstractStringBuilder", "maybeLatin1", "Z", false)
  | _ => ("java/lang/AbstractStringBuilder", "count", "I", false)
def tyJ1 : Nat → FieldType := fun k => match k with
  | 0 => .array .byte
  | 1 => .byte
  | 2 => .boolean
  | _ => .int
abbrev wsJ10 : List Cond := u_ws RJ1 TJ1 4
theorem nmJ1 : ∀ a, a < 4 → ∀ b, b < 4 → a ≠ b → (TJ1 a).2.1 ≠ (TJ1 b).2.1 := by decide +kernel
theorem tyJ1_ok : ∀ k, k < 4 → parseFieldDescriptor (TJ1 k).2.2.1 = some (tyJ1 k) := by decide +kernel
abbrev cJ1_init : ByteArray := prog_24_method_1_code
def yJ1_init : MethodName := ⟨RJ1, "<init>", "()V"⟩
def dkwJ1_init_0 : List UInt8 := [42, 16, 16, 183, 0, 1, 177]
abbrev dktJ1_init_0 : List UInt8 := dkwJ1_init_0 ++ []
theorem dksJ1_init_0 : cJ1_init.data.toList.drop 0 = dktJ1_init_0 := by decide +kernel
theorem dJ1_init_0 : decode cJ1_init 0 = .ok (.aload_n 0, 1) := dk_42 (dk_at dksJ1_init_0 0 rfl rfl)
theorem dJ1_init_1 : decode cJ1_init 1 = .ok (.bipush 16, 2) := dk_16 16 (dk_at dksJ1_init_0 1 rfl rfl)
theorem dJ1_init_3 : decode cJ1_init 3 = .ok (.invokespecial 1, 3) := dk_183 0 1 (dk_at dksJ1_init_0 3 rfl rfl)
theorem dJ1_init_6 : decode cJ1_init 6 = .ok (.return_, 1) := dk_177 (dk_at dksJ1_init_0 6 rfl rfl)
abbrev cJ1_append_2 : ByteArray := prog_24_method_7_code
def yJ1_append_2 : MethodName := ⟨RJ1, "append", "(Ljava/lang/String;)Ljava/lang/StringBuilder;"⟩
def dkwJ1_append_2_0 : List UInt8 := [42, 43, 183, 0, 29, 87, 42, 176]
abbrev dktJ1_append_2_0 : List UInt8 := dkwJ1_append_2_0 ++ []
theorem dksJ1_append_2_0 : cJ1_append_2.data.toList.drop 0 = dktJ1_append_2_0 := by decide +kernel
theorem dJ1_append_2_0 : decode cJ1_append_2 0 = .ok (.aload_n 0, 1) := dk_42 (dk_at dksJ1_append_2_0 0 rfl rfl)
theorem dJ1_append_2_1 : decode cJ1_append_2 1 = .ok (.aload_n 1, 1) := dk_43 (dk_at dksJ1_append_2_0 1 rfl rfl)
theorem dJ1_append_2_2 : decode cJ1_append_2 2 = .ok (.invokespecial 29, 3) := dk_183 0 29 (dk_at dksJ1_append_2_0 2 rfl rfl)
theorem dJ1_append_2_5 : decode cJ1_append_2 5 = .ok (.pop, 1) := dk_87 (dk_at dksJ1_append_2_0 5 rfl rfl)
theorem dJ1_append_2_6 : decode cJ1_append_2 6 = .ok (.aload_n 0, 1) := dk_42 (dk_at dksJ1_append_2_0 6 rfl rfl)
theorem dJ1_append_2_7 : decode cJ1_append_2 7 = .ok (.areturn, 1) := dk_176 (dk_at dksJ1_append_2_0 7 rfl rfl)
abbrev cJ1_toString : ByteArray := prog_24_method_42_code
def yJ1_toString : MethodName := ⟨RJ1, "toString", "()Ljava/lang/String;"⟩
def dkwJ1_toString_0 : List UInt8 := [187, 0, 18, 89, 42, 183, 0, 137, 176]
abbrev dktJ1_toString_0 : List UInt8 := dkwJ1_toString_0 ++ []
theorem dksJ1_toString_0 : cJ1_toString.data.toList.drop 0 = dktJ1_toString_0 := by decide +kernel
theorem dJ1_toString_0 : decode cJ1_toString 0 = .ok (.new 18, 3) := dk_187 0 18 (dk_at dksJ1_toString_0 0 rfl rfl)
theorem dJ1_toString_3 : decode cJ1_toString 3 = .ok (.dup, 1) := dk_89 (dk_at dksJ1_toString_0 3 rfl rfl)
theorem dJ1_toString_4 : decode cJ1_toString 4 = .ok (.aload_n 0, 1) := dk_42 (dk_at dksJ1_toString_0 4 rfl rfl)
theorem dJ1_toString_5 : decode cJ1_toString 5 = .ok (.invokespecial 137, 3) := dk_183 0 137 (dk_at dksJ1_toString_0 5 rfl rfl)
theorem dJ1_toString_8 : decode cJ1_toString 8 = .ok (.areturn, 1) := dk_176 (dk_at dksJ1_toString_0 8 rfl rfl)
abbrev cJ1_length : ByteArray := prog_24_method_93_code
def yJ1_length : MethodName := ⟨RJ1, "length", "()I"⟩
theorem dJ1_length_0 : decode cJ1_length 0 = .ok (.aload_n 0, 1) := by decide +kernel
theorem dJ1_length_1 : decode cJ1_length 1 = .ok (.invokespecial 343, 3) := by decide +kernel
theorem dJ1_length_4 : decode cJ1_length 4 = .ok (.ireturn, 1) := by decide +kernel
abbrev cJ1_setLength : ByteArray := prog_24_method_89_code
def yJ1_setLength : MethodName := ⟨RJ1, "setLength", "(I)V"⟩
def dkwJ1_setLength_0 : List UInt8 := [42, 27, 183, 1, 77, 177]
abbrev dktJ1_setLength_0 : List UInt8 := dkwJ1_setLength_0 ++ []
theorem dksJ1_setLength_0 : cJ1_setLength.data.toList.drop 0 = dktJ1_setLength_0 := by decide +kernel
theorem dJ1_setLength_0 : decode cJ1_setLength 0 = .ok (.aload_n 0, 1) := dk_42 (dk_at dksJ1_setLength_0 0 rfl rfl)
theorem dJ1_setLength_1 : decode cJ1_setLength 1 = .ok (.iload_n 1, 1) := dk_27 (dk_at dksJ1_setLength_0 1 rfl rfl)
theorem dJ1_setLength_2 : decode cJ1_setLength 2 = .ok (.invokespecial 333, 3) := dk_183 1 77 (dk_at dksJ1_setLength_0 2 rfl rfl)
theorem dJ1_setLength_5 : decode cJ1_setLength 5 = .ok (.return_, 1) := dk_177 (dk_at dksJ1_setLength_0 5 rfl rfl)
abbrev cJ1_reverse : ByteArray := prog_24_method_39_code
def yJ1_reverse : MethodName := ⟨RJ1, "reverse", "()Ljava/lang/StringBuilder;"⟩
def dkwJ1_reverse_0 : List UInt8 := [42, 183, 0, 127, 87, 42, 176]
abbrev dktJ1_reverse_0 : List UInt8 := dkwJ1_reverse_0 ++ []
theorem dksJ1_reverse_0 : cJ1_reverse.data.toList.drop 0 = dktJ1_reverse_0 := by decide +kernel
theorem dJ1_reverse_0 : decode cJ1_reverse 0 = .ok (.aload_n 0, 1) := dk_42 (dk_at dksJ1_reverse_0 0 rfl rfl)
theorem dJ1_reverse_1 : decode cJ1_reverse 1 = .ok (.invokespecial 127, 3) := dk_183 0 127 (dk_at dksJ1_reverse_0 1 rfl rfl)
theorem dJ1_reverse_4 : decode cJ1_reverse 4 = .ok (.pop, 1) := dk_87 (dk_at dksJ1_reverse_0 4 rfl rfl)
theorem dJ1_reverse_5 : decode cJ1_reverse 5 = .ok (.aload_n 0, 1) := dk_42 (dk_at dksJ1_reverse_0 5 rfl rfl)
theorem dJ1_reverse_6 : decode cJ1_reverse 6 = .ok (.areturn, 1) := dk_176 (dk_at dksJ1_reverse_0 6 rfl rfl)
abbrev cJ1_append_3 : ByteArray := prog_24_method_14_code
def yJ1_append_3 : MethodName := ⟨RJ1, "append", "(C)Ljava/lang/StringBuilder;"⟩
def dkwJ1_append_3_0 : List UInt8 := [42, 27, 183, 0, 50, 87, 42, 176]
abbrev dktJ1_append_3_0 : List UInt8 := dkwJ1_append_3_0 ++ []
theorem dksJ1_append_3_0 : cJ1_append_3.data.toList.drop 0 = dktJ1_append_3_0 := by decide +kernel
theorem dJ1_append_3_0 : decode cJ1_append_3 0 = .ok (.aload_n 0, 1) := dk_42 (dk_at dksJ1_append_3_0 0 rfl rfl)
theorem dJ1_append_3_1 : decode cJ1_append_3 1 = .ok (.iload_n 1, 1) := dk_27 (dk_at dksJ1_append_3_0 1 rfl rfl)
theorem dJ1_append_3_2 : decode cJ1_append_3 2 = .ok (.invokespecial 50, 3) := dk_183 0 50 (dk_at dksJ1_append_3_0 2 rfl rfl)
theorem dJ1_append_3_5 : decode cJ1_append_3 5 = .ok (.pop, 1) := dk_87 (dk_at dksJ1_append_3_0 5 rfl rfl)
theorem dJ1_append_3_6 : decode cJ1_append_3 6 = .ok (.aload_n 0, 1) := dk_42 (dk_at dksJ1_append_3_0 6 rfl rfl)
theorem dJ1_append_3_7 : decode cJ1_append_3 7 = .ok (.areturn, 1) := dk_176 (dk_at dksJ1_append_3_0 7 rfl rfl)
abbrev cJ1_substring : ByteArray := prog_24_method_64_code
def yJ1_substring : MethodName := ⟨RJ1, "substring", "(I)Ljava/lang/String;"⟩
def dkwJ1_substring_0 : List UInt8 := [42, 27, 183, 1, 4, 176]
abbrev dktJ1_substring_0 : List UInt8 := dkwJ1_substring_0 ++ []
theorem dksJ1_substring_0 : cJ1_substring.data.toList.drop 0 = dktJ1_substring_0 := by decide +kernel
theorem dJ1_substring_0 : decode cJ1_substring 0 = .ok (.aload_n 0, 1) := dk_42 (dk_at dksJ1_substring_0 0 rfl rfl)
theorem dJ1_substring_1 : decode cJ1_substring 1 = .ok (.iload_n 1, 1) := dk_27 (dk_at dksJ1_substring_0 1 rfl rfl)
theorem dJ1_substring_2 : decode cJ1_substring 2 = .ok (.invokespecial 260, 3) := dk_183 1 4 (dk_at dksJ1_substring_0 2 rfl rfl)
theorem dJ1_substring_5 : decode cJ1_substring 5 = .ok (.areturn, 1) := dk_176 (dk_at dksJ1_substring_0 5 rfl rfl)
abbrev cJ1_substring_2 : ByteArray := prog_24_method_62_code
def yJ1_substring_2 : MethodName := ⟨RJ1, "substring", "(II)Ljava/lang/String;"⟩
def dkwJ1_substring_2_0 : List UInt8 := [42, 27, 28, 183, 0, 252, 176]
abbrev dktJ1_substring_2_0 : List UInt8 := dkwJ1_substring_2_0 ++ []
theorem dksJ1_substring_2_0 : cJ1_substring_2.data.toList.drop 0 = dktJ1_substring_2_0 := by decide +kernel
theorem dJ1_substring_2_0 : decode cJ1_substring_2 0 = .ok (.aload_n 0, 1) := dk_42 (dk_at dksJ1_substring_2_0 0 rfl rfl)
theorem dJ1_substring_2_1 : decode cJ1_substring_2 1 = .ok (.iload_n 1, 1) := dk_27 (dk_at dksJ1_substring_2_0 1 rfl rfl)
theorem dJ1_substring_2_2 : decode cJ1_substring_2 2 = .ok (.iload_n 2, 1) := dk_28 (dk_at dksJ1_substring_2_0 2 rfl rfl)
theorem dJ1_substring_2_3 : decode cJ1_substring_2 3 = .ok (.invokespecial 252, 3) := dk_183 0 252 (dk_at dksJ1_substring_2_0 3 rfl rfl)
theorem dJ1_substring_2_6 : decode cJ1_substring_2 6 = .ok (.areturn, 1) := dk_176 (dk_at dksJ1_substring_2_0 6 rfl rfl)
abbrev cJ1_charAt : ByteArray := prog_24_method_88_code
def yJ1_charAt : MethodName := ⟨RJ1, "charAt", "(I)C"⟩
def dkwJ1_charAt_0 : List UInt8 := [42, 27, 183, 1, 73, 172]
abbrev dktJ1_charAt_0 : List UInt8 := dkwJ1_charAt_0 ++ []
theorem dksJ1_charAt_0 : cJ1_charAt.data.toList.drop 0 = dktJ1_charAt_0 := by decide +kernel
theorem dJ1_charAt_0 : decode cJ1_charAt 0 = .ok (.aload_n 0, 1) := dk_42 (dk_at dksJ1_charAt_0 0 rfl rfl)
theorem dJ1_charAt_1 : decode cJ1_charAt 1 = .ok (.iload_n 1, 1) := dk_27 (dk_at dksJ1_charAt_0 1 rfl rfl)
theorem dJ1_charAt_2 : decode cJ1_charAt 2 = .ok (.invokespecial 329, 3) := dk_183 1 73 (dk_at dksJ1_charAt_0 2 rfl rfl)
theorem dJ1_charAt_5 : decode cJ1_charAt 5 = .ok (.ireturn, 1) := dk_172 (dk_at dksJ1_charAt_0 5 rfl rfl)
abbrev cJ1_insert : ByteArray := prog_24_method_30_code
def yJ1_insert : MethodName := ⟨RJ1, "insert", "(IC)Ljava/lang/StringBuilder;"⟩
def dkwJ1_insert_0 : List UInt8 := [42, 27, 28, 183, 0, 101, 87, 42, 176]
abbrev dktJ1_insert_0 : List UInt8 := dkwJ1_insert_0 ++ []
theorem dksJ1_insert_0 : cJ1_insert.data.toList.drop 0 = dktJ1_insert_0 := by decide +kernel
theorem dJ1_insert_0 : decode cJ1_insert 0 = .ok (.aload_n 0, 1) := dk_42 (dk_at dksJ1_insert_0 0 rfl rfl)
theorem dJ1_insert_1 : decode cJ1_insert 1 = .ok (.iload_n 1, 1) := dk_27 (dk_at dksJ1_insert_0 1 rfl rfl)
theorem dJ1_insert_2 : decode cJ1_insert 2 = .ok (.iload_n 2, 1) := dk_28 (dk_at dksJ1_insert_0 2 rfl rfl)
theorem dJ1_insert_3 : decode cJ1_insert 3 = .ok (.invokespecial 101, 3) := dk_183 0 101 (dk_at dksJ1_insert_0 3 rfl rfl)
theorem dJ1_insert_6 : decode cJ1_insert 6 = .ok (.pop, 1) := dk_87 (dk_at dksJ1_insert_0 6 rfl rfl)
theorem dJ1_insert_7 : decode cJ1_insert 7 = .ok (.aload_n 0, 1) := dk_42 (dk_at dksJ1_insert_0 7 rfl rfl)
theorem dJ1_insert_8 : decode cJ1_insert 8 = .ok (.areturn, 1) := dk_176 (dk_at dksJ1_insert_0 8 rfl rfl)
abbrev cJ1_deleteCharAt : ByteArray := prog_24_method_21_code
def yJ1_deleteCharAt : MethodName := ⟨RJ1, "deleteCharAt", "(I)Ljava/lang/StringBuilder;"⟩
def dkwJ1_deleteCharAt_0 : List UInt8 := [42, 27, 183, 0, 72, 87, 42, 176]
abbrev dktJ1_deleteCharAt_0 : List UInt8 := dkwJ1_deleteCharAt_0 ++ []
theorem dksJ1_deleteCharAt_0 : cJ1_deleteCharAt.data.toList.drop 0 = dktJ1_deleteCharAt_0 := by decide +kernel
theorem dJ1_deleteCharAt_0 : decode cJ1_deleteCharAt 0 = .ok (.aload_n 0, 1) := dk_42 (dk_at dksJ1_deleteCharAt_0 0 rfl rfl)
theorem dJ1_deleteCharAt_1 : decode cJ1_deleteCharAt 1 = .ok (.iload_n 1, 1) := dk_27 (dk_at dksJ1_deleteCharAt_0 1 rfl rfl)
theorem dJ1_deleteCharAt_2 : decode cJ1_deleteCharAt 2 = .ok (.invokespecial 72, 3) := dk_183 0 72 (dk_at dksJ1_deleteCharAt_0 2 rfl rfl)
theorem dJ1_deleteCharAt_5 : decode cJ1_deleteCharAt 5 = .ok (.pop, 1) := dk_87 (dk_at dksJ1_deleteCharAt_0 5 rfl rfl)
theorem dJ1_deleteCharAt_6 : decode cJ1_deleteCharAt 6 = .ok (.aload_n 0, 1) := dk_42 (dk_at dksJ1_deleteCharAt_0 6 rfl rfl)
theorem dJ1_deleteCharAt_7 : decode cJ1_deleteCharAt 7 = .ok (.areturn, 1) := dk_176 (dk_at dksJ1_deleteCharAt_0 7 rfl rfl)
abbrev cJ1_delete : ByteArray := prog_24_method_20_code
def yJ1_delete : MethodName := ⟨RJ1, "delete", "(II)Ljava/lang/StringBuilder;"⟩
def dkwJ1_delete_0 : List UInt8 := [42, 27, 28, 183, 0, 68, 87, 42, 176]
abbrev dktJ1_delete_0 : List UInt8 := dkwJ1_delete_0 ++ []
theorem dksJ1_delete_0 : cJ1_delete.data.toList.drop 0 = dktJ1_delete_0 := by decide +kernel
theorem dJ1_delete_0 : decode cJ1_delete 0 = .ok (.aload_n 0, 1) := dk_42 (dk_at dksJ1_delete_0 0 rfl rfl)
theorem dJ1_delete_1 : decode cJ1_delete 1 = .ok (.iload_n 1, 1) := dk_27 (dk_at dksJ1_delete_0 1 rfl rfl)
theorem dJ1_delete_2 : decode cJ1_delete 2 = .ok (.iload_n 2, 1) := dk_28 (dk_at dksJ1_delete_0 2 rfl rfl)
theorem dJ1_delete_3 : decode cJ1_delete 3 = .ok (.invokespecial 68, 3) := dk_183 0 68 (dk_at dksJ1_delete_0 3 rfl rfl)
theorem dJ1_delete_6 : decode cJ1_delete 6 = .ok (.pop, 1) := dk_87 (dk_at dksJ1_delete_0 6 rfl rfl)
theorem dJ1_delete_7 : decode cJ1_delete 7 = .ok (.aload_n 0, 1) := dk_42 (dk_at dksJ1_delete_0 7 rfl rfl)
theorem dJ1_delete_8 : decode cJ1_delete 8 = .ok (.areturn, 1) := dk_176 (dk_at dksJ1_delete_0 8 rfl rfl)
theorem q43 : (Jvm.Cond.initialized "java/lang/StringBuilder") ∈ lw_all := lw_g (lw_at lw_m1 3 rfl) rfl
theorem q102 : (Jvm.Cond.instantiable "java/lang/StringBuilder" (4 : Nat)) ∈ lw_all := lw_g (lw_at lw_m1 62 rfl) rfl
theorem q104 : (Jvm.Cond.instanceMethod ({ cls := "java/lang/StringBuilder", name := "<init>", desc := "()V" } : Jvm.MethodName)) ∈ lw_all := lw_g (lw_at lw_m1 64 rfl) rfl
theorem q105 : (Jvm.Cond.code ({ cls := "java/lang/StringBuilder", name := "<init>", desc := "()V" } : Jvm.MethodName) prog_24_method_1_code (1 : Nat) (Option.none : Option Jvm.ClassFile.FieldType)) ∈ lw_all := lw_g (lw_at lw_m1 65 rfl) rfl
theorem q106 : (Jvm.Cond.methodLink "java/lang/StringBuilder" (1 : Nat) ({ cls := "java/lang/AbstractStringBuilder", name := "<init>", desc := "(I)V" } : Jvm.MethodName)) ∈ lw_all := lw_g (lw_at lw_m1 66 rfl) rfl
theorem q124 : (Jvm.Cond.lays "java/lang/StringBuilder" "java/lang/AbstractStringBuilder" "value" "[B") ∈ lw_all := lw_g (lw_at lw_m1 84 rfl) rfl
theorem q126 : (Jvm.Cond.lays "java/lang/StringBuilder" "java/lang/AbstractStringBuilder" "coder" "B") ∈ lw_all := lw_g (lw_at lw_m1 86 rfl) rfl
theorem q128 : (Jvm.Cond.lays "java/lang/StringBuilder" "java/lang/AbstractStringBuilder" "maybeLatin1" "Z") ∈ lw_all := lw_g (lw_at lw_m1 88 rfl) rfl
theorem q130 : (Jvm.Cond.lays "java/lang/StringBuilder" "java/lang/AbstractStringBuilder" "count" "I") ∈ lw_all := lw_g (lw_at lw_m1 90 rfl) rfl
theorem q132 : (Jvm.Cond.superclass "java/lang/StringBuilder" "java/lang/AbstractStringBuilder") ∈ lw_all := lw_g (lw_at lw_m1 92 rfl) rfl
theorem q265 : (Jvm.Cond.instanceMethod ({ cls := "java/lang/StringBuilder", name := "append", desc := "(I)Ljava/lang/StringBuilder;" } : Jvm.MethodName)) ∈ lw_all := lw_g (lw_at lw_m1 225 rfl) rfl
theorem q266 : (Jvm.Cond.selects "java/lang/StringBuilder" ({ cls := "java/lang/StringBuilder", name := "append", desc := "(I)Ljava/lang/StringBuilder;" } : Jvm.MethodName) ({ cls := "java/lang/StringBuilder", name := "append", desc := "(I)Ljava/lang/StringBuilder;" } : Jvm.MethodName)) ∈ lw_all := lw_g (lw_at lw_m1 226 rfl) rfl
theorem q267 : (Jvm.Cond.code ({ cls := "java/lang/StringBuilder", name := "append", desc := "(I)Ljava/lang/StringBuilder;" } : Jvm.MethodName) prog_24_method_15_code (2 : Nat) (Option.some (Jvm.ClassFile.FieldType.object "java/lang/StringBuilder"))) ∈ lw_all := lw_g (lw_at lw_m1 227 rfl) rfl
theorem q268 : (Jvm.Cond.methodLink "java/lang/StringBuilder" (53 : Nat) ({ cls := "java/lang/AbstractStringBuilder", name := "append", desc := "(I)Ljava/lang/AbstractStringBuilder;" } : Jvm.MethodName)) ∈ lw_all := lw_g (lw_at lw_m1 228 rfl) rfl
theorem q312 : (Jvm.Cond.selects "java/lang/StringBuilder" ({ cls := "java/lang/AbstractStringBuilder", name := "isLatin1", desc := "()Z" } : Jvm.MethodName) ({ cls := "java/lang/AbstractStringBuilder", name := "isLatin1", desc := "()Z" } : Jvm.MethodName)) ∈ lw_all := lw_g (lw_at lw_m2 32 rfl) rfl
theorem q347 : (Jvm.Cond.instanceMethod ({ cls := "java/lang/StringBuilder", name := "append", desc := "(Ljava/lang/String;)Ljava/lang/StringBuilder;" } : Jvm.MethodName)) ∈ lw_all := lw_g (lw_at lw_m2 67 rfl) rfl
theorem q348 : (Jvm.Cond.selects "java/lang/StringBuilder" ({ cls := "java/lang/StringBuilder", name := "append", desc := "(Ljava/lang/String;)Ljava/lang/StringBuilder;" } : Jvm.MethodName) ({ cls := "java/lang/StringBuilder", name := "append", desc := "(Ljava/lang/String;)Ljava/lang/StringBuilder;" } : Jvm.MethodName)) ∈ lw_all := lw_g (lw_at lw_m2 68 rfl) rfl
theorem q349 : (Jvm.Cond.code ({ cls := "java/lang/StringBuilder", name := "append", desc := "(Ljava/lang/String;)Ljava/lang/StringBuilder;" } : Jvm.MethodName) prog_24_method_7_code (2 : Nat) (Option.some (Jvm.ClassFile.FieldType.object "java/lang/StringBuilder"))) ∈ lw_all := lw_g (lw_at lw_m2 69 rfl) rfl
theorem q350 : (Jvm.Cond.methodLink "java/lang/StringBuilder" (29 : Nat) ({ cls := "java/lang/AbstractStringBuilder", name := "append", desc := "(Ljava/lang/String;)Ljava/lang/AbstractStringBuilder;" } : Jvm.MethodName)) ∈ lw_all := lw_g (lw_at lw_m2 70 rfl) rfl
theorem q396 : (Jvm.Cond.instanceMethod ({ cls := "java/lang/StringBuilder", name := "toString", desc := "()Ljava/lang/String;" } : Jvm.MethodName)) ∈ lw_all := lw_g (lw_at lw_m2 116 rfl) rfl
theorem q397 : (Jvm.Cond.selects "java/lang/StringBuilder" ({ cls := "java/lang/StringBuilder", name := "toString", desc := "()Ljava/lang/String;" } : Jvm.MethodName) ({ cls := "java/lang/StringBuilder", name := "toString", desc := "()Ljava/lang/String;" } : Jvm.MethodName)) ∈ lw_all := lw_g (lw_at lw_m2 117 rfl) rfl
theorem q398 : (Jvm.Cond.code ({ cls := "java/lang/StringBuilder", name := "toString", desc := "()Ljava/lang/String;" } : Jvm.MethodName) prog_24_method_42_code (1 : Nat) (Option.some (Jvm.ClassFile.FieldType.object "java/lang/String"))) ∈ lw_all := lw_g (lw_at lw_m2 118 rfl) rfl
theorem q399 : (Jvm.Cond.classLink "java/lang/StringBuilder" (18 : Nat) "java/lang/String") ∈ lw_all := lw_g (lw_at lw_m2 119 rfl) rfl
theorem q400 : (Jvm.Cond.methodLink "java/lang/StringBuilder" (137 : Nat) ({ cls := "java/lang/String", name := "<init>", desc := "(Ljava/lang/StringBuilder;)V" } : Jvm.MethodName)) ∈ lw_all := lw_g (lw_at lw_m2 120 rfl) rfl
theorem q410 : (Jvm.Cond.selects "java/lang/StringBuilder" ({ cls := "java/lang/AbstractStringBuilder", name := "getValue", desc := "()[B" } : Jvm.MethodName) ({ cls := "java/lang/AbstractStringBuilder", name := "getValue", desc := "()[B" } : Jvm.MethodName)) ∈ lw_all := lw_g (lw_at lw_m2 130 rfl) rfl
theorem q415 : (Jvm.Cond.selects "java/lang/StringBuilder" ({ cls := "java/lang/AbstractStringBuilder", name := "length", desc := "()I" } : Jvm.MethodName) ({ cls := "java/lang/StringBuilder", name := "length", desc := "()I" } : Jvm.MethodName)) ∈ lw_all := lw_g (lw_at lw_m2 135 rfl) rfl
theorem q416 : (Jvm.Cond.instanceMethod ({ cls := "java/lang/StringBuilder", name := "length", desc := "()I" } : Jvm.MethodName)) ∈ lw_all := lw_g (lw_at lw_m2 136 rfl) rfl
theorem q417 : (Jvm.Cond.code ({ cls := "java/lang/StringBuilder", name := "length", desc := "()I" } : Jvm.MethodName) prog_24_method_93_code (1 : Nat) (Option.some Jvm.ClassFile.FieldType.int)) ∈ lw_all := lw_g (lw_at lw_m2 137 rfl) rfl
theorem q418 : (Jvm.Cond.methodLink "java/lang/StringBuilder" (343 : Nat) ({ cls := "java/lang/AbstractStringBuilder", name := "length", desc := "()I" } : Jvm.MethodName)) ∈ lw_all := lw_g (lw_at lw_m2 138 rfl) rfl
theorem q499 : (Jvm.Cond.instanceMethod ({ cls := "java/lang/StringBuilder", name := "setLength", desc := "(I)V" } : Jvm.MethodName)) ∈ lw_all := lw_g (lw_at lw_m2 219 rfl) rfl
theorem q500 : (Jvm.Cond.selects "java/lang/StringBuilder" ({ cls := "java/lang/StringBuilder", name := "setLength", desc := "(I)V" } : Jvm.MethodName) ({ cls := "java/lang/StringBuilder", name := "setLength", desc := "(I)V" } : Jvm.MethodName)) ∈ lw_all := lw_g (lw_at lw_m2 220 rfl) rfl
theorem q501 : (Jvm.Cond.code ({ cls := "java/lang/StringBuilder", name := "setLength", desc := "(I)V" } : Jvm.MethodName) prog_24_method_89_code (2 : Nat) (Option.none : Option Jvm.ClassFile.FieldType)) ∈ lw_all := lw_g (lw_at lw_m2 221 rfl) rfl
theorem q502 : (Jvm.Cond.methodLink "java/lang/StringBuilder" (333 : Nat) ({ cls := "java/lang/AbstractStringBuilder", name := "setLength", desc := "(I)V" } : Jvm.MethodName)) ∈ lw_all := lw_g (lw_at lw_m2 222 rfl) rfl
theorem q572 : (Jvm.Cond.instanceMethod ({ cls := "java/lang/StringBuilder", name := "reverse", desc := "()Ljava/lang/StringBuilder;" } : Jvm.MethodName)) ∈ lw_all := lw_g (lw_at lw_m3 52 rfl) rfl
theorem q573 : (Jvm.Cond.selects "java/lang/StringBuilder" ({ cls := "java/lang/StringBuilder", name := "reverse", desc := "()Ljava/lang/StringBuilder;" } : Jvm.MethodName) ({ cls := "java/lang/StringBuilder", name := "reverse", desc := "()Ljava/lang/StringBuilder;" } : Jvm.MethodName)) ∈ lw_all := lw_g (lw_at lw_m3 53 rfl) rfl
theorem q574 : (Jvm.Cond.code ({ cls := "java/lang/StringBuilder", name := "reverse", desc := "()Ljava/lang/StringBuilder;" } : Jvm.MethodName) prog_24_method_39_code (1 : Nat) (Option.some (Jvm.ClassFile.FieldType.object "java/lang/StringBuilder"))) ∈ lw_all := lw_g (lw_at lw_m3 54 rfl) rfl
theorem q575 : (Jvm.Cond.methodLink "java/lang/StringBuilder" (127 : Nat) ({ cls := "java/lang/AbstractStringBuilder", name := "reverse", desc := "()Ljava/lang/AbstractStringBuilder;" } : Jvm.MethodName)) ∈ lw_all := lw_g (lw_at lw_m3 55 rfl) rfl
theorem q808 : (Jvm.Cond.castable "java/lang/StringBuilder" "java/lang/Comparable") ∈ lw_tbl := lw_at lw_m4 48 rfl
theorem q809 : (Jvm.Cond.selects "java/lang/StringBuilder" ({ cls := "java/lang/Comparable", name := "compareTo", desc := "(Ljava/lang/Object;)I" } : Jvm.MethodName) ({ cls := "java/lang/StringBuilder", name := "compareTo", desc := "(Ljava/lang/Object;)I" } : Jvm.MethodName)) ∈ lw_all := lw_g (lw_at lw_m4 49 rfl) rfl
theorem q810 : (Jvm.Cond.unhidden "java/lang/StringBuilder" "compareTo" "(Ljava/lang/Object;)I") ∈ lw_tbl := lw_at lw_m4 50 rfl
theorem q811 : (Jvm.Cond.instanceMethod ({ cls := "java/lang/StringBuilder", name := "compareTo", desc := "(Ljava/lang/Object;)I" } : Jvm.MethodName)) ∈ lw_all := lw_g (lw_at lw_m4 51 rfl) rfl
theorem q812 : (Jvm.Cond.publicMethod ({ cls := "java/lang/StringBuilder", name := "compareTo", desc := "(Ljava/lang/Object;)I" } : Jvm.MethodName)) ∈ lw_tbl := lw_at lw_m4 52 rfl
theorem q813 : (Jvm.Cond.code ({ cls := "java/lang/StringBuilder", name := "compareTo", desc := "(Ljava/lang/Object;)I" } : Jvm.MethodName) prog_24_method_97_code (2 : Nat) (Option.some Jvm.ClassFile.FieldType.int)) ∈ lw_all := lw_g (lw_at lw_m4 53 rfl) rfl
theorem q814 : (Jvm.Cond.classLink "java/lang/StringBuilder" (24 : Nat) "java/lang/StringBuilder") ∈ lw_all := lw_g (lw_at lw_m4 54 rfl) rfl
theorem q815 : (Jvm.Cond.methodLink "java/lang/StringBuilder" (346 : Nat) ({ cls := "java/lang/StringBuilder", name := "compareTo", desc := "(Ljava/lang/StringBuilder;)I" } : Jvm.MethodName)) ∈ lw_all := lw_g (lw_at lw_m4 55 rfl) rfl
theorem q816 : (Jvm.Cond.instanceMethod ({ cls := "java/lang/StringBuilder", name := "compareTo", desc := "(Ljava/lang/StringBuilder;)I" } : Jvm.MethodName)) ∈ lw_all := lw_g (lw_at lw_m4 56 rfl) rfl
theorem q817 : (Jvm.Cond.selects "java/lang/StringBuilder" ({ cls := "java/lang/StringBuilder", name := "compareTo", desc := "(Ljava/lang/StringBuilder;)I" } : Jvm.MethodName) ({ cls := "java/lang/StringBuilder", name := "compareTo", desc := "(Ljava/lang/StringBuilder;)I" } : Jvm.MethodName)) ∈ lw_all := lw_g (lw_at lw_m4 57 rfl) rfl
theorem q818 : (Jvm.Cond.code ({ cls := "java/lang/StringBuilder", name := "compareTo", desc := "(Ljava/lang/StringBuilder;)I" } : Jvm.MethodName) prog_24_method_5_code (2 : Nat) (Option.some Jvm.ClassFile.FieldType.int)) ∈ lw_all := lw_g (lw_at lw_m4 58 rfl) rfl
theorem q819 : (Jvm.Cond.methodLink "java/lang/StringBuilder" (13 : Nat) ({ cls := "java/lang/AbstractStringBuilder", name := "compareTo", desc := "(Ljava/lang/AbstractStringBuilder;)I" } : Jvm.MethodName)) ∈ lw_all := lw_g (lw_at lw_m4 59 rfl) rfl
theorem q1172 : (Jvm.Cond.instanceMethod ({ cls := "java/lang/StringBuilder", name := "append", desc := "(C)Ljava/lang/StringBuilder;" } : Jvm.MethodName)) ∈ lw_all := lw_g (lw_at lw_m5 172 rfl) rfl
theorem q1173 : (Jvm.Cond.selects "java/lang/StringBuilder" ({ cls := "java/lang/StringBuilder", name := "append", desc := "(C)Ljava/lang/StringBuilder;" } : Jvm.MethodName) ({ cls := "java/lang/StringBuilder", name := "append", desc := "(C)Ljava/lang/StringBuilder;" } : Jvm.MethodName)) ∈ lw_all := lw_g (lw_at lw_m5 173 rfl) rfl
theorem q1174 : (Jvm.Cond.code ({ cls := "java/lang/StringBuilder", name := "append", desc := "(C)Ljava/lang/StringBuilder;" } : Jvm.MethodName) prog_24_method_14_code (2 : Nat) (Option.some (Jvm.ClassFile.FieldType.object "java/lang/StringBuilder"))) ∈ lw_all := lw_g (lw_at lw_m5 174 rfl) rfl
theorem q1175 : (Jvm.Cond.methodLink "java/lang/StringBuilder" (50 : Nat) ({ cls := "java/lang/AbstractStringBuilder", name := "append", desc := "(C)Ljava/lang/AbstractStringBuilder;" } : Jvm.MethodName)) ∈ lw_all := lw_g (lw_at lw_m5 175 rfl) rfl
theorem q1563 : (Jvm.Cond.instanceMethod ({ cls := "java/lang/StringBuilder", name := "substring", desc := "(I)Ljava/lang/String;" } : Jvm.MethodName)) ∈ lw_all := lw_g (lw_at lw_m7 83 rfl) rfl
theorem q1564 : (Jvm.Cond.selects "java/lang/StringBuilder" ({ cls := "java/lang/StringBuilder", name := "substring", desc := "(I)Ljava/lang/String;" } : Jvm.MethodName) ({ cls := "java/lang/StringBuilder", name := "substring", desc := "(I)Ljava/lang/String;" } : Jvm.MethodName)) ∈ lw_all := lw_g (lw_at lw_m7 84 rfl) rfl
theorem q1565 : (Jvm.Cond.code ({ cls := "java/lang/StringBuilder", name := "substring", desc := "(I)Ljava/lang/String;" } : Jvm.MethodName) prog_24_method_64_code (2 : Nat) (Option.some (Jvm.ClassFile.FieldType.object "java/lang/String"))) ∈ lw_all := lw_g (lw_at lw_m7 85 rfl) rfl
theorem q1566 : (Jvm.Cond.methodLink "java/lang/StringBuilder" (260 : Nat) ({ cls := "java/lang/AbstractStringBuilder", name := "substring", desc := "(I)Ljava/lang/String;" } : Jvm.MethodName)) ∈ lw_all := lw_g (lw_at lw_m7 86 rfl) rfl
theorem q1572 : (Jvm.Cond.selects "java/lang/StringBuilder" ({ cls := "java/lang/AbstractStringBuilder", name := "substring", desc := "(II)Ljava/lang/String;" } : Jvm.MethodName) ({ cls := "java/lang/StringBuilder", name := "substring", desc := "(II)Ljava/lang/String;" } : Jvm.MethodName)) ∈ lw_all := lw_g (lw_at lw_m7 92 rfl) rfl
theorem q1573 : (Jvm.Cond.instanceMethod ({ cls := "java/lang/StringBuilder", name := "substring", desc := "(II)Ljava/lang/String;" } : Jvm.MethodName)) ∈ lw_all := lw_g (lw_at lw_m7 93 rfl) rfl
theorem q1574 : (Jvm.Cond.code ({ cls := "java/lang/StringBuilder", name := "substring", desc := "(II)Ljava/lang/String;" } : Jvm.MethodName) prog_24_method_62_code (3 : Nat) (Option.some (Jvm.ClassFile.FieldType.object "java/lang/String"))) ∈ lw_all := lw_g (lw_at lw_m7 94 rfl) rfl
theorem q1575 : (Jvm.Cond.methodLink "java/lang/StringBuilder" (252 : Nat) ({ cls := "java/lang/AbstractStringBuilder", name := "substring", desc := "(II)Ljava/lang/String;" } : Jvm.MethodName)) ∈ lw_all := lw_g (lw_at lw_m7 95 rfl) rfl
theorem q1692 : (Jvm.Cond.instanceMethod ({ cls := "java/lang/StringBuilder", name := "charAt", desc := "(I)C" } : Jvm.MethodName)) ∈ lw_all := lw_g (lw_at lw_m7 212 rfl) rfl
theorem q1693 : (Jvm.Cond.selects "java/lang/StringBuilder" ({ cls := "java/lang/StringBuilder", name := "charAt", desc := "(I)C" } : Jvm.MethodName) ({ cls := "java/lang/StringBuilder", name := "charAt", desc := "(I)C" } : Jvm.MethodName)) ∈ lw_all := lw_g (lw_at lw_m7 213 rfl) rfl
theorem q1694 : (Jvm.Cond.code ({ cls := "java/lang/StringBuilder", name := "charAt", desc := "(I)C" } : Jvm.MethodName) prog_24_method_88_code (2 : Nat) (Option.some Jvm.ClassFile.FieldType.char)) ∈ lw_all := lw_g (lw_at lw_m7 214 rfl) rfl
theorem q1695 : (Jvm.Cond.methodLink "java/lang/StringBuilder" (329 : Nat) ({ cls := "java/lang/AbstractStringBuilder", name := "charAt", desc := "(I)C" } : Jvm.MethodName)) ∈ lw_all := lw_g (lw_at lw_m7 215 rfl) rfl
theorem q1772 : (Jvm.Cond.instanceMethod ({ cls := "java/lang/StringBuilder", name := "insert", desc := "(IC)Ljava/lang/StringBuilder;" } : Jvm.MethodName)) ∈ lw_all := lw_g (lw_at lw_m8 52 rfl) rfl
theorem q1773 : (Jvm.Cond.selects "java/lang/StringBuilder" ({ cls := "java/lang/StringBuilder", name := "insert", desc := "(IC)Ljava/lang/StringBuilder;" } : Jvm.MethodName) ({ cls := "java/lang/StringBuilder", name := "insert", desc := "(IC)Ljava/lang/StringBuilder;" } : Jvm.MethodName)) ∈ lw_all := lw_g (lw_at lw_m8 53 rfl) rfl
theorem q1774 : (Jvm.Cond.code ({ cls := "java/lang/StringBuilder", name := "insert", desc := "(IC)Ljava/lang/StringBuilder;" } : Jvm.MethodName) prog_24_method_30_code (3 : Nat) (Option.some (Jvm.ClassFile.FieldType.object "java/lang/StringBuilder"))) ∈ lw_all := lw_g (lw_at lw_m8 54 rfl) rfl
theorem q1775 : (Jvm.Cond.methodLink "java/lang/StringBuilder" (101 : Nat) ({ cls := "java/lang/AbstractStringBuilder", name := "insert", desc := "(IC)Ljava/lang/AbstractStringBuilder;" } : Jvm.MethodName)) ∈ lw_all := lw_g (lw_at lw_m8 55 rfl) rfl
theorem q1793 : (Jvm.Cond.instanceMethod ({ cls := "java/lang/StringBuilder", name := "deleteCharAt", desc := "(I)Ljava/lang/StringBuilder;" } : Jvm.MethodName)) ∈ lw_all := lw_g (lw_at lw_m8 73 rfl) rfl
theorem q1794 : (Jvm.Cond.selects "java/lang/StringBuilder" ({ cls := "java/lang/StringBuilder", name := "deleteCharAt", desc := "(I)Ljava/lang/StringBuilder;" } : Jvm.MethodName) ({ cls := "java/lang/StringBuilder", name := "deleteCharAt", desc := "(I)Ljava/lang/StringBuilder;" } : Jvm.MethodName)) ∈ lw_all := lw_g (lw_at lw_m8 74 rfl) rfl
theorem q1795 : (Jvm.Cond.code ({ cls := "java/lang/StringBuilder", name := "deleteCharAt", desc := "(I)Ljava/lang/StringBuilder;" } : Jvm.MethodName) prog_24_method_21_code (2 : Nat) (Option.some (Jvm.ClassFile.FieldType.object "java/lang/StringBuilder"))) ∈ lw_all := lw_g (lw_at lw_m8 75 rfl) rfl
theorem q1796 : (Jvm.Cond.methodLink "java/lang/StringBuilder" (72 : Nat) ({ cls := "java/lang/AbstractStringBuilder", name := "deleteCharAt", desc := "(I)Ljava/lang/AbstractStringBuilder;" } : Jvm.MethodName)) ∈ lw_all := lw_g (lw_at lw_m8 76 rfl) rfl
theorem q1807 : (Jvm.Cond.instanceMethod ({ cls := "java/lang/StringBuilder", name := "delete", desc := "(II)Ljava/lang/StringBuilder;" } : Jvm.MethodName)) ∈ lw_all := lw_g (lw_at lw_m8 87 rfl) rfl
theorem q1808 : (Jvm.Cond.selects "java/lang/StringBuilder" ({ cls := "java/lang/StringBuilder", name := "delete", desc := "(II)Ljava/lang/StringBuilder;" } : Jvm.MethodName) ({ cls := "java/lang/StringBuilder", name := "delete", desc := "(II)Ljava/lang/StringBuilder;" } : Jvm.MethodName)) ∈ lw_all := lw_g (lw_at lw_m8 88 rfl) rfl
theorem q1809 : (Jvm.Cond.code ({ cls := "java/lang/StringBuilder", name := "delete", desc := "(II)Ljava/lang/StringBuilder;" } : Jvm.MethodName) prog_24_method_20_code (3 : Nat) (Option.some (Jvm.ClassFile.FieldType.object "java/lang/StringBuilder"))) ∈ lw_all := lw_g (lw_at lw_m8 89 rfl) rfl
theorem q1810 : (Jvm.Cond.methodLink "java/lang/StringBuilder" (68 : Nat) ({ cls := "java/lang/AbstractStringBuilder", name := "delete", desc := "(II)Ljava/lang/AbstractStringBuilder;" } : Jvm.MethodName)) ∈ lw_all := lw_g (lw_at lw_m8 90 rfl) rfl
theorem q2099 : (Jvm.Cond.selects "java/lang/StringBuilder" ({ cls := "java/lang/Object", name := "equals", desc := "(Ljava/lang/Object;)Z" } : Jvm.MethodName) ({ cls := "java/lang/Object", name := "equals", desc := "(Ljava/lang/Object;)Z" } : Jvm.MethodName)) ∈ lw_all := lw_g (lw_at lw_m9 139 rfl) rfl
theorem q2451 : (Jvm.Cond.selects "java/lang/StringBuilder" ({ cls := "java/lang/StringBuilder", name := "length", desc := "()I" } : Jvm.MethodName) ({ cls := "java/lang/StringBuilder", name := "length", desc := "()I" } : Jvm.MethodName)) ∈ lw_all := lw_g (lw_at lw_m11 11 rfl) rfl
theorem q2467 : (Jvm.Cond.selects "java/lang/StringBuilder" ({ cls := "java/lang/StringBuilder", name := "substring", desc := "(II)Ljava/lang/String;" } : Jvm.MethodName) ({ cls := "java/lang/StringBuilder", name := "substring", desc := "(II)Ljava/lang/String;" } : Jvm.MethodName)) ∈ lw_all := lw_g (lw_at lw_m11 27 rfl) rfl
theorem q2482 : (Jvm.Cond.castable "java/lang/StringBuilder" "java/lang/Object") ∈ lw_tbl := lw_at lw_m11 42 rfl
theorem in_J1 : ∀ w ∈ wsJ10, w ∈ lw_all := lw_in wsJ10 [124, 126, 128, 130] (by decide +kernel) (by decide +kernel)
/-! java/lang/String -/
set_option maxRecDepth 100000
def RJ2 : String := "java/lang/String"
def TJ2 : u_T := fun k => match k with
  | 0 => ("java/lang/String", "value", "[B", true)
  | 1 => ("java/lang/String", "coder", "B", true)
  | 2 => ("java/lang/String", "hash", "I", false)
  | _ => ("java/lang/String", "hashIsZero", "Z", false)
def tyJ2 : Nat → FieldType := fun k => match k with
  | 0 => .array .byte
  | 1 => .byte
  | 2 => .int
  | _ => .boolean
abbrev wsJ20 : List Cond := u_ws RJ2 TJ2 4
theorem nmJ2 : ∀ a, a < 4 → ∀ b, b < 4 → a ≠ b → (TJ2 a).2.1 ≠ (TJ2 b).2.1 := by decide +kernel
theorem tyJ2_ok : ∀ k, k < 4 → parseFieldDescriptor (TJ2 k).2.2.1 = some (tyJ2 k) := by decide +kernel
abbrev cJ2_substring : ByteArray := prog_23_method_92_code
def yJ2_substring : MethodName := ⟨RJ2, "substring", "(II)Ljava/lang/String;"⟩
def dkwJ2_substring_2 : List UInt8 := [180, 0, 9, 27, 21, 4, 184, 2, 177, 176]
abbrev dktJ2_substring_2 : List UInt8 := dkwJ2_substring_2 ++ []
def dkwJ2_substring_1 : List UInt8 := [100, 54, 4, 42, 182, 1, 236, 153, 0, 16, 42, 180, 0, 9, 27, 21, 4, 184, 2, 173, 167, 0, 13, 42]
abbrev dktJ2_substring_1 : List UInt8 := dkwJ2_substring_1 ++ dktJ2_substring_2
def dkwJ2_substring_0 : List UInt8 := [42, 182, 1, 249, 62, 27, 28, 29, 184, 2, 9, 27, 154, 0, 10, 28, 29, 160, 0, 5, 42, 176, 28, 27]
abbrev dktJ2_substring_0 : List UInt8 := dkwJ2_substring_0 ++ dktJ2_substring_1
theorem dksJ2_substring_0 : cJ2_substring.data.toList.drop 0 = dktJ2_substring_0 := by decide +kernel
theorem dksJ2_substring_1 : cJ2_substring.data.toList.drop 24 = dktJ2_substring_1 := dk_seg dksJ2_substring_0 24 rfl rfl
theorem dksJ2_substring_2 : cJ2_substring.data.toList.drop 48 = dktJ2_substring_2 := dk_seg dksJ2_substring_1 24 rfl rfl
theorem dJ2_substring_0 : decode cJ2_substring 0 = .ok (.aload_n 0, 1) := dk_42 (dk_at dksJ2_substring_0 0 rfl rfl)
theorem dJ2_substring_1 : decode cJ2_substring 1 = .ok (.invokevirtual 505, 3) := dk_182 1 249 (dk_at dksJ2_substring_0 1 rfl rfl)
theorem dJ2_substring_4 : decode cJ2_substring 4 = .ok (.istore_n 3, 1) := dk_62 (dk_at dksJ2_substring_0 4 rfl rfl)
theorem dJ2_substring_5 : decode cJ2_substring 5 = .ok (.iload_n 1, 1) := dk_27 (dk_at dksJ2_substring_0 5 rfl rfl)
theorem dJ2_substring_6 : decode cJ2_substring 6 = .ok (.iload_n 2, 1) := dk_28 (dk_at dksJ2_substring_0 6 rfl rfl)
theorem dJ2_substring_7 : decode cJ2_substring 7 = .ok (.iload_n 3, 1) := dk_29 (dk_at dksJ2_substring_0 7 rfl rfl)
theorem dJ2_substring_8 : decode cJ2_substring 8 = .ok (.invokestatic 521, 3) := dk_184 2 9 (dk_at dksJ2_substring_0 8 rfl rfl)
theorem dJ2_substring_11 : decode cJ2_substring 11 = .ok (.iload_n 1, 1) := dk_27 (dk_at dksJ2_substring_0 11 rfl rfl)
theorem dJ2_substring_12 : decode cJ2_substring 12 = .ok (.ifCond .ne 10, 3) := dk_154 0 10 (dk_at dksJ2_substring_0 12 rfl rfl)
theorem dJ2_substring_15 : decode cJ2_substring 15 = .ok (.iload_n 2, 1) := dk_28 (dk_at dksJ2_substring_0 15 rfl rfl)
theorem dJ2_substring_16 : decode cJ2_substring 16 = .ok (.iload_n 3, 1) := dk_29 (dk_at dksJ2_substring_0 16 rfl rfl)
theorem dJ2_substring_17 : decode cJ2_substring 17 = .ok (.if_icmp .ne 5, 3) := dk_160 0 5 (dk_at dksJ2_substring_0 17 rfl rfl)
theorem dJ2_substring_20 : decode cJ2_substring 20 = .ok (.aload_n 0, 1) := dk_42 (dk_at dksJ2_substring_0 20 rfl rfl)
theorem dJ2_substring_21 : decode cJ2_substring 21 = .ok (.areturn, 1) := dk_176 (dk_at dksJ2_substring_0 21 rfl rfl)
theorem dJ2_substring_22 : decode cJ2_substring 22 = .ok (.iload_n 2, 1) := dk_28 (dk_at dksJ2_substring_0 22 rfl rfl)
theorem dJ2_substring_23 : decode cJ2_substring 23 = .ok (.iload_n 1, 1) := dk_27 (dk_at dksJ2_substring_0 23 rfl rfl)
theorem dJ2_substring_24 : decode cJ2_substring 24 = .ok (.isub, 1) := dk_100 (dk_at dksJ2_substring_1 0 rfl rfl)
theorem dJ2_substring_25 : decode cJ2_substring 25 = .ok (.istore 4, 2) := dk_54 4 (dk_at dksJ2_substring_1 1 rfl rfl)
theorem dJ2_substring_27 : decode cJ2_substring 27 = .ok (.aload_n 0, 1) := dk_42 (dk_at dksJ2_substring_1 3 rfl rfl)
theorem dJ2_substring_28 : decode cJ2_substring 28 = .ok (.invokevirtual 492, 3) := dk_182 1 236 (dk_at dksJ2_substring_1 4 rfl rfl)
theorem dJ2_substring_31 : decode cJ2_substring 31 = .ok (.ifCond .eq 16, 3) := dk_153 0 16 (dk_at dksJ2_substring_1 7 rfl rfl)
theorem dJ2_substring_34 : decode cJ2_substring 34 = .ok (.aload_n 0, 1) := dk_42 (dk_at dksJ2_substring_1 10 rfl rfl)
theorem dJ2_substring_35 : decode cJ2_substring 35 = .ok (.getfield 9, 3) := dk_180 0 9 (dk_at dksJ2_substring_1 11 rfl rfl)
theorem dJ2_substring_38 : decode cJ2_substring 38 = .ok (.iload_n 1, 1) := dk_27 (dk_at dksJ2_substring_1 14 rfl rfl)
theorem dJ2_substring_39 : decode cJ2_substring 39 = .ok (.iload 4, 2) := dk_21 4 (dk_at dksJ2_substring_1 15 rfl rfl)
theorem dJ2_substring_41 : decode cJ2_substring 41 = .ok (.invokestatic 685, 3) := dk_184 2 173 (dk_at dksJ2_substring_1 17 rfl rfl)
theorem dJ2_substring_44 : decode cJ2_substring 44 = .ok (.goto 13, 3) := dk_167 0 13 (dk_at dksJ2_substring_1 20 rfl rfl)
theorem dJ2_substring_47 : decode cJ2_substring 47 = .ok (.aload_n 0, 1) := dk_42 (dk_at dksJ2_substring_1 23 rfl rfl)
theorem dJ2_substring_48 : decode cJ2_substring 48 = .ok (.getfield 9, 3) := dk_180 0 9 (dk_at dksJ2_substring_2 0 rfl rfl)
theorem dJ2_substring_51 : decode cJ2_substring 51 = .ok (.iload_n 1, 1) := dk_27 (dk_at dksJ2_substring_2 3 rfl rfl)
theorem dJ2_substring_52 : decode cJ2_substring 52 = .ok (.iload 4, 2) := dk_21 4 (dk_at dksJ2_substring_2 4 rfl rfl)
theorem dJ2_substring_54 : decode cJ2_substring 54 = .ok (.invokestatic 689, 3) := dk_184 2 177 (dk_at dksJ2_substring_2 6 rfl rfl)
theorem dJ2_substring_57 : decode cJ2_substring 57 = .ok (.areturn, 1) := dk_176 (dk_at dksJ2_substring_2 9 rfl rfl)
abbrev cJ2_length : ByteArray := prog_23_method_54_code
def yJ2_length : MethodName := ⟨RJ2, "length", "()I"⟩
def dkwJ2_length_0 : List UInt8 := [42, 180, 0, 9, 190, 42, 182, 1, 79, 122, 172]
abbrev dktJ2_length_0 : List UInt8 := dkwJ2_length_0 ++ []
theorem dksJ2_length_0 : cJ2_length.data.toList.drop 0 = dktJ2_length_0 := by decide +kernel
theorem dJ2_length_0 : decode cJ2_length 0 = .ok (.aload_n 0, 1) := dk_42 (dk_at dksJ2_length_0 0 rfl rfl)
theorem dJ2_length_1 : decode cJ2_length 1 = .ok (.getfield 9, 3) := dk_180 0 9 (dk_at dksJ2_length_0 1 rfl rfl)
theorem dJ2_length_4 : decode cJ2_length 4 = .ok (.arraylength, 1) := dk_190 (dk_at dksJ2_length_0 4 rfl rfl)
theorem dJ2_length_5 : decode cJ2_length 5 = .ok (.aload_n 0, 1) := dk_42 (dk_at dksJ2_length_0 5 rfl rfl)
theorem dJ2_length_6 : decode cJ2_length 6 = .ok (.invokevirtual 335, 3) := dk_182 1 79 (dk_at dksJ2_length_0 6 rfl rfl)
theorem dJ2_length_9 : decode cJ2_length 9 = .ok (.ishr, 1) := dk_122 (dk_at dksJ2_length_0 9 rfl rfl)
theorem dJ2_length_10 : decode cJ2_length 10 = .ok (.ireturn, 1) := dk_172 (dk_at dksJ2_length_0 10 rfl rfl)
abbrev cJ2_coder : ByteArray := prog_23_method_152_code
def yJ2_coder : MethodName := ⟨RJ2, "coder", "()B"⟩
def dkwJ2_coder_0 : List UInt8 := [178, 0, 38, 153, 0, 10, 42, 180, 0, 15, 167, 0, 4, 4, 172]
abbrev dktJ2_coder_0 : List UInt8 := dkwJ2_coder_0 ++ []
theorem dksJ2_coder_0 : cJ2_coder.data.toList.drop 0 = dktJ2_coder_0 := by decide +kernel
theorem dJ2_coder_0 : decode cJ2_coder 0 = .ok (.getstatic 38, 3) := dk_178 0 38 (dk_at dksJ2_coder_0 0 rfl rfl)
theorem dJ2_coder_3 : decode cJ2_coder 3 = .ok (.ifCond .eq 10, 3) := dk_153 0 10 (dk_at dksJ2_coder_0 3 rfl rfl)
theorem dJ2_coder_6 : decode cJ2_coder 6 = .ok (.aload_n 0, 1) := dk_42 (dk_at dksJ2_coder_0 6 rfl rfl)
theorem dJ2_coder_7 : decode cJ2_coder 7 = .ok (.getfield 15, 3) := dk_180 0 15 (dk_at dksJ2_coder_0 7 rfl rfl)
theorem dJ2_coder_10 : decode cJ2_coder 10 = .ok (.goto 4, 3) := dk_167 0 4 (dk_at dksJ2_coder_0 10 rfl rfl)
theorem dJ2_coder_13 : decode cJ2_coder 13 = .ok (.iconst 1, 1) := dk_4 (dk_at dksJ2_coder_0 13 rfl rfl)
theorem dJ2_coder_14 : decode cJ2_coder 14 = .ok (.ireturn, 1) := dk_172 (dk_at dksJ2_coder_0 14 rfl rfl)
abbrev cJ2_checkBoundsBeginEnd : ByteArray := prog_23_method_158_code
def yJ2_checkBoundsBeginEnd : MethodName := ⟨RJ2, "checkBoundsBeginEnd", "(III)V"⟩
def dkwJ2_checkBoundsBeginEnd_0 : List UInt8 := [26, 27, 28, 178, 4, 29, 184, 4, 38, 87, 177]
abbrev dktJ2_checkBoundsBeginEnd_0 : List UInt8 := dkwJ2_checkBoundsBeginEnd_0 ++ []
theorem dksJ2_checkBoundsBeginEnd_0 : cJ2_checkBoundsBeginEnd.data.toList.drop 0 = dktJ2_checkBoundsBeginEnd_0 := by decide +kernel
theorem dJ2_checkBoundsBeginEnd_0 : decode cJ2_checkBoundsBeginEnd 0 = .ok (.iload_n 0, 1) := dk_26 (dk_at dksJ2_checkBoundsBeginEnd_0 0 rfl rfl)
theorem dJ2_checkBoundsBeginEnd_1 : decode cJ2_checkBoundsBeginEnd 1 = .ok (.iload_n 1, 1) := dk_27 (dk_at dksJ2_checkBoundsBeginEnd_0 1 rfl rfl)
theorem dJ2_checkBoundsBeginEnd_2 : decode cJ2_checkBoundsBeginEnd 2 = .ok (.iload_n 2, 1) := dk_28 (dk_at dksJ2_checkBoundsBeginEnd_0 2 rfl rfl)
theorem dJ2_checkBoundsBeginEnd_3 : decode cJ2_checkBoundsBeginEnd 3 = .ok (.getstatic 1053, 3) := dk_178 4 29 (dk_at dksJ2_checkBoundsBeginEnd_0 3 rfl rfl)
theorem dJ2_checkBoundsBeginEnd_6 : decode cJ2_checkBoundsBeginEnd 6 = .ok (.invokestatic 1062, 3) := dk_184 4 38 (dk_at dksJ2_checkBoundsBeginEnd_0 6 rfl rfl)
theorem dJ2_checkBoundsBeginEnd_9 : decode cJ2_checkBoundsBeginEnd 9 = .ok (.pop, 1) := dk_87 (dk_at dksJ2_checkBoundsBeginEnd_0 9 rfl rfl)
theorem dJ2_checkBoundsBeginEnd_10 : decode cJ2_checkBoundsBeginEnd 10 = .ok (.return_, 1) := dk_177 (dk_at dksJ2_checkBoundsBeginEnd_0 10 rfl rfl)
abbrev cJ2_isLatin1 : ByteArray := prog_23_method_154_code
def yJ2_isLatin1 : MethodName := ⟨RJ2, "isLatin1", "()Z"⟩
def dkwJ2_isLatin1_0 : List UInt8 := [178, 0, 38, 153, 0, 14, 42, 180, 0, 15, 154, 0, 7, 4, 167, 0, 4, 3, 172]
abbrev dktJ2_isLatin1_0 : List UInt8 := dkwJ2_isLatin1_0 ++ []
theorem dksJ2_isLatin1_0 : cJ2_isLatin1.data.toList.drop 0 = dktJ2_isLatin1_0 := by decide +kernel
theorem dJ2_isLatin1_0 : decode cJ2_isLatin1 0 = .ok (.getstatic 38, 3) := dk_178 0 38 (dk_at dksJ2_isLatin1_0 0 rfl rfl)
theorem dJ2_isLatin1_3 : decode cJ2_isLatin1 3 = .ok (.ifCond .eq 14, 3) := dk_153 0 14 (dk_at dksJ2_isLatin1_0 3 rfl rfl)
theorem dJ2_isLatin1_6 : decode cJ2_isLatin1 6 = .ok (.aload_n 0, 1) := dk_42 (dk_at dksJ2_isLatin1_0 6 rfl rfl)
theorem dJ2_isLatin1_7 : decode cJ2_isLatin1 7 = .ok (.getfield 15, 3) := dk_180 0 15 (dk_at dksJ2_isLatin1_0 7 rfl rfl)
theorem dJ2_isLatin1_10 : decode cJ2_isLatin1 10 = .ok (.ifCond .ne 7, 3) := dk_154 0 7 (dk_at dksJ2_isLatin1_0 10 rfl rfl)
theorem dJ2_isLatin1_13 : decode cJ2_isLatin1 13 = .ok (.iconst 1, 1) := dk_4 (dk_at dksJ2_isLatin1_0 13 rfl rfl)
theorem dJ2_isLatin1_14 : decode cJ2_isLatin1 14 = .ok (.goto 4, 3) := dk_167 0 4 (dk_at dksJ2_isLatin1_0 14 rfl rfl)
theorem dJ2_isLatin1_17 : decode cJ2_isLatin1 17 = .ok (.iconst 0, 1) := dk_3 (dk_at dksJ2_isLatin1_0 17 rfl rfl)
theorem dJ2_isLatin1_18 : decode cJ2_isLatin1 18 = .ok (.ireturn, 1) := dk_172 (dk_at dksJ2_isLatin1_0 18 rfl rfl)
abbrev cJ2_checkBoundsOffCount : ByteArray := prog_23_method_157_code
def yJ2_checkBoundsOffCount : MethodName := ⟨RJ2, "checkBoundsOffCount", "(III)I"⟩
def dkwJ2_checkBoundsOffCount_0 : List UInt8 := [26, 27, 28, 178, 4, 29, 184, 4, 41, 172]
abbrev dktJ2_checkBoundsOffCount_0 : List UInt8 := dkwJ2_checkBoundsOffCount_0 ++ []
theorem dksJ2_checkBoundsOffCount_0 : cJ2_checkBoundsOffCount.data.toList.drop 0 = dktJ2_checkBoundsOffCount_0 := by decide +kernel
theorem dJ2_checkBoundsOffCount_0 : decode cJ2_checkBoundsOffCount 0 = .ok (.iload_n 0, 1) := dk_26 (dk_at dksJ2_checkBoundsOffCount_0 0 rfl rfl)
theorem dJ2_checkBoundsOffCount_1 : decode cJ2_checkBoundsOffCount 1 = .ok (.iload_n 1, 1) := dk_27 (dk_at dksJ2_checkBoundsOffCount_0 1 rfl rfl)
theorem dJ2_checkBoundsOffCount_2 : decode cJ2_checkBoundsOffCount 2 = .ok (.iload_n 2, 1) := dk_28 (dk_at dksJ2_checkBoundsOffCount_0 2 rfl rfl)
theorem dJ2_checkBoundsOffCount_3 : decode cJ2_checkBoundsOffCount 3 = .ok (.getstatic 1053, 3) := dk_178 4 29 (dk_at dksJ2_checkBoundsOffCount_0 3 rfl rfl)
theorem dJ2_checkBoundsOffCount_6 : decode cJ2_checkBoundsOffCount 6 = .ok (.invokestatic 1065, 3) := dk_184 4 41 (dk_at dksJ2_checkBoundsOffCount_0 6 rfl rfl)
theorem dJ2_checkBoundsOffCount_9 : decode cJ2_checkBoundsOffCount 9 = .ok (.ireturn, 1) := dk_172 (dk_at dksJ2_checkBoundsOffCount_0 9 rfl rfl)
abbrev cJ2_getBytes : ByteArray := prog_23_method_147_code
def yJ2_getBytes : MethodName := ⟨RJ2, "getBytes", "([BIB)V"⟩
def dkwJ2_getBytes_1 : List UInt8 := [184, 0, 212, 167, 0, 18, 42, 180, 0, 9, 3, 43, 28, 42, 180, 0, 9, 190, 184, 0, 106, 177]
abbrev dktJ2_getBytes_1 : List UInt8 := dkwJ2_getBytes_1 ++ []
def dkwJ2_getBytes_0 : List UInt8 := [42, 182, 1, 79, 29, 160, 0, 23, 42, 180, 0, 9, 3, 43, 28, 29, 120, 42, 180, 0, 9, 190]
abbrev dktJ2_getBytes_0 : List UInt8 := dkwJ2_getBytes_0 ++ dktJ2_getBytes_1
theorem dksJ2_getBytes_0 : cJ2_getBytes.data.toList.drop 0 = dktJ2_getBytes_0 := by decide +kernel
theorem dksJ2_getBytes_1 : cJ2_getBytes.data.toList.drop 22 = dktJ2_getBytes_1 := dk_seg dksJ2_getBytes_0 22 rfl rfl
theorem dJ2_getBytes_0 : decode cJ2_getBytes 0 = .ok (.aload_n 0, 1) := dk_42 (dk_at dksJ2_getBytes_0 0 rfl rfl)
theorem dJ2_getBytes_1 : decode cJ2_getBytes 1 = .ok (.invokevirtual 335, 3) := dk_182 1 79 (dk_at dksJ2_getBytes_0 1 rfl rfl)
theorem dJ2_getBytes_4 : decode cJ2_getBytes 4 = .ok (.iload_n 3, 1) := dk_29 (dk_at dksJ2_getBytes_0 4 rfl rfl)
theorem dJ2_getBytes_5 : decode cJ2_getBytes 5 = .ok (.if_icmp .ne 23, 3) := dk_160 0 23 (dk_at dksJ2_getBytes_0 5 rfl rfl)
theorem dJ2_getBytes_8 : decode cJ2_getBytes 8 = .ok (.aload_n 0, 1) := dk_42 (dk_at dksJ2_getBytes_0 8 rfl rfl)
theorem dJ2_getBytes_9 : decode cJ2_getBytes 9 = .ok (.getfield 9, 3) := dk_180 0 9 (dk_at dksJ2_getBytes_0 9 rfl rfl)
theorem dJ2_getBytes_12 : decode cJ2_getBytes 12 = .ok (.iconst 0, 1) := dk_3 (dk_at dksJ2_getBytes_0 12 rfl rfl)
theorem dJ2_getBytes_13 : decode cJ2_getBytes 13 = .ok (.aload_n 1, 1) := dk_43 (dk_at dksJ2_getBytes_0 13 rfl rfl)
theorem dJ2_getBytes_14 : decode cJ2_getBytes 14 = .ok (.iload_n 2, 1) := dk_28 (dk_at dksJ2_getBytes_0 14 rfl rfl)
theorem dJ2_getBytes_15 : decode cJ2_getBytes 15 = .ok (.iload_n 3, 1) := dk_29 (dk_at dksJ2_getBytes_0 15 rfl rfl)
theorem dJ2_getBytes_16 : decode cJ2_getBytes 16 = .ok (.ishl, 1) := dk_120 (dk_at dksJ2_getBytes_0 16 rfl rfl)
theorem dJ2_getBytes_17 : decode cJ2_getBytes 17 = .ok (.aload_n 0, 1) := dk_42 (dk_at dksJ2_getBytes_0 17 rfl rfl)
theorem dJ2_getBytes_18 : decode cJ2_getBytes 18 = .ok (.getfield 9, 3) := dk_180 0 9 (dk_at dksJ2_getBytes_0 18 rfl rfl)
theorem dJ2_getBytes_21 : decode cJ2_getBytes 21 = .ok (.arraylength, 1) := dk_190 (dk_at dksJ2_getBytes_0 21 rfl rfl)
theorem dJ2_getBytes_22 : decode cJ2_getBytes 22 = .ok (.invokestatic 212, 3) := dk_184 0 212 (dk_at dksJ2_getBytes_1 0 rfl rfl)
theorem dJ2_getBytes_25 : decode cJ2_getBytes 25 = .ok (.goto 18, 3) := dk_167 0 18 (dk_at dksJ2_getBytes_1 3 rfl rfl)
theorem dJ2_getBytes_28 : decode cJ2_getBytes 28 = .ok (.aload_n 0, 1) := dk_42 (dk_at dksJ2_getBytes_1 6 rfl rfl)
theorem dJ2_getBytes_29 : decode cJ2_getBytes 29 = .ok (.getfield 9, 3) := dk_180 0 9 (dk_at dksJ2_getBytes_1 7 rfl rfl)
theorem dJ2_getBytes_32 : decode cJ2_getBytes 32 = .ok (.iconst 0, 1) := dk_3 (dk_at dksJ2_getBytes_1 10 rfl rfl)
theorem dJ2_getBytes_33 : decode cJ2_getBytes 33 = .ok (.aload_n 1, 1) := dk_43 (dk_at dksJ2_getBytes_1 11 rfl rfl)
theorem dJ2_getBytes_34 : decode cJ2_getBytes 34 = .ok (.iload_n 2, 1) := dk_28 (dk_at dksJ2_getBytes_1 12 rfl rfl)
theorem dJ2_getBytes_35 : decode cJ2_getBytes 35 = .ok (.aload_n 0, 1) := dk_42 (dk_at dksJ2_getBytes_1 13 rfl rfl)
theorem dJ2_getBytes_36 : decode cJ2_getBytes 36 = .ok (.getfield 9, 3) := dk_180 0 9 (dk_at dksJ2_getBytes_1 14 rfl rfl)
theorem dJ2_getBytes_39 : decode cJ2_getBytes 39 = .ok (.arraylength, 1) := dk_190 (dk_at dksJ2_getBytes_1 17 rfl rfl)
theorem dJ2_getBytes_40 : decode cJ2_getBytes 40 = .ok (.invokestatic 106, 3) := dk_184 0 106 (dk_at dksJ2_getBytes_1 18 rfl rfl)
theorem dJ2_getBytes_43 : decode cJ2_getBytes 43 = .ok (.return_, 1) := dk_177 (dk_at dksJ2_getBytes_1 21 rfl rfl)
abbrev cJ2_init : ByteArray := prog_23_method_53_code
def yJ2_init : MethodName := ⟨RJ2, "<init>", "(Ljava/lang/StringBuilder;)V"⟩
def dkwJ2_init_0 : List UInt8 := [42, 43, 1, 183, 1, 233, 177]
abbrev dktJ2_init_0 : List UInt8 := dkwJ2_init_0 ++ []
theorem dksJ2_init_0 : cJ2_init.data.toList.drop 0 = dktJ2_init_0 := by decide +kernel
theorem dJ2_init_0 : decode cJ2_init 0 = .ok (.aload_n 0, 1) := dk_42 (dk_at dksJ2_init_0 0 rfl rfl)
theorem dJ2_init_1 : decode cJ2_init 1 = .ok (.aload_n 1, 1) := dk_43 (dk_at dksJ2_init_0 1 rfl rfl)
theorem dJ2_init_2 : decode cJ2_init 2 = .ok (.aconst_null, 1) := dk_1 (dk_at dksJ2_init_0 2 rfl rfl)
theorem dJ2_init_3 : decode cJ2_init 3 = .ok (.invokespecial 489, 3) := dk_183 1 233 (dk_at dksJ2_init_0 3 rfl rfl)
theorem dJ2_init_6 : decode cJ2_init 6 = .ok (.return_, 1) := dk_177 (dk_at dksJ2_init_0 6 rfl rfl)
abbrev cJ2_init_2 : ByteArray := prog_23_method_150_code
def yJ2_init_2 : MethodName := ⟨RJ2, "<init>", "(Ljava/lang/AbstractStringBuilder;Ljava/lang/Void;)V"⟩
def dkwJ2_init_2_4 : List UInt8 := [181, 0, 9, 177]
abbrev dktJ2_init_2_4 : List UInt8 := dkwJ2_init_2_4 ++ []
def dkwJ2_init_2_3 : List UInt8 := [184, 0, 47, 181, 0, 15, 177, 42, 4, 181, 0, 15, 42, 45, 3, 21, 4, 4, 120, 184, 0, 54]
abbrev dktJ2_init_2_3 : List UInt8 := dkwJ2_init_2_3 ++ dktJ2_init_2_4
def dkwJ2_init_2_2 : List UInt8 := [180, 4, 24, 153, 0, 28, 42, 45, 3, 21, 4, 184, 4, 27, 181, 0, 9, 42, 42, 180, 0, 9, 21, 4]
abbrev dktJ2_init_2_2 : List UInt8 := dkwJ2_init_2_2 ++ dktJ2_init_2_3
def dkwJ2_init_2_1 : List UInt8 := [181, 0, 15, 42, 45, 3, 21, 4, 184, 0, 54, 181, 0, 9, 167, 0, 59, 178, 0, 38, 153, 0, 35, 43]
abbrev dktJ2_init_2_1 : List UInt8 := dkwJ2_init_2_1 ++ dktJ2_init_2_2
def dkwJ2_init_2_0 : List UInt8 := [42, 183, 0, 1, 43, 182, 2, 40, 78, 43, 182, 2, 37, 54, 4, 43, 182, 4, 23, 153, 0, 22, 42, 3]
abbrev dktJ2_init_2_0 : List UInt8 := dkwJ2_init_2_0 ++ dktJ2_init_2_1
theorem dksJ2_init_2_0 : cJ2_init_2.data.toList.drop 0 = dktJ2_init_2_0 := by decide +kernel
theorem dksJ2_init_2_1 : cJ2_init_2.data.toList.drop 24 = dktJ2_init_2_1 := dk_seg dksJ2_init_2_0 24 rfl rfl
theorem dksJ2_init_2_2 : cJ2_init_2.data.toList.drop 48 = dktJ2_init_2_2 := dk_seg dksJ2_init_2_1 24 rfl rfl
theorem dksJ2_init_2_3 : cJ2_init_2.data.toList.drop 72 = dktJ2_init_2_3 := dk_seg dksJ2_init_2_2 24 rfl rfl
theorem dksJ2_init_2_4 : cJ2_init_2.data.toList.drop 94 = dktJ2_init_2_4 := dk_seg dksJ2_init_2_3 22 rfl rfl
theorem dJ2_init_2_0 : decode cJ2_init_2 0 = .ok (.aload_n 0, 1) := dk_42 (dk_at dksJ2_init_2_0 0 rfl rfl)
theorem dJ2_init_2_1 : decode cJ2_init_2 1 = .ok (.invokespecial 1, 3) := dk_183 0 1 (dk_at dksJ2_init_2_0 1 rfl rfl)
theorem dJ2_init_2_4 : decode cJ2_init_2 4 = .ok (.aload_n 1, 1) := dk_43 (dk_at dksJ2_init_2_0 4 rfl rfl)
theorem dJ2_init_2_5 : decode cJ2_init_2 5 = .ok (.invokevirtual 552, 3) := dk_182 2 40 (dk_at dksJ2_init_2_0 5 rfl rfl)
theorem dJ2_init_2_8 : decode cJ2_init_2 8 = .ok (.astore_n 3, 1) := dk_78 (dk_at dksJ2_init_2_0 8 rfl rfl)
theorem dJ2_init_2_9 : decode cJ2_init_2 9 = .ok (.aload_n 1, 1) := dk_43 (dk_at dksJ2_init_2_0 9 rfl rfl)
theorem dJ2_init_2_10 : decode cJ2_init_2 10 = .ok (.invokevirtual 549, 3) := dk_182 2 37 (dk_at dksJ2_init_2_0 10 rfl rfl)
theorem dJ2_init_2_13 : decode cJ2_init_2 13 = .ok (.istore 4, 2) := dk_54 4 (dk_at dksJ2_init_2_0 13 rfl rfl)
theorem dJ2_init_2_15 : decode cJ2_init_2 15 = .ok (.aload_n 1, 1) := dk_43 (dk_at dksJ2_init_2_0 15 rfl rfl)
theorem dJ2_init_2_16 : decode cJ2_init_2 16 = .ok (.invokevirtual 1047, 3) := dk_182 4 23 (dk_at dksJ2_init_2_0 16 rfl rfl)
theorem dJ2_init_2_19 : decode cJ2_init_2 19 = .ok (.ifCond .eq 22, 3) := dk_153 0 22 (dk_at dksJ2_init_2_0 19 rfl rfl)
theorem dJ2_init_2_22 : decode cJ2_init_2 22 = .ok (.aload_n 0, 1) := dk_42 (dk_at dksJ2_init_2_0 22 rfl rfl)
theorem dJ2_init_2_23 : decode cJ2_init_2 23 = .ok (.iconst 0, 1) := dk_3 (dk_at dksJ2_init_2_0 23 rfl rfl)
theorem dJ2_init_2_24 : decode cJ2_init_2 24 = .ok (.putfield 15, 3) := dk_181 0 15 (dk_at dksJ2_init_2_1 0 rfl rfl)
theorem dJ2_init_2_27 : decode cJ2_init_2 27 = .ok (.aload_n 0, 1) := dk_42 (dk_at dksJ2_init_2_1 3 rfl rfl)
theorem dJ2_init_2_28 : decode cJ2_init_2 28 = .ok (.aload_n 3, 1) := dk_45 (dk_at dksJ2_init_2_1 4 rfl rfl)
theorem dJ2_init_2_29 : decode cJ2_init_2 29 = .ok (.iconst 0, 1) := dk_3 (dk_at dksJ2_init_2_1 5 rfl rfl)
theorem dJ2_init_2_30 : decode cJ2_init_2 30 = .ok (.iload 4, 2) := dk_21 4 (dk_at dksJ2_init_2_1 6 rfl rfl)
theorem dJ2_init_2_32 : decode cJ2_init_2 32 = .ok (.invokestatic 54, 3) := dk_184 0 54 (dk_at dksJ2_init_2_1 8 rfl rfl)
theorem dJ2_init_2_35 : decode cJ2_init_2 35 = .ok (.putfield 9, 3) := dk_181 0 9 (dk_at dksJ2_init_2_1 11 rfl rfl)
theorem dJ2_init_2_38 : decode cJ2_init_2 38 = .ok (.goto 59, 3) := dk_167 0 59 (dk_at dksJ2_init_2_1 14 rfl rfl)
theorem dJ2_init_2_41 : decode cJ2_init_2 41 = .ok (.getstatic 38, 3) := dk_178 0 38 (dk_at dksJ2_init_2_1 17 rfl rfl)
theorem dJ2_init_2_44 : decode cJ2_init_2 44 = .ok (.ifCond .eq 35, 3) := dk_153 0 35 (dk_at dksJ2_init_2_1 20 rfl rfl)
theorem dJ2_init_2_47 : decode cJ2_init_2 47 = .ok (.aload_n 1, 1) := dk_43 (dk_at dksJ2_init_2_1 23 rfl rfl)
theorem dJ2_init_2_48 : decode cJ2_init_2 48 = .ok (.getfield 1048, 3) := dk_180 4 24 (dk_at dksJ2_init_2_2 0 rfl rfl)
theorem dJ2_init_2_51 : decode cJ2_init_2 51 = .ok (.ifCond .eq 28, 3) := dk_153 0 28 (dk_at dksJ2_init_2_2 3 rfl rfl)
theorem dJ2_init_2_54 : decode cJ2_init_2 54 = .ok (.aload_n 0, 1) := dk_42 (dk_at dksJ2_init_2_2 6 rfl rfl)
theorem dJ2_init_2_55 : decode cJ2_init_2 55 = .ok (.aload_n 3, 1) := dk_45 (dk_at dksJ2_init_2_2 7 rfl rfl)
theorem dJ2_init_2_56 : decode cJ2_init_2 56 = .ok (.iconst 0, 1) := dk_3 (dk_at dksJ2_init_2_2 8 rfl rfl)
theorem dJ2_init_2_57 : decode cJ2_init_2 57 = .ok (.iload 4, 2) := dk_21 4 (dk_at dksJ2_init_2_2 9 rfl rfl)
theorem dJ2_init_2_59 : decode cJ2_init_2 59 = .ok (.invokestatic 1051, 3) := dk_184 4 27 (dk_at dksJ2_init_2_2 11 rfl rfl)
theorem dJ2_init_2_62 : decode cJ2_init_2 62 = .ok (.putfield 9, 3) := dk_181 0 9 (dk_at dksJ2_init_2_2 14 rfl rfl)
theorem dJ2_init_2_65 : decode cJ2_init_2 65 = .ok (.aload_n 0, 1) := dk_42 (dk_at dksJ2_init_2_2 17 rfl rfl)
theorem dJ2_init_2_66 : decode cJ2_init_2 66 = .ok (.aload_n 0, 1) := dk_42 (dk_at dksJ2_init_2_2 18 rfl rfl)
theorem dJ2_init_2_67 : decode cJ2_init_2 67 = .ok (.getfield 9, 3) := dk_180 0 9 (dk_at dksJ2_init_2_2 19 rfl rfl)
theorem dJ2_init_2_70 : decode cJ2_init_2 70 = .ok (.iload 4, 2) := dk_21 4 (dk_at dksJ2_init_2_2 22 rfl rfl)
theorem dJ2_init_2_72 : decode cJ2_init_2 72 = .ok (.invokestatic 47, 3) := dk_184 0 47 (dk_at dksJ2_init_2_3 0 rfl rfl)
theorem dJ2_init_2_75 : decode cJ2_init_2 75 = .ok (.putfield 15, 3) := dk_181 0 15 (dk_at dksJ2_init_2_3 3 rfl rfl)
theorem dJ2_init_2_78 : decode cJ2_init_2 78 = .ok (.return_, 1) := dk_177 (dk_at dksJ2_init_2_3 6 rfl rfl)
theorem dJ2_init_2_79 : decode cJ2_init_2 79 = .ok (.aload_n 0, 1) := dk_42 (dk_at dksJ2_init_2_3 7 rfl rfl)
theorem dJ2_init_2_80 : decode cJ2_init_2 80 = .ok (.iconst 1, 1) := dk_4 (dk_at dksJ2_init_2_3 8 rfl rfl)
theorem dJ2_init_2_81 : decode cJ2_init_2 81 = .ok (.putfield 15, 3) := dk_181 0 15 (dk_at dksJ2_init_2_3 9 rfl rfl)
theorem dJ2_init_2_84 : decode cJ2_init_2 84 = .ok (.aload_n 0, 1) := dk_42 (dk_at dksJ2_init_2_3 12 rfl rfl)
theorem dJ2_init_2_85 : decode cJ2_init_2 85 = .ok (.aload_n 3, 1) := dk_45 (dk_at dksJ2_init_2_3 13 rfl rfl)
theorem dJ2_init_2_86 : decode cJ2_init_2 86 = .ok (.iconst 0, 1) := dk_3 (dk_at dksJ2_init_2_3 14 rfl rfl)
theorem dJ2_init_2_87 : decode cJ2_init_2 87 = .ok (.iload 4, 2) := dk_21 4 (dk_at dksJ2_init_2_3 15 rfl rfl)
theorem dJ2_init_2_89 : decode cJ2_init_2 89 = .ok (.iconst 1, 1) := dk_4 (dk_at dksJ2_init_2_3 17 rfl rfl)
theorem dJ2_init_2_90 : decode cJ2_init_2 90 = .ok (.ishl, 1) := dk_120 (dk_at dksJ2_init_2_3 18 rfl rfl)
theorem dJ2_init_2_91 : decode cJ2_init_2 91 = .ok (.invokestatic 54, 3) := dk_184 0 54 (dk_at dksJ2_init_2_3 19 rfl rfl)
theorem dJ2_init_2_94 : decode cJ2_init_2 94 = .ok (.putfield 9, 3) := dk_181 0 9 (dk_at dksJ2_init_2_4 0 rfl rfl)
theorem dJ2_init_2_97 : decode cJ2_init_2 97 = .ok (.return_, 1) := dk_177 (dk_at dksJ2_init_2_4 3 rfl rfl)
abbrev cJ2_init_3 : ByteArray := prog_23_method_151_code
def yJ2_init_3 : MethodName := ⟨RJ2, "<init>", "([BB)V"⟩
def dkwJ2_init_3_0 : List UInt8 := [42, 183, 0, 1, 42, 43, 181, 0, 9, 42, 28, 181, 0, 15, 177]
abbrev dktJ2_init_3_0 : List UInt8 := dkwJ2_init_3_0 ++ []
theorem dksJ2_init_3_0 : cJ2_init_3.data.toList.drop 0 = dktJ2_init_3_0 := by decide +kernel
theorem dJ2_init_3_0 : decode cJ2_init_3 0 = .ok (.aload_n 0, 1) := dk_42 (dk_at dksJ2_init_3_0 0 rfl rfl)
theorem dJ2_init_3_1 : decode cJ2_init_3 1 = .ok (.invokespecial 1, 3) := dk_183 0 1 (dk_at dksJ2_init_3_0 1 rfl rfl)
theorem dJ2_init_3_4 : decode cJ2_init_3 4 = .ok (.aload_n 0, 1) := dk_42 (dk_at dksJ2_init_3_0 4 rfl rfl)
theorem dJ2_init_3_5 : decode cJ2_init_3 5 = .ok (.aload_n 1, 1) := dk_43 (dk_at dksJ2_init_3_0 5 rfl rfl)
theorem dJ2_init_3_6 : decode cJ2_init_3 6 = .ok (.putfield 9, 3) := dk_181 0 9 (dk_at dksJ2_init_3_0 6 rfl rfl)
theorem dJ2_init_3_9 : decode cJ2_init_3 9 = .ok (.aload_n 0, 1) := dk_42 (dk_at dksJ2_init_3_0 9 rfl rfl)
theorem dJ2_init_3_10 : decode cJ2_init_3 10 = .ok (.iload_n 2, 1) := dk_28 (dk_at dksJ2_init_3_0 10 rfl rfl)
theorem dJ2_init_3_11 : decode cJ2_init_3 11 = .ok (.putfield 15, 3) := dk_181 0 15 (dk_at dksJ2_init_3_0 11 rfl rfl)
theorem dJ2_init_3_14 : decode cJ2_init_3 14 = .ok (.return_, 1) := dk_177 (dk_at dksJ2_init_3_0 14 rfl rfl)
abbrev cJ2_checkOffset : ByteArray := prog_23_method_156_code
def yJ2_checkOffset : MethodName := ⟨RJ2, "checkOffset", "(II)V"⟩
def dkwJ2_checkOffset_0 : List UInt8 := [26, 27, 27, 178, 4, 29, 184, 4, 38, 87, 177]
abbrev dktJ2_checkOffset_0 : List UInt8 := dkwJ2_checkOffset_0 ++ []
theorem dksJ2_checkOffset_0 : cJ2_checkOffset.data.toList.drop 0 = dktJ2_checkOffset_0 := by decide +kernel
theorem dJ2_checkOffset_0 : decode cJ2_checkOffset 0 = .ok (.iload_n 0, 1) := dk_26 (dk_at dksJ2_checkOffset_0 0 rfl rfl)
theorem dJ2_checkOffset_1 : decode cJ2_checkOffset 1 = .ok (.iload_n 1, 1) := dk_27 (dk_at dksJ2_checkOffset_0 1 rfl rfl)
theorem dJ2_checkOffset_2 : decode cJ2_checkOffset 2 = .ok (.iload_n 1, 1) := dk_27 (dk_at dksJ2_checkOffset_0 2 rfl rfl)
theorem dJ2_checkOffset_3 : decode cJ2_checkOffset 3 = .ok (.getstatic 1053, 3) := dk_178 4 29 (dk_at dksJ2_checkOffset_0 3 rfl rfl)
theorem dJ2_checkOffset_6 : decode cJ2_checkOffset 6 = .ok (.invokestatic 1062, 3) := dk_184 4 38 (dk_at dksJ2_checkOffset_0 6 rfl rfl)
theorem dJ2_checkOffset_9 : decode cJ2_checkOffset 9 = .ok (.pop, 1) := dk_87 (dk_at dksJ2_checkOffset_0 9 rfl rfl)
theorem dJ2_checkOffset_10 : decode cJ2_checkOffset 10 = .ok (.return_, 1) := dk_177 (dk_at dksJ2_checkOffset_0 10 rfl rfl)
abbrev cJ2_equals : ByteArray := prog_23_method_66_code
def yJ2_equals : MethodName := ⟨RJ2, "equals", "(Ljava/lang/Object;)Z"⟩
def dkwJ2_equals_2 : List UInt8 := [184, 2, 29, 153, 0, 7, 4, 167, 0, 4, 3, 172]
abbrev dktJ2_equals_2 : List UInt8 := dkwJ2_equals_2 ++ []
def dkwJ2_equals_1 : List UInt8 := [153, 0, 14, 42, 180, 0, 15, 44, 180, 0, 15, 160, 0, 21, 42, 180, 0, 9, 44, 180, 0, 9]
abbrev dktJ2_equals_1 : List UInt8 := dkwJ2_equals_1 ++ dktJ2_equals_2
def dkwJ2_equals_0 : List UInt8 := [42, 43, 166, 0, 5, 4, 172, 43, 193, 0, 10, 153, 0, 43, 43, 192, 0, 10, 77, 178, 0, 38]
abbrev dktJ2_equals_0 : List UInt8 := dkwJ2_equals_0 ++ dktJ2_equals_1
theorem dksJ2_equals_0 : cJ2_equals.data.toList.drop 0 = dktJ2_equals_0 := by decide +kernel
theorem dksJ2_equals_1 : cJ2_equals.data.toList.drop 22 = dktJ2_equals_1 := dk_seg dksJ2_equals_0 22 rfl rfl
theorem dksJ2_equals_2 : cJ2_equals.data.toList.drop 44 = dktJ2_equals_2 := dk_seg dksJ2_equals_1 22 rfl rfl
theorem dJ2_equals_0 : decode cJ2_equals 0 = .ok (.aload_n 0, 1) := dk_42 (dk_at dksJ2_equals_0 0 rfl rfl)
theorem dJ2_equals_1 : decode cJ2_equals 1 = .ok (.aload_n 1, 1) := dk_43 (dk_at dksJ2_equals_0 1 rfl rfl)
theorem dJ2_equals_2 : decode cJ2_equals 2 = .ok (.if_acmp .ne 5, 3) := dk_166 0 5 (dk_at dksJ2_equals_0 2 rfl rfl)
theorem dJ2_equals_5 : decode cJ2_equals 5 = .ok (.iconst 1, 1) := dk_4 (dk_at dksJ2_equals_0 5 rfl rfl)
theorem dJ2_equals_6 : decode cJ2_equals 6 = .ok (.ireturn, 1) := dk_172 (dk_at dksJ2_equals_0 6 rfl rfl)
theorem dJ2_equals_7 : decode cJ2_equals 7 = .ok (.aload_n 1, 1) := dk_43 (dk_at dksJ2_equals_0 7 rfl rfl)
theorem dJ2_equals_8 : decode cJ2_equals 8 = .ok (.instanceof 10, 3) := dk_193 0 10 (dk_at dksJ2_equals_0 8 rfl rfl)
theorem dJ2_equals_11 : decode cJ2_equals 11 = .ok (.ifCond .eq 43, 3) := dk_153 0 43 (dk_at dksJ2_equals_0 11 rfl rfl)
theorem dJ2_equals_14 : decode cJ2_equals 14 = .ok (.aload_n 1, 1) := dk_43 (dk_at dksJ2_equals_0 14 rfl rfl)
theorem dJ2_equals_15 : decode cJ2_equals 15 = .ok (.checkcast 10, 3) := dk_192 0 10 (dk_at dksJ2_equals_0 15 rfl rfl)
theorem dJ2_equals_18 : decode cJ2_equals 18 = .ok (.astore_n 2, 1) := dk_77 (dk_at dksJ2_equals_0 18 rfl rfl)
theorem dJ2_equals_19 : decode cJ2_equals 19 = .ok (.getstatic 38, 3) := dk_178 0 38 (dk_at dksJ2_equals_0 19 rfl rfl)
theorem dJ2_equals_22 : decode cJ2_equals 22 = .ok (.ifCond .eq 14, 3) := dk_153 0 14 (dk_at dksJ2_equals_1 0 rfl rfl)
theorem dJ2_equals_25 : decode cJ2_equals 25 = .ok (.aload_n 0, 1) := dk_42 (dk_at dksJ2_equals_1 3 rfl rfl)
theorem dJ2_equals_26 : decode cJ2_equals 26 = .ok (.getfield 15, 3) := dk_180 0 15 (dk_at dksJ2_equals_1 4 rfl rfl)
theorem dJ2_equals_29 : decode cJ2_equals 29 = .ok (.aload_n 2, 1) := dk_44 (dk_at dksJ2_equals_1 7 rfl rfl)
theorem dJ2_equals_30 : decode cJ2_equals 30 = .ok (.getfield 15, 3) := dk_180 0 15 (dk_at dksJ2_equals_1 8 rfl rfl)
theorem dJ2_equals_33 : decode cJ2_equals 33 = .ok (.if_icmp .ne 21, 3) := dk_160 0 21 (dk_at dksJ2_equals_1 11 rfl rfl)
theorem dJ2_equals_36 : decode cJ2_equals 36 = .ok (.aload_n 0, 1) := dk_42 (dk_at dksJ2_equals_1 14 rfl rfl)
theorem dJ2_equals_37 : decode cJ2_equals 37 = .ok (.getfield 9, 3) := dk_180 0 9 (dk_at dksJ2_equals_1 15 rfl rfl)
theorem dJ2_equals_40 : decode cJ2_equals 40 = .ok (.aload_n 2, 1) := dk_44 (dk_at dksJ2_equals_1 18 rfl rfl)
theorem dJ2_equals_41 : decode cJ2_equals 41 = .ok (.getfield 9, 3) := dk_180 0 9 (dk_at dksJ2_equals_1 19 rfl rfl)
theorem dJ2_equals_44 : decode cJ2_equals 44 = .ok (.invokestatic 541, 3) := dk_184 2 29 (dk_at dksJ2_equals_2 0 rfl rfl)
theorem dJ2_equals_47 : decode cJ2_equals 47 = .ok (.ifCond .eq 7, 3) := dk_153 0 7 (dk_at dksJ2_equals_2 3 rfl rfl)
theorem dJ2_equals_50 : decode cJ2_equals 50 = .ok (.iconst 1, 1) := dk_4 (dk_at dksJ2_equals_2 6 rfl rfl)
theorem dJ2_equals_51 : decode cJ2_equals 51 = .ok (.goto 4, 3) := dk_167 0 4 (dk_at dksJ2_equals_2 7 rfl rfl)
theorem dJ2_equals_54 : decode cJ2_equals 54 = .ok (.iconst 0, 1) := dk_3 (dk_at dksJ2_equals_2 10 rfl rfl)
theorem dJ2_equals_55 : decode cJ2_equals 55 = .ok (.ireturn, 1) := dk_172 (dk_at dksJ2_equals_2 11 rfl rfl)
abbrev cJ2_compareTo : ByteArray := prog_23_method_162_code
def yJ2_compareTo : MethodName := ⟨RJ2, "compareTo", "(Ljava/lang/Object;)I"⟩
def dkwJ2_compareTo_0 : List UInt8 := [42, 43, 192, 0, 10, 182, 4, 60, 172]
abbrev dktJ2_compareTo_0 : List UInt8 := dkwJ2_compareTo_0 ++ []
theorem dksJ2_compareTo_0 : cJ2_compareTo.data.toList.drop 0 = dktJ2_compareTo_0 := by decide +kernel
theorem dJ2_compareTo_0 : decode cJ2_compareTo 0 = .ok (.aload_n 0, 1) := dk_42 (dk_at dksJ2_compareTo_0 0 rfl rfl)
theorem dJ2_compareTo_1 : decode cJ2_compareTo 1 = .ok (.aload_n 1, 1) := dk_43 (dk_at dksJ2_compareTo_0 1 rfl rfl)
theorem dJ2_compareTo_2 : decode cJ2_compareTo 2 = .ok (.checkcast 10, 3) := dk_192 0 10 (dk_at dksJ2_compareTo_0 2 rfl rfl)
theorem dJ2_compareTo_5 : decode cJ2_compareTo 5 = .ok (.invokevirtual 1084, 3) := dk_182 4 60 (dk_at dksJ2_compareTo_0 5 rfl rfl)
theorem dJ2_compareTo_8 : decode cJ2_compareTo 8 = .ok (.ireturn, 1) := dk_172 (dk_at dksJ2_compareTo_0 8 rfl rfl)
abbrev cJ2_compareTo_2 : ByteArray := prog_23_method_71_code
def yJ2_compareTo_2 : MethodName := ⟨RJ2, "compareTo", "(Ljava/lang/String;)I"⟩
def dkwJ2_compareTo_2_2 : List UInt8 := [154, 0, 11, 44, 45, 184, 2, 79, 167, 0, 8, 44, 45, 184, 2, 82, 172]
abbrev dktJ2_compareTo_2_2 : List UInt8 := dkwJ2_compareTo_2_2 ++ []
def dkwJ2_compareTo_2_1 : List UInt8 := [160, 0, 22, 21, 4, 154, 0, 11, 44, 45, 184, 2, 74, 167, 0, 8, 44, 45, 184, 2, 78, 172, 21, 4]
abbrev dktJ2_compareTo_2_1 : List UInt8 := dkwJ2_compareTo_2_1 ++ dktJ2_compareTo_2_2
def dkwJ2_compareTo_2_0 : List UInt8 := [42, 180, 0, 9, 77, 43, 180, 0, 9, 78, 42, 182, 1, 79, 54, 4, 21, 4, 43, 182, 1, 79]
abbrev dktJ2_compareTo_2_0 : List UInt8 := dkwJ2_compareTo_2_0 ++ dktJ2_compareTo_2_1
theorem dksJ2_compareTo_2_0 : cJ2_compareTo_2.data.toList.drop 0 = dktJ2_compareTo_2_0 := by decide +kernel
theorem dksJ2_compareTo_2_1 : cJ2_compareTo_2.data.toList.drop 22 = dktJ2_compareTo_2_1 := dk_seg dksJ2_compareTo_2_0 22 rfl rfl
theorem dksJ2_compareTo_2_2 : cJ2_compareTo_2.data.toList.drop 46 = dktJ2_compareTo_2_2 := dk_seg dksJ2_compareTo_2_1 24 rfl rfl
theorem dJ2_compareTo_2_0 : decode cJ2_compareTo_2 0 = .ok (.aload_n 0, 1) := dk_42 (dk_at dksJ2_compareTo_2_0 0 rfl rfl)
theorem dJ2_compareTo_2_1 : decode cJ2_compareTo_2 1 = .ok (.getfield 9, 3) := dk_180 0 9 (dk_at dksJ2_compareTo_2_0 1 rfl rfl)
theorem dJ2_compareTo_2_4 : decode cJ2_compareTo_2 4 = .ok (.astore_n 2, 1) := dk_77 (dk_at dksJ2_compareTo_2_0 4 rfl rfl)
theorem dJ2_compareTo_2_5 : decode cJ2_compareTo_2 5 = .ok (.aload_n 1, 1) := dk_43 (dk_at dksJ2_compareTo_2_0 5 rfl rfl)
theorem dJ2_compareTo_2_6 : decode cJ2_compareTo_2 6 = .ok (.getfield 9, 3) := dk_180 0 9 (dk_at dksJ2_compareTo_2_0 6 rfl rfl)
theorem dJ2_compareTo_2_9 : decode cJ2_compareTo_2 9 = .ok (.astore_n 3, 1) := dk_78 (dk_at dksJ2_compareTo_2_0 9 rfl rfl)
theorem dJ2_compareTo_2_10 : decode cJ2_compareTo_2 10 = .ok (.aload_n 0, 1) := dk_42 (dk_at dksJ2_compareTo_2_0 10 rfl rfl)
theorem dJ2_compareTo_2_11 : decode cJ2_compareTo_2 11 = .ok (.invokevirtual 335, 3) := dk_182 1 79 (dk_at dksJ2_compareTo_2_0 11 rfl rfl)
theorem dJ2_compareTo_2_14 : decode cJ2_compareTo_2 14 = .ok (.istore 4, 2) := dk_54 4 (dk_at dksJ2_compareTo_2_0 14 rfl rfl)
theorem dJ2_compareTo_2_16 : decode cJ2_compareTo_2 16 = .ok (.iload 4, 2) := dk_21 4 (dk_at dksJ2_compareTo_2_0 16 rfl rfl)
theorem dJ2_compareTo_2_18 : decode cJ2_compareTo_2 18 = .ok (.aload_n 1, 1) := dk_43 (dk_at dksJ2_compareTo_2_0 18 rfl rfl)
theorem dJ2_compareTo_2_19 : decode cJ2_compareTo_2 19 = .ok (.invokevirtual 335, 3) := dk_182 1 79 (dk_at dksJ2_compareTo_2_0 19 rfl rfl)
theorem dJ2_compareTo_2_22 : decode cJ2_compareTo_2 22 = .ok (.if_icmp .ne 22, 3) := dk_160 0 22 (dk_at dksJ2_compareTo_2_1 0 rfl rfl)
theorem dJ2_compareTo_2_25 : decode cJ2_compareTo_2 25 = .ok (.iload 4, 2) := dk_21 4 (dk_at dksJ2_compareTo_2_1 3 rfl rfl)
theorem dJ2_compareTo_2_27 : decode cJ2_compareTo_2 27 = .ok (.ifCond .ne 11, 3) := dk_154 0 11 (dk_at dksJ2_compareTo_2_1 5 rfl rfl)
theorem dJ2_compareTo_2_30 : decode cJ2_compareTo_2 30 = .ok (.aload_n 2, 1) := dk_44 (dk_at dksJ2_compareTo_2_1 8 rfl rfl)
theorem dJ2_compareTo_2_31 : decode cJ2_compareTo_2 31 = .ok (.aload_n 3, 1) := dk_45 (dk_at dksJ2_compareTo_2_1 9 rfl rfl)
theorem dJ2_compareTo_2_32 : decode cJ2_compareTo_2 32 = .ok (.invokestatic 586, 3) := dk_184 2 74 (dk_at dksJ2_compareTo_2_1 10 rfl rfl)
theorem dJ2_compareTo_2_35 : decode cJ2_compareTo_2 35 = .ok (.goto 8, 3) := dk_167 0 8 (dk_at dksJ2_compareTo_2_1 13 rfl rfl)
theorem dJ2_compareTo_2_38 : decode cJ2_compareTo_2 38 = .ok (.aload_n 2, 1) := dk_44 (dk_at dksJ2_compareTo_2_1 16 rfl rfl)
theorem dJ2_compareTo_2_39 : decode cJ2_compareTo_2 39 = .ok (.aload_n 3, 1) := dk_45 (dk_at dksJ2_compareTo_2_1 17 rfl rfl)
theorem dJ2_compareTo_2_40 : decode cJ2_compareTo_2 40 = .ok (.invokestatic 590, 3) := dk_184 2 78 (dk_at dksJ2_compareTo_2_1 18 rfl rfl)
theorem dJ2_compareTo_2_43 : decode cJ2_compareTo_2 43 = .ok (.ireturn, 1) := dk_172 (dk_at dksJ2_compareTo_2_1 21 rfl rfl)
theorem dJ2_compareTo_2_44 : decode cJ2_compareTo_2 44 = .ok (.iload 4, 2) := dk_21 4 (dk_at dksJ2_compareTo_2_1 22 rfl rfl)
theorem dJ2_compareTo_2_46 : decode cJ2_compareTo_2 46 = .ok (.ifCond .ne 11, 3) := dk_154 0 11 (dk_at dksJ2_compareTo_2_2 0 rfl rfl)
theorem dJ2_compareTo_2_49 : decode cJ2_compareTo_2 49 = .ok (.aload_n 2, 1) := dk_44 (dk_at dksJ2_compareTo_2_2 3 rfl rfl)
theorem dJ2_compareTo_2_50 : decode cJ2_compareTo_2 50 = .ok (.aload_n 3, 1) := dk_45 (dk_at dksJ2_compareTo_2_2 4 rfl rfl)
theorem dJ2_compareTo_2_51 : decode cJ2_compareTo_2 51 = .ok (.invokestatic 591, 3) := dk_184 2 79 (dk_at dksJ2_compareTo_2_2 5 rfl rfl)
theorem dJ2_compareTo_2_54 : decode cJ2_compareTo_2 54 = .ok (.goto 8, 3) := dk_167 0 8 (dk_at dksJ2_compareTo_2_2 8 rfl rfl)
theorem dJ2_compareTo_2_57 : decode cJ2_compareTo_2 57 = .ok (.aload_n 2, 1) := dk_44 (dk_at dksJ2_compareTo_2_2 11 rfl rfl)
theorem dJ2_compareTo_2_58 : decode cJ2_compareTo_2 58 = .ok (.aload_n 3, 1) := dk_45 (dk_at dksJ2_compareTo_2_2 12 rfl rfl)
theorem dJ2_compareTo_2_59 : decode cJ2_compareTo_2 59 = .ok (.invokestatic 594, 3) := dk_184 2 82 (dk_at dksJ2_compareTo_2_2 13 rfl rfl)
theorem dJ2_compareTo_2_62 : decode cJ2_compareTo_2 62 = .ok (.ireturn, 1) := dk_172 (dk_at dksJ2_compareTo_2_2 16 rfl rfl)
abbrev cJ2_checkIndex : ByteArray := prog_23_method_155_code
def yJ2_checkIndex : MethodName := ⟨RJ2, "checkIndex", "(II)V"⟩
def dkwJ2_checkIndex_0 : List UInt8 := [26, 27, 178, 4, 29, 184, 4, 35, 87, 177]
abbrev dktJ2_checkIndex_0 : List UInt8 := dkwJ2_checkIndex_0 ++ []
theorem dksJ2_checkIndex_0 : cJ2_checkIndex.data.toList.drop 0 = dktJ2_checkIndex_0 := by decide +kernel
theorem dJ2_checkIndex_0 : decode cJ2_checkIndex 0 = .ok (.iload_n 0, 1) := dk_26 (dk_at dksJ2_checkIndex_0 0 rfl rfl)
theorem dJ2_checkIndex_1 : decode cJ2_checkIndex 1 = .ok (.iload_n 1, 1) := dk_27 (dk_at dksJ2_checkIndex_0 1 rfl rfl)
theorem dJ2_checkIndex_2 : decode cJ2_checkIndex 2 = .ok (.getstatic 1053, 3) := dk_178 4 29 (dk_at dksJ2_checkIndex_0 2 rfl rfl)
theorem dJ2_checkIndex_5 : decode cJ2_checkIndex 5 = .ok (.invokestatic 1059, 3) := dk_184 4 35 (dk_at dksJ2_checkIndex_0 5 rfl rfl)
theorem dJ2_checkIndex_8 : decode cJ2_checkIndex 8 = .ok (.pop, 1) := dk_87 (dk_at dksJ2_checkIndex_0 8 rfl rfl)
theorem dJ2_checkIndex_9 : decode cJ2_checkIndex 9 = .ok (.return_, 1) := dk_177 (dk_at dksJ2_checkIndex_0 9 rfl rfl)
abbrev cJ2_charAt : ByteArray := prog_23_method_56_code
def yJ2_charAt : MethodName := ⟨RJ2, "charAt", "(I)C"⟩
def dkwJ2_charAt_1 : List UInt8 := [172]
abbrev dktJ2_charAt_1 : List UInt8 := dkwJ2_charAt_1 ++ []
def dkwJ2_charAt_0 : List UInt8 := [42, 182, 1, 236, 153, 0, 12, 42, 180, 0, 9, 27, 184, 1, 239, 172, 42, 180, 0, 9, 27, 184, 1, 242]
abbrev dktJ2_charAt_0 : List UInt8 := dkwJ2_charAt_0 ++ dktJ2_charAt_1
theorem dksJ2_charAt_0 : cJ2_charAt.data.toList.drop 0 = dktJ2_charAt_0 := by decide +kernel
theorem dksJ2_charAt_1 : cJ2_charAt.data.toList.drop 24 = dktJ2_charAt_1 := dk_seg dksJ2_charAt_0 24 rfl rfl
theorem dJ2_charAt_0 : decode cJ2_charAt 0 = .ok (.aload_n 0, 1) := dk_42 (dk_at dksJ2_charAt_0 0 rfl rfl)
theorem dJ2_charAt_1 : decode cJ2_charAt 1 = .ok (.invokevirtual 492, 3) := dk_182 1 236 (dk_at dksJ2_charAt_0 1 rfl rfl)
theorem dJ2_charAt_4 : decode cJ2_charAt 4 = .ok (.ifCond .eq 12, 3) := dk_153 0 12 (dk_at dksJ2_charAt_0 4 rfl rfl)
theorem dJ2_charAt_7 : decode cJ2_charAt 7 = .ok (.aload_n 0, 1) := dk_42 (dk_at dksJ2_charAt_0 7 rfl rfl)
theorem dJ2_charAt_8 : decode cJ2_charAt 8 = .ok (.getfield 9, 3) := dk_180 0 9 (dk_at dksJ2_charAt_0 8 rfl rfl)
theorem dJ2_charAt_11 : decode cJ2_charAt 11 = .ok (.iload_n 1, 1) := dk_27 (dk_at dksJ2_charAt_0 11 rfl rfl)
theorem dJ2_charAt_12 : decode cJ2_charAt 12 = .ok (.invokestatic 495, 3) := dk_184 1 239 (dk_at dksJ2_charAt_0 12 rfl rfl)
theorem dJ2_charAt_15 : decode cJ2_charAt 15 = .ok (.ireturn, 1) := dk_172 (dk_at dksJ2_charAt_0 15 rfl rfl)
theorem dJ2_charAt_16 : decode cJ2_charAt 16 = .ok (.aload_n 0, 1) := dk_42 (dk_at dksJ2_charAt_0 16 rfl rfl)
theorem dJ2_charAt_17 : decode cJ2_charAt 17 = .ok (.getfield 9, 3) := dk_180 0 9 (dk_at dksJ2_charAt_0 17 rfl rfl)
theorem dJ2_charAt_20 : decode cJ2_charAt 20 = .ok (.iload_n 1, 1) := dk_27 (dk_at dksJ2_charAt_0 20 rfl rfl)
theorem dJ2_charAt_21 : decode cJ2_charAt 21 = .ok (.invokestatic 498, 3) := dk_184 1 242 (dk_at dksJ2_charAt_0 21 rfl rfl)
theorem dJ2_charAt_24 : decode cJ2_charAt 24 = .ok (.ireturn, 1) := dk_172 (dk_at dksJ2_charAt_1 0 rfl rfl)
abbrev cJ2_isEmpty : ByteArray := prog_23_method_55_code
def yJ2_isEmpty : MethodName := ⟨RJ2, "isEmpty", "()Z"⟩
def dkwJ2_isEmpty_0 : List UInt8 := [42, 180, 0, 9, 190, 154, 0, 7, 4, 167, 0, 4, 3, 172]
abbrev dktJ2_isEmpty_0 : List UInt8 := dkwJ2_isEmpty_0 ++ []
theorem dksJ2_isEmpty_0 : cJ2_isEmpty.data.toList.drop 0 = dktJ2_isEmpty_0 := by decide +kernel
theorem dJ2_isEmpty_0 : decode cJ2_isEmpty 0 = .ok (.aload_n 0, 1) := dk_42 (dk_at dksJ2_isEmpty_0 0 rfl rfl)
theorem dJ2_isEmpty_1 : decode cJ2_isEmpty 1 = .ok (.getfield 9, 3) := dk_180 0 9 (dk_at dksJ2_isEmpty_0 1 rfl rfl)
theorem dJ2_isEmpty_4 : decode cJ2_isEmpty 4 = .ok (.arraylength, 1) := dk_190 (dk_at dksJ2_isEmpty_0 4 rfl rfl)
theorem dJ2_isEmpty_5 : decode cJ2_isEmpty 5 = .ok (.ifCond .ne 7, 3) := dk_154 0 7 (dk_at dksJ2_isEmpty_0 5 rfl rfl)
theorem dJ2_isEmpty_8 : decode cJ2_isEmpty 8 = .ok (.iconst 1, 1) := dk_4 (dk_at dksJ2_isEmpty_0 8 rfl rfl)
theorem dJ2_isEmpty_9 : decode cJ2_isEmpty 9 = .ok (.goto 4, 3) := dk_167 0 4 (dk_at dksJ2_isEmpty_0 9 rfl rfl)
theorem dJ2_isEmpty_12 : decode cJ2_isEmpty 12 = .ok (.iconst 0, 1) := dk_3 (dk_at dksJ2_isEmpty_0 12 rfl rfl)
theorem dJ2_isEmpty_13 : decode cJ2_isEmpty 13 = .ok (.ireturn, 1) := dk_172 (dk_at dksJ2_isEmpty_0 13 rfl rfl)
abbrev cJ2_substring_2 : ByteArray := prog_23_method_91_code
def yJ2_substring_2 : MethodName := ⟨RJ2, "substring", "(I)Ljava/lang/String;"⟩
def dkwJ2_substring_2_0 : List UInt8 := [42, 27, 42, 182, 1, 249, 182, 2, 169, 176]
abbrev dktJ2_substring_2_0 : List UInt8 := dkwJ2_substring_2_0 ++ []
theorem dksJ2_substring_2_0 : cJ2_substring_2.data.toList.drop 0 = dktJ2_substring_2_0 := by decide +kernel
theorem dJ2_substring_2_0 : decode cJ2_substring_2 0 = .ok (.aload_n 0, 1) := dk_42 (dk_at dksJ2_substring_2_0 0 rfl rfl)
theorem dJ2_substring_2_1 : decode cJ2_substring_2 1 = .ok (.iload_n 1, 1) := dk_27 (dk_at dksJ2_substring_2_0 1 rfl rfl)
theorem dJ2_substring_2_2 : decode cJ2_substring_2 2 = .ok (.aload_n 0, 1) := dk_42 (dk_at dksJ2_substring_2_0 2 rfl rfl)
theorem dJ2_substring_2_3 : decode cJ2_substring_2 3 = .ok (.invokevirtual 505, 3) := dk_182 1 249 (dk_at dksJ2_substring_2_0 3 rfl rfl)
theorem dJ2_substring_2_6 : decode cJ2_substring_2 6 = .ok (.invokevirtual 681, 3) := dk_182 2 169 (dk_at dksJ2_substring_2_0 6 rfl rfl)
theorem dJ2_substring_2_9 : decode cJ2_substring_2 9 = .ok (.areturn, 1) := dk_176 (dk_at dksJ2_substring_2_0 9 rfl rfl)
theorem q44 : (Jvm.Cond.initialized "java/lang/String") ∈ lw_all := lw_g (lw_at lw_m1 4 rfl) rfl
theorem q111 : (Jvm.Cond.laysStatic "java/lang/String" "COMPACT_STRINGS" "Z") ∈ lw_tbl := lw_at lw_m1 71 rfl
theorem q122 : (Jvm.Cond.fieldLink "java/lang/String" (1048 : Nat) "java/lang/AbstractStringBuilder" "maybeLatin1" "Z") ∈ lw_all := lw_g (lw_at lw_m1 82 rfl) rfl
theorem q178 : (Jvm.Cond.instanceMethod ({ cls := "java/lang/String", name := "substring", desc := "(II)Ljava/lang/String;" } : Jvm.MethodName)) ∈ lw_all := lw_g (lw_at lw_m1 138 rfl) rfl
theorem q179 : (Jvm.Cond.selects "java/lang/String" ({ cls := "java/lang/String", name := "substring", desc := "(II)Ljava/lang/String;" } : Jvm.MethodName) ({ cls := "java/lang/String", name := "substring", desc := "(II)Ljava/lang/String;" } : Jvm.MethodName)) ∈ lw_all := lw_g (lw_at lw_m1 139 rfl) rfl
theorem q180 : (Jvm.Cond.code ({ cls := "java/lang/String", name := "substring", desc := "(II)Ljava/lang/String;" } : Jvm.MethodName) prog_23_method_92_code (5 : Nat) (Option.some (Jvm.ClassFile.FieldType.object "java/lang/String"))) ∈ lw_all := lw_g (lw_at lw_m1 140 rfl) rfl
theorem q181 : (Jvm.Cond.methodLink "java/lang/String" (505 : Nat) ({ cls := "java/lang/String", name := "length", desc := "()I" } : Jvm.MethodName)) ∈ lw_all := lw_g (lw_at lw_m1 141 rfl) rfl
theorem q182 : (Jvm.Cond.instanceMethod ({ cls := "java/lang/String", name := "length", desc := "()I" } : Jvm.MethodName)) ∈ lw_all := lw_g (lw_at lw_m1 142 rfl) rfl
theorem q183 : (Jvm.Cond.selects "java/lang/String" ({ cls := "java/lang/String", name := "length", desc := "()I" } : Jvm.MethodName) ({ cls := "java/lang/String", name := "length", desc := "()I" } : Jvm.MethodName)) ∈ lw_all := lw_g (lw_at lw_m1 143 rfl) rfl
theorem q184 : (Jvm.Cond.code ({ cls := "java/lang/String", name := "length", desc := "()I" } : Jvm.MethodName) prog_23_method_54_code (1 : Nat) (Option.some Jvm.ClassFile.FieldType.int)) ∈ lw_all := lw_g (lw_at lw_m1 144 rfl) rfl
theorem q185 : (Jvm.Cond.methodLink "java/lang/String" (335 : Nat) ({ cls := "java/lang/String", name := "coder", desc := "()B" } : Jvm.MethodName)) ∈ lw_all := lw_g (lw_at lw_m1 145 rfl) rfl
theorem q186 : (Jvm.Cond.instanceMethod ({ cls := "java/lang/String", name := "coder", desc := "()B" } : Jvm.MethodName)) ∈ lw_all := lw_g (lw_at lw_m1 146 rfl) rfl
theorem q187 : (Jvm.Cond.selects "java/lang/String" ({ cls := "java/lang/String", name := "coder", desc := "()B" } : Jvm.MethodName) ({ cls := "java/lang/String", name := "coder", desc := "()B" } : Jvm.MethodName)) ∈ lw_all := lw_g (lw_at lw_m1 147 rfl) rfl
theorem q188 : (Jvm.Cond.code ({ cls := "java/lang/String", name := "coder", desc := "()B" } : Jvm.MethodName) prog_23_method_152_code (1 : Nat) (Option.some Jvm.ClassFile.FieldType.byte)) ∈ lw_all := lw_g (lw_at lw_m1 148 rfl) rfl
theorem q189 : (Jvm.Cond.fieldLink "java/lang/String" (38 : Nat) "java/lang/String" "COMPACT_STRINGS" "Z") ∈ lw_all := lw_g (lw_at lw_m1 149 rfl) rfl
theorem q190 : (Jvm.Cond.methodLink "java/lang/String" (521 : Nat) ({ cls := "java/lang/String", name := "checkBoundsBeginEnd", desc := "(III)V" } : Jvm.MethodName)) ∈ lw_all := lw_g (lw_at lw_m1 150 rfl) rfl
theorem q191 : (Jvm.Cond.static ({ cls := "java/lang/String", name := "checkBoundsBeginEnd", desc := "(III)V" } : Jvm.MethodName)) ∈ lw_all := lw_g (lw_at lw_m1 151 rfl) rfl
theorem q192 : (Jvm.Cond.code ({ cls := "java/lang/String", name := "checkBoundsBeginEnd", desc := "(III)V" } : Jvm.MethodName) prog_23_method_158_code (3 : Nat) (Option.none : Option Jvm.ClassFile.FieldType)) ∈ lw_all := lw_g (lw_at lw_m1 152 rfl) rfl
theorem q193 : (Jvm.Cond.fieldLink "java/lang/String" (1053 : Nat) "jdk/internal/util/Preconditions" "SIOOBE_FORMATTER" "Ljava/util/function/BiFunction;") ∈ lw_all := lw_g (lw_at lw_m1 153 rfl) rfl
theorem q195 : (Jvm.Cond.methodLink "java/lang/String" (1062 : Nat) ({ cls := "jdk/internal/util/Preconditions", name := "checkFromToIndex", desc := "(IIILjava/util/function/BiFunction;)I" } : Jvm.MethodName)) ∈ lw_all := lw_g (lw_at lw_m1 155 rfl) rfl
theorem q198 : (Jvm.Cond.methodLink "java/lang/String" (492 : Nat) ({ cls := "java/lang/String", name := "isLatin1", desc := "()Z" } : Jvm.MethodName)) ∈ lw_all := lw_g (lw_at lw_m1 158 rfl) rfl
theorem q199 : (Jvm.Cond.instanceMethod ({ cls := "java/lang/String", name := "isLatin1", desc := "()Z" } : Jvm.MethodName)) ∈ lw_all := lw_g (lw_at lw_m1 159 rfl) rfl
theorem q200 : (Jvm.Cond.selects "java/lang/String" ({ cls := "java/lang/String", name := "isLatin1", desc := "()Z" } : Jvm.MethodName) ({ cls := "java/lang/String", name := "isLatin1", desc := "()Z" } : Jvm.MethodName)) ∈ lw_all := lw_g (lw_at lw_m1 160 rfl) rfl
theorem q201 : (Jvm.Cond.code ({ cls := "java/lang/String", name := "isLatin1", desc := "()Z" } : Jvm.MethodName) prog_23_method_154_code (1 : Nat) (Option.some Jvm.ClassFile.FieldType.boolean)) ∈ lw_all := lw_g (lw_at lw_m1 161 rfl) rfl
theorem q202 : (Jvm.Cond.methodLink "java/lang/String" (685 : Nat) ({ cls := "java/lang/StringLatin1", name := "newString", desc := "([BII)Ljava/lang/String;" } : Jvm.MethodName)) ∈ lw_all := lw_g (lw_at lw_m1 162 rfl) rfl
theorem q207 : (Jvm.Cond.instantiable "java/lang/String" (4 : Nat)) ∈ lw_all := lw_g (lw_at lw_m1 167 rfl) rfl
theorem q384 : (Jvm.Cond.static ({ cls := "java/lang/String", name := "checkBoundsOffCount", desc := "(III)I" } : Jvm.MethodName)) ∈ lw_all := lw_g (lw_at lw_m2 104 rfl) rfl
theorem q385 : (Jvm.Cond.code ({ cls := "java/lang/String", name := "checkBoundsOffCount", desc := "(III)I" } : Jvm.MethodName) prog_23_method_157_code (3 : Nat) (Option.some Jvm.ClassFile.FieldType.int)) ∈ lw_all := lw_g (lw_at lw_m2 105 rfl) rfl
theorem q386 : (Jvm.Cond.methodLink "java/lang/String" (1065 : Nat) ({ cls := "jdk/internal/util/Preconditions", name := "checkFromIndexSize", desc := "(IIILjava/util/function/BiFunction;)I" } : Jvm.MethodName)) ∈ lw_all := lw_g (lw_at lw_m2 106 rfl) rfl
theorem q390 : (Jvm.Cond.instanceMethod ({ cls := "java/lang/String", name := "getBytes", desc := "([BIB)V" } : Jvm.MethodName)) ∈ lw_all := lw_g (lw_at lw_m2 110 rfl) rfl
theorem q391 : (Jvm.Cond.selects "java/lang/String" ({ cls := "java/lang/String", name := "getBytes", desc := "([BIB)V" } : Jvm.MethodName) ({ cls := "java/lang/String", name := "getBytes", desc := "([BIB)V" } : Jvm.MethodName)) ∈ lw_all := lw_g (lw_at lw_m2 111 rfl) rfl
theorem q392 : (Jvm.Cond.code ({ cls := "java/lang/String", name := "getBytes", desc := "([BIB)V" } : Jvm.MethodName) prog_23_method_147_code (4 : Nat) (Option.none : Option Jvm.ClassFile.FieldType)) ∈ lw_all := lw_g (lw_at lw_m2 112 rfl) rfl
theorem q393 : (Jvm.Cond.methodLink "java/lang/String" (212 : Nat) ({ cls := "java/lang/System", name := "arraycopy", desc := "(Ljava/lang/Object;ILjava/lang/Object;II)V" } : Jvm.MethodName)) ∈ lw_all := lw_g (lw_at lw_m2 113 rfl) rfl
theorem q394 : (Jvm.Cond.methodLink "java/lang/String" (106 : Nat) ({ cls := "java/lang/StringLatin1", name := "inflate", desc := "([BI[BII)V" } : Jvm.MethodName)) ∈ lw_all := lw_g (lw_at lw_m2 114 rfl) rfl
theorem q401 : (Jvm.Cond.instanceMethod ({ cls := "java/lang/String", name := "<init>", desc := "(Ljava/lang/StringBuilder;)V" } : Jvm.MethodName)) ∈ lw_all := lw_g (lw_at lw_m2 121 rfl) rfl
theorem q402 : (Jvm.Cond.code ({ cls := "java/lang/String", name := "<init>", desc := "(Ljava/lang/StringBuilder;)V" } : Jvm.MethodName) prog_23_method_53_code (2 : Nat) (Option.none : Option Jvm.ClassFile.FieldType)) ∈ lw_all := lw_g (lw_at lw_m2 122 rfl) rfl
theorem q403 : (Jvm.Cond.methodLink "java/lang/String" (489 : Nat) ({ cls := "java/lang/String", name := "<init>", desc := "(Ljava/lang/AbstractStringBuilder;Ljava/lang/Void;)V" } : Jvm.MethodName)) ∈ lw_all := lw_g (lw_at lw_m2 123 rfl) rfl
theorem q404 : (Jvm.Cond.instanceMethod ({ cls := "java/lang/String", name := "<init>", desc := "(Ljava/lang/AbstractStringBuilder;Ljava/lang/Void;)V" } : Jvm.MethodName)) ∈ lw_all := lw_g (lw_at lw_m2 124 rfl) rfl
theorem q405 : (Jvm.Cond.code ({ cls := "java/lang/String", name := "<init>", desc := "(Ljava/lang/AbstractStringBuilder;Ljava/lang/Void;)V" } : Jvm.MethodName) prog_23_method_150_code (5 : Nat) (Option.none : Option Jvm.ClassFile.FieldType)) ∈ lw_all := lw_g (lw_at lw_m2 125 rfl) rfl
theorem q406 : (Jvm.Cond.methodLink "java/lang/String" (1 : Nat) ({ cls := "java/lang/Object", name := "<init>", desc := "()V" } : Jvm.MethodName)) ∈ lw_all := lw_g (lw_at lw_m2 126 rfl) rfl
theorem q407 : (Jvm.Cond.methodLink "java/lang/String" (552 : Nat) ({ cls := "java/lang/AbstractStringBuilder", name := "getValue", desc := "()[B" } : Jvm.MethodName)) ∈ lw_all := lw_g (lw_at lw_m2 127 rfl) rfl
theorem q412 : (Jvm.Cond.methodLink "java/lang/String" (549 : Nat) ({ cls := "java/lang/AbstractStringBuilder", name := "length", desc := "()I" } : Jvm.MethodName)) ∈ lw_all := lw_g (lw_at lw_m2 132 rfl) rfl
theorem q420 : (Jvm.Cond.methodLink "java/lang/String" (1047 : Nat) ({ cls := "java/lang/AbstractStringBuilder", name := "isLatin1", desc := "()Z" } : Jvm.MethodName)) ∈ lw_all := lw_g (lw_at lw_m2 140 rfl) rfl
theorem q421 : (Jvm.Cond.methodLink "java/lang/String" (54 : Nat) ({ cls := "java/util/Arrays", name := "copyOfRange", desc := "([BII)[B" } : Jvm.MethodName)) ∈ lw_all := lw_g (lw_at lw_m2 141 rfl) rfl
theorem q422 : (Jvm.Cond.methodLink "java/lang/String" (1051 : Nat) ({ cls := "java/lang/StringUTF16", name := "compress", desc := "([BII)[B" } : Jvm.MethodName)) ∈ lw_all := lw_g (lw_at lw_m2 142 rfl) rfl
theorem q432 : (Jvm.Cond.methodLink "java/lang/String" (47 : Nat) ({ cls := "java/lang/StringUTF16", name := "coderFromArrayLen", desc := "([BI)B" } : Jvm.MethodName)) ∈ lw_all := lw_g (lw_at lw_m2 152 rfl) rfl
theorem q435 : (Jvm.Cond.fieldLink "java/lang/String" (9 : Nat) "java/lang/String" "value" "[B") ∈ lw_all := lw_g (lw_at lw_m2 155 rfl) rfl
theorem q436 : (Jvm.Cond.fieldLink "java/lang/String" (15 : Nat) "java/lang/String" "coder" "B") ∈ lw_all := lw_g (lw_at lw_m2 156 rfl) rfl
theorem q437 : (Jvm.Cond.laysFinal "java/lang/String" "java/lang/String" "value" "[B") ∈ lw_all := lw_g (lw_at lw_m2 157 rfl) rfl
theorem q438 : (Jvm.Cond.soleField "java/lang/String" "value") ∈ lw_all := lw_g (lw_at lw_m2 158 rfl) rfl
theorem q439 : (Jvm.Cond.laysFinal "java/lang/String" "java/lang/String" "coder" "B") ∈ lw_all := lw_g (lw_at lw_m2 159 rfl) rfl
theorem q440 : (Jvm.Cond.soleField "java/lang/String" "coder") ∈ lw_all := lw_g (lw_at lw_m2 160 rfl) rfl
theorem q441 : (Jvm.Cond.lays "java/lang/String" "java/lang/String" "hash" "I") ∈ lw_all := lw_g (lw_at lw_m2 161 rfl) rfl
theorem q442 : (Jvm.Cond.soleField "java/lang/String" "hash") ∈ lw_all := lw_g (lw_at lw_m2 162 rfl) rfl
theorem q443 : (Jvm.Cond.lays "java/lang/String" "java/lang/String" "hashIsZero" "Z") ∈ lw_all := lw_g (lw_at lw_m2 163 rfl) rfl
theorem q444 : (Jvm.Cond.soleField "java/lang/String" "hashIsZero") ∈ lw_all := lw_g (lw_at lw_m2 164 rfl) rfl
theorem q445 : (Jvm.Cond.superclass "java/lang/String" "java/lang/Object") ∈ lw_all := lw_g (lw_at lw_m2 165 rfl) rfl
theorem q472 : (Jvm.Cond.instanceMethod ({ cls := "java/lang/String", name := "<init>", desc := "([BB)V" } : Jvm.MethodName)) ∈ lw_all := lw_g (lw_at lw_m2 192 rfl) rfl
theorem q473 : (Jvm.Cond.code ({ cls := "java/lang/String", name := "<init>", desc := "([BB)V" } : Jvm.MethodName) prog_23_method_151_code (3 : Nat) (Option.none : Option Jvm.ClassFile.FieldType)) ∈ lw_all := lw_g (lw_at lw_m2 193 rfl) rfl
theorem q474 : (Jvm.Cond.methodLink "java/lang/String" (689 : Nat) ({ cls := "java/lang/StringUTF16", name := "newString", desc := "([BII)Ljava/lang/String;" } : Jvm.MethodName)) ∈ lw_all := lw_g (lw_at lw_m2 194 rfl) rfl
theorem q585 : (Jvm.Cond.static ({ cls := "java/lang/String", name := "checkOffset", desc := "(II)V" } : Jvm.MethodName)) ∈ lw_all := lw_g (lw_at lw_m3 65 rfl) rfl
theorem q586 : (Jvm.Cond.code ({ cls := "java/lang/String", name := "checkOffset", desc := "(II)V" } : Jvm.MethodName) prog_23_method_156_code (2 : Nat) (Option.none : Option Jvm.ClassFile.FieldType)) ∈ lw_all := lw_g (lw_at lw_m3 66 rfl) rfl
theorem q603 : (Jvm.Cond.instanceMethod ({ cls := "java/lang/String", name := "equals", desc := "(Ljava/lang/Object;)Z" } : Jvm.MethodName)) ∈ lw_all := lw_g (lw_at lw_m3 83 rfl) rfl
theorem q604 : (Jvm.Cond.selects "java/lang/String" ({ cls := "java/lang/String", name := "equals", desc := "(Ljava/lang/Object;)Z" } : Jvm.MethodName) ({ cls := "java/lang/String", name := "equals", desc := "(Ljava/lang/Object;)Z" } : Jvm.MethodName)) ∈ lw_all := lw_g (lw_at lw_m3 84 rfl) rfl
theorem q605 : (Jvm.Cond.code ({ cls := "java/lang/String", name := "equals", desc := "(Ljava/lang/Object;)Z" } : Jvm.MethodName) prog_23_method_66_code (3 : Nat) (Option.some Jvm.ClassFile.FieldType.boolean)) ∈ lw_all := lw_g (lw_at lw_m3 85 rfl) rfl
theorem q606 : (Jvm.Cond.classLink "java/lang/String" (10 : Nat) "java/lang/String") ∈ lw_all := lw_g (lw_at lw_m3 86 rfl) rfl
theorem q607 : (Jvm.Cond.methodLink "java/lang/String" (541 : Nat) ({ cls := "java/lang/StringLatin1", name := "equals", desc := "([B[B)Z" } : Jvm.MethodName)) ∈ lw_all := lw_g (lw_at lw_m3 87 rfl) rfl
theorem q662 : (Jvm.Cond.castable "java/lang/String" "java/lang/Comparable") ∈ lw_tbl := lw_at lw_m3 142 rfl
theorem q663 : (Jvm.Cond.selects "java/lang/String" ({ cls := "java/lang/Comparable", name := "compareTo", desc := "(Ljava/lang/Object;)I" } : Jvm.MethodName) ({ cls := "java/lang/String", name := "compareTo", desc := "(Ljava/lang/Object;)I" } : Jvm.MethodName)) ∈ lw_all := lw_g (lw_at lw_m3 143 rfl) rfl
theorem q664 : (Jvm.Cond.unhidden "java/lang/String" "compareTo" "(Ljava/lang/Object;)I") ∈ lw_tbl := lw_at lw_m3 144 rfl
theorem q665 : (Jvm.Cond.instanceMethod ({ cls := "java/lang/String", name := "compareTo", desc := "(Ljava/lang/Object;)I" } : Jvm.MethodName)) ∈ lw_all := lw_g (lw_at lw_m3 145 rfl) rfl
theorem q666 : (Jvm.Cond.publicMethod ({ cls := "java/lang/String", name := "compareTo", desc := "(Ljava/lang/Object;)I" } : Jvm.MethodName)) ∈ lw_tbl := lw_at lw_m3 146 rfl
theorem q667 : (Jvm.Cond.code ({ cls := "java/lang/String", name := "compareTo", desc := "(Ljava/lang/Object;)I" } : Jvm.MethodName) prog_23_method_162_code (2 : Nat) (Option.some Jvm.ClassFile.FieldType.int)) ∈ lw_all := lw_g (lw_at lw_m3 147 rfl) rfl
theorem q668 : (Jvm.Cond.methodLink "java/lang/String" (1084 : Nat) ({ cls := "java/lang/String", name := "compareTo", desc := "(Ljava/lang/String;)I" } : Jvm.MethodName)) ∈ lw_all := lw_g (lw_at lw_m3 148 rfl) rfl
theorem q669 : (Jvm.Cond.instanceMethod ({ cls := "java/lang/String", name := "compareTo", desc := "(Ljava/lang/String;)I" } : Jvm.MethodName)) ∈ lw_all := lw_g (lw_at lw_m3 149 rfl) rfl
theorem q670 : (Jvm.Cond.selects "java/lang/String" ({ cls := "java/lang/String", name := "compareTo", desc := "(Ljava/lang/String;)I" } : Jvm.MethodName) ({ cls := "java/lang/String", name := "compareTo", desc := "(Ljava/lang/String;)I" } : Jvm.MethodName)) ∈ lw_all := lw_g (lw_at lw_m3 150 rfl) rfl
theorem q671 : (Jvm.Cond.code ({ cls := "java/lang/String", name := "compareTo", desc := "(Ljava/lang/String;)I" } : Jvm.MethodName) prog_23_method_71_code (5 : Nat) (Option.some Jvm.ClassFile.FieldType.int)) ∈ lw_all := lw_g (lw_at lw_m3 151 rfl) rfl
theorem q672 : (Jvm.Cond.methodLink "java/lang/String" (586 : Nat) ({ cls := "java/lang/StringLatin1", name := "compareTo", desc := "([B[B)I" } : Jvm.MethodName)) ∈ lw_all := lw_g (lw_at lw_m3 152 rfl) rfl
theorem q786 : (Jvm.Cond.methodLink "java/lang/String" (590 : Nat) ({ cls := "java/lang/StringUTF16", name := "compareTo", desc := "([B[B)I" } : Jvm.MethodName)) ∈ lw_all := lw_g (lw_at lw_m4 26 rfl) rfl
theorem q793 : (Jvm.Cond.methodLink "java/lang/String" (591 : Nat) ({ cls := "java/lang/StringLatin1", name := "compareToUTF16", desc := "([B[B)I" } : Jvm.MethodName)) ∈ lw_all := lw_g (lw_at lw_m4 33 rfl) rfl
theorem q804 : (Jvm.Cond.methodLink "java/lang/String" (594 : Nat) ({ cls := "java/lang/StringUTF16", name := "compareToLatin1", desc := "([B[B)I" } : Jvm.MethodName)) ∈ lw_all := lw_g (lw_at lw_m4 44 rfl) rfl
theorem q1188 : (Jvm.Cond.static ({ cls := "java/lang/String", name := "checkIndex", desc := "(II)V" } : Jvm.MethodName)) ∈ lw_all := lw_g (lw_at lw_m5 188 rfl) rfl
theorem q1189 : (Jvm.Cond.code ({ cls := "java/lang/String", name := "checkIndex", desc := "(II)V" } : Jvm.MethodName) prog_23_method_155_code (2 : Nat) (Option.none : Option Jvm.ClassFile.FieldType)) ∈ lw_all := lw_g (lw_at lw_m5 189 rfl) rfl
theorem q1190 : (Jvm.Cond.methodLink "java/lang/String" (1059 : Nat) ({ cls := "jdk/internal/util/Preconditions", name := "checkIndex", desc := "(IILjava/util/function/BiFunction;)I" } : Jvm.MethodName)) ∈ lw_all := lw_g (lw_at lw_m5 190 rfl) rfl
theorem q1548 : (Jvm.Cond.instanceMethod ({ cls := "java/lang/String", name := "charAt", desc := "(I)C" } : Jvm.MethodName)) ∈ lw_all := lw_g (lw_at lw_m7 68 rfl) rfl
theorem q1549 : (Jvm.Cond.selects "java/lang/String" ({ cls := "java/lang/String", name := "charAt", desc := "(I)C" } : Jvm.MethodName) ({ cls := "java/lang/String", name := "charAt", desc := "(I)C" } : Jvm.MethodName)) ∈ lw_all := lw_g (lw_at lw_m7 69 rfl) rfl
theorem q1550 : (Jvm.Cond.code ({ cls := "java/lang/String", name := "charAt", desc := "(I)C" } : Jvm.MethodName) prog_23_method_56_code (2 : Nat) (Option.some Jvm.ClassFile.FieldType.char)) ∈ lw_all := lw_g (lw_at lw_m7 70 rfl) rfl
theorem q1551 : (Jvm.Cond.methodLink "java/lang/String" (495 : Nat) ({ cls := "java/lang/StringLatin1", name := "charAt", desc := "([BI)C" } : Jvm.MethodName)) ∈ lw_all := lw_g (lw_at lw_m7 71 rfl) rfl
theorem q1555 : (Jvm.Cond.methodLink "java/lang/String" (498 : Nat) ({ cls := "java/lang/StringUTF16", name := "charAt", desc := "([BI)C" } : Jvm.MethodName)) ∈ lw_all := lw_g (lw_at lw_m7 75 rfl) rfl
theorem q1585 : (Jvm.Cond.instanceMethod ({ cls := "java/lang/String", name := "isEmpty", desc := "()Z" } : Jvm.MethodName)) ∈ lw_all := lw_g (lw_at lw_m7 105 rfl) rfl
theorem q1586 : (Jvm.Cond.selects "java/lang/String" ({ cls := "java/lang/String", name := "isEmpty", desc := "()Z" } : Jvm.MethodName) ({ cls := "java/lang/String", name := "isEmpty", desc := "()Z" } : Jvm.MethodName)) ∈ lw_all := lw_g (lw_at lw_m7 106 rfl) rfl
theorem q1587 : (Jvm.Cond.code ({ cls := "java/lang/String", name := "isEmpty", desc := "()Z" } : Jvm.MethodName) prog_23_method_55_code (1 : Nat) (Option.some Jvm.ClassFile.FieldType.boolean)) ∈ lw_all := lw_g (lw_at lw_m7 107 rfl) rfl
theorem q1650 : (Jvm.Cond.instanceMethod ({ cls := "java/lang/String", name := "substring", desc := "(I)Ljava/lang/String;" } : Jvm.MethodName)) ∈ lw_all := lw_g (lw_at lw_m7 170 rfl) rfl
theorem q1651 : (Jvm.Cond.selects "java/lang/String" ({ cls := "java/lang/String", name := "substring", desc := "(I)Ljava/lang/String;" } : Jvm.MethodName) ({ cls := "java/lang/String", name := "substring", desc := "(I)Ljava/lang/String;" } : Jvm.MethodName)) ∈ lw_all := lw_g (lw_at lw_m7 171 rfl) rfl
theorem q1652 : (Jvm.Cond.code ({ cls := "java/lang/String", name := "substring", desc := "(I)Ljava/lang/String;" } : Jvm.MethodName) prog_23_method_91_code (2 : Nat) (Option.some (Jvm.ClassFile.FieldType.object "java/lang/String"))) ∈ lw_all := lw_g (lw_at lw_m7 172 rfl) rfl
theorem q1653 : (Jvm.Cond.methodLink "java/lang/String" (681 : Nat) ({ cls := "java/lang/String", name := "substring", desc := "(II)Ljava/lang/String;" } : Jvm.MethodName)) ∈ lw_all := lw_g (lw_at lw_m7 173 rfl) rfl
theorem q2098 : (Jvm.Cond.selects "java/lang/String" ({ cls := "java/lang/Object", name := "equals", desc := "(Ljava/lang/Object;)Z" } : Jvm.MethodName) ({ cls := "java/lang/String", name := "equals", desc := "(Ljava/lang/Object;)Z" } : Jvm.MethodName)) ∈ lw_all := lw_g (lw_at lw_m9 138 rfl) rfl
theorem q2484 : (Jvm.Cond.castable "java/lang/String" "java/lang/Object") ∈ lw_tbl := lw_at lw_m11 44 rfl
theorem in_J2 : ∀ w ∈ wsJ20, w ∈ lw_all := lw_in wsJ20 [437, 439, 441, 443] (by decide +kernel) (by decide +kernel)
/-! java/lang/StringLatin1 -/
set_option maxRecDepth 100000
def RJ7 : String := "java/lang/StringLatin1"
abbrev cJ7_newString : ByteArray := prog_26_method_47_code
def yJ7_newString : MethodName := ⟨RJ7, "newString", "([BII)Ljava/lang/String;"⟩
def dkwJ7_newString_0 : List UInt8 := [28, 154, 0, 6, 18, 151, 176, 187, 0, 1, 89, 42, 27, 27, 28, 96, 184, 0, 232, 3, 183, 0, 112, 176]
abbrev dktJ7_newString_0 : List UInt8 := dkwJ7_newString_0 ++ []
theorem dksJ7_newString_0 : cJ7_newString.data.toList.drop 0 = dktJ7_newString_0 := by decide +kernel
theorem dJ7_newString_0 : decode cJ7_newString 0 = .ok (.iload_n 2, 1) := dk_28 (dk_at dksJ7_newString_0 0 rfl rfl)
theorem dJ7_newString_1 : decode cJ7_newString 1 = .ok (.ifCond .ne 6, 3) := dk_154 0 6 (dk_at dksJ7_newString_0 1 rfl rfl)
theorem dJ7_newString_4 : decode cJ7_newString 4 = .ok (.ldc 151, 2) := dk_18 151 (dk_at dksJ7_newString_0 4 rfl rfl)
theorem dJ7_newString_6 : decode cJ7_newString 6 = .ok (.areturn, 1) := dk_176 (dk_at dksJ7_newString_0 6 rfl rfl)
theorem dJ7_newString_7 : decode cJ7_newString 7 = .ok (.new 1, 3) := dk_187 0 1 (dk_at dksJ7_newString_0 7 rfl rfl)
theorem dJ7_newString_10 : decode cJ7_newString 10 = .ok (.dup, 1) := dk_89 (dk_at dksJ7_newString_0 10 rfl rfl)
theorem dJ7_newString_11 : decode cJ7_newString 11 = .ok (.aload_n 0, 1) := dk_42 (dk_at dksJ7_newString_0 11 rfl rfl)
theorem dJ7_newString_12 : decode cJ7_newString 12 = .ok (.iload_n 1, 1) := dk_27 (dk_at dksJ7_newString_0 12 rfl rfl)
theorem dJ7_newString_13 : decode cJ7_newString 13 = .ok (.iload_n 1, 1) := dk_27 (dk_at dksJ7_newString_0 13 rfl rfl)
theorem dJ7_newString_14 : decode cJ7_newString 14 = .ok (.iload_n 2, 1) := dk_28 (dk_at dksJ7_newString_0 14 rfl rfl)
theorem dJ7_newString_15 : decode cJ7_newString 15 = .ok (.iadd, 1) := dk_96 (dk_at dksJ7_newString_0 15 rfl rfl)
theorem dJ7_newString_16 : decode cJ7_newString 16 = .ok (.invokestatic 232, 3) := dk_184 0 232 (dk_at dksJ7_newString_0 16 rfl rfl)
theorem dJ7_newString_19 : decode cJ7_newString 19 = .ok (.iconst 0, 1) := dk_3 (dk_at dksJ7_newString_0 19 rfl rfl)
theorem dJ7_newString_20 : decode cJ7_newString 20 = .ok (.invokespecial 112, 3) := dk_183 0 112 (dk_at dksJ7_newString_0 20 rfl rfl)
theorem dJ7_newString_23 : decode cJ7_newString 23 = .ok (.areturn, 1) := dk_176 (dk_at dksJ7_newString_0 23 rfl rfl)
abbrev cJ7_inflate : ByteArray := prog_26_method_50_code
def yJ7_inflate : MethodName := ⟨RJ7, "inflate", "([BI[BII)V"⟩
def dkwJ7_inflate_0 : List UInt8 := [42, 27, 44, 29, 21, 4, 184, 0, 240, 177]
abbrev dktJ7_inflate_0 : List UInt8 := dkwJ7_inflate_0 ++ []
theorem dksJ7_inflate_0 : cJ7_inflate.data.toList.drop 0 = dktJ7_inflate_0 := by decide +kernel
theorem dJ7_inflate_0 : decode cJ7_inflate 0 = .ok (.aload_n 0, 1) := dk_42 (dk_at dksJ7_inflate_0 0 rfl rfl)
theorem dJ7_inflate_1 : decode cJ7_inflate 1 = .ok (.iload_n 1, 1) := dk_27 (dk_at dksJ7_inflate_0 1 rfl rfl)
theorem dJ7_inflate_2 : decode cJ7_inflate 2 = .ok (.aload_n 2, 1) := dk_44 (dk_at dksJ7_inflate_0 2 rfl rfl)
theorem dJ7_inflate_3 : decode cJ7_inflate 3 = .ok (.iload_n 3, 1) := dk_29 (dk_at dksJ7_inflate_0 3 rfl rfl)
theorem dJ7_inflate_4 : decode cJ7_inflate 4 = .ok (.iload 4, 2) := dk_21 4 (dk_at dksJ7_inflate_0 4 rfl rfl)
theorem dJ7_inflate_6 : decode cJ7_inflate 6 = .ok (.invokestatic 240, 3) := dk_184 0 240 (dk_at dksJ7_inflate_0 6 rfl rfl)
theorem dJ7_inflate_9 : decode cJ7_inflate 9 = .ok (.return_, 1) := dk_177 (dk_at dksJ7_inflate_0 9 rfl rfl)
abbrev cJ7_fillNull : ByteArray := prog_26_method_48_code
def yJ7_fillNull : MethodName := ⟨RJ7, "fillNull", "([BII)V"⟩
def dkwJ7_fillNull_0 : List UInt8 := [42, 27, 28, 3, 184, 0, 236, 177]
abbrev dktJ7_fillNull_0 : List UInt8 := dkwJ7_fillNull_0 ++ []
theorem dksJ7_fillNull_0 : cJ7_fillNull.data.toList.drop 0 = dktJ7_fillNull_0 := by decide +kernel
theorem dJ7_fillNull_0 : decode cJ7_fillNull 0 = .ok (.aload_n 0, 1) := dk_42 (dk_at dksJ7_fillNull_0 0 rfl rfl)
theorem dJ7_fillNull_1 : decode cJ7_fillNull 1 = .ok (.iload_n 1, 1) := dk_27 (dk_at dksJ7_fillNull_0 1 rfl rfl)
theorem dJ7_fillNull_2 : decode cJ7_fillNull 2 = .ok (.iload_n 2, 1) := dk_28 (dk_at dksJ7_fillNull_0 2 rfl rfl)
theorem dJ7_fillNull_3 : decode cJ7_fillNull 3 = .ok (.iconst 0, 1) := dk_3 (dk_at dksJ7_fillNull_0 3 rfl rfl)
theorem dJ7_fillNull_4 : decode cJ7_fillNull 4 = .ok (.invokestatic 236, 3) := dk_184 0 236 (dk_at dksJ7_fillNull_0 4 rfl rfl)
theorem dJ7_fillNull_7 : decode cJ7_fillNull 7 = .ok (.return_, 1) := dk_177 (dk_at dksJ7_fillNull_0 7 rfl rfl)
abbrev cJ7_equals : ByteArray := prog_26_method_13_code
def yJ7_equals : MethodName := ⟨RJ7, "equals", "([B[B)Z"⟩
def dkwJ7_equals_1 : List UInt8 := [3, 172, 132, 2, 1, 167, 255, 236, 4, 172, 3, 172]
abbrev dktJ7_equals_1 : List UInt8 := dkwJ7_equals_1 ++ []
def dkwJ7_equals_0 : List UInt8 := [42, 190, 43, 190, 160, 0, 30, 3, 61, 28, 42, 190, 162, 0, 20, 42, 28, 51, 43, 28, 51, 159, 0, 5]
abbrev dktJ7_equals_0 : List UInt8 := dkwJ7_equals_0 ++ dktJ7_equals_1
theorem dksJ7_equals_0 : cJ7_equals.data.toList.drop 0 = dktJ7_equals_0 := by decide +kernel
theorem dksJ7_equals_1 : cJ7_equals.data.toList.drop 24 = dktJ7_equals_1 := dk_seg dksJ7_equals_0 24 rfl rfl
theorem dJ7_equals_0 : decode cJ7_equals 0 = .ok (.aload_n 0, 1) := dk_42 (dk_at dksJ7_equals_0 0 rfl rfl)
theorem dJ7_equals_1 : decode cJ7_equals 1 = .ok (.arraylength, 1) := dk_190 (dk_at dksJ7_equals_0 1 rfl rfl)
theorem dJ7_equals_2 : decode cJ7_equals 2 = .ok (.aload_n 1, 1) := dk_43 (dk_at dksJ7_equals_0 2 rfl rfl)
theorem dJ7_equals_3 : decode cJ7_equals 3 = .ok (.arraylength, 1) := dk_190 (dk_at dksJ7_equals_0 3 rfl rfl)
theorem dJ7_equals_4 : decode cJ7_equals 4 = .ok (.if_icmp .ne 30, 3) := dk_160 0 30 (dk_at dksJ7_equals_0 4 rfl rfl)
theorem dJ7_equals_7 : decode cJ7_equals 7 = .ok (.iconst 0, 1) := dk_3 (dk_at dksJ7_equals_0 7 rfl rfl)
theorem dJ7_equals_8 : decode cJ7_equals 8 = .ok (.istore_n 2, 1) := dk_61 (dk_at dksJ7_equals_0 8 rfl rfl)
theorem dJ7_equals_9 : decode cJ7_equals 9 = .ok (.iload_n 2, 1) := dk_28 (dk_at dksJ7_equals_0 9 rfl rfl)
theorem dJ7_equals_10 : decode cJ7_equals 10 = .ok (.aload_n 0, 1) := dk_42 (dk_at dksJ7_equals_0 10 rfl rfl)
theorem dJ7_equals_11 : decode cJ7_equals 11 = .ok (.arraylength, 1) := dk_190 (dk_at dksJ7_equals_0 11 rfl rfl)
theorem dJ7_equals_12 : decode cJ7_equals 12 = .ok (.if_icmp .ge 20, 3) := dk_162 0 20 (dk_at dksJ7_equals_0 12 rfl rfl)
theorem dJ7_equals_15 : decode cJ7_equals 15 = .ok (.aload_n 0, 1) := dk_42 (dk_at dksJ7_equals_0 15 rfl rfl)
theorem dJ7_equals_16 : decode cJ7_equals 16 = .ok (.iload_n 2, 1) := dk_28 (dk_at dksJ7_equals_0 16 rfl rfl)
theorem dJ7_equals_17 : decode cJ7_equals 17 = .ok (.baload, 1) := dk_51 (dk_at dksJ7_equals_0 17 rfl rfl)
theorem dJ7_equals_18 : decode cJ7_equals 18 = .ok (.aload_n 1, 1) := dk_43 (dk_at dksJ7_equals_0 18 rfl rfl)
theorem dJ7_equals_19 : decode cJ7_equals 19 = .ok (.iload_n 2, 1) := dk_28 (dk_at dksJ7_equals_0 19 rfl rfl)
theorem dJ7_equals_20 : decode cJ7_equals 20 = .ok (.baload, 1) := dk_51 (dk_at dksJ7_equals_0 20 rfl rfl)
theorem dJ7_equals_21 : decode cJ7_equals 21 = .ok (.if_icmp .eq 5, 3) := dk_159 0 5 (dk_at dksJ7_equals_0 21 rfl rfl)
theorem dJ7_equals_24 : decode cJ7_equals 24 = .ok (.iconst 0, 1) := dk_3 (dk_at dksJ7_equals_1 0 rfl rfl)
theorem dJ7_equals_25 : decode cJ7_equals 25 = .ok (.ireturn, 1) := dk_172 (dk_at dksJ7_equals_1 1 rfl rfl)
theorem dJ7_equals_26 : decode cJ7_equals 26 = .ok (.iinc 2 1, 3) := dk_132 2 1 (dk_at dksJ7_equals_1 2 rfl rfl)
theorem dJ7_equals_29 : decode cJ7_equals 29 = .ok (.goto (-20), 3) := dk_167 255 236 (dk_at dksJ7_equals_1 5 rfl rfl)
theorem dJ7_equals_32 : decode cJ7_equals 32 = .ok (.iconst 1, 1) := dk_4 (dk_at dksJ7_equals_1 8 rfl rfl)
theorem dJ7_equals_33 : decode cJ7_equals 33 = .ok (.ireturn, 1) := dk_172 (dk_at dksJ7_equals_1 9 rfl rfl)
theorem dJ7_equals_34 : decode cJ7_equals 34 = .ok (.iconst 0, 1) := dk_3 (dk_at dksJ7_equals_1 10 rfl rfl)
theorem dJ7_equals_35 : decode cJ7_equals 35 = .ok (.ireturn, 1) := dk_172 (dk_at dksJ7_equals_1 11 rfl rfl)
abbrev cJ7_compareTo : ByteArray := prog_26_method_14_code
def yJ7_compareTo : MethodName := ⟨RJ7, "compareTo", "([B[B)I"⟩
def dkwJ7_compareTo_0 : List UInt8 := [42, 190, 61, 43, 190, 62, 42, 43, 28, 29, 184, 0, 34, 172]
abbrev dktJ7_compareTo_0 : List UInt8 := dkwJ7_compareTo_0 ++ []
theorem dksJ7_compareTo_0 : cJ7_compareTo.data.toList.drop 0 = dktJ7_compareTo_0 := by decide +kernel
theorem dJ7_compareTo_0 : decode cJ7_compareTo 0 = .ok (.aload_n 0, 1) := dk_42 (dk_at dksJ7_compareTo_0 0 rfl rfl)
theorem dJ7_compareTo_1 : decode cJ7_compareTo 1 = .ok (.arraylength, 1) := dk_190 (dk_at dksJ7_compareTo_0 1 rfl rfl)
theorem dJ7_compareTo_2 : decode cJ7_compareTo 2 = .ok (.istore_n 2, 1) := dk_61 (dk_at dksJ7_compareTo_0 2 rfl rfl)
theorem dJ7_compareTo_3 : decode cJ7_compareTo 3 = .ok (.aload_n 1, 1) := dk_43 (dk_at dksJ7_compareTo_0 3 rfl rfl)
theorem dJ7_compareTo_4 : decode cJ7_compareTo 4 = .ok (.arraylength, 1) := dk_190 (dk_at dksJ7_compareTo_0 4 rfl rfl)
theorem dJ7_compareTo_5 : decode cJ7_compareTo 5 = .ok (.istore_n 3, 1) := dk_62 (dk_at dksJ7_compareTo_0 5 rfl rfl)
theorem dJ7_compareTo_6 : decode cJ7_compareTo 6 = .ok (.aload_n 0, 1) := dk_42 (dk_at dksJ7_compareTo_0 6 rfl rfl)
theorem dJ7_compareTo_7 : decode cJ7_compareTo 7 = .ok (.aload_n 1, 1) := dk_43 (dk_at dksJ7_compareTo_0 7 rfl rfl)
theorem dJ7_compareTo_8 : decode cJ7_compareTo 8 = .ok (.iload_n 2, 1) := dk_28 (dk_at dksJ7_compareTo_0 8 rfl rfl)
theorem dJ7_compareTo_9 : decode cJ7_compareTo 9 = .ok (.iload_n 3, 1) := dk_29 (dk_at dksJ7_compareTo_0 9 rfl rfl)
theorem dJ7_compareTo_10 : decode cJ7_compareTo 10 = .ok (.invokestatic 34, 3) := dk_184 0 34 (dk_at dksJ7_compareTo_0 10 rfl rfl)
theorem dJ7_compareTo_13 : decode cJ7_compareTo 13 = .ok (.ireturn, 1) := dk_172 (dk_at dksJ7_compareTo_0 13 rfl rfl)
abbrev cJ7_compareTo_2 : ByteArray := prog_26_method_15_code
def yJ7_compareTo_2 : MethodName := ⟨RJ7, "compareTo", "([B[BII)I"⟩
def dkwJ7_compareTo_2_1 : List UInt8 := [167, 0, 16, 42, 21, 5, 184, 0, 50, 43, 21, 5, 184, 0, 50, 100, 172]
abbrev dktJ7_compareTo_2_1 : List UInt8 := dkwJ7_compareTo_2_1 ++ []
def dkwJ7_compareTo_2_0 : List UInt8 := [28, 29, 184, 0, 38, 54, 4, 42, 43, 21, 4, 184, 0, 44, 54, 5, 21, 5, 156, 0, 9, 28, 29, 100]
abbrev dktJ7_compareTo_2_0 : List UInt8 := dkwJ7_compareTo_2_0 ++ dktJ7_compareTo_2_1
theorem dksJ7_compareTo_2_0 : cJ7_compareTo_2.data.toList.drop 0 = dktJ7_compareTo_2_0 := by decide +kernel
theorem dksJ7_compareTo_2_1 : cJ7_compareTo_2.data.toList.drop 24 = dktJ7_compareTo_2_1 := dk_seg dksJ7_compareTo_2_0 24 rfl rfl
theorem dJ7_compareTo_2_0 : decode cJ7_compareTo_2 0 = .ok (.iload_n 2, 1) := dk_28 (dk_at dksJ7_compareTo_2_0 0 rfl rfl)
theorem dJ7_compareTo_2_1 : decode cJ7_compareTo_2 1 = .ok (.iload_n 3, 1) := dk_29 (dk_at dksJ7_compareTo_2_0 1 rfl rfl)
theorem dJ7_compareTo_2_2 : decode cJ7_compareTo_2 2 = .ok (.invokestatic 38, 3) := dk_184 0 38 (dk_at dksJ7_compareTo_2_0 2 rfl rfl)
theorem dJ7_compareTo_2_5 : decode cJ7_compareTo_2 5 = .ok (.istore 4, 2) := dk_54 4 (dk_at dksJ7_compareTo_2_0 5 rfl rfl)
theorem dJ7_compareTo_2_7 : decode cJ7_compareTo_2 7 = .ok (.aload_n 0, 1) := dk_42 (dk_at dksJ7_compareTo_2_0 7 rfl rfl)
theorem dJ7_compareTo_2_8 : decode cJ7_compareTo_2 8 = .ok (.aload_n 1, 1) := dk_43 (dk_at dksJ7_compareTo_2_0 8 rfl rfl)
theorem dJ7_compareTo_2_9 : decode cJ7_compareTo_2 9 = .ok (.iload 4, 2) := dk_21 4 (dk_at dksJ7_compareTo_2_0 9 rfl rfl)
theorem dJ7_compareTo_2_11 : decode cJ7_compareTo_2 11 = .ok (.invokestatic 44, 3) := dk_184 0 44 (dk_at dksJ7_compareTo_2_0 11 rfl rfl)
theorem dJ7_compareTo_2_14 : decode cJ7_compareTo_2 14 = .ok (.istore 5, 2) := dk_54 5 (dk_at dksJ7_compareTo_2_0 14 rfl rfl)
theorem dJ7_compareTo_2_16 : decode cJ7_compareTo_2 16 = .ok (.iload 5, 2) := dk_21 5 (dk_at dksJ7_compareTo_2_0 16 rfl rfl)
theorem dJ7_compareTo_2_18 : decode cJ7_compareTo_2 18 = .ok (.ifCond .ge 9, 3) := dk_156 0 9 (dk_at dksJ7_compareTo_2_0 18 rfl rfl)
theorem dJ7_compareTo_2_21 : decode cJ7_compareTo_2 21 = .ok (.iload_n 2, 1) := dk_28 (dk_at dksJ7_compareTo_2_0 21 rfl rfl)
theorem dJ7_compareTo_2_22 : decode cJ7_compareTo_2 22 = .ok (.iload_n 3, 1) := dk_29 (dk_at dksJ7_compareTo_2_0 22 rfl rfl)
theorem dJ7_compareTo_2_23 : decode cJ7_compareTo_2 23 = .ok (.isub, 1) := dk_100 (dk_at dksJ7_compareTo_2_0 23 rfl rfl)
theorem dJ7_compareTo_2_24 : decode cJ7_compareTo_2 24 = .ok (.goto 16, 3) := dk_167 0 16 (dk_at dksJ7_compareTo_2_1 0 rfl rfl)
theorem dJ7_compareTo_2_27 : decode cJ7_compareTo_2 27 = .ok (.aload_n 0, 1) := dk_42 (dk_at dksJ7_compareTo_2_1 3 rfl rfl)
theorem dJ7_compareTo_2_28 : decode cJ7_compareTo_2 28 = .ok (.iload 5, 2) := dk_21 5 (dk_at dksJ7_compareTo_2_1 4 rfl rfl)
theorem dJ7_compareTo_2_30 : decode cJ7_compareTo_2 30 = .ok (.invokestatic 50, 3) := dk_184 0 50 (dk_at dksJ7_compareTo_2_1 6 rfl rfl)
theorem dJ7_compareTo_2_33 : decode cJ7_compareTo_2 33 = .ok (.aload_n 1, 1) := dk_43 (dk_at dksJ7_compareTo_2_1 9 rfl rfl)
theorem dJ7_compareTo_2_34 : decode cJ7_compareTo_2 34 = .ok (.iload 5, 2) := dk_21 5 (dk_at dksJ7_compareTo_2_1 10 rfl rfl)
theorem dJ7_compareTo_2_36 : decode cJ7_compareTo_2 36 = .ok (.invokestatic 50, 3) := dk_184 0 50 (dk_at dksJ7_compareTo_2_1 12 rfl rfl)
theorem dJ7_compareTo_2_39 : decode cJ7_compareTo_2 39 = .ok (.isub, 1) := dk_100 (dk_at dksJ7_compareTo_2_1 15 rfl rfl)
theorem dJ7_compareTo_2_40 : decode cJ7_compareTo_2 40 = .ok (.ireturn, 1) := dk_172 (dk_at dksJ7_compareTo_2_1 16 rfl rfl)
abbrev cJ7_getChar : ByteArray := prog_26_method_44_code
def yJ7_getChar : MethodName := ⟨RJ7, "getChar", "([BI)C"⟩
def dkwJ7_getChar_0 : List UInt8 := [42, 27, 51, 17, 0, 255, 126, 146, 172]
abbrev dktJ7_getChar_0 : List UInt8 := dkwJ7_getChar_0 ++ []
theorem dksJ7_getChar_0 : cJ7_getChar.data.toList.drop 0 = dktJ7_getChar_0 := by decide +kernel
theorem dJ7_getChar_0 : decode cJ7_getChar 0 = .ok (.aload_n 0, 1) := dk_42 (dk_at dksJ7_getChar_0 0 rfl rfl)
theorem dJ7_getChar_1 : decode cJ7_getChar 1 = .ok (.iload_n 1, 1) := dk_27 (dk_at dksJ7_getChar_0 1 rfl rfl)
theorem dJ7_getChar_2 : decode cJ7_getChar 2 = .ok (.baload, 1) := dk_51 (dk_at dksJ7_getChar_0 2 rfl rfl)
theorem dJ7_getChar_3 : decode cJ7_getChar 3 = .ok (.sipush 255, 3) := dk_17 0 255 (dk_at dksJ7_getChar_0 3 rfl rfl)
theorem dJ7_getChar_6 : decode cJ7_getChar 6 = .ok (.iand, 1) := dk_126 (dk_at dksJ7_getChar_0 6 rfl rfl)
theorem dJ7_getChar_7 : decode cJ7_getChar 7 = .ok (.i2c, 1) := dk_146 (dk_at dksJ7_getChar_0 7 rfl rfl)
theorem dJ7_getChar_8 : decode cJ7_getChar 8 = .ok (.ireturn, 1) := dk_172 (dk_at dksJ7_getChar_0 8 rfl rfl)
abbrev cJ7_compareToUTF16 : ByteArray := prog_26_method_16_code
def yJ7_compareToUTF16 : MethodName := ⟨RJ7, "compareToUTF16", "([B[B)I"⟩
def dkwJ7_compareToUTF16_0 : List UInt8 := [42, 184, 0, 54, 61, 43, 184, 0, 58, 62, 42, 43, 28, 29, 184, 0, 59, 172]
abbrev dktJ7_compareToUTF16_0 : List UInt8 := dkwJ7_compareToUTF16_0 ++ []
theorem dksJ7_compareToUTF16_0 : cJ7_compareToUTF16.data.toList.drop 0 = dktJ7_compareToUTF16_0 := by decide +kernel
theorem dJ7_compareToUTF16_0 : decode cJ7_compareToUTF16 0 = .ok (.aload_n 0, 1) := dk_42 (dk_at dksJ7_compareToUTF16_0 0 rfl rfl)
theorem dJ7_compareToUTF16_1 : decode cJ7_compareToUTF16 1 = .ok (.invokestatic 54, 3) := dk_184 0 54 (dk_at dksJ7_compareToUTF16_0 1 rfl rfl)
theorem dJ7_compareToUTF16_4 : decode cJ7_compareToUTF16 4 = .ok (.istore_n 2, 1) := dk_61 (dk_at dksJ7_compareToUTF16_0 4 rfl rfl)
theorem dJ7_compareToUTF16_5 : decode cJ7_compareToUTF16 5 = .ok (.aload_n 1, 1) := dk_43 (dk_at dksJ7_compareToUTF16_0 5 rfl rfl)
theorem dJ7_compareToUTF16_6 : decode cJ7_compareToUTF16 6 = .ok (.invokestatic 58, 3) := dk_184 0 58 (dk_at dksJ7_compareToUTF16_0 6 rfl rfl)
theorem dJ7_compareToUTF16_9 : decode cJ7_compareToUTF16 9 = .ok (.istore_n 3, 1) := dk_62 (dk_at dksJ7_compareToUTF16_0 9 rfl rfl)
theorem dJ7_compareToUTF16_10 : decode cJ7_compareToUTF16 10 = .ok (.aload_n 0, 1) := dk_42 (dk_at dksJ7_compareToUTF16_0 10 rfl rfl)
theorem dJ7_compareToUTF16_11 : decode cJ7_compareToUTF16 11 = .ok (.aload_n 1, 1) := dk_43 (dk_at dksJ7_compareToUTF16_0 11 rfl rfl)
theorem dJ7_compareToUTF16_12 : decode cJ7_compareToUTF16 12 = .ok (.iload_n 2, 1) := dk_28 (dk_at dksJ7_compareToUTF16_0 12 rfl rfl)
theorem dJ7_compareToUTF16_13 : decode cJ7_compareToUTF16 13 = .ok (.iload_n 3, 1) := dk_29 (dk_at dksJ7_compareToUTF16_0 13 rfl rfl)
theorem dJ7_compareToUTF16_14 : decode cJ7_compareToUTF16 14 = .ok (.invokestatic 59, 3) := dk_184 0 59 (dk_at dksJ7_compareToUTF16_0 14 rfl rfl)
theorem dJ7_compareToUTF16_17 : decode cJ7_compareToUTF16 17 = .ok (.ireturn, 1) := dk_172 (dk_at dksJ7_compareToUTF16_0 17 rfl rfl)
abbrev cJ7_length : ByteArray := prog_26_method_5_code
def yJ7_length : MethodName := ⟨RJ7, "length", "([B)I"⟩
theorem dJ7_length_0 : decode cJ7_length 0 = .ok (.aload_n 0, 1) := by decide +kernel
theorem dJ7_length_1 : decode cJ7_length 1 = .ok (.arraylength, 1) := by decide +kernel
theorem dJ7_length_2 : decode cJ7_length 2 = .ok (.ireturn, 1) := by decide +kernel
abbrev cJ7_compareToUTF16Values : ByteArray := prog_26_method_18_code
def yJ7_compareToUTF16Values : MethodName := ⟨RJ7, "compareToUTF16Values", "([B[BII)I"⟩
def dkwJ7_compareToUTF16Values_2 : List UInt8 := [132, 5, 1, 167, 255, 217, 28, 29, 100, 172]
abbrev dktJ7_compareToUTF16Values_2 : List UInt8 := dkwJ7_compareToUTF16Values_2 ++ []
def dkwJ7_compareToUTF16Values_1 : List UInt8 := [54, 6, 43, 21, 5, 184, 0, 65, 54, 7, 21, 6, 21, 7, 159, 0, 9, 21, 6, 21, 7, 100, 172]
abbrev dktJ7_compareToUTF16Values_1 : List UInt8 := dkwJ7_compareToUTF16Values_1 ++ dktJ7_compareToUTF16Values_2
def dkwJ7_compareToUTF16Values_0 : List UInt8 := [28, 29, 184, 0, 38, 54, 4, 3, 54, 5, 21, 5, 21, 4, 162, 0, 38, 42, 21, 5, 184, 0, 50]
abbrev dktJ7_compareToUTF16Values_0 : List UInt8 := dkwJ7_compareToUTF16Values_0 ++ dktJ7_compareToUTF16Values_1
theorem dksJ7_compareToUTF16Values_0 : cJ7_compareToUTF16Values.data.toList.drop 0 = dktJ7_compareToUTF16Values_0 := by decide +kernel
theorem dksJ7_compareToUTF16Values_1 : cJ7_compareToUTF16Values.data.toList.drop 23 = dktJ7_compareToUTF16Values_1 := dk_seg dksJ7_compareToUTF16Values_0 23 rfl rfl
theorem dksJ7_compareToUTF16Values_2 : cJ7_compareToUTF16Values.data.toList.drop 46 = dktJ7_compareToUTF16Values_2 := dk_seg dksJ7_compareToUTF16Values_1 23 rfl rfl
theorem dJ7_compareToUTF16Values_0 : decode cJ7_compareToUTF16Values 0 = .ok (.iload_n 2, 1) := dk_28 (dk_at dksJ7_compareToUTF16Values_0 0 rfl rfl)
theorem dJ7_compareToUTF16Values_1 : decode cJ7_compareToUTF16Values 1 = .ok (.iload_n 3, 1) := dk_29 (dk_at dksJ7_compareToUTF16Values_0 1 rfl rfl)
theorem dJ7_compareToUTF16Values_2 : decode cJ7_compareToUTF16Values 2 = .ok (.invokestatic 38, 3) := dk_184 0 38 (dk_at dksJ7_compareToUTF16Values_0 2 rfl rfl)
theorem dJ7_compareToUTF16Values_5 : decode cJ7_compareToUTF16Values 5 = .ok (.istore 4, 2) := dk_54 4 (dk_at dksJ7_compareToUTF16Values_0 5 rfl rfl)
theorem dJ7_compareToUTF16Values_7 : decode cJ7_compareToUTF16Values 7 = .ok (.iconst 0, 1) := dk_3 (dk_at dksJ7_compareToUTF16Values_0 7 rfl rfl)
theorem dJ7_compareToUTF16Values_8 : decode cJ7_compareToUTF16Values 8 = .ok (.istore 5, 2) := dk_54 5 (dk_at dksJ7_compareToUTF16Values_0 8 rfl rfl)
theorem dJ7_compareToUTF16Values_10 : decode cJ7_compareToUTF16Values 10 = .ok (.iload 5, 2) := dk_21 5 (dk_at dksJ7_compareToUTF16Values_0 10 rfl rfl)
theorem dJ7_compareToUTF16Values_12 : decode cJ7_compareToUTF16Values 12 = .ok (.iload 4, 2) := dk_21 4 (dk_at dksJ7_compareToUTF16Values_0 12 rfl rfl)
theorem dJ7_compareToUTF16Values_14 : decode cJ7_compareToUTF16Values 14 = .ok (.if_icmp .ge 38, 3) := dk_162 0 38 (dk_at dksJ7_compareToUTF16Values_0 14 rfl rfl)
theorem dJ7_compareToUTF16Values_17 : decode cJ7_compareToUTF16Values 17 = .ok (.aload_n 0, 1) := dk_42 (dk_at dksJ7_compareToUTF16Values_0 17 rfl rfl)
theorem dJ7_compareToUTF16Values_18 : decode cJ7_compareToUTF16Values 18 = .ok (.iload 5, 2) := dk_21 5 (dk_at dksJ7_compareToUTF16Values_0 18 rfl rfl)
theorem dJ7_compareToUTF16Values_20 : decode cJ7_compareToUTF16Values 20 = .ok (.invokestatic 50, 3) := dk_184 0 50 (dk_at dksJ7_compareToUTF16Values_0 20 rfl rfl)
theorem dJ7_compareToUTF16Values_23 : decode cJ7_compareToUTF16Values 23 = .ok (.istore 6, 2) := dk_54 6 (dk_at dksJ7_compareToUTF16Values_1 0 rfl rfl)
theorem dJ7_compareToUTF16Values_25 : decode cJ7_compareToUTF16Values 25 = .ok (.aload_n 1, 1) := dk_43 (dk_at dksJ7_compareToUTF16Values_1 2 rfl rfl)
theorem dJ7_compareToUTF16Values_26 : decode cJ7_compareToUTF16Values 26 = .ok (.iload 5, 2) := dk_21 5 (dk_at dksJ7_compareToUTF16Values_1 3 rfl rfl)
theorem dJ7_compareToUTF16Values_28 : decode cJ7_compareToUTF16Values 28 = .ok (.invokestatic 65, 3) := dk_184 0 65 (dk_at dksJ7_compareToUTF16Values_1 5 rfl rfl)
theorem dJ7_compareToUTF16Values_31 : decode cJ7_compareToUTF16Values 31 = .ok (.istore 7, 2) := dk_54 7 (dk_at dksJ7_compareToUTF16Values_1 8 rfl rfl)
theorem dJ7_compareToUTF16Values_33 : decode cJ7_compareToUTF16Values 33 = .ok (.iload 6, 2) := dk_21 6 (dk_at dksJ7_compareToUTF16Values_1 10 rfl rfl)
theorem dJ7_compareToUTF16Values_35 : decode cJ7_compareToUTF16Values 35 = .ok (.iload 7, 2) := dk_21 7 (dk_at dksJ7_compareToUTF16Values_1 12 rfl rfl)
theorem dJ7_compareToUTF16Values_37 : decode cJ7_compareToUTF16Values 37 = .ok (.if_icmp .eq 9, 3) := dk_159 0 9 (dk_at dksJ7_compareToUTF16Values_1 14 rfl rfl)
theorem dJ7_compareToUTF16Values_40 : decode cJ7_compareToUTF16Values 40 = .ok (.iload 6, 2) := dk_21 6 (dk_at dksJ7_compareToUTF16Values_1 17 rfl rfl)
theorem dJ7_compareToUTF16Values_42 : decode cJ7_compareToUTF16Values 42 = .ok (.iload 7, 2) := dk_21 7 (dk_at dksJ7_compareToUTF16Values_1 19 rfl rfl)
theorem dJ7_compareToUTF16Values_44 : decode cJ7_compareToUTF16Values 44 = .ok (.isub, 1) := dk_100 (dk_at dksJ7_compareToUTF16Values_1 21 rfl rfl)
theorem dJ7_compareToUTF16Values_45 : decode cJ7_compareToUTF16Values 45 = .ok (.ireturn, 1) := dk_172 (dk_at dksJ7_compareToUTF16Values_1 22 rfl rfl)
theorem dJ7_compareToUTF16Values_46 : decode cJ7_compareToUTF16Values 46 = .ok (.iinc 5 1, 3) := dk_132 5 1 (dk_at dksJ7_compareToUTF16Values_2 0 rfl rfl)
theorem dJ7_compareToUTF16Values_49 : decode cJ7_compareToUTF16Values 49 = .ok (.goto (-39), 3) := dk_167 255 217 (dk_at dksJ7_compareToUTF16Values_2 3 rfl rfl)
theorem dJ7_compareToUTF16Values_52 : decode cJ7_compareToUTF16Values 52 = .ok (.iload_n 2, 1) := dk_28 (dk_at dksJ7_compareToUTF16Values_2 6 rfl rfl)
theorem dJ7_compareToUTF16Values_53 : decode cJ7_compareToUTF16Values 53 = .ok (.iload_n 3, 1) := dk_29 (dk_at dksJ7_compareToUTF16Values_2 7 rfl rfl)
theorem dJ7_compareToUTF16Values_54 : decode cJ7_compareToUTF16Values 54 = .ok (.isub, 1) := dk_100 (dk_at dksJ7_compareToUTF16Values_2 8 rfl rfl)
theorem dJ7_compareToUTF16Values_55 : decode cJ7_compareToUTF16Values 55 = .ok (.ireturn, 1) := dk_172 (dk_at dksJ7_compareToUTF16Values_2 9 rfl rfl)
abbrev cJ7_compareToUTF16_2 : ByteArray := prog_26_method_17_code
def yJ7_compareToUTF16_2 : MethodName := ⟨RJ7, "compareToUTF16", "([B[BII)I"⟩
def dkwJ7_compareToUTF16_2_0 : List UInt8 := [28, 42, 184, 0, 54, 184, 0, 62, 29, 43, 184, 0, 58, 184, 0, 62, 42, 43, 28, 29, 184, 0, 59, 172]
abbrev dktJ7_compareToUTF16_2_0 : List UInt8 := dkwJ7_compareToUTF16_2_0 ++ []
theorem dksJ7_compareToUTF16_2_0 : cJ7_compareToUTF16_2.data.toList.drop 0 = dktJ7_compareToUTF16_2_0 := by decide +kernel
theorem dJ7_compareToUTF16_2_0 : decode cJ7_compareToUTF16_2 0 = .ok (.iload_n 2, 1) := dk_28 (dk_at dksJ7_compareToUTF16_2_0 0 rfl rfl)
theorem dJ7_compareToUTF16_2_1 : decode cJ7_compareToUTF16_2 1 = .ok (.aload_n 0, 1) := dk_42 (dk_at dksJ7_compareToUTF16_2_0 1 rfl rfl)
theorem dJ7_compareToUTF16_2_2 : decode cJ7_compareToUTF16_2 2 = .ok (.invokestatic 54, 3) := dk_184 0 54 (dk_at dksJ7_compareToUTF16_2_0 2 rfl rfl)
theorem dJ7_compareToUTF16_2_5 : decode cJ7_compareToUTF16_2 5 = .ok (.invokestatic 62, 3) := dk_184 0 62 (dk_at dksJ7_compareToUTF16_2_0 5 rfl rfl)
theorem dJ7_compareToUTF16_2_8 : decode cJ7_compareToUTF16_2 8 = .ok (.iload_n 3, 1) := dk_29 (dk_at dksJ7_compareToUTF16_2_0 8 rfl rfl)
theorem dJ7_compareToUTF16_2_9 : decode cJ7_compareToUTF16_2 9 = .ok (.aload_n 1, 1) := dk_43 (dk_at dksJ7_compareToUTF16_2_0 9 rfl rfl)
theorem dJ7_compareToUTF16_2_10 : decode cJ7_compareToUTF16_2 10 = .ok (.invokestatic 58, 3) := dk_184 0 58 (dk_at dksJ7_compareToUTF16_2_0 10 rfl rfl)
theorem dJ7_compareToUTF16_2_13 : decode cJ7_compareToUTF16_2 13 = .ok (.invokestatic 62, 3) := dk_184 0 62 (dk_at dksJ7_compareToUTF16_2_0 13 rfl rfl)
theorem dJ7_compareToUTF16_2_16 : decode cJ7_compareToUTF16_2 16 = .ok (.aload_n 0, 1) := dk_42 (dk_at dksJ7_compareToUTF16_2_0 16 rfl rfl)
theorem dJ7_compareToUTF16_2_17 : decode cJ7_compareToUTF16_2 17 = .ok (.aload_n 1, 1) := dk_43 (dk_at dksJ7_compareToUTF16_2_0 17 rfl rfl)
theorem dJ7_compareToUTF16_2_18 : decode cJ7_compareToUTF16_2 18 = .ok (.iload_n 2, 1) := dk_28 (dk_at dksJ7_compareToUTF16_2_0 18 rfl rfl)
theorem dJ7_compareToUTF16_2_19 : decode cJ7_compareToUTF16_2 19 = .ok (.iload_n 3, 1) := dk_29 (dk_at dksJ7_compareToUTF16_2_0 19 rfl rfl)
theorem dJ7_compareToUTF16_2_20 : decode cJ7_compareToUTF16_2 20 = .ok (.invokestatic 59, 3) := dk_184 0 59 (dk_at dksJ7_compareToUTF16_2_0 20 rfl rfl)
theorem dJ7_compareToUTF16_2_23 : decode cJ7_compareToUTF16_2 23 = .ok (.ireturn, 1) := dk_172 (dk_at dksJ7_compareToUTF16_2_0 23 rfl rfl)
abbrev cJ7_canEncode : ByteArray := prog_26_method_3_code
def yJ7_canEncode : MethodName := ⟨RJ7, "canEncode", "(C)Z"⟩
def dkwJ7_canEncode_0 : List UInt8 := [26, 17, 0, 255, 163, 0, 7, 4, 167, 0, 4, 3, 172]
abbrev dktJ7_canEncode_0 : List UInt8 := dkwJ7_canEncode_0 ++ []
theorem dksJ7_canEncode_0 : cJ7_canEncode.data.toList.drop 0 = dktJ7_canEncode_0 := by decide +kernel
theorem dJ7_canEncode_0 : decode cJ7_canEncode 0 = .ok (.iload_n 0, 1) := dk_26 (dk_at dksJ7_canEncode_0 0 rfl rfl)
theorem dJ7_canEncode_1 : decode cJ7_canEncode 1 = .ok (.sipush 255, 3) := dk_17 0 255 (dk_at dksJ7_canEncode_0 1 rfl rfl)
theorem dJ7_canEncode_4 : decode cJ7_canEncode 4 = .ok (.if_icmp .gt 7, 3) := dk_163 0 7 (dk_at dksJ7_canEncode_0 4 rfl rfl)
theorem dJ7_canEncode_7 : decode cJ7_canEncode 7 = .ok (.iconst 1, 1) := dk_4 (dk_at dksJ7_canEncode_0 7 rfl rfl)
theorem dJ7_canEncode_8 : decode cJ7_canEncode 8 = .ok (.goto 4, 3) := dk_167 0 4 (dk_at dksJ7_canEncode_0 8 rfl rfl)
theorem dJ7_canEncode_11 : decode cJ7_canEncode 11 = .ok (.iconst 0, 1) := dk_3 (dk_at dksJ7_canEncode_0 11 rfl rfl)
theorem dJ7_canEncode_12 : decode cJ7_canEncode 12 = .ok (.ireturn, 1) := dk_172 (dk_at dksJ7_canEncode_0 12 rfl rfl)
abbrev cJ7_charAt : ByteArray := prog_26_method_2_code
def yJ7_charAt : MethodName := ⟨RJ7, "charAt", "([BI)C"⟩
def dkwJ7_charAt_0 : List UInt8 := [27, 42, 190, 184, 0, 9, 42, 27, 51, 17, 0, 255, 126, 146, 172]
abbrev dktJ7_charAt_0 : List UInt8 := dkwJ7_charAt_0 ++ []
theorem dksJ7_charAt_0 : cJ7_charAt.data.toList.drop 0 = dktJ7_charAt_0 := by decide +kernel
theorem dJ7_charAt_0 : decode cJ7_charAt 0 = .ok (.iload_n 1, 1) := dk_27 (dk_at dksJ7_charAt_0 0 rfl rfl)
theorem dJ7_charAt_1 : decode cJ7_charAt 1 = .ok (.aload_n 0, 1) := dk_42 (dk_at dksJ7_charAt_0 1 rfl rfl)
theorem dJ7_charAt_2 : decode cJ7_charAt 2 = .ok (.arraylength, 1) := dk_190 (dk_at dksJ7_charAt_0 2 rfl rfl)
theorem dJ7_charAt_3 : decode cJ7_charAt 3 = .ok (.invokestatic 9, 3) := dk_184 0 9 (dk_at dksJ7_charAt_0 3 rfl rfl)
theorem dJ7_charAt_6 : decode cJ7_charAt 6 = .ok (.aload_n 0, 1) := dk_42 (dk_at dksJ7_charAt_0 6 rfl rfl)
theorem dJ7_charAt_7 : decode cJ7_charAt 7 = .ok (.iload_n 1, 1) := dk_27 (dk_at dksJ7_charAt_0 7 rfl rfl)
theorem dJ7_charAt_8 : decode cJ7_charAt 8 = .ok (.baload, 1) := dk_51 (dk_at dksJ7_charAt_0 8 rfl rfl)
theorem dJ7_charAt_9 : decode cJ7_charAt 9 = .ok (.sipush 255, 3) := dk_17 0 255 (dk_at dksJ7_charAt_0 9 rfl rfl)
theorem dJ7_charAt_12 : decode cJ7_charAt 12 = .ok (.iand, 1) := dk_126 (dk_at dksJ7_charAt_0 12 rfl rfl)
theorem dJ7_charAt_13 : decode cJ7_charAt 13 = .ok (.i2c, 1) := dk_146 (dk_at dksJ7_charAt_0 13 rfl rfl)
theorem dJ7_charAt_14 : decode cJ7_charAt 14 = .ok (.ireturn, 1) := dk_172 (dk_at dksJ7_charAt_0 14 rfl rfl)
theorem q49 : (Jvm.Cond.initialized "java/lang/StringLatin1") ∈ lw_all := lw_g (lw_at lw_m1 9 rfl) rfl
theorem q203 : (Jvm.Cond.static ({ cls := "java/lang/StringLatin1", name := "newString", desc := "([BII)Ljava/lang/String;" } : Jvm.MethodName)) ∈ lw_all := lw_g (lw_at lw_m1 163 rfl) rfl
theorem q204 : (Jvm.Cond.code ({ cls := "java/lang/StringLatin1", name := "newString", desc := "([BII)Ljava/lang/String;" } : Jvm.MethodName) prog_26_method_47_code (3 : Nat) (Option.some (Jvm.ClassFile.FieldType.object "java/lang/String"))) ∈ lw_all := lw_g (lw_at lw_m1 164 rfl) rfl
theorem q205 : (Jvm.Cond.stringRef "java/lang/StringLatin1" (151 : Nat) "") ∈ lw_tbl := lw_at lw_m1 165 rfl
theorem q206 : (Jvm.Cond.classLink "java/lang/StringLatin1" (1 : Nat) "java/lang/String") ∈ lw_all := lw_g (lw_at lw_m1 166 rfl) rfl
theorem q208 : (Jvm.Cond.methodLink "java/lang/StringLatin1" (232 : Nat) ({ cls := "java/util/Arrays", name := "copyOfRange", desc := "([BII)[B" } : Jvm.MethodName)) ∈ lw_all := lw_g (lw_at lw_m1 168 rfl) rfl
theorem q375 : (Jvm.Cond.static ({ cls := "java/lang/StringLatin1", name := "inflate", desc := "([BI[BII)V" } : Jvm.MethodName)) ∈ lw_all := lw_g (lw_at lw_m2 95 rfl) rfl
theorem q376 : (Jvm.Cond.code ({ cls := "java/lang/StringLatin1", name := "inflate", desc := "([BI[BII)V" } : Jvm.MethodName) prog_26_method_50_code (5 : Nat) (Option.none : Option Jvm.ClassFile.FieldType)) ∈ lw_all := lw_g (lw_at lw_m2 96 rfl) rfl
theorem q377 : (Jvm.Cond.methodLink "java/lang/StringLatin1" (240 : Nat) ({ cls := "java/lang/StringUTF16", name := "inflate", desc := "([BI[BII)V" } : Jvm.MethodName)) ∈ lw_all := lw_g (lw_at lw_m2 97 rfl) rfl
theorem q471 : (Jvm.Cond.methodLink "java/lang/StringLatin1" (112 : Nat) ({ cls := "java/lang/String", name := "<init>", desc := "([BB)V" } : Jvm.MethodName)) ∈ lw_all := lw_g (lw_at lw_m2 191 rfl) rfl
theorem q528 : (Jvm.Cond.static ({ cls := "java/lang/StringLatin1", name := "fillNull", desc := "([BII)V" } : Jvm.MethodName)) ∈ lw_all := lw_g (lw_at lw_m3 8 rfl) rfl
theorem q529 : (Jvm.Cond.code ({ cls := "java/lang/StringLatin1", name := "fillNull", desc := "([BII)V" } : Jvm.MethodName) prog_26_method_48_code (3 : Nat) (Option.none : Option Jvm.ClassFile.FieldType)) ∈ lw_all := lw_g (lw_at lw_m3 9 rfl) rfl
theorem q530 : (Jvm.Cond.methodLink "java/lang/StringLatin1" (236 : Nat) ({ cls := "java/util/Arrays", name := "fill", desc := "([BIIB)V" } : Jvm.MethodName)) ∈ lw_all := lw_g (lw_at lw_m3 10 rfl) rfl
theorem q608 : (Jvm.Cond.static ({ cls := "java/lang/StringLatin1", name := "equals", desc := "([B[B)Z" } : Jvm.MethodName)) ∈ lw_all := lw_g (lw_at lw_m3 88 rfl) rfl
theorem q609 : (Jvm.Cond.code ({ cls := "java/lang/StringLatin1", name := "equals", desc := "([B[B)Z" } : Jvm.MethodName) prog_26_method_13_code (3 : Nat) (Option.some Jvm.ClassFile.FieldType.boolean)) ∈ lw_all := lw_g (lw_at lw_m3 89 rfl) rfl
theorem q673 : (Jvm.Cond.static ({ cls := "java/lang/StringLatin1", name := "compareTo", desc := "([B[B)I" } : Jvm.MethodName)) ∈ lw_all := lw_g (lw_at lw_m3 153 rfl) rfl
theorem q674 : (Jvm.Cond.code ({ cls := "java/lang/StringLatin1", name := "compareTo", desc := "([B[B)I" } : Jvm.MethodName) prog_26_method_14_code (4 : Nat) (Option.some Jvm.ClassFile.FieldType.int)) ∈ lw_all := lw_g (lw_at lw_m3 154 rfl) rfl
theorem q675 : (Jvm.Cond.methodLink "java/lang/StringLatin1" (34 : Nat) ({ cls := "java/lang/StringLatin1", name := "compareTo", desc := "([B[BII)I" } : Jvm.MethodName)) ∈ lw_all := lw_g (lw_at lw_m3 155 rfl) rfl
theorem q676 : (Jvm.Cond.static ({ cls := "java/lang/StringLatin1", name := "compareTo", desc := "([B[BII)I" } : Jvm.MethodName)) ∈ lw_all := lw_g (lw_at lw_m3 156 rfl) rfl
theorem q677 : (Jvm.Cond.code ({ cls := "java/lang/StringLatin1", name := "compareTo", desc := "([B[BII)I" } : Jvm.MethodName) prog_26_method_15_code (6 : Nat) (Option.some Jvm.ClassFile.FieldType.int)) ∈ lw_all := lw_g (lw_at lw_m3 157 rfl) rfl
theorem q678 : (Jvm.Cond.methodLink "java/lang/StringLatin1" (38 : Nat) ({ cls := "java/lang/Math", name := "min", desc := "(II)I" } : Jvm.MethodName)) ∈ lw_all := lw_g (lw_at lw_m3 158 rfl) rfl
theorem q679 : (Jvm.Cond.methodLink "java/lang/StringLatin1" (44 : Nat) ({ cls := "jdk/internal/util/ArraysSupport", name := "mismatch", desc := "([B[BI)I" } : Jvm.MethodName)) ∈ lw_all := lw_g (lw_at lw_m3 159 rfl) rfl
theorem q783 : (Jvm.Cond.methodLink "java/lang/StringLatin1" (50 : Nat) ({ cls := "java/lang/StringLatin1", name := "getChar", desc := "([BI)C" } : Jvm.MethodName)) ∈ lw_all := lw_g (lw_at lw_m4 23 rfl) rfl
theorem q784 : (Jvm.Cond.static ({ cls := "java/lang/StringLatin1", name := "getChar", desc := "([BI)C" } : Jvm.MethodName)) ∈ lw_all := lw_g (lw_at lw_m4 24 rfl) rfl
theorem q785 : (Jvm.Cond.code ({ cls := "java/lang/StringLatin1", name := "getChar", desc := "([BI)C" } : Jvm.MethodName) prog_26_method_44_code (2 : Nat) (Option.some Jvm.ClassFile.FieldType.char)) ∈ lw_all := lw_g (lw_at lw_m4 25 rfl) rfl
theorem q794 : (Jvm.Cond.static ({ cls := "java/lang/StringLatin1", name := "compareToUTF16", desc := "([B[B)I" } : Jvm.MethodName)) ∈ lw_all := lw_g (lw_at lw_m4 34 rfl) rfl
theorem q795 : (Jvm.Cond.code ({ cls := "java/lang/StringLatin1", name := "compareToUTF16", desc := "([B[B)I" } : Jvm.MethodName) prog_26_method_16_code (4 : Nat) (Option.some Jvm.ClassFile.FieldType.int)) ∈ lw_all := lw_g (lw_at lw_m4 35 rfl) rfl
theorem q796 : (Jvm.Cond.methodLink "java/lang/StringLatin1" (54 : Nat) ({ cls := "java/lang/StringLatin1", name := "length", desc := "([B)I" } : Jvm.MethodName)) ∈ lw_all := lw_g (lw_at lw_m4 36 rfl) rfl
theorem q797 : (Jvm.Cond.static ({ cls := "java/lang/StringLatin1", name := "length", desc := "([B)I" } : Jvm.MethodName)) ∈ lw_all := lw_g (lw_at lw_m4 37 rfl) rfl
theorem q798 : (Jvm.Cond.code ({ cls := "java/lang/StringLatin1", name := "length", desc := "([B)I" } : Jvm.MethodName) prog_26_method_5_code (1 : Nat) (Option.some Jvm.ClassFile.FieldType.int)) ∈ lw_all := lw_g (lw_at lw_m4 38 rfl) rfl
theorem q799 : (Jvm.Cond.methodLink "java/lang/StringLatin1" (58 : Nat) ({ cls := "java/lang/StringUTF16", name := "length", desc := "([B)I" } : Jvm.MethodName)) ∈ lw_all := lw_g (lw_at lw_m4 39 rfl) rfl
theorem q800 : (Jvm.Cond.methodLink "java/lang/StringLatin1" (59 : Nat) ({ cls := "java/lang/StringLatin1", name := "compareToUTF16Values", desc := "([B[BII)I" } : Jvm.MethodName)) ∈ lw_all := lw_g (lw_at lw_m4 40 rfl) rfl
theorem q801 : (Jvm.Cond.static ({ cls := "java/lang/StringLatin1", name := "compareToUTF16Values", desc := "([B[BII)I" } : Jvm.MethodName)) ∈ lw_all := lw_g (lw_at lw_m4 41 rfl) rfl
theorem q802 : (Jvm.Cond.code ({ cls := "java/lang/StringLatin1", name := "compareToUTF16Values", desc := "([B[BII)I" } : Jvm.MethodName) prog_26_method_18_code (8 : Nat) (Option.some Jvm.ClassFile.FieldType.int)) ∈ lw_all := lw_g (lw_at lw_m4 42 rfl) rfl
theorem q803 : (Jvm.Cond.methodLink "java/lang/StringLatin1" (65 : Nat) ({ cls := "java/lang/StringUTF16", name := "getChar", desc := "([BI)C" } : Jvm.MethodName)) ∈ lw_all := lw_g (lw_at lw_m4 43 rfl) rfl
theorem q827 : (Jvm.Cond.static ({ cls := "java/lang/StringLatin1", name := "compareToUTF16", desc := "([B[BII)I" } : Jvm.MethodName)) ∈ lw_all := lw_g (lw_at lw_m4 67 rfl) rfl
theorem q828 : (Jvm.Cond.code ({ cls := "java/lang/StringLatin1", name := "compareToUTF16", desc := "([B[BII)I" } : Jvm.MethodName) prog_26_method_17_code (4 : Nat) (Option.some Jvm.ClassFile.FieldType.int)) ∈ lw_all := lw_g (lw_at lw_m4 68 rfl) rfl
theorem q829 : (Jvm.Cond.methodLink "java/lang/StringLatin1" (62 : Nat) ({ cls := "java/lang/String", name := "checkOffset", desc := "(II)V" } : Jvm.MethodName)) ∈ lw_all := lw_g (lw_at lw_m4 69 rfl) rfl
theorem q1179 : (Jvm.Cond.static ({ cls := "java/lang/StringLatin1", name := "canEncode", desc := "(C)Z" } : Jvm.MethodName)) ∈ lw_all := lw_g (lw_at lw_m5 179 rfl) rfl
theorem q1180 : (Jvm.Cond.code ({ cls := "java/lang/StringLatin1", name := "canEncode", desc := "(C)Z" } : Jvm.MethodName) prog_26_method_3_code (1 : Nat) (Option.some Jvm.ClassFile.FieldType.boolean)) ∈ lw_all := lw_g (lw_at lw_m5 180 rfl) rfl
theorem q1552 : (Jvm.Cond.static ({ cls := "java/lang/StringLatin1", name := "charAt", desc := "([BI)C" } : Jvm.MethodName)) ∈ lw_all := lw_g (lw_at lw_m7 72 rfl) rfl
theorem q1553 : (Jvm.Cond.code ({ cls := "java/lang/StringLatin1", name := "charAt", desc := "([BI)C" } : Jvm.MethodName) prog_26_method_2_code (2 : Nat) (Option.some Jvm.ClassFile.FieldType.char)) ∈ lw_all := lw_g (lw_at lw_m7 73 rfl) rfl
theorem q1554 : (Jvm.Cond.methodLink "java/lang/StringLatin1" (9 : Nat) ({ cls := "java/lang/String", name := "checkIndex", desc := "(II)V" } : Jvm.MethodName)) ∈ lw_all := lw_g (lw_at lw_m7 74 rfl) rfl
/-! java/util/Arrays -/
set_option maxRecDepth 100000
def RJ8 : String := "java/util/Arrays"
abbrev cJ8_copyOfRange : ByteArray := prog_41_method_132_code
def yJ8_copyOfRange : MethodName := ⟨RJ8, "copyOfRange", "([BII)[B"⟩
def dkwJ8_copyOfRange_1 : List UInt8 := [176]
abbrev dktJ8_copyOfRange_1 : List UInt8 := dkwJ8_copyOfRange_1 ++ []
def dkwJ8_copyOfRange_0 : List UInt8 := [27, 154, 0, 9, 28, 42, 190, 159, 0, 10, 42, 27, 28, 184, 1, 83, 176, 42, 182, 1, 54, 192, 1, 55]
abbrev dktJ8_copyOfRange_0 : List UInt8 := dkwJ8_copyOfRange_0 ++ dktJ8_copyOfRange_1
theorem dksJ8_copyOfRange_0 : cJ8_copyOfRange.data.toList.drop 0 = dktJ8_copyOfRange_0 := by decide +kernel
theorem dksJ8_copyOfRange_1 : cJ8_copyOfRange.data.toList.drop 24 = dktJ8_copyOfRange_1 := dk_seg dksJ8_copyOfRange_0 24 rfl rfl
theorem dJ8_copyOfRange_0 : decode cJ8_copyOfRange 0 = .ok (.iload_n 1, 1) := dk_27 (dk_at dksJ8_copyOfRange_0 0 rfl rfl)
theorem dJ8_copyOfRange_1 : decode cJ8_copyOfRange 1 = .ok (.ifCond .ne 9, 3) := dk_154 0 9 (dk_at dksJ8_copyOfRange_0 1 rfl rfl)
theorem dJ8_copyOfRange_4 : decode cJ8_copyOfRange 4 = .ok (.iload_n 2, 1) := dk_28 (dk_at dksJ8_copyOfRange_0 4 rfl rfl)
theorem dJ8_copyOfRange_5 : decode cJ8_copyOfRange 5 = .ok (.aload_n 0, 1) := dk_42 (dk_at dksJ8_copyOfRange_0 5 rfl rfl)
theorem dJ8_copyOfRange_6 : decode cJ8_copyOfRange 6 = .ok (.arraylength, 1) := dk_190 (dk_at dksJ8_copyOfRange_0 6 rfl rfl)
theorem dJ8_copyOfRange_7 : decode cJ8_copyOfRange 7 = .ok (.if_icmp .eq 10, 3) := dk_159 0 10 (dk_at dksJ8_copyOfRange_0 7 rfl rfl)
theorem dJ8_copyOfRange_10 : decode cJ8_copyOfRange 10 = .ok (.aload_n 0, 1) := dk_42 (dk_at dksJ8_copyOfRange_0 10 rfl rfl)
theorem dJ8_copyOfRange_11 : decode cJ8_copyOfRange 11 = .ok (.iload_n 1, 1) := dk_27 (dk_at dksJ8_copyOfRange_0 11 rfl rfl)
theorem dJ8_copyOfRange_12 : decode cJ8_copyOfRange 12 = .ok (.iload_n 2, 1) := dk_28 (dk_at dksJ8_copyOfRange_0 12 rfl rfl)
theorem dJ8_copyOfRange_13 : decode cJ8_copyOfRange 13 = .ok (.invokestatic 339, 3) := dk_184 1 83 (dk_at dksJ8_copyOfRange_0 13 rfl rfl)
theorem dJ8_copyOfRange_16 : decode cJ8_copyOfRange 16 = .ok (.areturn, 1) := dk_176 (dk_at dksJ8_copyOfRange_0 16 rfl rfl)
theorem dJ8_copyOfRange_17 : decode cJ8_copyOfRange 17 = .ok (.aload_n 0, 1) := dk_42 (dk_at dksJ8_copyOfRange_0 17 rfl rfl)
theorem dJ8_copyOfRange_18 : decode cJ8_copyOfRange 18 = .ok (.invokevirtual 310, 3) := dk_182 1 54 (dk_at dksJ8_copyOfRange_0 18 rfl rfl)
theorem dJ8_copyOfRange_21 : decode cJ8_copyOfRange 21 = .ok (.checkcast 311, 3) := dk_192 1 55 (dk_at dksJ8_copyOfRange_0 21 rfl rfl)
theorem dJ8_copyOfRange_24 : decode cJ8_copyOfRange 24 = .ok (.areturn, 1) := dk_176 (dk_at dksJ8_copyOfRange_1 0 rfl rfl)
abbrev cJ8_copyOfRangeByte : ByteArray := prog_41_method_133_code
def yJ8_copyOfRangeByte : MethodName := ⟨RJ8, "copyOfRangeByte", "([BII)[B"⟩
def dkwJ8_copyOfRangeByte_1 : List UInt8 := [184, 1, 48, 184, 0, 150, 25, 4, 176]
abbrev dktJ8_copyOfRangeByte_1 : List UInt8 := dkwJ8_copyOfRangeByte_1 ++ []
def dkwJ8_copyOfRangeByte_0 : List UInt8 := [27, 28, 184, 1, 87, 28, 27, 100, 62, 29, 188, 8, 58, 4, 42, 27, 25, 4, 3, 42, 190, 27, 100, 29]
abbrev dktJ8_copyOfRangeByte_0 : List UInt8 := dkwJ8_copyOfRangeByte_0 ++ dktJ8_copyOfRangeByte_1
theorem dksJ8_copyOfRangeByte_0 : cJ8_copyOfRangeByte.data.toList.drop 0 = dktJ8_copyOfRangeByte_0 := by decide +kernel
theorem dksJ8_copyOfRangeByte_1 : cJ8_copyOfRangeByte.data.toList.drop 24 = dktJ8_copyOfRangeByte_1 := dk_seg dksJ8_copyOfRangeByte_0 24 rfl rfl
theorem dJ8_copyOfRangeByte_0 : decode cJ8_copyOfRangeByte 0 = .ok (.iload_n 1, 1) := dk_27 (dk_at dksJ8_copyOfRangeByte_0 0 rfl rfl)
theorem dJ8_copyOfRangeByte_1 : decode cJ8_copyOfRangeByte 1 = .ok (.iload_n 2, 1) := dk_28 (dk_at dksJ8_copyOfRangeByte_0 1 rfl rfl)
theorem dJ8_copyOfRangeByte_2 : decode cJ8_copyOfRangeByte 2 = .ok (.invokestatic 343, 3) := dk_184 1 87 (dk_at dksJ8_copyOfRangeByte_0 2 rfl rfl)
theorem dJ8_copyOfRangeByte_5 : decode cJ8_copyOfRangeByte 5 = .ok (.iload_n 2, 1) := dk_28 (dk_at dksJ8_copyOfRangeByte_0 5 rfl rfl)
theorem dJ8_copyOfRangeByte_6 : decode cJ8_copyOfRangeByte 6 = .ok (.iload_n 1, 1) := dk_27 (dk_at dksJ8_copyOfRangeByte_0 6 rfl rfl)
theorem dJ8_copyOfRangeByte_7 : decode cJ8_copyOfRangeByte 7 = .ok (.isub, 1) := dk_100 (dk_at dksJ8_copyOfRangeByte_0 7 rfl rfl)
theorem dJ8_copyOfRangeByte_8 : decode cJ8_copyOfRangeByte 8 = .ok (.istore_n 3, 1) := dk_62 (dk_at dksJ8_copyOfRangeByte_0 8 rfl rfl)
theorem dJ8_copyOfRangeByte_9 : decode cJ8_copyOfRangeByte 9 = .ok (.iload_n 3, 1) := dk_29 (dk_at dksJ8_copyOfRangeByte_0 9 rfl rfl)
theorem dJ8_copyOfRangeByte_10 : decode cJ8_copyOfRangeByte 10 = .ok (.newarray .byte, 2) := dk_188_8 (dk_at dksJ8_copyOfRangeByte_0 10 rfl rfl)
theorem dJ8_copyOfRangeByte_12 : decode cJ8_copyOfRangeByte 12 = .ok (.astore 4, 2) := dk_58 4 (dk_at dksJ8_copyOfRangeByte_0 12 rfl rfl)
theorem dJ8_copyOfRangeByte_14 : decode cJ8_copyOfRangeByte 14 = .ok (.aload_n 0, 1) := dk_42 (dk_at dksJ8_copyOfRangeByte_0 14 rfl rfl)
theorem dJ8_copyOfRangeByte_15 : decode cJ8_copyOfRangeByte 15 = .ok (.iload_n 1, 1) := dk_27 (dk_at dksJ8_copyOfRangeByte_0 15 rfl rfl)
theorem dJ8_copyOfRangeByte_16 : decode cJ8_copyOfRangeByte 16 = .ok (.aload 4, 2) := dk_25 4 (dk_at dksJ8_copyOfRangeByte_0 16 rfl rfl)
theorem dJ8_copyOfRangeByte_18 : decode cJ8_copyOfRangeByte 18 = .ok (.iconst 0, 1) := dk_3 (dk_at dksJ8_copyOfRangeByte_0 18 rfl rfl)
theorem dJ8_copyOfRangeByte_19 : decode cJ8_copyOfRangeByte 19 = .ok (.aload_n 0, 1) := dk_42 (dk_at dksJ8_copyOfRangeByte_0 19 rfl rfl)
theorem dJ8_copyOfRangeByte_20 : decode cJ8_copyOfRangeByte 20 = .ok (.arraylength, 1) := dk_190 (dk_at dksJ8_copyOfRangeByte_0 20 rfl rfl)
theorem dJ8_copyOfRangeByte_21 : decode cJ8_copyOfRangeByte 21 = .ok (.iload_n 1, 1) := dk_27 (dk_at dksJ8_copyOfRangeByte_0 21 rfl rfl)
theorem dJ8_copyOfRangeByte_22 : decode cJ8_copyOfRangeByte 22 = .ok (.isub, 1) := dk_100 (dk_at dksJ8_copyOfRangeByte_0 22 rfl rfl)
theorem dJ8_copyOfRangeByte_23 : decode cJ8_copyOfRangeByte 23 = .ok (.iload_n 3, 1) := dk_29 (dk_at dksJ8_copyOfRangeByte_0 23 rfl rfl)
theorem dJ8_copyOfRangeByte_24 : decode cJ8_copyOfRangeByte 24 = .ok (.invokestatic 304, 3) := dk_184 1 48 (dk_at dksJ8_copyOfRangeByte_1 0 rfl rfl)
theorem dJ8_copyOfRangeByte_27 : decode cJ8_copyOfRangeByte 27 = .ok (.invokestatic 150, 3) := dk_184 0 150 (dk_at dksJ8_copyOfRangeByte_1 3 rfl rfl)
theorem dJ8_copyOfRangeByte_30 : decode cJ8_copyOfRangeByte 30 = .ok (.aload 4, 2) := dk_25 4 (dk_at dksJ8_copyOfRangeByte_1 6 rfl rfl)
theorem dJ8_copyOfRangeByte_32 : decode cJ8_copyOfRangeByte 32 = .ok (.areturn, 1) := dk_176 (dk_at dksJ8_copyOfRangeByte_1 8 rfl rfl)
abbrev cJ8_checkLength : ByteArray := prog_41_method_131_code
def yJ8_checkLength : MethodName := ⟨RJ8, "checkLength", "(II)V"⟩
def dkwJ8_checkLength_1 : List UInt8 := [182, 0, 50, 27, 182, 0, 54, 182, 0, 61, 183, 0, 65, 191, 177]
abbrev dktJ8_checkLength_1 : List UInt8 := dkwJ8_checkLength_1 ++ []
def dkwJ8_checkLength_0 : List UInt8 := [27, 26, 162, 0, 35, 187, 0, 43, 89, 187, 0, 45, 89, 183, 0, 47, 26, 182, 0, 54, 19, 1, 81]
abbrev dktJ8_checkLength_0 : List UInt8 := dkwJ8_checkLength_0 ++ dktJ8_checkLength_1
theorem dksJ8_checkLength_0 : cJ8_checkLength.data.toList.drop 0 = dktJ8_checkLength_0 := by decide +kernel
theorem dksJ8_checkLength_1 : cJ8_checkLength.data.toList.drop 23 = dktJ8_checkLength_1 := dk_seg dksJ8_checkLength_0 23 rfl rfl
theorem dJ8_checkLength_0 : decode cJ8_checkLength 0 = .ok (.iload_n 1, 1) := dk_27 (dk_at dksJ8_checkLength_0 0 rfl rfl)
theorem dJ8_checkLength_1 : decode cJ8_checkLength 1 = .ok (.iload_n 0, 1) := dk_26 (dk_at dksJ8_checkLength_0 1 rfl rfl)
theorem dJ8_checkLength_2 : decode cJ8_checkLength 2 = .ok (.if_icmp .ge 35, 3) := dk_162 0 35 (dk_at dksJ8_checkLength_0 2 rfl rfl)
theorem dJ8_checkLength_5 : decode cJ8_checkLength 5 = .ok (.new 43, 3) := dk_187 0 43 (dk_at dksJ8_checkLength_0 5 rfl rfl)
theorem dJ8_checkLength_8 : decode cJ8_checkLength 8 = .ok (.dup, 1) := dk_89 (dk_at dksJ8_checkLength_0 8 rfl rfl)
theorem dJ8_checkLength_9 : decode cJ8_checkLength 9 = .ok (.new 45, 3) := dk_187 0 45 (dk_at dksJ8_checkLength_0 9 rfl rfl)
theorem dJ8_checkLength_12 : decode cJ8_checkLength 12 = .ok (.dup, 1) := dk_89 (dk_at dksJ8_checkLength_0 12 rfl rfl)
theorem dJ8_checkLength_13 : decode cJ8_checkLength 13 = .ok (.invokespecial 47, 3) := dk_183 0 47 (dk_at dksJ8_checkLength_0 13 rfl rfl)
theorem dJ8_checkLength_16 : decode cJ8_checkLength 16 = .ok (.iload_n 0, 1) := dk_26 (dk_at dksJ8_checkLength_0 16 rfl rfl)
theorem dJ8_checkLength_17 : decode cJ8_checkLength 17 = .ok (.invokevirtual 54, 3) := dk_182 0 54 (dk_at dksJ8_checkLength_0 17 rfl rfl)
theorem dJ8_checkLength_20 : decode cJ8_checkLength 20 = .ok (.ldc_w 337, 3) := dk_19 1 81 (dk_at dksJ8_checkLength_0 20 rfl rfl)
theorem dJ8_checkLength_23 : decode cJ8_checkLength 23 = .ok (.invokevirtual 50, 3) := dk_182 0 50 (dk_at dksJ8_checkLength_1 0 rfl rfl)
theorem dJ8_checkLength_26 : decode cJ8_checkLength 26 = .ok (.iload_n 1, 1) := dk_27 (dk_at dksJ8_checkLength_1 3 rfl rfl)
theorem dJ8_checkLength_27 : decode cJ8_checkLength 27 = .ok (.invokevirtual 54, 3) := dk_182 0 54 (dk_at dksJ8_checkLength_1 4 rfl rfl)
theorem dJ8_checkLength_30 : decode cJ8_checkLength 30 = .ok (.invokevirtual 61, 3) := dk_182 0 61 (dk_at dksJ8_checkLength_1 7 rfl rfl)
theorem dJ8_checkLength_33 : decode cJ8_checkLength 33 = .ok (.invokespecial 65, 3) := dk_183 0 65 (dk_at dksJ8_checkLength_1 10 rfl rfl)
theorem dJ8_checkLength_36 : decode cJ8_checkLength 36 = .ok (.athrow, 1) := dk_191 (dk_at dksJ8_checkLength_1 13 rfl rfl)
theorem dJ8_checkLength_37 : decode cJ8_checkLength 37 = .ok (.return_, 1) := dk_177 (dk_at dksJ8_checkLength_1 14 rfl rfl)
abbrev cJ8_copyOf : ByteArray := prog_41_method_121_code
def yJ8_copyOf : MethodName := ⟨RJ8, "copyOf", "([BI)[B"⟩
def dkwJ8_copyOf_1 : List UInt8 := [27, 184, 1, 48, 184, 0, 150, 44, 176]
abbrev dktJ8_copyOf_1 : List UInt8 := dkwJ8_copyOf_1 ++ []
def dkwJ8_copyOf_0 : List UInt8 := [27, 42, 190, 160, 0, 11, 42, 182, 1, 54, 192, 1, 55, 176, 27, 188, 8, 77, 42, 3, 44, 3, 42, 190]
abbrev dktJ8_copyOf_0 : List UInt8 := dkwJ8_copyOf_0 ++ dktJ8_copyOf_1
theorem dksJ8_copyOf_0 : cJ8_copyOf.data.toList.drop 0 = dktJ8_copyOf_0 := by decide +kernel
theorem dksJ8_copyOf_1 : cJ8_copyOf.data.toList.drop 24 = dktJ8_copyOf_1 := dk_seg dksJ8_copyOf_0 24 rfl rfl
theorem dJ8_copyOf_0 : decode cJ8_copyOf 0 = .ok (.iload_n 1, 1) := dk_27 (dk_at dksJ8_copyOf_0 0 rfl rfl)
theorem dJ8_copyOf_1 : decode cJ8_copyOf 1 = .ok (.aload_n 0, 1) := dk_42 (dk_at dksJ8_copyOf_0 1 rfl rfl)
theorem dJ8_copyOf_2 : decode cJ8_copyOf 2 = .ok (.arraylength, 1) := dk_190 (dk_at dksJ8_copyOf_0 2 rfl rfl)
theorem dJ8_copyOf_3 : decode cJ8_copyOf 3 = .ok (.if_icmp .ne 11, 3) := dk_160 0 11 (dk_at dksJ8_copyOf_0 3 rfl rfl)
theorem dJ8_copyOf_6 : decode cJ8_copyOf 6 = .ok (.aload_n 0, 1) := dk_42 (dk_at dksJ8_copyOf_0 6 rfl rfl)
theorem dJ8_copyOf_7 : decode cJ8_copyOf 7 = .ok (.invokevirtual 310, 3) := dk_182 1 54 (dk_at dksJ8_copyOf_0 7 rfl rfl)
theorem dJ8_copyOf_10 : decode cJ8_copyOf 10 = .ok (.checkcast 311, 3) := dk_192 1 55 (dk_at dksJ8_copyOf_0 10 rfl rfl)
theorem dJ8_copyOf_13 : decode cJ8_copyOf 13 = .ok (.areturn, 1) := dk_176 (dk_at dksJ8_copyOf_0 13 rfl rfl)
theorem dJ8_copyOf_14 : decode cJ8_copyOf 14 = .ok (.iload_n 1, 1) := dk_27 (dk_at dksJ8_copyOf_0 14 rfl rfl)
theorem dJ8_copyOf_15 : decode cJ8_copyOf 15 = .ok (.newarray .byte, 2) := dk_188_8 (dk_at dksJ8_copyOf_0 15 rfl rfl)
theorem dJ8_copyOf_17 : decode cJ8_copyOf 17 = .ok (.astore_n 2, 1) := dk_77 (dk_at dksJ8_copyOf_0 17 rfl rfl)
theorem dJ8_copyOf_18 : decode cJ8_copyOf 18 = .ok (.aload_n 0, 1) := dk_42 (dk_at dksJ8_copyOf_0 18 rfl rfl)
theorem dJ8_copyOf_19 : decode cJ8_copyOf 19 = .ok (.iconst 0, 1) := dk_3 (dk_at dksJ8_copyOf_0 19 rfl rfl)
theorem dJ8_copyOf_20 : decode cJ8_copyOf 20 = .ok (.aload_n 2, 1) := dk_44 (dk_at dksJ8_copyOf_0 20 rfl rfl)
theorem dJ8_copyOf_21 : decode cJ8_copyOf 21 = .ok (.iconst 0, 1) := dk_3 (dk_at dksJ8_copyOf_0 21 rfl rfl)
theorem dJ8_copyOf_22 : decode cJ8_copyOf 22 = .ok (.aload_n 0, 1) := dk_42 (dk_at dksJ8_copyOf_0 22 rfl rfl)
theorem dJ8_copyOf_23 : decode cJ8_copyOf 23 = .ok (.arraylength, 1) := dk_190 (dk_at dksJ8_copyOf_0 23 rfl rfl)
theorem dJ8_copyOf_24 : decode cJ8_copyOf 24 = .ok (.iload_n 1, 1) := dk_27 (dk_at dksJ8_copyOf_1 0 rfl rfl)
theorem dJ8_copyOf_25 : decode cJ8_copyOf 25 = .ok (.invokestatic 304, 3) := dk_184 1 48 (dk_at dksJ8_copyOf_1 1 rfl rfl)
theorem dJ8_copyOf_28 : decode cJ8_copyOf 28 = .ok (.invokestatic 150, 3) := dk_184 0 150 (dk_at dksJ8_copyOf_1 4 rfl rfl)
theorem dJ8_copyOf_31 : decode cJ8_copyOf 31 = .ok (.aload_n 2, 1) := dk_44 (dk_at dksJ8_copyOf_1 7 rfl rfl)
theorem dJ8_copyOf_32 : decode cJ8_copyOf 32 = .ok (.areturn, 1) := dk_176 (dk_at dksJ8_copyOf_1 8 rfl rfl)
abbrev cJ8_fill : ByteArray := prog_41_method_110_code
def yJ8_fill : MethodName := ⟨RJ8, "fill", "([BIIB)V"⟩
def dkwJ8_fill_1 : List UInt8 := [167, 255, 242, 177]
abbrev dktJ8_fill_1 : List UInt8 := dkwJ8_fill_1 ++ []
def dkwJ8_fill_0 : List UInt8 := [42, 190, 27, 28, 184, 0, 13, 27, 54, 4, 21, 4, 28, 162, 0, 14, 42, 21, 4, 29, 84, 132, 4, 1]
abbrev dktJ8_fill_0 : List UInt8 := dkwJ8_fill_0 ++ dktJ8_fill_1
theorem dksJ8_fill_0 : cJ8_fill.data.toList.drop 0 = dktJ8_fill_0 := by decide +kernel
theorem dksJ8_fill_1 : cJ8_fill.data.toList.drop 24 = dktJ8_fill_1 := dk_seg dksJ8_fill_0 24 rfl rfl
theorem dJ8_fill_0 : decode cJ8_fill 0 = .ok (.aload_n 0, 1) := dk_42 (dk_at dksJ8_fill_0 0 rfl rfl)
theorem dJ8_fill_1 : decode cJ8_fill 1 = .ok (.arraylength, 1) := dk_190 (dk_at dksJ8_fill_0 1 rfl rfl)
theorem dJ8_fill_2 : decode cJ8_fill 2 = .ok (.iload_n 1, 1) := dk_27 (dk_at dksJ8_fill_0 2 rfl rfl)
theorem dJ8_fill_3 : decode cJ8_fill 3 = .ok (.iload_n 2, 1) := dk_28 (dk_at dksJ8_fill_0 3 rfl rfl)
theorem dJ8_fill_4 : decode cJ8_fill 4 = .ok (.invokestatic 13, 3) := dk_184 0 13 (dk_at dksJ8_fill_0 4 rfl rfl)
theorem dJ8_fill_7 : decode cJ8_fill 7 = .ok (.iload_n 1, 1) := dk_27 (dk_at dksJ8_fill_0 7 rfl rfl)
theorem dJ8_fill_8 : decode cJ8_fill 8 = .ok (.istore 4, 2) := dk_54 4 (dk_at dksJ8_fill_0 8 rfl rfl)
theorem dJ8_fill_10 : decode cJ8_fill 10 = .ok (.iload 4, 2) := dk_21 4 (dk_at dksJ8_fill_0 10 rfl rfl)
theorem dJ8_fill_12 : decode cJ8_fill 12 = .ok (.iload_n 2, 1) := dk_28 (dk_at dksJ8_fill_0 12 rfl rfl)
theorem dJ8_fill_13 : decode cJ8_fill 13 = .ok (.if_icmp .ge 14, 3) := dk_162 0 14 (dk_at dksJ8_fill_0 13 rfl rfl)
theorem dJ8_fill_16 : decode cJ8_fill 16 = .ok (.aload_n 0, 1) := dk_42 (dk_at dksJ8_fill_0 16 rfl rfl)
theorem dJ8_fill_17 : decode cJ8_fill 17 = .ok (.iload 4, 2) := dk_21 4 (dk_at dksJ8_fill_0 17 rfl rfl)
theorem dJ8_fill_19 : decode cJ8_fill 19 = .ok (.iload_n 3, 1) := dk_29 (dk_at dksJ8_fill_0 19 rfl rfl)
theorem dJ8_fill_20 : decode cJ8_fill 20 = .ok (.bastore, 1) := dk_84 (dk_at dksJ8_fill_0 20 rfl rfl)
theorem dJ8_fill_21 : decode cJ8_fill 21 = .ok (.iinc 4 1, 3) := dk_132 4 1 (dk_at dksJ8_fill_0 21 rfl rfl)
theorem dJ8_fill_24 : decode cJ8_fill 24 = .ok (.goto (-14), 3) := dk_167 255 242 (dk_at dksJ8_fill_1 0 rfl rfl)
theorem dJ8_fill_27 : decode cJ8_fill 27 = .ok (.return_, 1) := dk_177 (dk_at dksJ8_fill_1 3 rfl rfl)
abbrev cJ8_rangeCheck : ByteArray := prog_41_method_30_code
def yJ8_rangeCheck : MethodName := ⟨RJ8, "rangeCheck", "(III)V"⟩
def dkwJ8_rangeCheck_3 : List UInt8 := [183, 0, 70, 191, 177]
abbrev dktJ8_rangeCheck_3 : List UInt8 := dkwJ8_rangeCheck_3 ++ []
def dkwJ8_rangeCheck_2 : List UInt8 := [27, 156, 0, 12, 187, 0, 68, 89, 27, 183, 0, 70, 191, 28, 26, 164, 0, 12, 187, 0, 68, 89, 28]
abbrev dktJ8_rangeCheck_2 : List UInt8 := dkwJ8_rangeCheck_2 ++ dktJ8_rangeCheck_3
def dkwJ8_rangeCheck_1 : List UInt8 := [182, 0, 54, 18, 57, 182, 0, 50, 28, 182, 0, 54, 18, 59, 182, 0, 50, 182, 0, 61, 183, 0, 65, 191]
abbrev dktJ8_rangeCheck_1 : List UInt8 := dkwJ8_rangeCheck_1 ++ dktJ8_rangeCheck_2
def dkwJ8_rangeCheck_0 : List UInt8 := [27, 28, 164, 0, 44, 187, 0, 43, 89, 187, 0, 45, 89, 183, 0, 47, 18, 48, 182, 0, 50, 27]
abbrev dktJ8_rangeCheck_0 : List UInt8 := dkwJ8_rangeCheck_0 ++ dktJ8_rangeCheck_1
theorem dksJ8_rangeCheck_0 : cJ8_rangeCheck.data.toList.drop 0 = dktJ8_rangeCheck_0 := by decide +kernel
theorem dksJ8_rangeCheck_1 : cJ8_rangeCheck.data.toList.drop 22 = dktJ8_rangeCheck_1 := dk_seg dksJ8_rangeCheck_0 22 rfl rfl
theorem dksJ8_rangeCheck_2 : cJ8_rangeCheck.data.toList.drop 46 = dktJ8_rangeCheck_2 := dk_seg dksJ8_rangeCheck_1 24 rfl rfl
theorem dksJ8_rangeCheck_3 : cJ8_rangeCheck.data.toList.drop 69 = dktJ8_rangeCheck_3 := dk_seg dksJ8_rangeCheck_2 23 rfl rfl
theorem dJ8_rangeCheck_0 : decode cJ8_rangeCheck 0 = .ok (.iload_n 1, 1) := dk_27 (dk_at dksJ8_rangeCheck_0 0 rfl rfl)
theorem dJ8_rangeCheck_1 : decode cJ8_rangeCheck 1 = .ok (.iload_n 2, 1) := dk_28 (dk_at dksJ8_rangeCheck_0 1 rfl rfl)
theorem dJ8_rangeCheck_2 : decode cJ8_rangeCheck 2 = .ok (.if_icmp .le 44, 3) := dk_164 0 44 (dk_at dksJ8_rangeCheck_0 2 rfl rfl)
theorem dJ8_rangeCheck_5 : decode cJ8_rangeCheck 5 = .ok (.new 43, 3) := dk_187 0 43 (dk_at dksJ8_rangeCheck_0 5 rfl rfl)
theorem dJ8_rangeCheck_8 : decode cJ8_rangeCheck 8 = .ok (.dup, 1) := dk_89 (dk_at dksJ8_rangeCheck_0 8 rfl rfl)
theorem dJ8_rangeCheck_9 : decode cJ8_rangeCheck 9 = .ok (.new 45, 3) := dk_187 0 45 (dk_at dksJ8_rangeCheck_0 9 rfl rfl)
theorem dJ8_rangeCheck_12 : decode cJ8_rangeCheck 12 = .ok (.dup, 1) := dk_89 (dk_at dksJ8_rangeCheck_0 12 rfl rfl)
theorem dJ8_rangeCheck_13 : decode cJ8_rangeCheck 13 = .ok (.invokespecial 47, 3) := dk_183 0 47 (dk_at dksJ8_rangeCheck_0 13 rfl rfl)
theorem dJ8_rangeCheck_16 : decode cJ8_rangeCheck 16 = .ok (.ldc 48, 2) := dk_18 48 (dk_at dksJ8_rangeCheck_0 16 rfl rfl)
theorem dJ8_rangeCheck_18 : decode cJ8_rangeCheck 18 = .ok (.invokevirtual 50, 3) := dk_182 0 50 (dk_at dksJ8_rangeCheck_0 18 rfl rfl)
theorem dJ8_rangeCheck_21 : decode cJ8_rangeCheck 21 = .ok (.iload_n 1, 1) := dk_27 (dk_at dksJ8_rangeCheck_0 21 rfl rfl)
theorem dJ8_rangeCheck_22 : decode cJ8_rangeCheck 22 = .ok (.invokevirtual 54, 3) := dk_182 0 54 (dk_at dksJ8_rangeCheck_1 0 rfl rfl)
theorem dJ8_rangeCheck_25 : decode cJ8_rangeCheck 25 = .ok (.ldc 57, 2) := dk_18 57 (dk_at dksJ8_rangeCheck_1 3 rfl rfl)
theorem dJ8_rangeCheck_27 : decode cJ8_rangeCheck 27 = .ok (.invokevirtual 50, 3) := dk_182 0 50 (dk_at dksJ8_rangeCheck_1 5 rfl rfl)
theorem dJ8_rangeCheck_30 : decode cJ8_rangeCheck 30 = .ok (.iload_n 2, 1) := dk_28 (dk_at dksJ8_rangeCheck_1 8 rfl rfl)
theorem dJ8_rangeCheck_31 : decode cJ8_rangeCheck 31 = .ok (.invokevirtual 54, 3) := dk_182 0 54 (dk_at dksJ8_rangeCheck_1 9 rfl rfl)
theorem dJ8_rangeCheck_34 : decode cJ8_rangeCheck 34 = .ok (.ldc 59, 2) := dk_18 59 (dk_at dksJ8_rangeCheck_1 12 rfl rfl)
theorem dJ8_rangeCheck_36 : decode cJ8_rangeCheck 36 = .ok (.invokevirtual 50, 3) := dk_182 0 50 (dk_at dksJ8_rangeCheck_1 14 rfl rfl)
theorem dJ8_rangeCheck_39 : decode cJ8_rangeCheck 39 = .ok (.invokevirtual 61, 3) := dk_182 0 61 (dk_at dksJ8_rangeCheck_1 17 rfl rfl)
theorem dJ8_rangeCheck_42 : decode cJ8_rangeCheck 42 = .ok (.invokespecial 65, 3) := dk_183 0 65 (dk_at dksJ8_rangeCheck_1 20 rfl rfl)
theorem dJ8_rangeCheck_45 : decode cJ8_rangeCheck 45 = .ok (.athrow, 1) := dk_191 (dk_at dksJ8_rangeCheck_1 23 rfl rfl)
theorem dJ8_rangeCheck_46 : decode cJ8_rangeCheck 46 = .ok (.iload_n 1, 1) := dk_27 (dk_at dksJ8_rangeCheck_2 0 rfl rfl)
theorem dJ8_rangeCheck_47 : decode cJ8_rangeCheck 47 = .ok (.ifCond .ge 12, 3) := dk_156 0 12 (dk_at dksJ8_rangeCheck_2 1 rfl rfl)
theorem dJ8_rangeCheck_50 : decode cJ8_rangeCheck 50 = .ok (.new 68, 3) := dk_187 0 68 (dk_at dksJ8_rangeCheck_2 4 rfl rfl)
theorem dJ8_rangeCheck_53 : decode cJ8_rangeCheck 53 = .ok (.dup, 1) := dk_89 (dk_at dksJ8_rangeCheck_2 7 rfl rfl)
theorem dJ8_rangeCheck_54 : decode cJ8_rangeCheck 54 = .ok (.iload_n 1, 1) := dk_27 (dk_at dksJ8_rangeCheck_2 8 rfl rfl)
theorem dJ8_rangeCheck_55 : decode cJ8_rangeCheck 55 = .ok (.invokespecial 70, 3) := dk_183 0 70 (dk_at dksJ8_rangeCheck_2 9 rfl rfl)
theorem dJ8_rangeCheck_58 : decode cJ8_rangeCheck 58 = .ok (.athrow, 1) := dk_191 (dk_at dksJ8_rangeCheck_2 12 rfl rfl)
theorem dJ8_rangeCheck_59 : decode cJ8_rangeCheck 59 = .ok (.iload_n 2, 1) := dk_28 (dk_at dksJ8_rangeCheck_2 13 rfl rfl)
theorem dJ8_rangeCheck_60 : decode cJ8_rangeCheck 60 = .ok (.iload_n 0, 1) := dk_26 (dk_at dksJ8_rangeCheck_2 14 rfl rfl)
theorem dJ8_rangeCheck_61 : decode cJ8_rangeCheck 61 = .ok (.if_icmp .le 12, 3) := dk_164 0 12 (dk_at dksJ8_rangeCheck_2 15 rfl rfl)
theorem dJ8_rangeCheck_64 : decode cJ8_rangeCheck 64 = .ok (.new 68, 3) := dk_187 0 68 (dk_at dksJ8_rangeCheck_2 18 rfl rfl)
theorem dJ8_rangeCheck_67 : decode cJ8_rangeCheck 67 = .ok (.dup, 1) := dk_89 (dk_at dksJ8_rangeCheck_2 21 rfl rfl)
theorem dJ8_rangeCheck_68 : decode cJ8_rangeCheck 68 = .ok (.iload_n 2, 1) := dk_28 (dk_at dksJ8_rangeCheck_2 22 rfl rfl)
theorem dJ8_rangeCheck_69 : decode cJ8_rangeCheck 69 = .ok (.invokespecial 70, 3) := dk_183 0 70 (dk_at dksJ8_rangeCheck_3 0 rfl rfl)
theorem dJ8_rangeCheck_72 : decode cJ8_rangeCheck 72 = .ok (.athrow, 1) := dk_191 (dk_at dksJ8_rangeCheck_3 3 rfl rfl)
theorem dJ8_rangeCheck_73 : decode cJ8_rangeCheck 73 = .ok (.return_, 1) := dk_177 (dk_at dksJ8_rangeCheck_3 4 rfl rfl)
theorem q50 : (Jvm.Cond.initialized "java/util/Arrays") ∈ lw_all := lw_g (lw_at lw_m1 10 rfl) rfl
theorem q209 : (Jvm.Cond.static ({ cls := "java/util/Arrays", name := "copyOfRange", desc := "([BII)[B" } : Jvm.MethodName)) ∈ lw_all := lw_g (lw_at lw_m1 169 rfl) rfl
theorem q210 : (Jvm.Cond.code ({ cls := "java/util/Arrays", name := "copyOfRange", desc := "([BII)[B" } : Jvm.MethodName) prog_41_method_132_code (3 : Nat) (Option.some (Jvm.ClassFile.FieldType.array Jvm.ClassFile.FieldType.byte))) ∈ lw_all := lw_g (lw_at lw_m1 170 rfl) rfl
theorem q211 : (Jvm.Cond.methodLink "java/util/Arrays" (339 : Nat) ({ cls := "java/util/Arrays", name := "copyOfRangeByte", desc := "([BII)[B" } : Jvm.MethodName)) ∈ lw_all := lw_g (lw_at lw_m1 171 rfl) rfl
theorem q212 : (Jvm.Cond.static ({ cls := "java/util/Arrays", name := "copyOfRangeByte", desc := "([BII)[B" } : Jvm.MethodName)) ∈ lw_all := lw_g (lw_at lw_m1 172 rfl) rfl
theorem q213 : (Jvm.Cond.code ({ cls := "java/util/Arrays", name := "copyOfRangeByte", desc := "([BII)[B" } : Jvm.MethodName) prog_41_method_133_code (5 : Nat) (Option.some (Jvm.ClassFile.FieldType.array Jvm.ClassFile.FieldType.byte))) ∈ lw_all := lw_g (lw_at lw_m1 173 rfl) rfl
theorem q214 : (Jvm.Cond.methodLink "java/util/Arrays" (343 : Nat) ({ cls := "java/util/Arrays", name := "checkLength", desc := "(II)V" } : Jvm.MethodName)) ∈ lw_all := lw_g (lw_at lw_m1 174 rfl) rfl
theorem q215 : (Jvm.Cond.static ({ cls := "java/util/Arrays", name := "checkLength", desc := "(II)V" } : Jvm.MethodName)) ∈ lw_all := lw_g (lw_at lw_m1 175 rfl) rfl
theorem q216 : (Jvm.Cond.code ({ cls := "java/util/Arrays", name := "checkLength", desc := "(II)V" } : Jvm.MethodName) prog_41_method_131_code (2 : Nat) (Option.none : Option Jvm.ClassFile.FieldType)) ∈ lw_all := lw_g (lw_at lw_m1 176 rfl) rfl
theorem q217 : (Jvm.Cond.classLink "java/util/Arrays" (43 : Nat) "java/lang/IllegalArgumentException") ∈ lw_all := lw_g (lw_at lw_m1 177 rfl) rfl
theorem q262 : (Jvm.Cond.classLink "java/util/Arrays" (45 : Nat) "java/lang/StringBuilder") ∈ lw_all := lw_g (lw_at lw_m1 222 rfl) rfl
theorem q263 : (Jvm.Cond.methodLink "java/util/Arrays" (47 : Nat) ({ cls := "java/lang/StringBuilder", name := "<init>", desc := "()V" } : Jvm.MethodName)) ∈ lw_all := lw_g (lw_at lw_m1 223 rfl) rfl
theorem q264 : (Jvm.Cond.methodLink "java/util/Arrays" (54 : Nat) ({ cls := "java/lang/StringBuilder", name := "append", desc := "(I)Ljava/lang/StringBuilder;" } : Jvm.MethodName)) ∈ lw_all := lw_g (lw_at lw_m1 224 rfl) rfl
theorem q294 : (Jvm.Cond.static ({ cls := "java/util/Arrays", name := "copyOf", desc := "([BI)[B" } : Jvm.MethodName)) ∈ lw_all := lw_g (lw_at lw_m2 14 rfl) rfl
theorem q295 : (Jvm.Cond.code ({ cls := "java/util/Arrays", name := "copyOf", desc := "([BI)[B" } : Jvm.MethodName) prog_41_method_121_code (3 : Nat) (Option.some (Jvm.ClassFile.FieldType.array Jvm.ClassFile.FieldType.byte))) ∈ lw_all := lw_g (lw_at lw_m2 15 rfl) rfl
theorem q296 : (Jvm.Cond.methodLink "java/util/Arrays" (310 : Nat) ({ cls := "[B", name := "clone", desc := "()Ljava/lang/Object;" } : Jvm.MethodName)) ∈ lw_all := lw_g (lw_at lw_m2 16 rfl) rfl
theorem q302 : (Jvm.Cond.classLink "java/util/Arrays" (311 : Nat) "[B") ∈ lw_all := lw_g (lw_at lw_m2 22 rfl) rfl
theorem q303 : (Jvm.Cond.methodLink "java/util/Arrays" (304 : Nat) ({ cls := "java/lang/Math", name := "min", desc := "(II)I" } : Jvm.MethodName)) ∈ lw_all := lw_g (lw_at lw_m2 23 rfl) rfl
theorem q306 : (Jvm.Cond.methodLink "java/util/Arrays" (150 : Nat) ({ cls := "java/lang/System", name := "arraycopy", desc := "(Ljava/lang/Object;ILjava/lang/Object;II)V" } : Jvm.MethodName)) ∈ lw_all := lw_g (lw_at lw_m2 26 rfl) rfl
theorem q345 : (Jvm.Cond.stringRef "java/util/Arrays" (337 : Nat) " > ") ∈ lw_tbl := lw_at lw_m2 65 rfl
theorem q346 : (Jvm.Cond.methodLink "java/util/Arrays" (50 : Nat) ({ cls := "java/lang/StringBuilder", name := "append", desc := "(Ljava/lang/String;)Ljava/lang/StringBuilder;" } : Jvm.MethodName)) ∈ lw_all := lw_g (lw_at lw_m2 66 rfl) rfl
theorem q395 : (Jvm.Cond.methodLink "java/util/Arrays" (61 : Nat) ({ cls := "java/lang/StringBuilder", name := "toString", desc := "()Ljava/lang/String;" } : Jvm.MethodName)) ∈ lw_all := lw_g (lw_at lw_m2 115 rfl) rfl
theorem q446 : (Jvm.Cond.methodLink "java/util/Arrays" (65 : Nat) ({ cls := "java/lang/IllegalArgumentException", name := "<init>", desc := "(Ljava/lang/String;)V" } : Jvm.MethodName)) ∈ lw_all := lw_g (lw_at lw_m2 166 rfl) rfl
theorem q531 : (Jvm.Cond.static ({ cls := "java/util/Arrays", name := "fill", desc := "([BIIB)V" } : Jvm.MethodName)) ∈ lw_all := lw_g (lw_at lw_m3 11 rfl) rfl
theorem q532 : (Jvm.Cond.code ({ cls := "java/util/Arrays", name := "fill", desc := "([BIIB)V" } : Jvm.MethodName) prog_41_method_110_code (5 : Nat) (Option.none : Option Jvm.ClassFile.FieldType)) ∈ lw_all := lw_g (lw_at lw_m3 12 rfl) rfl
theorem q533 : (Jvm.Cond.methodLink "java/util/Arrays" (13 : Nat) ({ cls := "java/util/Arrays", name := "rangeCheck", desc := "(III)V" } : Jvm.MethodName)) ∈ lw_all := lw_g (lw_at lw_m3 13 rfl) rfl
theorem q534 : (Jvm.Cond.static ({ cls := "java/util/Arrays", name := "rangeCheck", desc := "(III)V" } : Jvm.MethodName)) ∈ lw_all := lw_g (lw_at lw_m3 14 rfl) rfl
theorem q535 : (Jvm.Cond.code ({ cls := "java/util/Arrays", name := "rangeCheck", desc := "(III)V" } : Jvm.MethodName) prog_41_method_30_code (3 : Nat) (Option.none : Option Jvm.ClassFile.FieldType)) ∈ lw_all := lw_g (lw_at lw_m3 15 rfl) rfl
theorem q536 : (Jvm.Cond.stringRef "java/util/Arrays" (48 : Nat) "fromIndex(") ∈ lw_tbl := lw_at lw_m3 16 rfl
theorem q537 : (Jvm.Cond.stringRef "java/util/Arrays" (57 : Nat) ") > toIndex(") ∈ lw_tbl := lw_at lw_m3 17 rfl
theorem q538 : (Jvm.Cond.stringRef "java/util/Arrays" (59 : Nat) ")") ∈ lw_tbl := lw_at lw_m3 18 rfl
theorem q539 : (Jvm.Cond.classLink "java/util/Arrays" (68 : Nat) "java/lang/ArrayIndexOutOfBoundsException") ∈ lw_all := lw_g (lw_at lw_m3 19 rfl) rfl
theorem q550 : (Jvm.Cond.methodLink "java/util/Arrays" (70 : Nat) ({ cls := "java/lang/ArrayIndexOutOfBoundsException", name := "<init>", desc := "(I)V" } : Jvm.MethodName)) ∈ lw_all := lw_g (lw_at lw_m3 30 rfl) rfl
/-! java/lang/Number -/
set_option maxRecDepth 100000
def RJ13 : String := "java/lang/Number"
abbrev cJ13_init : ByteArray := prog_21_method_1_code
def yJ13_init : MethodName := ⟨RJ13, "<init>", "()V"⟩
theorem dJ13_init_0 : decode cJ13_init 0 = .ok (.aload_n 0, 1) := by decide +kernel
theorem dJ13_init_1 : decode cJ13_init 1 = .ok (.invokespecial 1, 3) := by decide +kernel
theorem dJ13_init_4 : decode cJ13_init 4 = .ok (.return_, 1) := by decide +kernel
theorem q55 : (Jvm.Cond.initialized "java/lang/Number") ∈ lw_all := lw_g (lw_at lw_m1 15 rfl) rfl
theorem q1855 : (Jvm.Cond.instanceMethod ({ cls := "java/lang/Number", name := "<init>", desc := "()V" } : Jvm.MethodName)) ∈ lw_all := lw_g (lw_at lw_m8 135 rfl) rfl
theorem q1856 : (Jvm.Cond.code ({ cls := "java/lang/Number", name := "<init>", desc := "()V" } : Jvm.MethodName) prog_21_method_1_code (1 : Nat) (Option.none : Option Jvm.ClassFile.FieldType)) ∈ lw_all := lw_g (lw_at lw_m8 136 rfl) rfl
theorem q1857 : (Jvm.Cond.methodLink "java/lang/Number" (1 : Nat) ({ cls := "java/lang/Object", name := "<init>", desc := "()V" } : Jvm.MethodName)) ∈ lw_all := lw_g (lw_at lw_m8 137 rfl) rfl
/-! java/lang/Integer -/
set_option maxRecDepth 100000
def RJ14 : String := "java/lang/Integer"
def TJ14 : u_T := fun k => match k with
  | _ => ("java/lang/Integer", "value", "I", true)
def tyJ14 : Nat → FieldType := fun k => match k with
  | _ => .int
abbrev wsJ140 : List Cond := u_ws RJ14 TJ14 1
theorem nmJ14 : ∀ a, a < 1 → ∀ b, b < 1 → a ≠ b → (TJ14 a).2.1 ≠ (TJ14 b).2.1 := by decide +kernel
theorem tyJ14_ok : ∀ k, k < 1 → parseFieldDescriptor (TJ14 k).2.2.1 = some (tyJ14 k) := by decide +kernel
abbrev cJ14_numberOfLeadingZeros : ByteArray := prog_16_method_47_code
def yJ14_numberOfLeadingZeros : MethodName := ⟨RJ14, "numberOfLeadingZeros", "(I)I"⟩
def dkwJ14_numberOfLeadingZeros_3 : List UInt8 := [5, 124, 59, 27, 26, 4, 124, 100, 172]
abbrev dktJ14_numberOfLeadingZeros_3 : List UInt8 := dkwJ14_numberOfLeadingZeros_3 ++ []
def dkwJ14_numberOfLeadingZeros_2 : List UInt8 := [124, 59, 26, 16, 16, 161, 0, 10, 132, 1, 252, 26, 7, 124, 59, 26, 7, 161, 0, 10, 132, 1, 254, 26]
abbrev dktJ14_numberOfLeadingZeros_2 : List UInt8 := dkwJ14_numberOfLeadingZeros_2 ++ dktJ14_numberOfLeadingZeros_3
def dkwJ14_numberOfLeadingZeros_1 : List UInt8 := [161, 0, 11, 132, 1, 240, 26, 16, 16, 124, 59, 26, 17, 1, 0, 161, 0, 11, 132, 1, 248, 26, 16, 8]
abbrev dktJ14_numberOfLeadingZeros_1 : List UInt8 := dkwJ14_numberOfLeadingZeros_1 ++ dktJ14_numberOfLeadingZeros_2
def dkwJ14_numberOfLeadingZeros_0 : List UInt8 := [26, 157, 0, 14, 26, 154, 0, 8, 16, 32, 167, 0, 4, 3, 172, 16, 31, 60, 26, 19, 1, 8]
abbrev dktJ14_numberOfLeadingZeros_0 : List UInt8 := dkwJ14_numberOfLeadingZeros_0 ++ dktJ14_numberOfLeadingZeros_1
theorem dksJ14_numberOfLeadingZeros_0 : cJ14_numberOfLeadingZeros.data.toList.drop 0 = dktJ14_numberOfLeadingZeros_0 := by decide +kernel
theorem dksJ14_numberOfLeadingZeros_1 : cJ14_numberOfLeadingZeros.data.toList.drop 22 = dktJ14_numberOfLeadingZeros_1 := dk_seg dksJ14_numberOfLeadingZeros_0 22 rfl rfl
theorem dksJ14_numberOfLeadingZeros_2 : cJ14_numberOfLeadingZeros.data.toList.drop 46 = dktJ14_numberOfLeadingZeros_2 := dk_seg dksJ14_numberOfLeadingZeros_1 24 rfl rfl
theorem dksJ14_numberOfLeadingZeros_3 : cJ14_numberOfLeadingZeros.data.toList.drop 70 = dktJ14_numberOfLeadingZeros_3 := dk_seg dksJ14_numberOfLeadingZeros_2 24 rfl rfl
theorem dJ14_numberOfLeadingZeros_0 : decode cJ14_numberOfLeadingZeros 0 = .ok (.iload_n 0, 1) := dk_26 (dk_at dksJ14_numberOfLeadingZeros_0 0 rfl rfl)
theorem dJ14_numberOfLeadingZeros_1 : decode cJ14_numberOfLeadingZeros 1 = .ok (.ifCond .gt 14, 3) := dk_157 0 14 (dk_at dksJ14_numberOfLeadingZeros_0 1 rfl rfl)
theorem dJ14_numberOfLeadingZeros_4 : decode cJ14_numberOfLeadingZeros 4 = .ok (.iload_n 0, 1) := dk_26 (dk_at dksJ14_numberOfLeadingZeros_0 4 rfl rfl)
theorem dJ14_numberOfLeadingZeros_5 : decode cJ14_numberOfLeadingZeros 5 = .ok (.ifCond .ne 8, 3) := dk_154 0 8 (dk_at dksJ14_numberOfLeadingZeros_0 5 rfl rfl)
theorem dJ14_numberOfLeadingZeros_8 : decode cJ14_numberOfLeadingZeros 8 = .ok (.bipush 32, 2) := dk_16 32 (dk_at dksJ14_numberOfLeadingZeros_0 8 rfl rfl)
theorem dJ14_numberOfLeadingZeros_10 : decode cJ14_numberOfLeadingZeros 10 = .ok (.goto 4, 3) := dk_167 0 4 (dk_at dksJ14_numberOfLeadingZeros_0 10 rfl rfl)
theorem dJ14_numberOfLeadingZeros_13 : decode cJ14_numberOfLeadingZeros 13 = .ok (.iconst 0, 1) := dk_3 (dk_at dksJ14_numberOfLeadingZeros_0 13 rfl rfl)
theorem dJ14_numberOfLeadingZeros_14 : decode cJ14_numberOfLeadingZeros 14 = .ok (.ireturn, 1) := dk_172 (dk_at dksJ14_numberOfLeadingZeros_0 14 rfl rfl)
theorem dJ14_numberOfLeadingZeros_15 : decode cJ14_numberOfLeadingZeros 15 = .ok (.bipush 31, 2) := dk_16 31 (dk_at dksJ14_numberOfLeadingZeros_0 15 rfl rfl)
theorem dJ14_numberOfLeadingZeros_17 : decode cJ14_numberOfLeadingZeros 17 = .ok (.istore_n 1, 1) := dk_60 (dk_at dksJ14_numberOfLeadingZeros_0 17 rfl rfl)
theorem dJ14_numberOfLeadingZeros_18 : decode cJ14_numberOfLeadingZeros 18 = .ok (.iload_n 0, 1) := dk_26 (dk_at dksJ14_numberOfLeadingZeros_0 18 rfl rfl)
theorem dJ14_numberOfLeadingZeros_19 : decode cJ14_numberOfLeadingZeros 19 = .ok (.ldc_w 264, 3) := dk_19 1 8 (dk_at dksJ14_numberOfLeadingZeros_0 19 rfl rfl)
theorem dJ14_numberOfLeadingZeros_22 : decode cJ14_numberOfLeadingZeros 22 = .ok (.if_icmp .lt 11, 3) := dk_161 0 11 (dk_at dksJ14_numberOfLeadingZeros_1 0 rfl rfl)
theorem dJ14_numberOfLeadingZeros_25 : decode cJ14_numberOfLeadingZeros 25 = .ok (.iinc 1 (-16), 3) := dk_132 1 240 (dk_at dksJ14_numberOfLeadingZeros_1 3 rfl rfl)
theorem dJ14_numberOfLeadingZeros_28 : decode cJ14_numberOfLeadingZeros 28 = .ok (.iload_n 0, 1) := dk_26 (dk_at dksJ14_numberOfLeadingZeros_1 6 rfl rfl)
theorem dJ14_numberOfLeadingZeros_29 : decode cJ14_numberOfLeadingZeros 29 = .ok (.bipush 16, 2) := dk_16 16 (dk_at dksJ14_numberOfLeadingZeros_1 7 rfl rfl)
theorem dJ14_numberOfLeadingZeros_31 : decode cJ14_numberOfLeadingZeros 31 = .ok (.iushr, 1) := dk_124 (dk_at dksJ14_numberOfLeadingZeros_1 9 rfl rfl)
theorem dJ14_numberOfLeadingZeros_32 : decode cJ14_numberOfLeadingZeros 32 = .ok (.istore_n 0, 1) := dk_59 (dk_at dksJ14_numberOfLeadingZeros_1 10 rfl rfl)
theorem dJ14_numberOfLeadingZeros_33 : decode cJ14_numberOfLeadingZeros 33 = .ok (.iload_n 0, 1) := dk_26 (dk_at dksJ14_numberOfLeadingZeros_1 11 rfl rfl)
theorem dJ14_numberOfLeadingZeros_34 : decode cJ14_numberOfLeadingZeros 34 = .ok (.sipush 256, 3) := dk_17 1 0 (dk_at dksJ14_numberOfLeadingZeros_1 12 rfl rfl)
theorem dJ14_numberOfLeadingZeros_37 : decode cJ14_numberOfLeadingZeros 37 = .ok (.if_icmp .lt 11, 3) := dk_161 0 11 (dk_at dksJ14_numberOfLeadingZeros_1 15 rfl rfl)
theorem dJ14_numberOfLeadingZeros_40 : decode cJ14_numberOfLeadingZeros 40 = .ok (.iinc 1 (-8), 3) := dk_132 1 248 (dk_at dksJ14_numberOfLeadingZeros_1 18 rfl rfl)
theorem dJ14_numberOfLeadingZeros_43 : decode cJ14_numberOfLeadingZeros 43 = .ok (.iload_n 0, 1) := dk_26 (dk_at dksJ14_numberOfLeadingZeros_1 21 rfl rfl)
theorem dJ14_numberOfLeadingZeros_44 : decode cJ14_numberOfLeadingZeros 44 = .ok (.bipush 8, 2) := dk_16 8 (dk_at dksJ14_numberOfLeadingZeros_1 22 rfl rfl)
theorem dJ14_numberOfLeadingZeros_46 : decode cJ14_numberOfLeadingZeros 46 = .ok (.iushr, 1) := dk_124 (dk_at dksJ14_numberOfLeadingZeros_2 0 rfl rfl)
theorem dJ14_numberOfLeadingZeros_47 : decode cJ14_numberOfLeadingZeros 47 = .ok (.istore_n 0, 1) := dk_59 (dk_at dksJ14_numberOfLeadingZeros_2 1 rfl rfl)
theorem dJ14_numberOfLeadingZeros_48 : decode cJ14_numberOfLeadingZeros 48 = .ok (.iload_n 0, 1) := dk_26 (dk_at dksJ14_numberOfLeadingZeros_2 2 rfl rfl)
theorem dJ14_numberOfLeadingZeros_49 : decode cJ14_numberOfLeadingZeros 49 = .ok (.bipush 16, 2) := dk_16 16 (dk_at dksJ14_numberOfLeadingZeros_2 3 rfl rfl)
theorem dJ14_numberOfLeadingZeros_51 : decode cJ14_numberOfLeadingZeros 51 = .ok (.if_icmp .lt 10, 3) := dk_161 0 10 (dk_at dksJ14_numberOfLeadingZeros_2 5 rfl rfl)
theorem dJ14_numberOfLeadingZeros_54 : decode cJ14_numberOfLeadingZeros 54 = .ok (.iinc 1 (-4), 3) := dk_132 1 252 (dk_at dksJ14_numberOfLeadingZeros_2 8 rfl rfl)
theorem dJ14_numberOfLeadingZeros_57 : decode cJ14_numberOfLeadingZeros 57 = .ok (.iload_n 0, 1) := dk_26 (dk_at dksJ14_numberOfLeadingZeros_2 11 rfl rfl)
theorem dJ14_numberOfLeadingZeros_58 : decode cJ14_numberOfLeadingZeros 58 = .ok (.iconst 4, 1) := dk_7 (dk_at dksJ14_numberOfLeadingZeros_2 12 rfl rfl)
theorem dJ14_numberOfLeadingZeros_59 : decode cJ14_numberOfLeadingZeros 59 = .ok (.iushr, 1) := dk_124 (dk_at dksJ14_numberOfLeadingZeros_2 13 rfl rfl)
theorem dJ14_numberOfLeadingZeros_60 : decode cJ14_numberOfLeadingZeros 60 = .ok (.istore_n 0, 1) := dk_59 (dk_at dksJ14_numberOfLeadingZeros_2 14 rfl rfl)
theorem dJ14_numberOfLeadingZeros_61 : decode cJ14_numberOfLeadingZeros 61 = .ok (.iload_n 0, 1) := dk_26 (dk_at dksJ14_numberOfLeadingZeros_2 15 rfl rfl)
theorem dJ14_numberOfLeadingZeros_62 : decode cJ14_numberOfLeadingZeros 62 = .ok (.iconst 4, 1) := dk_7 (dk_at dksJ14_numberOfLeadingZeros_2 16 rfl rfl)
theorem dJ14_numberOfLeadingZeros_63 : decode cJ14_numberOfLeadingZeros 63 = .ok (.if_icmp .lt 10, 3) := dk_161 0 10 (dk_at dksJ14_numberOfLeadingZeros_2 17 rfl rfl)
theorem dJ14_numberOfLeadingZeros_66 : decode cJ14_numberOfLeadingZeros 66 = .ok (.iinc 1 (-2), 3) := dk_132 1 254 (dk_at dksJ14_numberOfLeadingZeros_2 20 rfl rfl)
theorem dJ14_numberOfLeadingZeros_69 : decode cJ14_numberOfLeadingZeros 69 = .ok (.iload_n 0, 1) := dk_26 (dk_at dksJ14_numberOfLeadingZeros_2 23 rfl rfl)
theorem dJ14_numberOfLeadingZeros_70 : decode cJ14_numberOfLeadingZeros 70 = .ok (.iconst 2, 1) := dk_5 (dk_at dksJ14_numberOfLeadingZeros_3 0 rfl rfl)
theorem dJ14_numberOfLeadingZeros_71 : decode cJ14_numberOfLeadingZeros 71 = .ok (.iushr, 1) := dk_124 (dk_at dksJ14_numberOfLeadingZeros_3 1 rfl rfl)
theorem dJ14_numberOfLeadingZeros_72 : decode cJ14_numberOfLeadingZeros 72 = .ok (.istore_n 0, 1) := dk_59 (dk_at dksJ14_numberOfLeadingZeros_3 2 rfl rfl)
theorem dJ14_numberOfLeadingZeros_73 : decode cJ14_numberOfLeadingZeros 73 = .ok (.iload_n 1, 1) := dk_27 (dk_at dksJ14_numberOfLeadingZeros_3 3 rfl rfl)
theorem dJ14_numberOfLeadingZeros_74 : decode cJ14_numberOfLeadingZeros 74 = .ok (.iload_n 0, 1) := dk_26 (dk_at dksJ14_numberOfLeadingZeros_3 4 rfl rfl)
theorem dJ14_numberOfLeadingZeros_75 : decode cJ14_numberOfLeadingZeros 75 = .ok (.iconst 1, 1) := dk_4 (dk_at dksJ14_numberOfLeadingZeros_3 5 rfl rfl)
theorem dJ14_numberOfLeadingZeros_76 : decode cJ14_numberOfLeadingZeros 76 = .ok (.iushr, 1) := dk_124 (dk_at dksJ14_numberOfLeadingZeros_3 6 rfl rfl)
theorem dJ14_numberOfLeadingZeros_77 : decode cJ14_numberOfLeadingZeros 77 = .ok (.isub, 1) := dk_100 (dk_at dksJ14_numberOfLeadingZeros_3 7 rfl rfl)
theorem dJ14_numberOfLeadingZeros_78 : decode cJ14_numberOfLeadingZeros 78 = .ok (.ireturn, 1) := dk_172 (dk_at dksJ14_numberOfLeadingZeros_3 8 rfl rfl)
abbrev cJ14_numberOfTrailingZeros : ByteArray := prog_16_method_48_code
def yJ14_numberOfTrailingZeros : MethodName := ⟨RJ14, "numberOfTrailingZeros", "(I)I"⟩
def dkwJ14_numberOfTrailingZeros_3 : List UInt8 := [5, 124, 59, 27, 26, 4, 124, 96, 172]
abbrev dktJ14_numberOfTrailingZeros_3 : List UInt8 := dkwJ14_numberOfTrailingZeros_3 ++ []
def dkwJ14_numberOfTrailingZeros_2 : List UInt8 := [124, 59, 26, 16, 16, 164, 0, 10, 132, 1, 4, 26, 7, 124, 59, 26, 7, 164, 0, 10, 132, 1, 2, 26]
abbrev dktJ14_numberOfTrailingZeros_2 : List UInt8 := dkwJ14_numberOfTrailingZeros_2 ++ dktJ14_numberOfTrailingZeros_3
def dkwJ14_numberOfTrailingZeros_1 : List UInt8 := [164, 0, 11, 132, 1, 16, 26, 16, 16, 124, 59, 26, 17, 1, 0, 164, 0, 11, 132, 1, 8, 26, 16, 8]
abbrev dktJ14_numberOfTrailingZeros_1 : List UInt8 := dkwJ14_numberOfTrailingZeros_1 ++ dktJ14_numberOfTrailingZeros_2
def dkwJ14_numberOfTrailingZeros_0 : List UInt8 := [26, 2, 130, 26, 4, 100, 126, 59, 26, 157, 0, 8, 26, 16, 32, 126, 172, 4, 60, 26, 19, 1, 8]
abbrev dktJ14_numberOfTrailingZeros_0 : List UInt8 := dkwJ14_numberOfTrailingZeros_0 ++ dktJ14_numberOfTrailingZeros_1
theorem dksJ14_numberOfTrailingZeros_0 : cJ14_numberOfTrailingZeros.data.toList.drop 0 = dktJ14_numberOfTrailingZeros_0 := by decide +kernel
theorem dksJ14_numberOfTrailingZeros_1 : cJ14_numberOfTrailingZeros.data.toList.drop 23 = dktJ14_numberOfTrailingZeros_1 := dk_seg dksJ14_numberOfTrailingZeros_0 23 rfl rfl
theorem dksJ14_numberOfTrailingZeros_2 : cJ14_numberOfTrailingZeros.data.toList.drop 47 = dktJ14_numberOfTrailingZeros_2 := dk_seg dksJ14_numberOfTrailingZeros_1 24 rfl rfl
theorem dksJ14_numberOfTrailingZeros_3 : cJ14_numberOfTrailingZeros.data.toList.drop 71 = dktJ14_numberOfTrailingZeros_3 := dk_seg dksJ14_numberOfTrailingZeros_2 24 rfl rfl
theorem dJ14_numberOfTrailingZeros_0 : decode cJ14_numberOfTrailingZeros 0 = .ok (.iload_n 0, 1) := dk_26 (dk_at dksJ14_numberOfTrailingZeros_0 0 rfl rfl)
theorem dJ14_numberOfTrailingZeros_1 : decode cJ14_numberOfTrailingZeros 1 = .ok (.iconst (-1), 1) := dk_2 (dk_at dksJ14_numberOfTrailingZeros_0 1 rfl rfl)
theorem dJ14_numberOfTrailingZeros_2 : decode cJ14_numberOfTrailingZeros 2 = .ok (.ixor, 1) := dk_130 (dk_at dksJ14_numberOfTrailingZeros_0 2 rfl rfl)
theorem dJ14_numberOfTrailingZeros_3 : decode cJ14_numberOfTrailingZeros 3 = .ok (.iload_n 0, 1) := dk_26 (dk_at dksJ14_numberOfTrailingZeros_0 3 rfl rfl)
theorem dJ14_numberOfTrailingZeros_4 : decode cJ14_numberOfTrailingZeros 4 = .ok (.iconst 1, 1) := dk_4 (dk_at dksJ14_numberOfTrailingZeros_0 4 rfl rfl)
theorem dJ14_numberOfTrailingZeros_5 : decode cJ14_numberOfTrailingZeros 5 = .ok (.isub, 1) := dk_100 (dk_at dksJ14_numberOfTrailingZeros_0 5 rfl rfl)
theorem dJ14_numberOfTrailingZeros_6 : decode cJ14_numberOfTrailingZeros 6 = .ok (.iand, 1) := dk_126 (dk_at dksJ14_numberOfTrailingZeros_0 6 rfl rfl)
theorem dJ14_numberOfTrailingZeros_7 : decode cJ14_numberOfTrailingZeros 7 = .ok (.istore_n 0, 1) := dk_59 (dk_at dksJ14_numberOfTrailingZeros_0 7 rfl rfl)
theorem dJ14_numberOfTrailingZeros_8 : decode cJ14_numberOfTrailingZeros 8 = .ok (.iload_n 0, 1) := dk_26 (dk_at dksJ14_numberOfTrailingZeros_0 8 rfl rfl)
theorem dJ14_numberOfTrailingZeros_9 : decode cJ14_numberOfTrailingZeros 9 = .ok (.ifCond .gt 8, 3) := dk_157 0 8 (dk_at dksJ14_numberOfTrailingZeros_0 9 rfl rfl)
theorem dJ14_numberOfTrailingZeros_12 : decode cJ14_numberOfTrailingZeros 12 = .ok (.iload_n 0, 1) := dk_26 (dk_at dksJ14_numberOfTrailingZeros_0 12 rfl rfl)
theorem dJ14_numberOfTrailingZeros_13 : decode cJ14_numberOfTrailingZeros 13 = .ok (.bipush 32, 2) := dk_16 32 (dk_at dksJ14_numberOfTrailingZeros_0 13 rfl rfl)
theorem dJ14_numberOfTrailingZeros_15 : decode cJ14_numberOfTrailingZeros 15 = .ok (.iand, 1) := dk_126 (dk_at dksJ14_numberOfTrailingZeros_0 15 rfl rfl)
theorem dJ14_numberOfTrailingZeros_16 : decode cJ14_numberOfTrailingZeros 16 = .ok (.ireturn, 1) := dk_172 (dk_at dksJ14_numberOfTrailingZeros_0 16 rfl rfl)
theorem dJ14_numberOfTrailingZeros_17 : decode cJ14_numberOfTrailingZeros 17 = .ok (.iconst 1, 1) := dk_4 (dk_at dksJ14_numberOfTrailingZeros_0 17 rfl rfl)
theorem dJ14_numberOfTrailingZeros_18 : decode cJ14_numberOfTrailingZeros 18 = .ok (.istore_n 1, 1) := dk_60 (dk_at dksJ14_numberOfTrailingZeros_0 18 rfl rfl)
theorem dJ14_numberOfTrailingZeros_19 : decode cJ14_numberOfTrailingZeros 19 = .ok (.iload_n 0, 1) := dk_26 (dk_at dksJ14_numberOfTrailingZeros_0 19 rfl rfl)
theorem dJ14_numberOfTrailingZeros_20 : decode cJ14_numberOfTrailingZeros 20 = .ok (.ldc_w 264, 3) := dk_19 1 8 (dk_at dksJ14_numberOfTrailingZeros_0 20 rfl rfl)
theorem dJ14_numberOfTrailingZeros_23 : decode cJ14_numberOfTrailingZeros 23 = .ok (.if_icmp .le 11, 3) := dk_164 0 11 (dk_at dksJ14_numberOfTrailingZeros_1 0 rfl rfl)
theorem dJ14_numberOfTrailingZeros_26 : decode cJ14_numberOfTrailingZeros 26 = .ok (.iinc 1 16, 3) := dk_132 1 16 (dk_at dksJ14_numberOfTrailingZeros_1 3 rfl rfl)
theorem dJ14_numberOfTrailingZeros_29 : decode cJ14_numberOfTrailingZeros 29 = .ok (.iload_n 0, 1) := dk_26 (dk_at dksJ14_numberOfTrailingZeros_1 6 rfl rfl)
theorem dJ14_numberOfTrailingZeros_30 : decode cJ14_numberOfTrailingZeros 30 = .ok (.bipush 16, 2) := dk_16 16 (dk_at dksJ14_numberOfTrailingZeros_1 7 rfl rfl)
theorem dJ14_numberOfTrailingZeros_32 : decode cJ14_numberOfTrailingZeros 32 = .ok (.iushr, 1) := dk_124 (dk_at dksJ14_numberOfTrailingZeros_1 9 rfl rfl)
theorem dJ14_numberOfTrailingZeros_33 : decode cJ14_numberOfTrailingZeros 33 = .ok (.istore_n 0, 1) := dk_59 (dk_at dksJ14_numberOfTrailingZeros_1 10 rfl rfl)
theorem dJ14_numberOfTrailingZeros_34 : decode cJ14_numberOfTrailingZeros 34 = .ok (.iload_n 0, 1) := dk_26 (dk_at dksJ14_numberOfTrailingZeros_1 11 rfl rfl)
theorem dJ14_numberOfTrailingZeros_35 : decode cJ14_numberOfTrailingZeros 35 = .ok (.sipush 256, 3) := dk_17 1 0 (dk_at dksJ14_numberOfTrailingZeros_1 12 rfl rfl)
theorem dJ14_numberOfTrailingZeros_38 : decode cJ14_numberOfTrailingZeros 38 = .ok (.if_icmp .le 11, 3) := dk_164 0 11 (dk_at dksJ14_numberOfTrailingZeros_1 15 rfl rfl)
theorem dJ14_numberOfTrailingZeros_41 : decode cJ14_numberOfTrailingZeros 41 = .ok (.iinc 1 8, 3) := dk_132 1 8 (dk_at dksJ14_numberOfTrailingZeros_1 18 rfl rfl)
theorem dJ14_numberOfTrailingZeros_44 : decode cJ14_numberOfTrailingZeros 44 = .ok (.iload_n 0, 1) := dk_26 (dk_at dksJ14_numberOfTrailingZeros_1 21 rfl rfl)
theorem dJ14_numberOfTrailingZeros_45 : decode cJ14_numberOfTrailingZeros 45 = .ok (.bipush 8, 2) := dk_16 8 (dk_at dksJ14_numberOfTrailingZeros_1 22 rfl rfl)
theorem dJ14_numberOfTrailingZeros_47 : decode cJ14_numberOfTrailingZeros 47 = .ok (.iushr, 1) := dk_124 (dk_at dksJ14_numberOfTrailingZeros_2 0 rfl rfl)
theorem dJ14_numberOfTrailingZeros_48 : decode cJ14_numberOfTrailingZeros 48 = .ok (.istore_n 0, 1) := dk_59 (dk_at dksJ14_numberOfTrailingZeros_2 1 rfl rfl)
theorem dJ14_numberOfTrailingZeros_49 : decode cJ14_numberOfTrailingZeros 49 = .ok (.iload_n 0, 1) := dk_26 (dk_at dksJ14_numberOfTrailingZeros_2 2 rfl rfl)
theorem dJ14_numberOfTrailingZeros_50 : decode cJ14_numberOfTrailingZeros 50 = .ok (.bipush 16, 2) := dk_16 16 (dk_at dksJ14_numberOfTrailingZeros_2 3 rfl rfl)
theorem dJ14_numberOfTrailingZeros_52 : decode cJ14_numberOfTrailingZeros 52 = .ok (.if_icmp .le 10, 3) := dk_164 0 10 (dk_at dksJ14_numberOfTrailingZeros_2 5 rfl rfl)
theorem dJ14_numberOfTrailingZeros_55 : decode cJ14_numberOfTrailingZeros 55 = .ok (.iinc 1 4, 3) := dk_132 1 4 (dk_at dksJ14_numberOfTrailingZeros_2 8 rfl rfl)
theorem dJ14_numberOfTrailingZeros_58 : decode cJ14_numberOfTrailingZeros 58 = .ok (.iload_n 0, 1) := dk_26 (dk_at dksJ14_numberOfTrailingZeros_2 11 rfl rfl)
theorem dJ14_numberOfTrailingZeros_59 : decode cJ14_numberOfTrailingZeros 59 = .ok (.iconst 4, 1) := dk_7 (dk_at dksJ14_numberOfTrailingZeros_2 12 rfl rfl)
theorem dJ14_numberOfTrailingZeros_60 : decode cJ14_numberOfTrailingZeros 60 = .ok (.iushr, 1) := dk_124 (dk_at dksJ14_numberOfTrailingZeros_2 13 rfl rfl)
theorem dJ14_numberOfTrailingZeros_61 : decode cJ14_numberOfTrailingZeros 61 = .ok (.istore_n 0, 1) := dk_59 (dk_at dksJ14_numberOfTrailingZeros_2 14 rfl rfl)
theorem dJ14_numberOfTrailingZeros_62 : decode cJ14_numberOfTrailingZeros 62 = .ok (.iload_n 0, 1) := dk_26 (dk_at dksJ14_numberOfTrailingZeros_2 15 rfl rfl)
theorem dJ14_numberOfTrailingZeros_63 : decode cJ14_numberOfTrailingZeros 63 = .ok (.iconst 4, 1) := dk_7 (dk_at dksJ14_numberOfTrailingZeros_2 16 rfl rfl)
theorem dJ14_numberOfTrailingZeros_64 : decode cJ14_numberOfTrailingZeros 64 = .ok (.if_icmp .le 10, 3) := dk_164 0 10 (dk_at dksJ14_numberOfTrailingZeros_2 17 rfl rfl)
theorem dJ14_numberOfTrailingZeros_67 : decode cJ14_numberOfTrailingZeros 67 = .ok (.iinc 1 2, 3) := dk_132 1 2 (dk_at dksJ14_numberOfTrailingZeros_2 20 rfl rfl)
theorem dJ14_numberOfTrailingZeros_70 : decode cJ14_numberOfTrailingZeros 70 = .ok (.iload_n 0, 1) := dk_26 (dk_at dksJ14_numberOfTrailingZeros_2 23 rfl rfl)
theorem dJ14_numberOfTrailingZeros_71 : decode cJ14_numberOfTrailingZeros 71 = .ok (.iconst 2, 1) := dk_5 (dk_at dksJ14_numberOfTrailingZeros_3 0 rfl rfl)
theorem dJ14_numberOfTrailingZeros_72 : decode cJ14_numberOfTrailingZeros 72 = .ok (.iushr, 1) := dk_124 (dk_at dksJ14_numberOfTrailingZeros_3 1 rfl rfl)
theorem dJ14_numberOfTrailingZeros_73 : decode cJ14_numberOfTrailingZeros 73 = .ok (.istore_n 0, 1) := dk_59 (dk_at dksJ14_numberOfTrailingZeros_3 2 rfl rfl)
theorem dJ14_numberOfTrailingZeros_74 : decode cJ14_numberOfTrailingZeros 74 = .ok (.iload_n 1, 1) := dk_27 (dk_at dksJ14_numberOfTrailingZeros_3 3 rfl rfl)
theorem dJ14_numberOfTrailingZeros_75 : decode cJ14_numberOfTrailingZeros 75 = .ok (.iload_n 0, 1) := dk_26 (dk_at dksJ14_numberOfTrailingZeros_3 4 rfl rfl)
theorem dJ14_numberOfTrailingZeros_76 : decode cJ14_numberOfTrailingZeros 76 = .ok (.iconst 1, 1) := dk_4 (dk_at dksJ14_numberOfTrailingZeros_3 5 rfl rfl)
theorem dJ14_numberOfTrailingZeros_77 : decode cJ14_numberOfTrailingZeros 77 = .ok (.iushr, 1) := dk_124 (dk_at dksJ14_numberOfTrailingZeros_3 6 rfl rfl)
theorem dJ14_numberOfTrailingZeros_78 : decode cJ14_numberOfTrailingZeros 78 = .ok (.iadd, 1) := dk_96 (dk_at dksJ14_numberOfTrailingZeros_3 7 rfl rfl)
theorem dJ14_numberOfTrailingZeros_79 : decode cJ14_numberOfTrailingZeros 79 = .ok (.ireturn, 1) := dk_172 (dk_at dksJ14_numberOfTrailingZeros_3 8 rfl rfl)
abbrev cJ14_intValue : ByteArray := prog_16_method_27_code
def yJ14_intValue : MethodName := ⟨RJ14, "intValue", "()I"⟩
theorem dJ14_intValue_0 : decode cJ14_intValue 0 = .ok (.aload_n 0, 1) := by decide +kernel
theorem dJ14_intValue_1 : decode cJ14_intValue 1 = .ok (.getfield 205, 3) := by decide +kernel
theorem dJ14_intValue_4 : decode cJ14_intValue 4 = .ok (.ireturn, 1) := by decide +kernel
abbrev cJ14_valueOf : ByteArray := prog_16_method_22_code
def yJ14_valueOf : MethodName := ⟨RJ14, "valueOf", "(I)Ljava/lang/Integer;"⟩
def dkwJ14_valueOf_1 : List UInt8 := [187, 0, 1, 89, 26, 183, 0, 199, 176]
abbrev dktJ14_valueOf_1 : List UInt8 := dkwJ14_valueOf_1 ++ []
def dkwJ14_valueOf_0 : List UInt8 := [26, 16, 128, 161, 0, 20, 26, 178, 0, 191, 163, 0, 13, 178, 0, 195, 26, 17, 0, 128, 96, 50, 176]
abbrev dktJ14_valueOf_0 : List UInt8 := dkwJ14_valueOf_0 ++ dktJ14_valueOf_1
theorem dksJ14_valueOf_0 : cJ14_valueOf.data.toList.drop 0 = dktJ14_valueOf_0 := by decide +kernel
theorem dksJ14_valueOf_1 : cJ14_valueOf.data.toList.drop 23 = dktJ14_valueOf_1 := dk_seg dksJ14_valueOf_0 23 rfl rfl
theorem dJ14_valueOf_0 : decode cJ14_valueOf 0 = .ok (.iload_n 0, 1) := dk_26 (dk_at dksJ14_valueOf_0 0 rfl rfl)
theorem dJ14_valueOf_1 : decode cJ14_valueOf 1 = .ok (.bipush (-128), 2) := dk_16 128 (dk_at dksJ14_valueOf_0 1 rfl rfl)
theorem dJ14_valueOf_3 : decode cJ14_valueOf 3 = .ok (.if_icmp .lt 20, 3) := dk_161 0 20 (dk_at dksJ14_valueOf_0 3 rfl rfl)
theorem dJ14_valueOf_6 : decode cJ14_valueOf 6 = .ok (.iload_n 0, 1) := dk_26 (dk_at dksJ14_valueOf_0 6 rfl rfl)
theorem dJ14_valueOf_7 : decode cJ14_valueOf 7 = .ok (.getstatic 191, 3) := dk_178 0 191 (dk_at dksJ14_valueOf_0 7 rfl rfl)
theorem dJ14_valueOf_10 : decode cJ14_valueOf 10 = .ok (.if_icmp .gt 13, 3) := dk_163 0 13 (dk_at dksJ14_valueOf_0 10 rfl rfl)
theorem dJ14_valueOf_13 : decode cJ14_valueOf 13 = .ok (.getstatic 195, 3) := dk_178 0 195 (dk_at dksJ14_valueOf_0 13 rfl rfl)
theorem dJ14_valueOf_16 : decode cJ14_valueOf 16 = .ok (.iload_n 0, 1) := dk_26 (dk_at dksJ14_valueOf_0 16 rfl rfl)
theorem dJ14_valueOf_17 : decode cJ14_valueOf 17 = .ok (.sipush 128, 3) := dk_17 0 128 (dk_at dksJ14_valueOf_0 17 rfl rfl)
theorem dJ14_valueOf_20 : decode cJ14_valueOf 20 = .ok (.iadd, 1) := dk_96 (dk_at dksJ14_valueOf_0 20 rfl rfl)
theorem dJ14_valueOf_21 : decode cJ14_valueOf 21 = .ok (.aaload, 1) := dk_50 (dk_at dksJ14_valueOf_0 21 rfl rfl)
theorem dJ14_valueOf_22 : decode cJ14_valueOf 22 = .ok (.areturn, 1) := dk_176 (dk_at dksJ14_valueOf_0 22 rfl rfl)
theorem dJ14_valueOf_23 : decode cJ14_valueOf 23 = .ok (.new 1, 3) := dk_187 0 1 (dk_at dksJ14_valueOf_1 0 rfl rfl)
theorem dJ14_valueOf_26 : decode cJ14_valueOf 26 = .ok (.dup, 1) := dk_89 (dk_at dksJ14_valueOf_1 3 rfl rfl)
theorem dJ14_valueOf_27 : decode cJ14_valueOf 27 = .ok (.iload_n 0, 1) := dk_26 (dk_at dksJ14_valueOf_1 4 rfl rfl)
theorem dJ14_valueOf_28 : decode cJ14_valueOf 28 = .ok (.invokespecial 199, 3) := dk_183 0 199 (dk_at dksJ14_valueOf_1 5 rfl rfl)
theorem dJ14_valueOf_31 : decode cJ14_valueOf 31 = .ok (.areturn, 1) := dk_176 (dk_at dksJ14_valueOf_1 8 rfl rfl)
abbrev cJ14_init : ByteArray := prog_16_method_23_code
def yJ14_init : MethodName := ⟨RJ14, "<init>", "(I)V"⟩
def dkwJ14_init_0 : List UInt8 := [42, 183, 0, 202, 42, 27, 181, 0, 205, 177]
abbrev dktJ14_init_0 : List UInt8 := dkwJ14_init_0 ++ []
theorem dksJ14_init_0 : cJ14_init.data.toList.drop 0 = dktJ14_init_0 := by decide +kernel
theorem dJ14_init_0 : decode cJ14_init 0 = .ok (.aload_n 0, 1) := dk_42 (dk_at dksJ14_init_0 0 rfl rfl)
theorem dJ14_init_1 : decode cJ14_init 1 = .ok (.invokespecial 202, 3) := dk_183 0 202 (dk_at dksJ14_init_0 1 rfl rfl)
theorem dJ14_init_4 : decode cJ14_init 4 = .ok (.aload_n 0, 1) := dk_42 (dk_at dksJ14_init_0 4 rfl rfl)
theorem dJ14_init_5 : decode cJ14_init 5 = .ok (.iload_n 1, 1) := dk_27 (dk_at dksJ14_init_0 5 rfl rfl)
theorem dJ14_init_6 : decode cJ14_init 6 = .ok (.putfield 205, 3) := dk_181 0 205 (dk_at dksJ14_init_0 6 rfl rfl)
theorem dJ14_init_9 : decode cJ14_init 9 = .ok (.return_, 1) := dk_177 (dk_at dksJ14_init_0 9 rfl rfl)
theorem q56 : (Jvm.Cond.initialized "java/lang/Integer") ∈ lw_all := lw_g (lw_at lw_m1 16 rfl) rfl
theorem q272 : (Jvm.Cond.static ({ cls := "java/lang/Integer", name := "stringSize", desc := "(I)I" } : Jvm.MethodName)) ∈ lw_all := lw_g (lw_at lw_m1 232 rfl) rfl
theorem q273 : (Jvm.Cond.code ({ cls := "java/lang/Integer", name := "stringSize", desc := "(I)I" } : Jvm.MethodName) prog_16_method_13_code (4 : Nat) (Option.some Jvm.ClassFile.FieldType.int)) ∈ lw_all := lw_g (lw_at lw_m1 233 rfl) rfl
theorem q315 : (Jvm.Cond.static ({ cls := "java/lang/Integer", name := "getChars", desc := "(II[B)I" } : Jvm.MethodName)) ∈ lw_all := lw_g (lw_at lw_m2 35 rfl) rfl
theorem q316 : (Jvm.Cond.code ({ cls := "java/lang/Integer", name := "getChars", desc := "(II[B)I" } : Jvm.MethodName) prog_16_method_12_code (7 : Nat) (Option.some Jvm.ClassFile.FieldType.int)) ∈ lw_all := lw_g (lw_at lw_m2 36 rfl) rfl
theorem q317 : (Jvm.Cond.fieldLink "java/lang/Integer" (83 : Nat) "java/lang/Integer" "DigitOnes" "[B") ∈ lw_all := lw_g (lw_at lw_m2 37 rfl) rfl
theorem q318 : (Jvm.Cond.laysStatic "java/lang/Integer" "DigitOnes" "[B") ∈ lw_tbl := lw_at lw_m2 38 rfl
theorem q319 : (Jvm.Cond.fieldLink "java/lang/Integer" (87 : Nat) "java/lang/Integer" "DigitTens" "[B") ∈ lw_all := lw_g (lw_at lw_m2 39 rfl) rfl
theorem q320 : (Jvm.Cond.laysStatic "java/lang/Integer" "DigitTens" "[B") ∈ lw_tbl := lw_at lw_m2 40 rfl
theorem q648 : (Jvm.Cond.castable "java/lang/Integer" "java/lang/Comparable") ∈ lw_tbl := lw_at lw_m3 128 rfl
theorem q649 : (Jvm.Cond.selects "java/lang/Integer" ({ cls := "java/lang/Comparable", name := "compareTo", desc := "(Ljava/lang/Object;)I" } : Jvm.MethodName) ({ cls := "java/lang/Integer", name := "compareTo", desc := "(Ljava/lang/Object;)I" } : Jvm.MethodName)) ∈ lw_all := lw_g (lw_at lw_m3 129 rfl) rfl
theorem q650 : (Jvm.Cond.unhidden "java/lang/Integer" "compareTo" "(Ljava/lang/Object;)I") ∈ lw_tbl := lw_at lw_m3 130 rfl
theorem q651 : (Jvm.Cond.instanceMethod ({ cls := "java/lang/Integer", name := "compareTo", desc := "(Ljava/lang/Object;)I" } : Jvm.MethodName)) ∈ lw_all := lw_g (lw_at lw_m3 131 rfl) rfl
theorem q652 : (Jvm.Cond.publicMethod ({ cls := "java/lang/Integer", name := "compareTo", desc := "(Ljava/lang/Object;)I" } : Jvm.MethodName)) ∈ lw_tbl := lw_at lw_m3 132 rfl
theorem q653 : (Jvm.Cond.code ({ cls := "java/lang/Integer", name := "compareTo", desc := "(Ljava/lang/Object;)I" } : Jvm.MethodName) prog_16_method_63_code (2 : Nat) (Option.some Jvm.ClassFile.FieldType.int)) ∈ lw_all := lw_g (lw_at lw_m3 133 rfl) rfl
theorem q654 : (Jvm.Cond.classLink "java/lang/Integer" (1 : Nat) "java/lang/Integer") ∈ lw_all := lw_g (lw_at lw_m3 134 rfl) rfl
theorem q655 : (Jvm.Cond.methodLink "java/lang/Integer" (284 : Nat) ({ cls := "java/lang/Integer", name := "compareTo", desc := "(Ljava/lang/Integer;)I" } : Jvm.MethodName)) ∈ lw_all := lw_g (lw_at lw_m3 135 rfl) rfl
theorem q656 : (Jvm.Cond.instanceMethod ({ cls := "java/lang/Integer", name := "compareTo", desc := "(Ljava/lang/Integer;)I" } : Jvm.MethodName)) ∈ lw_all := lw_g (lw_at lw_m3 136 rfl) rfl
theorem q657 : (Jvm.Cond.selects "java/lang/Integer" ({ cls := "java/lang/Integer", name := "compareTo", desc := "(Ljava/lang/Integer;)I" } : Jvm.MethodName) ({ cls := "java/lang/Integer", name := "compareTo", desc := "(Ljava/lang/Integer;)I" } : Jvm.MethodName)) ∈ lw_all := lw_g (lw_at lw_m3 137 rfl) rfl
theorem q658 : (Jvm.Cond.code ({ cls := "java/lang/Integer", name := "compareTo", desc := "(Ljava/lang/Integer;)I" } : Jvm.MethodName) prog_16_method_39_code (2 : Nat) (Option.some Jvm.ClassFile.FieldType.int)) ∈ lw_all := lw_g (lw_at lw_m3 138 rfl) rfl
theorem q659 : (Jvm.Cond.methodLink "java/lang/Integer" (259 : Nat) ({ cls := "java/lang/Integer", name := "compare", desc := "(II)I" } : Jvm.MethodName)) ∈ lw_all := lw_g (lw_at lw_m3 139 rfl) rfl
theorem q660 : (Jvm.Cond.static ({ cls := "java/lang/Integer", name := "compare", desc := "(II)I" } : Jvm.MethodName)) ∈ lw_all := lw_g (lw_at lw_m3 140 rfl) rfl
theorem q661 : (Jvm.Cond.code ({ cls := "java/lang/Integer", name := "compare", desc := "(II)I" } : Jvm.MethodName) prog_16_method_40_code (2 : Nat) (Option.some Jvm.ClassFile.FieldType.int)) ∈ lw_all := lw_g (lw_at lw_m3 141 rfl) rfl
theorem q751 : (Jvm.Cond.static ({ cls := "java/lang/Integer", name := "numberOfLeadingZeros", desc := "(I)I" } : Jvm.MethodName)) ∈ lw_all := lw_g (lw_at lw_m3 231 rfl) rfl
theorem q752 : (Jvm.Cond.code ({ cls := "java/lang/Integer", name := "numberOfLeadingZeros", desc := "(I)I" } : Jvm.MethodName) prog_16_method_47_code (2 : Nat) (Option.some Jvm.ClassFile.FieldType.int)) ∈ lw_all := lw_g (lw_at lw_m3 232 rfl) rfl
theorem q753 : (Jvm.Cond.constant "java/lang/Integer" (264 : Nat) (65536 : Int32)) ∈ lw_all := lw_g (lw_at lw_m3 233 rfl) rfl
theorem q760 : (Jvm.Cond.static ({ cls := "java/lang/Integer", name := "numberOfTrailingZeros", desc := "(I)I" } : Jvm.MethodName)) ∈ lw_all := lw_g (lw_at lw_m4 0 rfl) rfl
theorem q761 : (Jvm.Cond.code ({ cls := "java/lang/Integer", name := "numberOfTrailingZeros", desc := "(I)I" } : Jvm.MethodName) prog_16_method_48_code (2 : Nat) (Option.some Jvm.ClassFile.FieldType.int)) ∈ lw_all := lw_g (lw_at lw_m4 1 rfl) rfl
theorem q1387 : (Jvm.Cond.instanceMethod ({ cls := "java/lang/Integer", name := "intValue", desc := "()I" } : Jvm.MethodName)) ∈ lw_all := lw_g (lw_at lw_m6 147 rfl) rfl
theorem q1388 : (Jvm.Cond.selects "java/lang/Integer" ({ cls := "java/lang/Integer", name := "intValue", desc := "()I" } : Jvm.MethodName) ({ cls := "java/lang/Integer", name := "intValue", desc := "()I" } : Jvm.MethodName)) ∈ lw_all := lw_g (lw_at lw_m6 148 rfl) rfl
theorem q1389 : (Jvm.Cond.code ({ cls := "java/lang/Integer", name := "intValue", desc := "()I" } : Jvm.MethodName) prog_16_method_27_code (1 : Nat) (Option.some Jvm.ClassFile.FieldType.int)) ∈ lw_all := lw_g (lw_at lw_m6 149 rfl) rfl
theorem q1844 : (Jvm.Cond.static ({ cls := "java/lang/Integer", name := "valueOf", desc := "(I)Ljava/lang/Integer;" } : Jvm.MethodName)) ∈ lw_all := lw_g (lw_at lw_m8 124 rfl) rfl
theorem q1845 : (Jvm.Cond.code ({ cls := "java/lang/Integer", name := "valueOf", desc := "(I)Ljava/lang/Integer;" } : Jvm.MethodName) prog_16_method_22_code (1 : Nat) (Option.some (Jvm.ClassFile.FieldType.object "java/lang/Integer"))) ∈ lw_all := lw_g (lw_at lw_m8 125 rfl) rfl
theorem q1846 : (Jvm.Cond.fieldLink "java/lang/Integer" (191 : Nat) "java/lang/Integer$IntegerCache" "high" "I") ∈ lw_all := lw_g (lw_at lw_m8 126 rfl) rfl
theorem q1848 : (Jvm.Cond.fieldLink "java/lang/Integer" (195 : Nat) "java/lang/Integer$IntegerCache" "cache" "[Ljava/lang/Integer;") ∈ lw_all := lw_g (lw_at lw_m8 128 rfl) rfl
theorem q1850 : (Jvm.Cond.instantiable "java/lang/Integer" (1 : Nat)) ∈ lw_all := lw_g (lw_at lw_m8 130 rfl) rfl
theorem q1851 : (Jvm.Cond.methodLink "java/lang/Integer" (199 : Nat) ({ cls := "java/lang/Integer", name := "<init>", desc := "(I)V" } : Jvm.MethodName)) ∈ lw_all := lw_g (lw_at lw_m8 131 rfl) rfl
theorem q1852 : (Jvm.Cond.instanceMethod ({ cls := "java/lang/Integer", name := "<init>", desc := "(I)V" } : Jvm.MethodName)) ∈ lw_all := lw_g (lw_at lw_m8 132 rfl) rfl
theorem q1853 : (Jvm.Cond.code ({ cls := "java/lang/Integer", name := "<init>", desc := "(I)V" } : Jvm.MethodName) prog_16_method_23_code (2 : Nat) (Option.none : Option Jvm.ClassFile.FieldType)) ∈ lw_all := lw_g (lw_at lw_m8 133 rfl) rfl
theorem q1854 : (Jvm.Cond.methodLink "java/lang/Integer" (202 : Nat) ({ cls := "java/lang/Number", name := "<init>", desc := "()V" } : Jvm.MethodName)) ∈ lw_all := lw_g (lw_at lw_m8 134 rfl) rfl
theorem q1858 : (Jvm.Cond.fieldLink "java/lang/Integer" (205 : Nat) "java/lang/Integer" "value" "I") ∈ lw_all := lw_g (lw_at lw_m8 138 rfl) rfl
theorem q1859 : (Jvm.Cond.laysFinal "java/lang/Integer" "java/lang/Integer" "value" "I") ∈ lw_all := lw_g (lw_at lw_m8 139 rfl) rfl
theorem q1860 : (Jvm.Cond.soleField "java/lang/Integer" "value") ∈ lw_all := lw_g (lw_at lw_m8 140 rfl) rfl
theorem q1861 : (Jvm.Cond.superclass "java/lang/Integer" "java/lang/Number") ∈ lw_all := lw_g (lw_at lw_m8 141 rfl) rfl
theorem q2094 : (Jvm.Cond.selects "java/lang/Integer" ({ cls := "java/lang/Object", name := "equals", desc := "(Ljava/lang/Object;)Z" } : Jvm.MethodName) ({ cls := "java/lang/Integer", name := "equals", desc := "(Ljava/lang/Object;)Z" } : Jvm.MethodName)) ∈ lw_all := lw_g (lw_at lw_m9 134 rfl) rfl
theorem q2095 : (Jvm.Cond.instanceMethod ({ cls := "java/lang/Integer", name := "equals", desc := "(Ljava/lang/Object;)Z" } : Jvm.MethodName)) ∈ lw_all := lw_g (lw_at lw_m9 135 rfl) rfl
theorem q2096 : (Jvm.Cond.code ({ cls := "java/lang/Integer", name := "equals", desc := "(Ljava/lang/Object;)Z" } : Jvm.MethodName) prog_16_method_34_code (2 : Nat) (Option.some Jvm.ClassFile.FieldType.boolean)) ∈ lw_all := lw_g (lw_at lw_m9 136 rfl) rfl
theorem q2097 : (Jvm.Cond.methodLink "java/lang/Integer" (211 : Nat) ({ cls := "java/lang/Integer", name := "intValue", desc := "()I" } : Jvm.MethodName)) ∈ lw_all := lw_g (lw_at lw_m9 137 rfl) rfl
theorem q2494 : (Jvm.Cond.castable "java/lang/Integer" "java/lang/Object") ∈ lw_tbl := lw_at lw_m11 54 rfl
theorem in_J14 : ∀ w ∈ wsJ140, w ∈ lw_all := lw_in wsJ140 [1859] (by decide +kernel) (by decide +kernel)
/-! jdk/internal/util/ArraysSupport -/
set_option maxRecDepth 100000
def RJ15 : String := "jdk/internal/util/ArraysSupport"
abbrev cJ15_newLength : ByteArray := prog_78_method_27_code
def yJ15_newLength : MethodName := ⟨RJ15, "newLength", "(III)I"⟩
def dkwJ15_newLength_1 : List UInt8 := [184, 0, 201, 172]
abbrev dktJ15_newLength_1 : List UInt8 := dkwJ15_newLength_1 ++ []
def dkwJ15_newLength_0 : List UInt8 := [26, 27, 28, 184, 0, 194, 96, 62, 3, 29, 162, 0, 11, 29, 18, 200, 163, 0, 5, 29, 172, 26, 27]
abbrev dktJ15_newLength_0 : List UInt8 := dkwJ15_newLength_0 ++ dktJ15_newLength_1
theorem dksJ15_newLength_0 : cJ15_newLength.data.toList.drop 0 = dktJ15_newLength_0 := by decide +kernel
theorem dksJ15_newLength_1 : cJ15_newLength.data.toList.drop 23 = dktJ15_newLength_1 := dk_seg dksJ15_newLength_0 23 rfl rfl
theorem dJ15_newLength_0 : decode cJ15_newLength 0 = .ok (.iload_n 0, 1) := dk_26 (dk_at dksJ15_newLength_0 0 rfl rfl)
theorem dJ15_newLength_1 : decode cJ15_newLength 1 = .ok (.iload_n 1, 1) := dk_27 (dk_at dksJ15_newLength_0 1 rfl rfl)
theorem dJ15_newLength_2 : decode cJ15_newLength 2 = .ok (.iload_n 2, 1) := dk_28 (dk_at dksJ15_newLength_0 2 rfl rfl)
theorem dJ15_newLength_3 : decode cJ15_newLength 3 = .ok (.invokestatic 194, 3) := dk_184 0 194 (dk_at dksJ15_newLength_0 3 rfl rfl)
theorem dJ15_newLength_6 : decode cJ15_newLength 6 = .ok (.iadd, 1) := dk_96 (dk_at dksJ15_newLength_0 6 rfl rfl)
theorem dJ15_newLength_7 : decode cJ15_newLength 7 = .ok (.istore_n 3, 1) := dk_62 (dk_at dksJ15_newLength_0 7 rfl rfl)
theorem dJ15_newLength_8 : decode cJ15_newLength 8 = .ok (.iconst 0, 1) := dk_3 (dk_at dksJ15_newLength_0 8 rfl rfl)
theorem dJ15_newLength_9 : decode cJ15_newLength 9 = .ok (.iload_n 3, 1) := dk_29 (dk_at dksJ15_newLength_0 9 rfl rfl)
theorem dJ15_newLength_10 : decode cJ15_newLength 10 = .ok (.if_icmp .ge 11, 3) := dk_162 0 11 (dk_at dksJ15_newLength_0 10 rfl rfl)
theorem dJ15_newLength_13 : decode cJ15_newLength 13 = .ok (.iload_n 3, 1) := dk_29 (dk_at dksJ15_newLength_0 13 rfl rfl)
theorem dJ15_newLength_14 : decode cJ15_newLength 14 = .ok (.ldc 200, 2) := dk_18 200 (dk_at dksJ15_newLength_0 14 rfl rfl)
theorem dJ15_newLength_16 : decode cJ15_newLength 16 = .ok (.if_icmp .gt 5, 3) := dk_163 0 5 (dk_at dksJ15_newLength_0 16 rfl rfl)
theorem dJ15_newLength_19 : decode cJ15_newLength 19 = .ok (.iload_n 3, 1) := dk_29 (dk_at dksJ15_newLength_0 19 rfl rfl)
theorem dJ15_newLength_20 : decode cJ15_newLength 20 = .ok (.ireturn, 1) := dk_172 (dk_at dksJ15_newLength_0 20 rfl rfl)
theorem dJ15_newLength_21 : decode cJ15_newLength 21 = .ok (.iload_n 0, 1) := dk_26 (dk_at dksJ15_newLength_0 21 rfl rfl)
theorem dJ15_newLength_22 : decode cJ15_newLength 22 = .ok (.iload_n 1, 1) := dk_27 (dk_at dksJ15_newLength_0 22 rfl rfl)
theorem dJ15_newLength_23 : decode cJ15_newLength 23 = .ok (.invokestatic 201, 3) := dk_184 0 201 (dk_at dksJ15_newLength_1 0 rfl rfl)
theorem dJ15_newLength_26 : decode cJ15_newLength 26 = .ok (.ireturn, 1) := dk_172 (dk_at dksJ15_newLength_1 3 rfl rfl)
abbrev cJ15_mismatch : ByteArray := prog_78_method_13_code
def yJ15_mismatch : MethodName := ⟨RJ15, "mismatch", "([B[BI)I"⟩
def dkwJ15_mismatch_3 : List UInt8 := [172]
abbrev dktJ15_mismatch_3 : List UInt8 := dkwJ15_mismatch_3 ++ []
def dkwJ15_mismatch_2 : List UInt8 := [62, 29, 28, 162, 0, 20, 42, 29, 51, 43, 29, 51, 159, 0, 5, 29, 172, 132, 3, 1, 167, 255, 237, 2]
abbrev dktJ15_mismatch_2 : List UInt8 := dkwJ15_mismatch_2 ++ dktJ15_mismatch_3
def dkwJ15_mismatch_1 : List UInt8 := [43, 178, 0, 126, 133, 28, 178, 0, 129, 184, 0, 122, 62, 29, 155, 0, 5, 29, 172, 28, 29, 2, 130, 100]
abbrev dktJ15_mismatch_1 : List UInt8 := dkwJ15_mismatch_1 ++ dktJ15_mismatch_2
def dkwJ15_mismatch_0 : List UInt8 := [3, 62, 28, 16, 7, 164, 0, 44, 42, 3, 51, 43, 3, 51, 159, 0, 5, 3, 172, 42, 178, 0, 126, 133]
abbrev dktJ15_mismatch_0 : List UInt8 := dkwJ15_mismatch_0 ++ dktJ15_mismatch_1
theorem dksJ15_mismatch_0 : cJ15_mismatch.data.toList.drop 0 = dktJ15_mismatch_0 := by decide +kernel
theorem dksJ15_mismatch_1 : cJ15_mismatch.data.toList.drop 24 = dktJ15_mismatch_1 := dk_seg dksJ15_mismatch_0 24 rfl rfl
theorem dksJ15_mismatch_2 : cJ15_mismatch.data.toList.drop 48 = dktJ15_mismatch_2 := dk_seg dksJ15_mismatch_1 24 rfl rfl
theorem dksJ15_mismatch_3 : cJ15_mismatch.data.toList.drop 72 = dktJ15_mismatch_3 := dk_seg dksJ15_mismatch_2 24 rfl rfl
theorem dJ15_mismatch_0 : decode cJ15_mismatch 0 = .ok (.iconst 0, 1) := dk_3 (dk_at dksJ15_mismatch_0 0 rfl rfl)
theorem dJ15_mismatch_1 : decode cJ15_mismatch 1 = .ok (.istore_n 3, 1) := dk_62 (dk_at dksJ15_mismatch_0 1 rfl rfl)
theorem dJ15_mismatch_2 : decode cJ15_mismatch 2 = .ok (.iload_n 2, 1) := dk_28 (dk_at dksJ15_mismatch_0 2 rfl rfl)
theorem dJ15_mismatch_3 : decode cJ15_mismatch 3 = .ok (.bipush 7, 2) := dk_16 7 (dk_at dksJ15_mismatch_0 3 rfl rfl)
theorem dJ15_mismatch_5 : decode cJ15_mismatch 5 = .ok (.if_icmp .le 44, 3) := dk_164 0 44 (dk_at dksJ15_mismatch_0 5 rfl rfl)
theorem dJ15_mismatch_8 : decode cJ15_mismatch 8 = .ok (.aload_n 0, 1) := dk_42 (dk_at dksJ15_mismatch_0 8 rfl rfl)
theorem dJ15_mismatch_9 : decode cJ15_mismatch 9 = .ok (.iconst 0, 1) := dk_3 (dk_at dksJ15_mismatch_0 9 rfl rfl)
theorem dJ15_mismatch_10 : decode cJ15_mismatch 10 = .ok (.baload, 1) := dk_51 (dk_at dksJ15_mismatch_0 10 rfl rfl)
theorem dJ15_mismatch_11 : decode cJ15_mismatch 11 = .ok (.aload_n 1, 1) := dk_43 (dk_at dksJ15_mismatch_0 11 rfl rfl)
theorem dJ15_mismatch_12 : decode cJ15_mismatch 12 = .ok (.iconst 0, 1) := dk_3 (dk_at dksJ15_mismatch_0 12 rfl rfl)
theorem dJ15_mismatch_13 : decode cJ15_mismatch 13 = .ok (.baload, 1) := dk_51 (dk_at dksJ15_mismatch_0 13 rfl rfl)
theorem dJ15_mismatch_14 : decode cJ15_mismatch 14 = .ok (.if_icmp .eq 5, 3) := dk_159 0 5 (dk_at dksJ15_mismatch_0 14 rfl rfl)
theorem dJ15_mismatch_17 : decode cJ15_mismatch 17 = .ok (.iconst 0, 1) := dk_3 (dk_at dksJ15_mismatch_0 17 rfl rfl)
theorem dJ15_mismatch_18 : decode cJ15_mismatch 18 = .ok (.ireturn, 1) := dk_172 (dk_at dksJ15_mismatch_0 18 rfl rfl)
theorem dJ15_mismatch_19 : decode cJ15_mismatch 19 = .ok (.aload_n 0, 1) := dk_42 (dk_at dksJ15_mismatch_0 19 rfl rfl)
theorem dJ15_mismatch_20 : decode cJ15_mismatch 20 = .ok (.getstatic 126, 3) := dk_178 0 126 (dk_at dksJ15_mismatch_0 20 rfl rfl)
theorem dJ15_mismatch_23 : decode cJ15_mismatch 23 = .ok (.i2l, 1) := dk_133 (dk_at dksJ15_mismatch_0 23 rfl rfl)
theorem dJ15_mismatch_24 : decode cJ15_mismatch 24 = .ok (.aload_n 1, 1) := dk_43 (dk_at dksJ15_mismatch_1 0 rfl rfl)
theorem dJ15_mismatch_25 : decode cJ15_mismatch 25 = .ok (.getstatic 126, 3) := dk_178 0 126 (dk_at dksJ15_mismatch_1 1 rfl rfl)
theorem dJ15_mismatch_28 : decode cJ15_mismatch 28 = .ok (.i2l, 1) := dk_133 (dk_at dksJ15_mismatch_1 4 rfl rfl)
theorem dJ15_mismatch_29 : decode cJ15_mismatch 29 = .ok (.iload_n 2, 1) := dk_28 (dk_at dksJ15_mismatch_1 5 rfl rfl)
theorem dJ15_mismatch_30 : decode cJ15_mismatch 30 = .ok (.getstatic 129, 3) := dk_178 0 129 (dk_at dksJ15_mismatch_1 6 rfl rfl)
theorem dJ15_mismatch_33 : decode cJ15_mismatch 33 = .ok (.invokestatic 122, 3) := dk_184 0 122 (dk_at dksJ15_mismatch_1 9 rfl rfl)
theorem dJ15_mismatch_36 : decode cJ15_mismatch 36 = .ok (.istore_n 3, 1) := dk_62 (dk_at dksJ15_mismatch_1 12 rfl rfl)
theorem dJ15_mismatch_37 : decode cJ15_mismatch 37 = .ok (.iload_n 3, 1) := dk_29 (dk_at dksJ15_mismatch_1 13 rfl rfl)
theorem dJ15_mismatch_38 : decode cJ15_mismatch 38 = .ok (.ifCond .lt 5, 3) := dk_155 0 5 (dk_at dksJ15_mismatch_1 14 rfl rfl)
theorem dJ15_mismatch_41 : decode cJ15_mismatch 41 = .ok (.iload_n 3, 1) := dk_29 (dk_at dksJ15_mismatch_1 17 rfl rfl)
theorem dJ15_mismatch_42 : decode cJ15_mismatch 42 = .ok (.ireturn, 1) := dk_172 (dk_at dksJ15_mismatch_1 18 rfl rfl)
theorem dJ15_mismatch_43 : decode cJ15_mismatch 43 = .ok (.iload_n 2, 1) := dk_28 (dk_at dksJ15_mismatch_1 19 rfl rfl)
theorem dJ15_mismatch_44 : decode cJ15_mismatch 44 = .ok (.iload_n 3, 1) := dk_29 (dk_at dksJ15_mismatch_1 20 rfl rfl)
theorem dJ15_mismatch_45 : decode cJ15_mismatch 45 = .ok (.iconst (-1), 1) := dk_2 (dk_at dksJ15_mismatch_1 21 rfl rfl)
theorem dJ15_mismatch_46 : decode cJ15_mismatch 46 = .ok (.ixor, 1) := dk_130 (dk_at dksJ15_mismatch_1 22 rfl rfl)
theorem dJ15_mismatch_47 : decode cJ15_mismatch 47 = .ok (.isub, 1) := dk_100 (dk_at dksJ15_mismatch_1 23 rfl rfl)
theorem dJ15_mismatch_48 : decode cJ15_mismatch 48 = .ok (.istore_n 3, 1) := dk_62 (dk_at dksJ15_mismatch_2 0 rfl rfl)
theorem dJ15_mismatch_49 : decode cJ15_mismatch 49 = .ok (.iload_n 3, 1) := dk_29 (dk_at dksJ15_mismatch_2 1 rfl rfl)
theorem dJ15_mismatch_50 : decode cJ15_mismatch 50 = .ok (.iload_n 2, 1) := dk_28 (dk_at dksJ15_mismatch_2 2 rfl rfl)
theorem dJ15_mismatch_51 : decode cJ15_mismatch 51 = .ok (.if_icmp .ge 20, 3) := dk_162 0 20 (dk_at dksJ15_mismatch_2 3 rfl rfl)
theorem dJ15_mismatch_54 : decode cJ15_mismatch 54 = .ok (.aload_n 0, 1) := dk_42 (dk_at dksJ15_mismatch_2 6 rfl rfl)
theorem dJ15_mismatch_55 : decode cJ15_mismatch 55 = .ok (.iload_n 3, 1) := dk_29 (dk_at dksJ15_mismatch_2 7 rfl rfl)
theorem dJ15_mismatch_56 : decode cJ15_mismatch 56 = .ok (.baload, 1) := dk_51 (dk_at dksJ15_mismatch_2 8 rfl rfl)
theorem dJ15_mismatch_57 : decode cJ15_mismatch 57 = .ok (.aload_n 1, 1) := dk_43 (dk_at dksJ15_mismatch_2 9 rfl rfl)
theorem dJ15_mismatch_58 : decode cJ15_mismatch 58 = .ok (.iload_n 3, 1) := dk_29 (dk_at dksJ15_mismatch_2 10 rfl rfl)
theorem dJ15_mismatch_59 : decode cJ15_mismatch 59 = .ok (.baload, 1) := dk_51 (dk_at dksJ15_mismatch_2 11 rfl rfl)
theorem dJ15_mismatch_60 : decode cJ15_mismatch 60 = .ok (.if_icmp .eq 5, 3) := dk_159 0 5 (dk_at dksJ15_mismatch_2 12 rfl rfl)
theorem dJ15_mismatch_63 : decode cJ15_mismatch 63 = .ok (.iload_n 3, 1) := dk_29 (dk_at dksJ15_mismatch_2 15 rfl rfl)
theorem dJ15_mismatch_64 : decode cJ15_mismatch 64 = .ok (.ireturn, 1) := dk_172 (dk_at dksJ15_mismatch_2 16 rfl rfl)
theorem dJ15_mismatch_65 : decode cJ15_mismatch 65 = .ok (.iinc 3 1, 3) := dk_132 3 1 (dk_at dksJ15_mismatch_2 17 rfl rfl)
theorem dJ15_mismatch_68 : decode cJ15_mismatch 68 = .ok (.goto (-19), 3) := dk_167 255 237 (dk_at dksJ15_mismatch_2 20 rfl rfl)
theorem dJ15_mismatch_71 : decode cJ15_mismatch 71 = .ok (.iconst (-1), 1) := dk_2 (dk_at dksJ15_mismatch_2 23 rfl rfl)
theorem dJ15_mismatch_72 : decode cJ15_mismatch 72 = .ok (.ireturn, 1) := dk_172 (dk_at dksJ15_mismatch_3 0 rfl rfl)
abbrev cJ15_vectorizedMismatch : ByteArray := prog_78_method_3_code
def yJ15_vectorizedMismatch : MethodName := ⟨RJ15, "vectorizedMismatch", "(Ljava/lang/Object;JLjava/lang/Object;JII)I"⟩
def dkwJ15_vectorizedMismatch_11 : List UInt8 := [54, 10, 21, 10, 2, 130, 172, 21, 10, 2, 130, 172]
abbrev dktJ15_vectorizedMismatch_11 : List UInt8 := dkwJ15_vectorizedMismatch_11 ++ []
def dkwJ15_vectorizedMismatch_10 : List UInt8 := [178, 0, 46, 21, 7, 96, 122, 54, 17, 21, 9, 21, 8, 120, 21, 17, 96, 172, 21, 10, 21, 11, 100]
abbrev dktJ15_vectorizedMismatch_10 : List UInt8 := dkwJ15_vectorizedMismatch_10 ++ dktJ15_vectorizedMismatch_11
def dkwJ15_vectorizedMismatch_9 : List UInt8 := [153, 0, 18, 21, 16, 184, 0, 58, 178, 0, 46, 21, 7, 96, 122, 167, 0, 15, 21, 16, 184, 0, 11]
abbrev dktJ15_vectorizedMismatch_9 : List UInt8 := dkwJ15_vectorizedMismatch_9 ++ dktJ15_vectorizedMismatch_10
def dkwJ15_vectorizedMismatch_8 : List UInt8 := [182, 0, 54, 54, 15, 21, 14, 21, 15, 159, 0, 54, 21, 14, 21, 15, 130, 54, 16, 178, 0, 36]
abbrev dktJ15_vectorizedMismatch_8 : List UInt8 := dkwJ15_vectorizedMismatch_8 ++ dktJ15_vectorizedMismatch_9
def dkwJ15_vectorizedMismatch_7 : List UInt8 := [55, 12, 178, 0, 26, 42, 31, 22, 12, 97, 182, 0, 54, 54, 14, 178, 0, 26, 45, 22, 4, 22, 12, 97]
abbrev dktJ15_vectorizedMismatch_7 : List UInt8 := dkwJ15_vectorizedMismatch_7 ++ dktJ15_vectorizedMismatch_8
def dkwJ15_vectorizedMismatch_6 : List UInt8 := [4, 178, 0, 51, 21, 7, 100, 120, 54, 11, 21, 10, 21, 11, 161, 0, 104, 21, 9, 133, 178, 0, 20, 121]
abbrev dktJ15_vectorizedMismatch_6 : List UInt8 := dkwJ15_vectorizedMismatch_6 ++ dktJ15_vectorizedMismatch_7
def dkwJ15_vectorizedMismatch_5 : List UInt8 := [132, 9, 1, 167, 255, 148, 21, 6, 21, 9, 21, 8, 120, 100, 54, 10, 21, 7, 178, 0, 51, 162, 0, 126]
abbrev dktJ15_vectorizedMismatch_5 : List UInt8 := dkwJ15_vectorizedMismatch_5 ++ dktJ15_vectorizedMismatch_6
def dkwJ15_vectorizedMismatch_4 : List UInt8 := [22, 16, 184, 0, 49, 178, 0, 46, 21, 7, 96, 122, 54, 18, 21, 9, 21, 8, 120, 21, 18, 96, 172]
abbrev dktJ15_vectorizedMismatch_4 : List UInt8 := dkwJ15_vectorizedMismatch_4 ++ dktJ15_vectorizedMismatch_5
def dkwJ15_vectorizedMismatch_3 : List UInt8 := [55, 16, 178, 0, 36, 153, 0, 18, 22, 16, 184, 0, 40, 178, 0, 46, 21, 7, 96, 122, 167, 0, 15]
abbrev dktJ15_vectorizedMismatch_3 : List UInt8 := dkwJ15_vectorizedMismatch_3 ++ dktJ15_vectorizedMismatch_4
def dkwJ15_vectorizedMismatch_2 : List UInt8 := [22, 4, 22, 10, 97, 182, 0, 30, 55, 14, 22, 12, 22, 14, 148, 153, 0, 54, 22, 12, 22, 14, 131]
abbrev dktJ15_vectorizedMismatch_2 : List UInt8 := dkwJ15_vectorizedMismatch_2 ++ dktJ15_vectorizedMismatch_3
def dkwJ15_vectorizedMismatch_1 : List UInt8 := [178, 0, 20, 121, 55, 10, 178, 0, 26, 42, 31, 22, 10, 97, 182, 0, 30, 55, 12, 178, 0, 26, 45]
abbrev dktJ15_vectorizedMismatch_1 : List UInt8 := dkwJ15_vectorizedMismatch_1 ++ dktJ15_vectorizedMismatch_2
def dkwJ15_vectorizedMismatch_0 : List UInt8 := [178, 0, 20, 21, 7, 100, 54, 8, 3, 54, 9, 21, 9, 21, 6, 21, 8, 122, 162, 0, 104, 21, 9, 133]
abbrev dktJ15_vectorizedMismatch_0 : List UInt8 := dkwJ15_vectorizedMismatch_0 ++ dktJ15_vectorizedMismatch_1
theorem dksJ15_vectorizedMismatch_0 : cJ15_vectorizedMismatch.data.toList.drop 0 = dktJ15_vectorizedMismatch_0 := by decide +kernel
theorem dksJ15_vectorizedMismatch_1 : cJ15_vectorizedMismatch.data.toList.drop 24 = dktJ15_vectorizedMismatch_1 := dk_seg dksJ15_vectorizedMismatch_0 24 rfl rfl
theorem dksJ15_vectorizedMismatch_2 : cJ15_vectorizedMismatch.data.toList.drop 47 = dktJ15_vectorizedMismatch_2 := dk_seg dksJ15_vectorizedMismatch_1 23 rfl rfl
theorem dksJ15_vectorizedMismatch_3 : cJ15_vectorizedMismatch.data.toList.drop 70 = dktJ15_vectorizedMismatch_3 := dk_seg dksJ15_vectorizedMismatch_2 23 rfl rfl
theorem dksJ15_vectorizedMismatch_4 : cJ15_vectorizedMismatch.data.toList.drop 93 = dktJ15_vectorizedMismatch_4 := dk_seg dksJ15_vectorizedMismatch_3 23 rfl rfl
theorem dksJ15_vectorizedMismatch_5 : cJ15_vectorizedMismatch.data.toList.drop 116 = dktJ15_vectorizedMismatch_5 := dk_seg dksJ15_vectorizedMismatch_4 23 rfl rfl
theorem dksJ15_vectorizedMismatch_6 : cJ15_vectorizedMismatch.data.toList.drop 140 = dktJ15_vectorizedMismatch_6 := dk_seg dksJ15_vectorizedMismatch_5 24 rfl rfl
theorem dksJ15_vectorizedMismatch_7 : cJ15_vectorizedMismatch.data.toList.drop 164 = dktJ15_vectorizedMismatch_7 := dk_seg dksJ15_vectorizedMismatch_6 24 rfl rfl
theorem dksJ15_vectorizedMismatch_8 : cJ15_vectorizedMismatch.data.toList.drop 188 = dktJ15_vectorizedMismatch_8 := dk_seg dksJ15_vectorizedMismatch_7 24 rfl rfl
theorem dksJ15_vectorizedMismatch_9 : cJ15_vectorizedMismatch.data.toList.drop 210 = dktJ15_vectorizedMismatch_9 := dk_seg dksJ15_vectorizedMismatch_8 22 rfl rfl
theorem dksJ15_vectorizedMismatch_10 : cJ15_vectorizedMismatch.data.toList.drop 233 = dktJ15_vectorizedMismatch_10 := dk_seg dksJ15_vectorizedMismatch_9 23 rfl rfl
theorem dksJ15_vectorizedMismatch_11 : cJ15_vectorizedMismatch.data.toList.drop 256 = dktJ15_vectorizedMismatch_11 := dk_seg dksJ15_vectorizedMismatch_10 23 rfl rfl
theorem dJ15_vectorizedMismatch_0 : decode cJ15_vectorizedMismatch 0 = .ok (.getstatic 20, 3) := dk_178 0 20 (dk_at dksJ15_vectorizedMismatch_0 0 rfl rfl)
theorem dJ15_vectorizedMismatch_3 : decode cJ15_vectorizedMismatch 3 = .ok (.iload 7, 2) := dk_21 7 (dk_at dksJ15_vectorizedMismatch_0 3 rfl rfl)
theorem dJ15_vectorizedMismatch_5 : decode cJ15_vectorizedMismatch 5 = .ok (.isub, 1) := dk_100 (dk_at dksJ15_vectorizedMismatch_0 5 rfl rfl)
theorem dJ15_vectorizedMismatch_6 : decode cJ15_vectorizedMismatch 6 = .ok (.istore 8, 2) := dk_54 8 (dk_at dksJ15_vectorizedMismatch_0 6 rfl rfl)
theorem dJ15_vectorizedMismatch_8 : decode cJ15_vectorizedMismatch 8 = .ok (.iconst 0, 1) := dk_3 (dk_at dksJ15_vectorizedMismatch_0 8 rfl rfl)
theorem dJ15_vectorizedMismatch_9 : decode cJ15_vectorizedMismatch 9 = .ok (.istore 9, 2) := dk_54 9 (dk_at dksJ15_vectorizedMismatch_0 9 rfl rfl)
theorem dJ15_vectorizedMismatch_11 : decode cJ15_vectorizedMismatch 11 = .ok (.iload 9, 2) := dk_21 9 (dk_at dksJ15_vectorizedMismatch_0 11 rfl rfl)
theorem dJ15_vectorizedMismatch_13 : decode cJ15_vectorizedMismatch 13 = .ok (.iload 6, 2) := dk_21 6 (dk_at dksJ15_vectorizedMismatch_0 13 rfl rfl)
theorem dJ15_vectorizedMismatch_15 : decode cJ15_vectorizedMismatch 15 = .ok (.iload 8, 2) := dk_21 8 (dk_at dksJ15_vectorizedMismatch_0 15 rfl rfl)
theorem dJ15_vectorizedMismatch_17 : decode cJ15_vectorizedMismatch 17 = .ok (.ishr, 1) := dk_122 (dk_at dksJ15_vectorizedMismatch_0 17 rfl rfl)
theorem dJ15_vectorizedMismatch_18 : decode cJ15_vectorizedMismatch 18 = .ok (.if_icmp .ge 104, 3) := dk_162 0 104 (dk_at dksJ15_vectorizedMismatch_0 18 rfl rfl)
theorem dJ15_vectorizedMismatch_21 : decode cJ15_vectorizedMismatch 21 = .ok (.iload 9, 2) := dk_21 9 (dk_at dksJ15_vectorizedMismatch_0 21 rfl rfl)
theorem dJ15_vectorizedMismatch_23 : decode cJ15_vectorizedMismatch 23 = .ok (.i2l, 1) := dk_133 (dk_at dksJ15_vectorizedMismatch_0 23 rfl rfl)
theorem dJ15_vectorizedMismatch_24 : decode cJ15_vectorizedMismatch 24 = .ok (.getstatic 20, 3) := dk_178 0 20 (dk_at dksJ15_vectorizedMismatch_1 0 rfl rfl)
theorem dJ15_vectorizedMismatch_27 : decode cJ15_vectorizedMismatch 27 = .ok (.lshl, 1) := dk_121 (dk_at dksJ15_vectorizedMismatch_1 3 rfl rfl)
theorem dJ15_vectorizedMismatch_28 : decode cJ15_vectorizedMismatch 28 = .ok (.lstore 10, 2) := dk_55 10 (dk_at dksJ15_vectorizedMismatch_1 4 rfl rfl)
theorem dJ15_vectorizedMismatch_30 : decode cJ15_vectorizedMismatch 30 = .ok (.getstatic 26, 3) := dk_178 0 26 (dk_at dksJ15_vectorizedMismatch_1 6 rfl rfl)
theorem dJ15_vectorizedMismatch_33 : decode cJ15_vectorizedMismatch 33 = .ok (.aload_n 0, 1) := dk_42 (dk_at dksJ15_vectorizedMismatch_1 9 rfl rfl)
theorem dJ15_vectorizedMismatch_34 : decode cJ15_vectorizedMismatch 34 = .ok (.lload_n 1, 1) := dk_31 (dk_at dksJ15_vectorizedMismatch_1 10 rfl rfl)
theorem dJ15_vectorizedMismatch_35 : decode cJ15_vectorizedMismatch 35 = .ok (.lload 10, 2) := dk_22 10 (dk_at dksJ15_vectorizedMismatch_1 11 rfl rfl)
theorem dJ15_vectorizedMismatch_37 : decode cJ15_vectorizedMismatch 37 = .ok (.ladd, 1) := dk_97 (dk_at dksJ15_vectorizedMismatch_1 13 rfl rfl)
theorem dJ15_vectorizedMismatch_38 : decode cJ15_vectorizedMismatch 38 = .ok (.invokevirtual 30, 3) := dk_182 0 30 (dk_at dksJ15_vectorizedMismatch_1 14 rfl rfl)
theorem dJ15_vectorizedMismatch_41 : decode cJ15_vectorizedMismatch 41 = .ok (.lstore 12, 2) := dk_55 12 (dk_at dksJ15_vectorizedMismatch_1 17 rfl rfl)
theorem dJ15_vectorizedMismatch_43 : decode cJ15_vectorizedMismatch 43 = .ok (.getstatic 26, 3) := dk_178 0 26 (dk_at dksJ15_vectorizedMismatch_1 19 rfl rfl)
theorem dJ15_vectorizedMismatch_46 : decode cJ15_vectorizedMismatch 46 = .ok (.aload_n 3, 1) := dk_45 (dk_at dksJ15_vectorizedMismatch_1 22 rfl rfl)
theorem dJ15_vectorizedMismatch_47 : decode cJ15_vectorizedMismatch 47 = .ok (.lload 4, 2) := dk_22 4 (dk_at dksJ15_vectorizedMismatch_2 0 rfl rfl)
theorem dJ15_vectorizedMismatch_49 : decode cJ15_vectorizedMismatch 49 = .ok (.lload 10, 2) := dk_22 10 (dk_at dksJ15_vectorizedMismatch_2 2 rfl rfl)
theorem dJ15_vectorizedMismatch_51 : decode cJ15_vectorizedMismatch 51 = .ok (.ladd, 1) := dk_97 (dk_at dksJ15_vectorizedMismatch_2 4 rfl rfl)
theorem dJ15_vectorizedMismatch_52 : decode cJ15_vectorizedMismatch 52 = .ok (.invokevirtual 30, 3) := dk_182 0 30 (dk_at dksJ15_vectorizedMismatch_2 5 rfl rfl)
theorem dJ15_vectorizedMismatch_55 : decode cJ15_vectorizedMismatch 55 = .ok (.lstore 14, 2) := dk_55 14 (dk_at dksJ15_vectorizedMismatch_2 8 rfl rfl)
theorem dJ15_vectorizedMismatch_57 : decode cJ15_vectorizedMismatch 57 = .ok (.lload 12, 2) := dk_22 12 (dk_at dksJ15_vectorizedMismatch_2 10 rfl rfl)
theorem dJ15_vectorizedMismatch_59 : decode cJ15_vectorizedMismatch 59 = .ok (.lload 14, 2) := dk_22 14 (dk_at dksJ15_vectorizedMismatch_2 12 rfl rfl)
theorem dJ15_vectorizedMismatch_61 : decode cJ15_vectorizedMismatch 61 = .ok (.lcmp, 1) := dk_148 (dk_at dksJ15_vectorizedMismatch_2 14 rfl rfl)
theorem dJ15_vectorizedMismatch_62 : decode cJ15_vectorizedMismatch 62 = .ok (.ifCond .eq 54, 3) := dk_153 0 54 (dk_at dksJ15_vectorizedMismatch_2 15 rfl rfl)
theorem dJ15_vectorizedMismatch_65 : decode cJ15_vectorizedMismatch 65 = .ok (.lload 12, 2) := dk_22 12 (dk_at dksJ15_vectorizedMismatch_2 18 rfl rfl)
theorem dJ15_vectorizedMismatch_67 : decode cJ15_vectorizedMismatch 67 = .ok (.lload 14, 2) := dk_22 14 (dk_at dksJ15_vectorizedMismatch_2 20 rfl rfl)
theorem dJ15_vectorizedMismatch_69 : decode cJ15_vectorizedMismatch 69 = .ok (.lxor, 1) := dk_131 (dk_at dksJ15_vectorizedMismatch_2 22 rfl rfl)
theorem dJ15_vectorizedMismatch_70 : decode cJ15_vectorizedMismatch 70 = .ok (.lstore 16, 2) := dk_55 16 (dk_at dksJ15_vectorizedMismatch_3 0 rfl rfl)
theorem dJ15_vectorizedMismatch_72 : decode cJ15_vectorizedMismatch 72 = .ok (.getstatic 36, 3) := dk_178 0 36 (dk_at dksJ15_vectorizedMismatch_3 2 rfl rfl)
theorem dJ15_vectorizedMismatch_75 : decode cJ15_vectorizedMismatch 75 = .ok (.ifCond .eq 18, 3) := dk_153 0 18 (dk_at dksJ15_vectorizedMismatch_3 5 rfl rfl)
theorem dJ15_vectorizedMismatch_78 : decode cJ15_vectorizedMismatch 78 = .ok (.lload 16, 2) := dk_22 16 (dk_at dksJ15_vectorizedMismatch_3 8 rfl rfl)
theorem dJ15_vectorizedMismatch_80 : decode cJ15_vectorizedMismatch 80 = .ok (.invokestatic 40, 3) := dk_184 0 40 (dk_at dksJ15_vectorizedMismatch_3 10 rfl rfl)
theorem dJ15_vectorizedMismatch_83 : decode cJ15_vectorizedMismatch 83 = .ok (.getstatic 46, 3) := dk_178 0 46 (dk_at dksJ15_vectorizedMismatch_3 13 rfl rfl)
theorem dJ15_vectorizedMismatch_86 : decode cJ15_vectorizedMismatch 86 = .ok (.iload 7, 2) := dk_21 7 (dk_at dksJ15_vectorizedMismatch_3 16 rfl rfl)
theorem dJ15_vectorizedMismatch_88 : decode cJ15_vectorizedMismatch 88 = .ok (.iadd, 1) := dk_96 (dk_at dksJ15_vectorizedMismatch_3 18 rfl rfl)
theorem dJ15_vectorizedMismatch_89 : decode cJ15_vectorizedMismatch 89 = .ok (.ishr, 1) := dk_122 (dk_at dksJ15_vectorizedMismatch_3 19 rfl rfl)
theorem dJ15_vectorizedMismatch_90 : decode cJ15_vectorizedMismatch 90 = .ok (.goto 15, 3) := dk_167 0 15 (dk_at dksJ15_vectorizedMismatch_3 20 rfl rfl)
theorem dJ15_vectorizedMismatch_93 : decode cJ15_vectorizedMismatch 93 = .ok (.lload 16, 2) := dk_22 16 (dk_at dksJ15_vectorizedMismatch_4 0 rfl rfl)
theorem dJ15_vectorizedMismatch_95 : decode cJ15_vectorizedMismatch 95 = .ok (.invokestatic 49, 3) := dk_184 0 49 (dk_at dksJ15_vectorizedMismatch_4 2 rfl rfl)
theorem dJ15_vectorizedMismatch_98 : decode cJ15_vectorizedMismatch 98 = .ok (.getstatic 46, 3) := dk_178 0 46 (dk_at dksJ15_vectorizedMismatch_4 5 rfl rfl)
theorem dJ15_vectorizedMismatch_101 : decode cJ15_vectorizedMismatch 101 = .ok (.iload 7, 2) := dk_21 7 (dk_at dksJ15_vectorizedMismatch_4 8 rfl rfl)
theorem dJ15_vectorizedMismatch_103 : decode cJ15_vectorizedMismatch 103 = .ok (.iadd, 1) := dk_96 (dk_at dksJ15_vectorizedMismatch_4 10 rfl rfl)
theorem dJ15_vectorizedMismatch_104 : decode cJ15_vectorizedMismatch 104 = .ok (.ishr, 1) := dk_122 (dk_at dksJ15_vectorizedMismatch_4 11 rfl rfl)
theorem dJ15_vectorizedMismatch_105 : decode cJ15_vectorizedMismatch 105 = .ok (.istore 18, 2) := dk_54 18 (dk_at dksJ15_vectorizedMismatch_4 12 rfl rfl)
theorem dJ15_vectorizedMismatch_107 : decode cJ15_vectorizedMismatch 107 = .ok (.iload 9, 2) := dk_21 9 (dk_at dksJ15_vectorizedMismatch_4 14 rfl rfl)
theorem dJ15_vectorizedMismatch_109 : decode cJ15_vectorizedMismatch 109 = .ok (.iload 8, 2) := dk_21 8 (dk_at dksJ15_vectorizedMismatch_4 16 rfl rfl)
theorem dJ15_vectorizedMismatch_111 : decode cJ15_vectorizedMismatch 111 = .ok (.ishl, 1) := dk_120 (dk_at dksJ15_vectorizedMismatch_4 18 rfl rfl)
theorem dJ15_vectorizedMismatch_112 : decode cJ15_vectorizedMismatch 112 = .ok (.iload 18, 2) := dk_21 18 (dk_at dksJ15_vectorizedMismatch_4 19 rfl rfl)
theorem dJ15_vectorizedMismatch_114 : decode cJ15_vectorizedMismatch 114 = .ok (.iadd, 1) := dk_96 (dk_at dksJ15_vectorizedMismatch_4 21 rfl rfl)
theorem dJ15_vectorizedMismatch_115 : decode cJ15_vectorizedMismatch 115 = .ok (.ireturn, 1) := dk_172 (dk_at dksJ15_vectorizedMismatch_4 22 rfl rfl)
theorem dJ15_vectorizedMismatch_116 : decode cJ15_vectorizedMismatch 116 = .ok (.iinc 9 1, 3) := dk_132 9 1 (dk_at dksJ15_vectorizedMismatch_5 0 rfl rfl)
theorem dJ15_vectorizedMismatch_119 : decode cJ15_vectorizedMismatch 119 = .ok (.goto (-108), 3) := dk_167 255 148 (dk_at dksJ15_vectorizedMismatch_5 3 rfl rfl)
theorem dJ15_vectorizedMismatch_122 : decode cJ15_vectorizedMismatch 122 = .ok (.iload 6, 2) := dk_21 6 (dk_at dksJ15_vectorizedMismatch_5 6 rfl rfl)
theorem dJ15_vectorizedMismatch_124 : decode cJ15_vectorizedMismatch 124 = .ok (.iload 9, 2) := dk_21 9 (dk_at dksJ15_vectorizedMismatch_5 8 rfl rfl)
theorem dJ15_vectorizedMismatch_126 : decode cJ15_vectorizedMismatch 126 = .ok (.iload 8, 2) := dk_21 8 (dk_at dksJ15_vectorizedMismatch_5 10 rfl rfl)
theorem dJ15_vectorizedMismatch_128 : decode cJ15_vectorizedMismatch 128 = .ok (.ishl, 1) := dk_120 (dk_at dksJ15_vectorizedMismatch_5 12 rfl rfl)
theorem dJ15_vectorizedMismatch_129 : decode cJ15_vectorizedMismatch 129 = .ok (.isub, 1) := dk_100 (dk_at dksJ15_vectorizedMismatch_5 13 rfl rfl)
theorem dJ15_vectorizedMismatch_130 : decode cJ15_vectorizedMismatch 130 = .ok (.istore 10, 2) := dk_54 10 (dk_at dksJ15_vectorizedMismatch_5 14 rfl rfl)
theorem dJ15_vectorizedMismatch_132 : decode cJ15_vectorizedMismatch 132 = .ok (.iload 7, 2) := dk_21 7 (dk_at dksJ15_vectorizedMismatch_5 16 rfl rfl)
theorem dJ15_vectorizedMismatch_134 : decode cJ15_vectorizedMismatch 134 = .ok (.getstatic 51, 3) := dk_178 0 51 (dk_at dksJ15_vectorizedMismatch_5 18 rfl rfl)
theorem dJ15_vectorizedMismatch_137 : decode cJ15_vectorizedMismatch 137 = .ok (.if_icmp .ge 126, 3) := dk_162 0 126 (dk_at dksJ15_vectorizedMismatch_5 21 rfl rfl)
theorem dJ15_vectorizedMismatch_140 : decode cJ15_vectorizedMismatch 140 = .ok (.iconst 1, 1) := dk_4 (dk_at dksJ15_vectorizedMismatch_6 0 rfl rfl)
theorem dJ15_vectorizedMismatch_141 : decode cJ15_vectorizedMismatch 141 = .ok (.getstatic 51, 3) := dk_178 0 51 (dk_at dksJ15_vectorizedMismatch_6 1 rfl rfl)
theorem dJ15_vectorizedMismatch_144 : decode cJ15_vectorizedMismatch 144 = .ok (.iload 7, 2) := dk_21 7 (dk_at dksJ15_vectorizedMismatch_6 4 rfl rfl)
theorem dJ15_vectorizedMismatch_146 : decode cJ15_vectorizedMismatch 146 = .ok (.isub, 1) := dk_100 (dk_at dksJ15_vectorizedMismatch_6 6 rfl rfl)
theorem dJ15_vectorizedMismatch_147 : decode cJ15_vectorizedMismatch 147 = .ok (.ishl, 1) := dk_120 (dk_at dksJ15_vectorizedMismatch_6 7 rfl rfl)
theorem dJ15_vectorizedMismatch_148 : decode cJ15_vectorizedMismatch 148 = .ok (.istore 11, 2) := dk_54 11 (dk_at dksJ15_vectorizedMismatch_6 8 rfl rfl)
theorem dJ15_vectorizedMismatch_150 : decode cJ15_vectorizedMismatch 150 = .ok (.iload 10, 2) := dk_21 10 (dk_at dksJ15_vectorizedMismatch_6 10 rfl rfl)
theorem dJ15_vectorizedMismatch_152 : decode cJ15_vectorizedMismatch 152 = .ok (.iload 11, 2) := dk_21 11 (dk_at dksJ15_vectorizedMismatch_6 12 rfl rfl)
theorem dJ15_vectorizedMismatch_154 : decode cJ15_vectorizedMismatch 154 = .ok (.if_icmp .lt 104, 3) := dk_161 0 104 (dk_at dksJ15_vectorizedMismatch_6 14 rfl rfl)
theorem dJ15_vectorizedMismatch_157 : decode cJ15_vectorizedMismatch 157 = .ok (.iload 9, 2) := dk_21 9 (dk_at dksJ15_vectorizedMismatch_6 17 rfl rfl)
theorem dJ15_vectorizedMismatch_159 : decode cJ15_vectorizedMismatch 159 = .ok (.i2l, 1) := dk_133 (dk_at dksJ15_vectorizedMismatch_6 19 rfl rfl)
theorem dJ15_vectorizedMismatch_160 : decode cJ15_vectorizedMismatch 160 = .ok (.getstatic 20, 3) := dk_178 0 20 (dk_at dksJ15_vectorizedMismatch_6 20 rfl rfl)
theorem dJ15_vectorizedMismatch_163 : decode cJ15_vectorizedMismatch 163 = .ok (.lshl, 1) := dk_121 (dk_at dksJ15_vectorizedMismatch_6 23 rfl rfl)
theorem dJ15_vectorizedMismatch_164 : decode cJ15_vectorizedMismatch 164 = .ok (.lstore 12, 2) := dk_55 12 (dk_at dksJ15_vectorizedMismatch_7 0 rfl rfl)
theorem dJ15_vectorizedMismatch_166 : decode cJ15_vectorizedMismatch 166 = .ok (.getstatic 26, 3) := dk_178 0 26 (dk_at dksJ15_vectorizedMismatch_7 2 rfl rfl)
theorem dJ15_vectorizedMismatch_169 : decode cJ15_vectorizedMismatch 169 = .ok (.aload_n 0, 1) := dk_42 (dk_at dksJ15_vectorizedMismatch_7 5 rfl rfl)
theorem dJ15_vectorizedMismatch_170 : decode cJ15_vectorizedMismatch 170 = .ok (.lload_n 1, 1) := dk_31 (dk_at dksJ15_vectorizedMismatch_7 6 rfl rfl)
theorem dJ15_vectorizedMismatch_171 : decode cJ15_vectorizedMismatch 171 = .ok (.lload 12, 2) := dk_22 12 (dk_at dksJ15_vectorizedMismatch_7 7 rfl rfl)
theorem dJ15_vectorizedMismatch_173 : decode cJ15_vectorizedMismatch 173 = .ok (.ladd, 1) := dk_97 (dk_at dksJ15_vectorizedMismatch_7 9 rfl rfl)
theorem dJ15_vectorizedMismatch_174 : decode cJ15_vectorizedMismatch 174 = .ok (.invokevirtual 54, 3) := dk_182 0 54 (dk_at dksJ15_vectorizedMismatch_7 10 rfl rfl)
theorem dJ15_vectorizedMismatch_177 : decode cJ15_vectorizedMismatch 177 = .ok (.istore 14, 2) := dk_54 14 (dk_at dksJ15_vectorizedMismatch_7 13 rfl rfl)
theorem dJ15_vectorizedMismatch_179 : decode cJ15_vectorizedMismatch 179 = .ok (.getstatic 26, 3) := dk_178 0 26 (dk_at dksJ15_vectorizedMismatch_7 15 rfl rfl)
theorem dJ15_vectorizedMismatch_182 : decode cJ15_vectorizedMismatch 182 = .ok (.aload_n 3, 1) := dk_45 (dk_at dksJ15_vectorizedMismatch_7 18 rfl rfl)
theorem dJ15_vectorizedMismatch_183 : decode cJ15_vectorizedMismatch 183 = .ok (.lload 4, 2) := dk_22 4 (dk_at dksJ15_vectorizedMismatch_7 19 rfl rfl)
theorem dJ15_vectorizedMismatch_185 : decode cJ15_vectorizedMismatch 185 = .ok (.lload 12, 2) := dk_22 12 (dk_at dksJ15_vectorizedMismatch_7 21 rfl rfl)
theorem dJ15_vectorizedMismatch_187 : decode cJ15_vectorizedMismatch 187 = .ok (.ladd, 1) := dk_97 (dk_at dksJ15_vectorizedMismatch_7 23 rfl rfl)
theorem dJ15_vectorizedMismatch_188 : decode cJ15_vectorizedMismatch 188 = .ok (.invokevirtual 54, 3) := dk_182 0 54 (dk_at dksJ15_vectorizedMismatch_8 0 rfl rfl)
theorem dJ15_vectorizedMismatch_191 : decode cJ15_vectorizedMismatch 191 = .ok (.istore 15, 2) := dk_54 15 (dk_at dksJ15_vectorizedMismatch_8 3 rfl rfl)
theorem dJ15_vectorizedMismatch_193 : decode cJ15_vectorizedMismatch 193 = .ok (.iload 14, 2) := dk_21 14 (dk_at dksJ15_vectorizedMismatch_8 5 rfl rfl)
theorem dJ15_vectorizedMismatch_195 : decode cJ15_vectorizedMismatch 195 = .ok (.iload 15, 2) := dk_21 15 (dk_at dksJ15_vectorizedMismatch_8 7 rfl rfl)
theorem dJ15_vectorizedMismatch_197 : decode cJ15_vectorizedMismatch 197 = .ok (.if_icmp .eq 54, 3) := dk_159 0 54 (dk_at dksJ15_vectorizedMismatch_8 9 rfl rfl)
theorem dJ15_vectorizedMismatch_200 : decode cJ15_vectorizedMismatch 200 = .ok (.iload 14, 2) := dk_21 14 (dk_at dksJ15_vectorizedMismatch_8 12 rfl rfl)
theorem dJ15_vectorizedMismatch_202 : decode cJ15_vectorizedMismatch 202 = .ok (.iload 15, 2) := dk_21 15 (dk_at dksJ15_vectorizedMismatch_8 14 rfl rfl)
theorem dJ15_vectorizedMismatch_204 : decode cJ15_vectorizedMismatch 204 = .ok (.ixor, 1) := dk_130 (dk_at dksJ15_vectorizedMismatch_8 16 rfl rfl)
theorem dJ15_vectorizedMismatch_205 : decode cJ15_vectorizedMismatch 205 = .ok (.istore 16, 2) := dk_54 16 (dk_at dksJ15_vectorizedMismatch_8 17 rfl rfl)
theorem dJ15_vectorizedMismatch_207 : decode cJ15_vectorizedMismatch 207 = .ok (.getstatic 36, 3) := dk_178 0 36 (dk_at dksJ15_vectorizedMismatch_8 19 rfl rfl)
theorem dJ15_vectorizedMismatch_210 : decode cJ15_vectorizedMismatch 210 = .ok (.ifCond .eq 18, 3) := dk_153 0 18 (dk_at dksJ15_vectorizedMismatch_9 0 rfl rfl)
theorem dJ15_vectorizedMismatch_213 : decode cJ15_vectorizedMismatch 213 = .ok (.iload 16, 2) := dk_21 16 (dk_at dksJ15_vectorizedMismatch_9 3 rfl rfl)
theorem dJ15_vectorizedMismatch_215 : decode cJ15_vectorizedMismatch 215 = .ok (.invokestatic 58, 3) := dk_184 0 58 (dk_at dksJ15_vectorizedMismatch_9 5 rfl rfl)
theorem dJ15_vectorizedMismatch_218 : decode cJ15_vectorizedMismatch 218 = .ok (.getstatic 46, 3) := dk_178 0 46 (dk_at dksJ15_vectorizedMismatch_9 8 rfl rfl)
theorem dJ15_vectorizedMismatch_221 : decode cJ15_vectorizedMismatch 221 = .ok (.iload 7, 2) := dk_21 7 (dk_at dksJ15_vectorizedMismatch_9 11 rfl rfl)
theorem dJ15_vectorizedMismatch_223 : decode cJ15_vectorizedMismatch 223 = .ok (.iadd, 1) := dk_96 (dk_at dksJ15_vectorizedMismatch_9 13 rfl rfl)
theorem dJ15_vectorizedMismatch_224 : decode cJ15_vectorizedMismatch 224 = .ok (.ishr, 1) := dk_122 (dk_at dksJ15_vectorizedMismatch_9 14 rfl rfl)
theorem dJ15_vectorizedMismatch_225 : decode cJ15_vectorizedMismatch 225 = .ok (.goto 15, 3) := dk_167 0 15 (dk_at dksJ15_vectorizedMismatch_9 15 rfl rfl)
theorem dJ15_vectorizedMismatch_228 : decode cJ15_vectorizedMismatch 228 = .ok (.iload 16, 2) := dk_21 16 (dk_at dksJ15_vectorizedMismatch_9 18 rfl rfl)
theorem dJ15_vectorizedMismatch_230 : decode cJ15_vectorizedMismatch 230 = .ok (.invokestatic 11, 3) := dk_184 0 11 (dk_at dksJ15_vectorizedMismatch_9 20 rfl rfl)
theorem dJ15_vectorizedMismatch_233 : decode cJ15_vectorizedMismatch 233 = .ok (.getstatic 46, 3) := dk_178 0 46 (dk_at dksJ15_vectorizedMismatch_10 0 rfl rfl)
theorem dJ15_vectorizedMismatch_236 : decode cJ15_vectorizedMismatch 236 = .ok (.iload 7, 2) := dk_21 7 (dk_at dksJ15_vectorizedMismatch_10 3 rfl rfl)
theorem dJ15_vectorizedMismatch_238 : decode cJ15_vectorizedMismatch 238 = .ok (.iadd, 1) := dk_96 (dk_at dksJ15_vectorizedMismatch_10 5 rfl rfl)
theorem dJ15_vectorizedMismatch_239 : decode cJ15_vectorizedMismatch 239 = .ok (.ishr, 1) := dk_122 (dk_at dksJ15_vectorizedMismatch_10 6 rfl rfl)
theorem dJ15_vectorizedMismatch_240 : decode cJ15_vectorizedMismatch 240 = .ok (.istore 17, 2) := dk_54 17 (dk_at dksJ15_vectorizedMismatch_10 7 rfl rfl)
theorem dJ15_vectorizedMismatch_242 : decode cJ15_vectorizedMismatch 242 = .ok (.iload 9, 2) := dk_21 9 (dk_at dksJ15_vectorizedMismatch_10 9 rfl rfl)
theorem dJ15_vectorizedMismatch_244 : decode cJ15_vectorizedMismatch 244 = .ok (.iload 8, 2) := dk_21 8 (dk_at dksJ15_vectorizedMismatch_10 11 rfl rfl)
theorem dJ15_vectorizedMismatch_246 : decode cJ15_vectorizedMismatch 246 = .ok (.ishl, 1) := dk_120 (dk_at dksJ15_vectorizedMismatch_10 13 rfl rfl)
theorem dJ15_vectorizedMismatch_247 : decode cJ15_vectorizedMismatch 247 = .ok (.iload 17, 2) := dk_21 17 (dk_at dksJ15_vectorizedMismatch_10 14 rfl rfl)
theorem dJ15_vectorizedMismatch_249 : decode cJ15_vectorizedMismatch 249 = .ok (.iadd, 1) := dk_96 (dk_at dksJ15_vectorizedMismatch_10 16 rfl rfl)
theorem dJ15_vectorizedMismatch_250 : decode cJ15_vectorizedMismatch 250 = .ok (.ireturn, 1) := dk_172 (dk_at dksJ15_vectorizedMismatch_10 17 rfl rfl)
theorem dJ15_vectorizedMismatch_251 : decode cJ15_vectorizedMismatch 251 = .ok (.iload 10, 2) := dk_21 10 (dk_at dksJ15_vectorizedMismatch_10 18 rfl rfl)
theorem dJ15_vectorizedMismatch_253 : decode cJ15_vectorizedMismatch 253 = .ok (.iload 11, 2) := dk_21 11 (dk_at dksJ15_vectorizedMismatch_10 20 rfl rfl)
theorem dJ15_vectorizedMismatch_255 : decode cJ15_vectorizedMismatch 255 = .ok (.isub, 1) := dk_100 (dk_at dksJ15_vectorizedMismatch_10 22 rfl rfl)
theorem dJ15_vectorizedMismatch_256 : decode cJ15_vectorizedMismatch 256 = .ok (.istore 10, 2) := dk_54 10 (dk_at dksJ15_vectorizedMismatch_11 0 rfl rfl)
theorem dJ15_vectorizedMismatch_258 : decode cJ15_vectorizedMismatch 258 = .ok (.iload 10, 2) := dk_21 10 (dk_at dksJ15_vectorizedMismatch_11 2 rfl rfl)
theorem dJ15_vectorizedMismatch_260 : decode cJ15_vectorizedMismatch 260 = .ok (.iconst (-1), 1) := dk_2 (dk_at dksJ15_vectorizedMismatch_11 4 rfl rfl)
theorem dJ15_vectorizedMismatch_261 : decode cJ15_vectorizedMismatch 261 = .ok (.ixor, 1) := dk_130 (dk_at dksJ15_vectorizedMismatch_11 5 rfl rfl)
theorem dJ15_vectorizedMismatch_262 : decode cJ15_vectorizedMismatch 262 = .ok (.ireturn, 1) := dk_172 (dk_at dksJ15_vectorizedMismatch_11 6 rfl rfl)
theorem dJ15_vectorizedMismatch_263 : decode cJ15_vectorizedMismatch 263 = .ok (.iload 10, 2) := dk_21 10 (dk_at dksJ15_vectorizedMismatch_11 7 rfl rfl)
theorem dJ15_vectorizedMismatch_265 : decode cJ15_vectorizedMismatch 265 = .ok (.iconst (-1), 1) := dk_2 (dk_at dksJ15_vectorizedMismatch_11 9 rfl rfl)
theorem dJ15_vectorizedMismatch_266 : decode cJ15_vectorizedMismatch 266 = .ok (.ixor, 1) := dk_130 (dk_at dksJ15_vectorizedMismatch_11 10 rfl rfl)
theorem dJ15_vectorizedMismatch_267 : decode cJ15_vectorizedMismatch 267 = .ok (.ireturn, 1) := dk_172 (dk_at dksJ15_vectorizedMismatch_11 11 rfl rfl)
theorem q57 : (Jvm.Cond.initialized "jdk/internal/util/ArraysSupport") ∈ lw_all := lw_g (lw_at lw_m1 17 rfl) rfl
theorem q283 : (Jvm.Cond.static ({ cls := "jdk/internal/util/ArraysSupport", name := "newLength", desc := "(III)I" } : Jvm.MethodName)) ∈ lw_all := lw_g (lw_at lw_m2 3 rfl) rfl
theorem q284 : (Jvm.Cond.code ({ cls := "jdk/internal/util/ArraysSupport", name := "newLength", desc := "(III)I" } : Jvm.MethodName) prog_78_method_27_code (4 : Nat) (Option.some Jvm.ClassFile.FieldType.int)) ∈ lw_all := lw_g (lw_at lw_m2 4 rfl) rfl
theorem q285 : (Jvm.Cond.methodLink "jdk/internal/util/ArraysSupport" (194 : Nat) ({ cls := "java/lang/Math", name := "max", desc := "(II)I" } : Jvm.MethodName)) ∈ lw_all := lw_g (lw_at lw_m2 5 rfl) rfl
theorem q288 : (Jvm.Cond.constant "jdk/internal/util/ArraysSupport" (200 : Nat) (2147483639 : Int32)) ∈ lw_all := lw_g (lw_at lw_m2 8 rfl) rfl
theorem q289 : (Jvm.Cond.methodLink "jdk/internal/util/ArraysSupport" (201 : Nat) ({ cls := "jdk/internal/util/ArraysSupport", name := "hugeLength", desc := "(II)I" } : Jvm.MethodName)) ∈ lw_all := lw_g (lw_at lw_m2 9 rfl) rfl
theorem q290 : (Jvm.Cond.static ({ cls := "jdk/internal/util/ArraysSupport", name := "hugeLength", desc := "(II)I" } : Jvm.MethodName)) ∈ lw_all := lw_g (lw_at lw_m2 10 rfl) rfl
theorem q291 : (Jvm.Cond.code ({ cls := "jdk/internal/util/ArraysSupport", name := "hugeLength", desc := "(II)I" } : Jvm.MethodName) prog_78_method_28_code (3 : Nat) (Option.some Jvm.ClassFile.FieldType.int)) ∈ lw_all := lw_g (lw_at lw_m2 11 rfl) rfl
theorem q680 : (Jvm.Cond.static ({ cls := "jdk/internal/util/ArraysSupport", name := "mismatch", desc := "([B[BI)I" } : Jvm.MethodName)) ∈ lw_all := lw_g (lw_at lw_m3 160 rfl) rfl
theorem q681 : (Jvm.Cond.code ({ cls := "jdk/internal/util/ArraysSupport", name := "mismatch", desc := "([B[BI)I" } : Jvm.MethodName) prog_78_method_13_code (4 : Nat) (Option.some Jvm.ClassFile.FieldType.int)) ∈ lw_all := lw_g (lw_at lw_m3 161 rfl) rfl
theorem q682 : (Jvm.Cond.fieldLink "jdk/internal/util/ArraysSupport" (126 : Nat) "jdk/internal/misc/Unsafe" "ARRAY_BYTE_BASE_OFFSET" "I") ∈ lw_all := lw_g (lw_at lw_m3 162 rfl) rfl
theorem q684 : (Jvm.Cond.fieldLink "jdk/internal/util/ArraysSupport" (129 : Nat) "jdk/internal/util/ArraysSupport" "LOG2_ARRAY_BYTE_INDEX_SCALE" "I") ∈ lw_all := lw_g (lw_at lw_m3 164 rfl) rfl
theorem q685 : (Jvm.Cond.laysStatic "jdk/internal/util/ArraysSupport" "LOG2_ARRAY_BYTE_INDEX_SCALE" "I") ∈ lw_tbl := lw_at lw_m3 165 rfl
theorem q686 : (Jvm.Cond.methodLink "jdk/internal/util/ArraysSupport" (122 : Nat) ({ cls := "jdk/internal/util/ArraysSupport", name := "vectorizedMismatch", desc := "(Ljava/lang/Object;JLjava/lang/Object;JII)I" } : Jvm.MethodName)) ∈ lw_all := lw_g (lw_at lw_m3 166 rfl) rfl
theorem q687 : (Jvm.Cond.static ({ cls := "jdk/internal/util/ArraysSupport", name := "vectorizedMismatch", desc := "(Ljava/lang/Object;JLjava/lang/Object;JII)I" } : Jvm.MethodName)) ∈ lw_all := lw_g (lw_at lw_m3 167 rfl) rfl
theorem q688 : (Jvm.Cond.code ({ cls := "jdk/internal/util/ArraysSupport", name := "vectorizedMismatch", desc := "(Ljava/lang/Object;JLjava/lang/Object;JII)I" } : Jvm.MethodName) prog_78_method_3_code (19 : Nat) (Option.some Jvm.ClassFile.FieldType.int)) ∈ lw_all := lw_g (lw_at lw_m3 168 rfl) rfl
theorem q689 : (Jvm.Cond.fieldLink "jdk/internal/util/ArraysSupport" (20 : Nat) "jdk/internal/util/ArraysSupport" "LOG2_ARRAY_LONG_INDEX_SCALE" "I") ∈ lw_all := lw_g (lw_at lw_m3 169 rfl) rfl
theorem q690 : (Jvm.Cond.laysStatic "jdk/internal/util/ArraysSupport" "LOG2_ARRAY_LONG_INDEX_SCALE" "I") ∈ lw_tbl := lw_at lw_m3 170 rfl
theorem q691 : (Jvm.Cond.fieldLink "jdk/internal/util/ArraysSupport" (26 : Nat) "jdk/internal/util/ArraysSupport" "U" "Ljdk/internal/misc/Unsafe;") ∈ lw_all := lw_g (lw_at lw_m3 171 rfl) rfl
theorem q692 : (Jvm.Cond.laysStatic "jdk/internal/util/ArraysSupport" "U" "Ljdk/internal/misc/Unsafe;") ∈ lw_tbl := lw_at lw_m3 172 rfl
theorem q693 : (Jvm.Cond.methodLink "jdk/internal/util/ArraysSupport" (30 : Nat) ({ cls := "jdk/internal/misc/Unsafe", name := "getLongUnaligned", desc := "(Ljava/lang/Object;J)J" } : Jvm.MethodName)) ∈ lw_all := lw_g (lw_at lw_m3 173 rfl) rfl
theorem q745 : (Jvm.Cond.fieldLink "jdk/internal/util/ArraysSupport" (36 : Nat) "jdk/internal/util/ArraysSupport" "BIG_ENDIAN" "Z") ∈ lw_all := lw_g (lw_at lw_m3 225 rfl) rfl
theorem q746 : (Jvm.Cond.laysStatic "jdk/internal/util/ArraysSupport" "BIG_ENDIAN" "Z") ∈ lw_tbl := lw_at lw_m3 226 rfl
theorem q747 : (Jvm.Cond.methodLink "jdk/internal/util/ArraysSupport" (40 : Nat) ({ cls := "java/lang/Long", name := "numberOfLeadingZeros", desc := "(J)I" } : Jvm.MethodName)) ∈ lw_all := lw_g (lw_at lw_m3 227 rfl) rfl
theorem q754 : (Jvm.Cond.fieldLink "jdk/internal/util/ArraysSupport" (46 : Nat) "jdk/internal/util/ArraysSupport" "LOG2_BYTE_BIT_SIZE" "I") ∈ lw_all := lw_g (lw_at lw_m3 234 rfl) rfl
theorem q755 : (Jvm.Cond.laysStatic "jdk/internal/util/ArraysSupport" "LOG2_BYTE_BIT_SIZE" "I") ∈ lw_tbl := lw_at lw_m3 235 rfl
theorem q756 : (Jvm.Cond.methodLink "jdk/internal/util/ArraysSupport" (49 : Nat) ({ cls := "java/lang/Long", name := "numberOfTrailingZeros", desc := "(J)I" } : Jvm.MethodName)) ∈ lw_all := lw_g (lw_at lw_m3 236 rfl) rfl
theorem q762 : (Jvm.Cond.fieldLink "jdk/internal/util/ArraysSupport" (51 : Nat) "jdk/internal/util/ArraysSupport" "LOG2_ARRAY_INT_INDEX_SCALE" "I") ∈ lw_all := lw_g (lw_at lw_m4 2 rfl) rfl
theorem q763 : (Jvm.Cond.laysStatic "jdk/internal/util/ArraysSupport" "LOG2_ARRAY_INT_INDEX_SCALE" "I") ∈ lw_tbl := lw_at lw_m4 3 rfl
theorem q764 : (Jvm.Cond.methodLink "jdk/internal/util/ArraysSupport" (54 : Nat) ({ cls := "jdk/internal/misc/Unsafe", name := "getIntUnaligned", desc := "(Ljava/lang/Object;J)I" } : Jvm.MethodName)) ∈ lw_all := lw_g (lw_at lw_m4 4 rfl) rfl
theorem q781 : (Jvm.Cond.methodLink "jdk/internal/util/ArraysSupport" (58 : Nat) ({ cls := "java/lang/Integer", name := "numberOfLeadingZeros", desc := "(I)I" } : Jvm.MethodName)) ∈ lw_all := lw_g (lw_at lw_m4 21 rfl) rfl
theorem q782 : (Jvm.Cond.methodLink "jdk/internal/util/ArraysSupport" (11 : Nat) ({ cls := "java/lang/Integer", name := "numberOfTrailingZeros", desc := "(I)I" } : Jvm.MethodName)) ∈ lw_all := lw_g (lw_at lw_m4 22 rfl) rfl
/-! java/lang/Math -/
set_option maxRecDepth 100000
def RJ16 : String := "java/lang/Math"
abbrev cJ16_max : ByteArray := prog_20_method_65_code
def yJ16_max : MethodName := ⟨RJ16, "max", "(II)I"⟩
def dkwJ16_max_0 : List UInt8 := [26, 27, 161, 0, 7, 26, 167, 0, 4, 27, 172]
abbrev dktJ16_max_0 : List UInt8 := dkwJ16_max_0 ++ []
theorem dksJ16_max_0 : cJ16_max.data.toList.drop 0 = dktJ16_max_0 := by decide +kernel
theorem dJ16_max_0 : decode cJ16_max 0 = .ok (.iload_n 0, 1) := dk_26 (dk_at dksJ16_max_0 0 rfl rfl)
theorem dJ16_max_1 : decode cJ16_max 1 = .ok (.iload_n 1, 1) := dk_27 (dk_at dksJ16_max_0 1 rfl rfl)
theorem dJ16_max_2 : decode cJ16_max 2 = .ok (.if_icmp .lt 7, 3) := dk_161 0 7 (dk_at dksJ16_max_0 2 rfl rfl)
theorem dJ16_max_5 : decode cJ16_max 5 = .ok (.iload_n 0, 1) := dk_26 (dk_at dksJ16_max_0 5 rfl rfl)
theorem dJ16_max_6 : decode cJ16_max 6 = .ok (.goto 4, 3) := dk_167 0 4 (dk_at dksJ16_max_0 6 rfl rfl)
theorem dJ16_max_9 : decode cJ16_max 9 = .ok (.iload_n 1, 1) := dk_27 (dk_at dksJ16_max_0 9 rfl rfl)
theorem dJ16_max_10 : decode cJ16_max 10 = .ok (.ireturn, 1) := dk_172 (dk_at dksJ16_max_0 10 rfl rfl)
abbrev cJ16_min : ByteArray := prog_20_method_69_code
def yJ16_min : MethodName := ⟨RJ16, "min", "(II)I"⟩
def dkwJ16_min_0 : List UInt8 := [26, 27, 163, 0, 7, 26, 167, 0, 4, 27, 172]
abbrev dktJ16_min_0 : List UInt8 := dkwJ16_min_0 ++ []
theorem dksJ16_min_0 : cJ16_min.data.toList.drop 0 = dktJ16_min_0 := by decide +kernel
theorem dJ16_min_0 : decode cJ16_min 0 = .ok (.iload_n 0, 1) := dk_26 (dk_at dksJ16_min_0 0 rfl rfl)
theorem dJ16_min_1 : decode cJ16_min 1 = .ok (.iload_n 1, 1) := dk_27 (dk_at dksJ16_min_0 1 rfl rfl)
theorem dJ16_min_2 : decode cJ16_min 2 = .ok (.if_icmp .gt 7, 3) := dk_163 0 7 (dk_at dksJ16_min_0 2 rfl rfl)
theorem dJ16_min_5 : decode cJ16_min 5 = .ok (.iload_n 0, 1) := dk_26 (dk_at dksJ16_min_0 5 rfl rfl)
theorem dJ16_min_6 : decode cJ16_min 6 = .ok (.goto 4, 3) := dk_167 0 4 (dk_at dksJ16_min_0 6 rfl rfl)
theorem dJ16_min_9 : decode cJ16_min 9 = .ok (.iload_n 1, 1) := dk_27 (dk_at dksJ16_min_0 9 rfl rfl)
theorem dJ16_min_10 : decode cJ16_min 10 = .ok (.ireturn, 1) := dk_172 (dk_at dksJ16_min_0 10 rfl rfl)
theorem q58 : (Jvm.Cond.initialized "java/lang/Math") ∈ lw_all := lw_g (lw_at lw_m1 18 rfl) rfl
theorem q286 : (Jvm.Cond.static ({ cls := "java/lang/Math", name := "max", desc := "(II)I" } : Jvm.MethodName)) ∈ lw_all := lw_g (lw_at lw_m2 6 rfl) rfl
theorem q287 : (Jvm.Cond.code ({ cls := "java/lang/Math", name := "max", desc := "(II)I" } : Jvm.MethodName) prog_20_method_65_code (2 : Nat) (Option.some Jvm.ClassFile.FieldType.int)) ∈ lw_all := lw_g (lw_at lw_m2 7 rfl) rfl
theorem q304 : (Jvm.Cond.static ({ cls := "java/lang/Math", name := "min", desc := "(II)I" } : Jvm.MethodName)) ∈ lw_all := lw_g (lw_at lw_m2 24 rfl) rfl
theorem q305 : (Jvm.Cond.code ({ cls := "java/lang/Math", name := "min", desc := "(II)I" } : Jvm.MethodName) prog_20_method_69_code (2 : Nat) (Option.some Jvm.ClassFile.FieldType.int)) ∈ lw_all := lw_g (lw_at lw_m2 25 rfl) rfl
/-! java/util/Objects -/
set_option maxRecDepth 100000
def RJ24 : String := "java/util/Objects"
abbrev cJ24_requireNonNull : ByteArray := prog_51_method_10_code
def yJ24_requireNonNull : MethodName := ⟨RJ24, "requireNonNull", "(Ljava/lang/Object;)Ljava/lang/Object;"⟩
def dkwJ24_requireNonNull_0 : List UInt8 := [42, 199, 0, 11, 187, 0, 84, 89, 183, 0, 86, 191, 42, 176]
abbrev dktJ24_requireNonNull_0 : List UInt8 := dkwJ24_requireNonNull_0 ++ []
theorem dksJ24_requireNonNull_0 : cJ24_requireNonNull.data.toList.drop 0 = dktJ24_requireNonNull_0 := by decide +kernel
theorem dJ24_requireNonNull_0 : decode cJ24_requireNonNull 0 = .ok (.aload_n 0, 1) := dk_42 (dk_at dksJ24_requireNonNull_0 0 rfl rfl)
theorem dJ24_requireNonNull_1 : decode cJ24_requireNonNull 1 = .ok (.ifnonnull 11, 3) := dk_199 0 11 (dk_at dksJ24_requireNonNull_0 1 rfl rfl)
theorem dJ24_requireNonNull_4 : decode cJ24_requireNonNull 4 = .ok (.new 84, 3) := dk_187 0 84 (dk_at dksJ24_requireNonNull_0 4 rfl rfl)
theorem dJ24_requireNonNull_7 : decode cJ24_requireNonNull 7 = .ok (.dup, 1) := dk_89 (dk_at dksJ24_requireNonNull_0 7 rfl rfl)
theorem dJ24_requireNonNull_8 : decode cJ24_requireNonNull 8 = .ok (.invokespecial 86, 3) := dk_183 0 86 (dk_at dksJ24_requireNonNull_0 8 rfl rfl)
theorem dJ24_requireNonNull_11 : decode cJ24_requireNonNull 11 = .ok (.athrow, 1) := dk_191 (dk_at dksJ24_requireNonNull_0 11 rfl rfl)
theorem dJ24_requireNonNull_12 : decode cJ24_requireNonNull 12 = .ok (.aload_n 0, 1) := dk_42 (dk_at dksJ24_requireNonNull_0 12 rfl rfl)
theorem dJ24_requireNonNull_13 : decode cJ24_requireNonNull 13 = .ok (.areturn, 1) := dk_176 (dk_at dksJ24_requireNonNull_0 13 rfl rfl)
abbrev cJ24_equals : ByteArray := prog_51_method_2_code
def yJ24_equals : MethodName := ⟨RJ24, "equals", "(Ljava/lang/Object;Ljava/lang/Object;)Z"⟩
def dkwJ24_equals_0 : List UInt8 := [42, 43, 165, 0, 15, 42, 198, 0, 15, 42, 43, 182, 0, 14, 153, 0, 7, 4, 167, 0, 4, 3, 172]
abbrev dktJ24_equals_0 : List UInt8 := dkwJ24_equals_0 ++ []
theorem dksJ24_equals_0 : cJ24_equals.data.toList.drop 0 = dktJ24_equals_0 := by decide +kernel
theorem dJ24_equals_0 : decode cJ24_equals 0 = .ok (.aload_n 0, 1) := dk_42 (dk_at dksJ24_equals_0 0 rfl rfl)
theorem dJ24_equals_1 : decode cJ24_equals 1 = .ok (.aload_n 1, 1) := dk_43 (dk_at dksJ24_equals_0 1 rfl rfl)
theorem dJ24_equals_2 : decode cJ24_equals 2 = .ok (.if_acmp .eq 15, 3) := dk_165 0 15 (dk_at dksJ24_equals_0 2 rfl rfl)
theorem dJ24_equals_5 : decode cJ24_equals 5 = .ok (.aload_n 0, 1) := dk_42 (dk_at dksJ24_equals_0 5 rfl rfl)
theorem dJ24_equals_6 : decode cJ24_equals 6 = .ok (.ifnull 15, 3) := dk_198 0 15 (dk_at dksJ24_equals_0 6 rfl rfl)
theorem dJ24_equals_9 : decode cJ24_equals 9 = .ok (.aload_n 0, 1) := dk_42 (dk_at dksJ24_equals_0 9 rfl rfl)
theorem dJ24_equals_10 : decode cJ24_equals 10 = .ok (.aload_n 1, 1) := dk_43 (dk_at dksJ24_equals_0 10 rfl rfl)
theorem dJ24_equals_11 : decode cJ24_equals 11 = .ok (.invokevirtual 14, 3) := dk_182 0 14 (dk_at dksJ24_equals_0 11 rfl rfl)
theorem dJ24_equals_14 : decode cJ24_equals 14 = .ok (.ifCond .eq 7, 3) := dk_153 0 7 (dk_at dksJ24_equals_0 14 rfl rfl)
theorem dJ24_equals_17 : decode cJ24_equals 17 = .ok (.iconst 1, 1) := dk_4 (dk_at dksJ24_equals_0 17 rfl rfl)
theorem dJ24_equals_18 : decode cJ24_equals 18 = .ok (.goto 4, 3) := dk_167 0 4 (dk_at dksJ24_equals_0 18 rfl rfl)
theorem dJ24_equals_21 : decode cJ24_equals 21 = .ok (.iconst 0, 1) := dk_3 (dk_at dksJ24_equals_0 21 rfl rfl)
theorem dJ24_equals_22 : decode cJ24_equals 22 = .ok (.ireturn, 1) := dk_172 (dk_at dksJ24_equals_0 22 rfl rfl)
theorem q68 : (Jvm.Cond.initialized "java/util/Objects") ∈ lw_all := lw_g (lw_at lw_m1 28 rfl) rfl
theorem q1606 : (Jvm.Cond.static ({ cls := "java/util/Objects", name := "requireNonNull", desc := "(Ljava/lang/Object;)Ljava/lang/Object;" } : Jvm.MethodName)) ∈ lw_all := lw_g (lw_at lw_m7 126 rfl) rfl
theorem q1607 : (Jvm.Cond.code ({ cls := "java/util/Objects", name := "requireNonNull", desc := "(Ljava/lang/Object;)Ljava/lang/Object;" } : Jvm.MethodName) prog_51_method_10_code (1 : Nat) (Option.some (Jvm.ClassFile.FieldType.object "java/lang/Object"))) ∈ lw_all := lw_g (lw_at lw_m7 127 rfl) rfl
theorem q2082 : (Jvm.Cond.static ({ cls := "java/util/Objects", name := "equals", desc := "(Ljava/lang/Object;Ljava/lang/Object;)Z" } : Jvm.MethodName)) ∈ lw_all := lw_g (lw_at lw_m9 122 rfl) rfl
theorem q2083 : (Jvm.Cond.code ({ cls := "java/util/Objects", name := "equals", desc := "(Ljava/lang/Object;Ljava/lang/Object;)Z" } : Jvm.MethodName) prog_51_method_2_code (2 : Nat) (Option.some Jvm.ClassFile.FieldType.boolean)) ∈ lw_all := lw_g (lw_at lw_m9 123 rfl) rfl
theorem q2085 : (Jvm.Cond.methodLink "java/util/Objects" (14 : Nat) ({ cls := "java/lang/Object", name := "equals", desc := "(Ljava/lang/Object;)Z" } : Jvm.MethodName)) ∈ lw_all := lw_g (lw_at lw_m9 125 rfl) rfl
/-! jdk/internal/misc/Unsafe -/
set_option maxRecDepth 100000
def RJ25 : String := "jdk/internal/misc/Unsafe"
abbrev cJ25_getLongUnaligned : ByteArray := prog_76_method_334_code
def yJ25_getLongUnaligned : MethodName := ⟨RJ25, "getLongUnaligned", "(Ljava/lang/Object;J)J"⟩
def dkwJ25_getLongUnaligned_7 : List UInt8 := [182, 0, 39, 184, 2, 197, 173]
abbrev dktJ25_getLongUnaligned_7 : List UInt8 := dkwJ25_getLongUnaligned_7 ++ []
def dkwJ25_getLongUnaligned_6 : List UInt8 := [20, 2, 195, 97, 182, 0, 39, 42, 43, 32, 20, 2, 190, 97, 182, 0, 39, 42, 43, 32, 20, 2, 184, 97]
abbrev dktJ25_getLongUnaligned_6 : List UInt8 := dkwJ25_getLongUnaligned_6 ++ dktJ25_getLongUnaligned_7
def dkwJ25_getLongUnaligned_5 : List UInt8 := [43, 32, 20, 1, 93, 97, 182, 0, 39, 42, 43, 32, 20, 0, 205, 97, 182, 0, 39, 42, 43, 32]
abbrev dktJ25_getLongUnaligned_5 : List UInt8 := dkwJ25_getLongUnaligned_5 ++ dktJ25_getLongUnaligned_6
def dkwJ25_getLongUnaligned_4 : List UInt8 := [43, 32, 182, 0, 39, 42, 43, 32, 10, 97, 182, 0, 39, 42, 43, 32, 20, 0, 203, 97, 182, 0, 39, 42]
abbrev dktJ25_getLongUnaligned_4 : List UInt8 := dkwJ25_getLongUnaligned_4 ++ dktJ25_getLongUnaligned_5
def dkwJ25_getLongUnaligned_3 : List UInt8 := [43, 32, 20, 0, 205, 97, 182, 0, 47, 42, 43, 32, 20, 2, 190, 97, 182, 0, 47, 184, 2, 192, 173, 42]
abbrev dktJ25_getLongUnaligned_3 : List UInt8 := dkwJ25_getLongUnaligned_3 ++ dktJ25_getLongUnaligned_4
def dkwJ25_getLongUnaligned_2 : List UInt8 := [10, 127, 9, 148, 154, 0, 43, 42, 43, 32, 182, 0, 47, 42, 43, 32, 20, 0, 203, 97, 182, 0, 47, 42]
abbrev dktJ25_getLongUnaligned_2 : List UInt8 := dkwJ25_getLongUnaligned_2 ++ dktJ25_getLongUnaligned_3
def dkwJ25_getLongUnaligned_1 : List UInt8 := [154, 0, 23, 42, 43, 32, 182, 0, 17, 42, 43, 32, 20, 0, 205, 97, 182, 0, 17, 184, 2, 186, 173, 32]
abbrev dktJ25_getLongUnaligned_1 : List UInt8 := dkwJ25_getLongUnaligned_1 ++ dktJ25_getLongUnaligned_2
def dkwJ25_getLongUnaligned_0 : List UInt8 := [32, 20, 2, 184, 127, 9, 148, 154, 0, 10, 42, 43, 32, 182, 0, 27, 173, 32, 20, 1, 93, 127, 9, 148]
abbrev dktJ25_getLongUnaligned_0 : List UInt8 := dkwJ25_getLongUnaligned_0 ++ dktJ25_getLongUnaligned_1
theorem dksJ25_getLongUnaligned_0 : cJ25_getLongUnaligned.data.toList.drop 0 = dktJ25_getLongUnaligned_0 := by decide +kernel
theorem dksJ25_getLongUnaligned_1 : cJ25_getLongUnaligned.data.toList.drop 24 = dktJ25_getLongUnaligned_1 := dk_seg dksJ25_getLongUnaligned_0 24 rfl rfl
theorem dksJ25_getLongUnaligned_2 : cJ25_getLongUnaligned.data.toList.drop 48 = dktJ25_getLongUnaligned_2 := dk_seg dksJ25_getLongUnaligned_1 24 rfl rfl
theorem dksJ25_getLongUnaligned_3 : cJ25_getLongUnaligned.data.toList.drop 72 = dktJ25_getLongUnaligned_3 := dk_seg dksJ25_getLongUnaligned_2 24 rfl rfl
theorem dksJ25_getLongUnaligned_4 : cJ25_getLongUnaligned.data.toList.drop 96 = dktJ25_getLongUnaligned_4 := dk_seg dksJ25_getLongUnaligned_3 24 rfl rfl
theorem dksJ25_getLongUnaligned_5 : cJ25_getLongUnaligned.data.toList.drop 120 = dktJ25_getLongUnaligned_5 := dk_seg dksJ25_getLongUnaligned_4 24 rfl rfl
theorem dksJ25_getLongUnaligned_6 : cJ25_getLongUnaligned.data.toList.drop 142 = dktJ25_getLongUnaligned_6 := dk_seg dksJ25_getLongUnaligned_5 22 rfl rfl
theorem dksJ25_getLongUnaligned_7 : cJ25_getLongUnaligned.data.toList.drop 166 = dktJ25_getLongUnaligned_7 := dk_seg dksJ25_getLongUnaligned_6 24 rfl rfl
theorem dJ25_getLongUnaligned_0 : decode cJ25_getLongUnaligned 0 = .ok (.lload_n 2, 1) := dk_32 (dk_at dksJ25_getLongUnaligned_0 0 rfl rfl)
theorem dJ25_getLongUnaligned_1 : decode cJ25_getLongUnaligned 1 = .ok (.ldc2_w 696, 3) := dk_20 2 184 (dk_at dksJ25_getLongUnaligned_0 1 rfl rfl)
theorem dJ25_getLongUnaligned_4 : decode cJ25_getLongUnaligned 4 = .ok (.land, 1) := dk_127 (dk_at dksJ25_getLongUnaligned_0 4 rfl rfl)
theorem dJ25_getLongUnaligned_5 : decode cJ25_getLongUnaligned 5 = .ok (.lconst 0, 1) := dk_9 (dk_at dksJ25_getLongUnaligned_0 5 rfl rfl)
theorem dJ25_getLongUnaligned_6 : decode cJ25_getLongUnaligned 6 = .ok (.lcmp, 1) := dk_148 (dk_at dksJ25_getLongUnaligned_0 6 rfl rfl)
theorem dJ25_getLongUnaligned_7 : decode cJ25_getLongUnaligned 7 = .ok (.ifCond .ne 10, 3) := dk_154 0 10 (dk_at dksJ25_getLongUnaligned_0 7 rfl rfl)
theorem dJ25_getLongUnaligned_10 : decode cJ25_getLongUnaligned 10 = .ok (.aload_n 0, 1) := dk_42 (dk_at dksJ25_getLongUnaligned_0 10 rfl rfl)
theorem dJ25_getLongUnaligned_11 : decode cJ25_getLongUnaligned 11 = .ok (.aload_n 1, 1) := dk_43 (dk_at dksJ25_getLongUnaligned_0 11 rfl rfl)
theorem dJ25_getLongUnaligned_12 : decode cJ25_getLongUnaligned 12 = .ok (.lload_n 2, 1) := dk_32 (dk_at dksJ25_getLongUnaligned_0 12 rfl rfl)
theorem dJ25_getLongUnaligned_13 : decode cJ25_getLongUnaligned 13 = .ok (.invokevirtual 27, 3) := dk_182 0 27 (dk_at dksJ25_getLongUnaligned_0 13 rfl rfl)
theorem dJ25_getLongUnaligned_16 : decode cJ25_getLongUnaligned 16 = .ok (.lreturn, 1) := dk_173 (dk_at dksJ25_getLongUnaligned_0 16 rfl rfl)
theorem dJ25_getLongUnaligned_17 : decode cJ25_getLongUnaligned 17 = .ok (.lload_n 2, 1) := dk_32 (dk_at dksJ25_getLongUnaligned_0 17 rfl rfl)
theorem dJ25_getLongUnaligned_18 : decode cJ25_getLongUnaligned 18 = .ok (.ldc2_w 349, 3) := dk_20 1 93 (dk_at dksJ25_getLongUnaligned_0 18 rfl rfl)
theorem dJ25_getLongUnaligned_21 : decode cJ25_getLongUnaligned 21 = .ok (.land, 1) := dk_127 (dk_at dksJ25_getLongUnaligned_0 21 rfl rfl)
theorem dJ25_getLongUnaligned_22 : decode cJ25_getLongUnaligned 22 = .ok (.lconst 0, 1) := dk_9 (dk_at dksJ25_getLongUnaligned_0 22 rfl rfl)
theorem dJ25_getLongUnaligned_23 : decode cJ25_getLongUnaligned 23 = .ok (.lcmp, 1) := dk_148 (dk_at dksJ25_getLongUnaligned_0 23 rfl rfl)
theorem dJ25_getLongUnaligned_24 : decode cJ25_getLongUnaligned 24 = .ok (.ifCond .ne 23, 3) := dk_154 0 23 (dk_at dksJ25_getLongUnaligned_1 0 rfl rfl)
theorem dJ25_getLongUnaligned_27 : decode cJ25_getLongUnaligned 27 = .ok (.aload_n 0, 1) := dk_42 (dk_at dksJ25_getLongUnaligned_1 3 rfl rfl)
theorem dJ25_getLongUnaligned_28 : decode cJ25_getLongUnaligned 28 = .ok (.aload_n 1, 1) := dk_43 (dk_at dksJ25_getLongUnaligned_1 4 rfl rfl)
theorem dJ25_getLongUnaligned_29 : decode cJ25_getLongUnaligned 29 = .ok (.lload_n 2, 1) := dk_32 (dk_at dksJ25_getLongUnaligned_1 5 rfl rfl)
theorem dJ25_getLongUnaligned_30 : decode cJ25_getLongUnaligned 30 = .ok (.invokevirtual 17, 3) := dk_182 0 17 (dk_at dksJ25_getLongUnaligned_1 6 rfl rfl)
theorem dJ25_getLongUnaligned_33 : decode cJ25_getLongUnaligned 33 = .ok (.aload_n 0, 1) := dk_42 (dk_at dksJ25_getLongUnaligned_1 9 rfl rfl)
theorem dJ25_getLongUnaligned_34 : decode cJ25_getLongUnaligned 34 = .ok (.aload_n 1, 1) := dk_43 (dk_at dksJ25_getLongUnaligned_1 10 rfl rfl)
theorem dJ25_getLongUnaligned_35 : decode cJ25_getLongUnaligned 35 = .ok (.lload_n 2, 1) := dk_32 (dk_at dksJ25_getLongUnaligned_1 11 rfl rfl)
theorem dJ25_getLongUnaligned_36 : decode cJ25_getLongUnaligned 36 = .ok (.ldc2_w 205, 3) := dk_20 0 205 (dk_at dksJ25_getLongUnaligned_1 12 rfl rfl)
theorem dJ25_getLongUnaligned_39 : decode cJ25_getLongUnaligned 39 = .ok (.ladd, 1) := dk_97 (dk_at dksJ25_getLongUnaligned_1 15 rfl rfl)
theorem dJ25_getLongUnaligned_40 : decode cJ25_getLongUnaligned 40 = .ok (.invokevirtual 17, 3) := dk_182 0 17 (dk_at dksJ25_getLongUnaligned_1 16 rfl rfl)
theorem dJ25_getLongUnaligned_43 : decode cJ25_getLongUnaligned 43 = .ok (.invokestatic 698, 3) := dk_184 2 186 (dk_at dksJ25_getLongUnaligned_1 19 rfl rfl)
theorem dJ25_getLongUnaligned_46 : decode cJ25_getLongUnaligned 46 = .ok (.lreturn, 1) := dk_173 (dk_at dksJ25_getLongUnaligned_1 22 rfl rfl)
theorem dJ25_getLongUnaligned_47 : decode cJ25_getLongUnaligned 47 = .ok (.lload_n 2, 1) := dk_32 (dk_at dksJ25_getLongUnaligned_1 23 rfl rfl)
theorem dJ25_getLongUnaligned_48 : decode cJ25_getLongUnaligned 48 = .ok (.lconst 1, 1) := dk_10 (dk_at dksJ25_getLongUnaligned_2 0 rfl rfl)
theorem dJ25_getLongUnaligned_49 : decode cJ25_getLongUnaligned 49 = .ok (.land, 1) := dk_127 (dk_at dksJ25_getLongUnaligned_2 1 rfl rfl)
theorem dJ25_getLongUnaligned_50 : decode cJ25_getLongUnaligned 50 = .ok (.lconst 0, 1) := dk_9 (dk_at dksJ25_getLongUnaligned_2 2 rfl rfl)
theorem dJ25_getLongUnaligned_51 : decode cJ25_getLongUnaligned 51 = .ok (.lcmp, 1) := dk_148 (dk_at dksJ25_getLongUnaligned_2 3 rfl rfl)
theorem dJ25_getLongUnaligned_52 : decode cJ25_getLongUnaligned 52 = .ok (.ifCond .ne 43, 3) := dk_154 0 43 (dk_at dksJ25_getLongUnaligned_2 4 rfl rfl)
theorem dJ25_getLongUnaligned_55 : decode cJ25_getLongUnaligned 55 = .ok (.aload_n 0, 1) := dk_42 (dk_at dksJ25_getLongUnaligned_2 7 rfl rfl)
theorem dJ25_getLongUnaligned_56 : decode cJ25_getLongUnaligned 56 = .ok (.aload_n 1, 1) := dk_43 (dk_at dksJ25_getLongUnaligned_2 8 rfl rfl)
theorem dJ25_getLongUnaligned_57 : decode cJ25_getLongUnaligned 57 = .ok (.lload_n 2, 1) := dk_32 (dk_at dksJ25_getLongUnaligned_2 9 rfl rfl)
theorem dJ25_getLongUnaligned_58 : decode cJ25_getLongUnaligned 58 = .ok (.invokevirtual 47, 3) := dk_182 0 47 (dk_at dksJ25_getLongUnaligned_2 10 rfl rfl)
theorem dJ25_getLongUnaligned_61 : decode cJ25_getLongUnaligned 61 = .ok (.aload_n 0, 1) := dk_42 (dk_at dksJ25_getLongUnaligned_2 13 rfl rfl)
theorem dJ25_getLongUnaligned_62 : decode cJ25_getLongUnaligned 62 = .ok (.aload_n 1, 1) := dk_43 (dk_at dksJ25_getLongUnaligned_2 14 rfl rfl)
theorem dJ25_getLongUnaligned_63 : decode cJ25_getLongUnaligned 63 = .ok (.lload_n 2, 1) := dk_32 (dk_at dksJ25_getLongUnaligned_2 15 rfl rfl)
theorem dJ25_getLongUnaligned_64 : decode cJ25_getLongUnaligned 64 = .ok (.ldc2_w 203, 3) := dk_20 0 203 (dk_at dksJ25_getLongUnaligned_2 16 rfl rfl)
theorem dJ25_getLongUnaligned_67 : decode cJ25_getLongUnaligned 67 = .ok (.ladd, 1) := dk_97 (dk_at dksJ25_getLongUnaligned_2 19 rfl rfl)
theorem dJ25_getLongUnaligned_68 : decode cJ25_getLongUnaligned 68 = .ok (.invokevirtual 47, 3) := dk_182 0 47 (dk_at dksJ25_getLongUnaligned_2 20 rfl rfl)
theorem dJ25_getLongUnaligned_71 : decode cJ25_getLongUnaligned 71 = .ok (.aload_n 0, 1) := dk_42 (dk_at dksJ25_getLongUnaligned_2 23 rfl rfl)
theorem dJ25_getLongUnaligned_72 : decode cJ25_getLongUnaligned 72 = .ok (.aload_n 1, 1) := dk_43 (dk_at dksJ25_getLongUnaligned_3 0 rfl rfl)
theorem dJ25_getLongUnaligned_73 : decode cJ25_getLongUnaligned 73 = .ok (.lload_n 2, 1) := dk_32 (dk_at dksJ25_getLongUnaligned_3 1 rfl rfl)
theorem dJ25_getLongUnaligned_74 : decode cJ25_getLongUnaligned 74 = .ok (.ldc2_w 205, 3) := dk_20 0 205 (dk_at dksJ25_getLongUnaligned_3 2 rfl rfl)
theorem dJ25_getLongUnaligned_77 : decode cJ25_getLongUnaligned 77 = .ok (.ladd, 1) := dk_97 (dk_at dksJ25_getLongUnaligned_3 5 rfl rfl)
theorem dJ25_getLongUnaligned_78 : decode cJ25_getLongUnaligned 78 = .ok (.invokevirtual 47, 3) := dk_182 0 47 (dk_at dksJ25_getLongUnaligned_3 6 rfl rfl)
theorem dJ25_getLongUnaligned_81 : decode cJ25_getLongUnaligned 81 = .ok (.aload_n 0, 1) := dk_42 (dk_at dksJ25_getLongUnaligned_3 9 rfl rfl)
theorem dJ25_getLongUnaligned_82 : decode cJ25_getLongUnaligned 82 = .ok (.aload_n 1, 1) := dk_43 (dk_at dksJ25_getLongUnaligned_3 10 rfl rfl)
theorem dJ25_getLongUnaligned_83 : decode cJ25_getLongUnaligned 83 = .ok (.lload_n 2, 1) := dk_32 (dk_at dksJ25_getLongUnaligned_3 11 rfl rfl)
theorem dJ25_getLongUnaligned_84 : decode cJ25_getLongUnaligned 84 = .ok (.ldc2_w 702, 3) := dk_20 2 190 (dk_at dksJ25_getLongUnaligned_3 12 rfl rfl)
theorem dJ25_getLongUnaligned_87 : decode cJ25_getLongUnaligned 87 = .ok (.ladd, 1) := dk_97 (dk_at dksJ25_getLongUnaligned_3 15 rfl rfl)
theorem dJ25_getLongUnaligned_88 : decode cJ25_getLongUnaligned 88 = .ok (.invokevirtual 47, 3) := dk_182 0 47 (dk_at dksJ25_getLongUnaligned_3 16 rfl rfl)
theorem dJ25_getLongUnaligned_91 : decode cJ25_getLongUnaligned 91 = .ok (.invokestatic 704, 3) := dk_184 2 192 (dk_at dksJ25_getLongUnaligned_3 19 rfl rfl)
theorem dJ25_getLongUnaligned_94 : decode cJ25_getLongUnaligned 94 = .ok (.lreturn, 1) := dk_173 (dk_at dksJ25_getLongUnaligned_3 22 rfl rfl)
theorem dJ25_getLongUnaligned_95 : decode cJ25_getLongUnaligned 95 = .ok (.aload_n 0, 1) := dk_42 (dk_at dksJ25_getLongUnaligned_3 23 rfl rfl)
theorem dJ25_getLongUnaligned_96 : decode cJ25_getLongUnaligned 96 = .ok (.aload_n 1, 1) := dk_43 (dk_at dksJ25_getLongUnaligned_4 0 rfl rfl)
theorem dJ25_getLongUnaligned_97 : decode cJ25_getLongUnaligned 97 = .ok (.lload_n 2, 1) := dk_32 (dk_at dksJ25_getLongUnaligned_4 1 rfl rfl)
theorem dJ25_getLongUnaligned_98 : decode cJ25_getLongUnaligned 98 = .ok (.invokevirtual 39, 3) := dk_182 0 39 (dk_at dksJ25_getLongUnaligned_4 2 rfl rfl)
theorem dJ25_getLongUnaligned_101 : decode cJ25_getLongUnaligned 101 = .ok (.aload_n 0, 1) := dk_42 (dk_at dksJ25_getLongUnaligned_4 5 rfl rfl)
theorem dJ25_getLongUnaligned_102 : decode cJ25_getLongUnaligned 102 = .ok (.aload_n 1, 1) := dk_43 (dk_at dksJ25_getLongUnaligned_4 6 rfl rfl)
theorem dJ25_getLongUnaligned_103 : decode cJ25_getLongUnaligned 103 = .ok (.lload_n 2, 1) := dk_32 (dk_at dksJ25_getLongUnaligned_4 7 rfl rfl)
theorem dJ25_getLongUnaligned_104 : decode cJ25_getLongUnaligned 104 = .ok (.lconst 1, 1) := dk_10 (dk_at dksJ25_getLongUnaligned_4 8 rfl rfl)
theorem dJ25_getLongUnaligned_105 : decode cJ25_getLongUnaligned 105 = .ok (.ladd, 1) := dk_97 (dk_at dksJ25_getLongUnaligned_4 9 rfl rfl)
theorem dJ25_getLongUnaligned_106 : decode cJ25_getLongUnaligned 106 = .ok (.invokevirtual 39, 3) := dk_182 0 39 (dk_at dksJ25_getLongUnaligned_4 10 rfl rfl)
theorem dJ25_getLongUnaligned_109 : decode cJ25_getLongUnaligned 109 = .ok (.aload_n 0, 1) := dk_42 (dk_at dksJ25_getLongUnaligned_4 13 rfl rfl)
theorem dJ25_getLongUnaligned_110 : decode cJ25_getLongUnaligned 110 = .ok (.aload_n 1, 1) := dk_43 (dk_at dksJ25_getLongUnaligned_4 14 rfl rfl)
theorem dJ25_getLongUnaligned_111 : decode cJ25_getLongUnaligned 111 = .ok (.lload_n 2, 1) := dk_32 (dk_at dksJ25_getLongUnaligned_4 15 rfl rfl)
theorem dJ25_getLongUnaligned_112 : decode cJ25_getLongUnaligned 112 = .ok (.ldc2_w 203, 3) := dk_20 0 203 (dk_at dksJ25_getLongUnaligned_4 16 rfl rfl)
theorem dJ25_getLongUnaligned_115 : decode cJ25_getLongUnaligned 115 = .ok (.ladd, 1) := dk_97 (dk_at dksJ25_getLongUnaligned_4 19 rfl rfl)
theorem dJ25_getLongUnaligned_116 : decode cJ25_getLongUnaligned 116 = .ok (.invokevirtual 39, 3) := dk_182 0 39 (dk_at dksJ25_getLongUnaligned_4 20 rfl rfl)
theorem dJ25_getLongUnaligned_119 : decode cJ25_getLongUnaligned 119 = .ok (.aload_n 0, 1) := dk_42 (dk_at dksJ25_getLongUnaligned_4 23 rfl rfl)
theorem dJ25_getLongUnaligned_120 : decode cJ25_getLongUnaligned 120 = .ok (.aload_n 1, 1) := dk_43 (dk_at dksJ25_getLongUnaligned_5 0 rfl rfl)
theorem dJ25_getLongUnaligned_121 : decode cJ25_getLongUnaligned 121 = .ok (.lload_n 2, 1) := dk_32 (dk_at dksJ25_getLongUnaligned_5 1 rfl rfl)
theorem dJ25_getLongUnaligned_122 : decode cJ25_getLongUnaligned 122 = .ok (.ldc2_w 349, 3) := dk_20 1 93 (dk_at dksJ25_getLongUnaligned_5 2 rfl rfl)
theorem dJ25_getLongUnaligned_125 : decode cJ25_getLongUnaligned 125 = .ok (.ladd, 1) := dk_97 (dk_at dksJ25_getLongUnaligned_5 5 rfl rfl)
theorem dJ25_getLongUnaligned_126 : decode cJ25_getLongUnaligned 126 = .ok (.invokevirtual 39, 3) := dk_182 0 39 (dk_at dksJ25_getLongUnaligned_5 6 rfl rfl)
theorem dJ25_getLongUnaligned_129 : decode cJ25_getLongUnaligned 129 = .ok (.aload_n 0, 1) := dk_42 (dk_at dksJ25_getLongUnaligned_5 9 rfl rfl)
theorem dJ25_getLongUnaligned_130 : decode cJ25_getLongUnaligned 130 = .ok (.aload_n 1, 1) := dk_43 (dk_at dksJ25_getLongUnaligned_5 10 rfl rfl)
theorem dJ25_getLongUnaligned_131 : decode cJ25_getLongUnaligned 131 = .ok (.lload_n 2, 1) := dk_32 (dk_at dksJ25_getLongUnaligned_5 11 rfl rfl)
theorem dJ25_getLongUnaligned_132 : decode cJ25_getLongUnaligned 132 = .ok (.ldc2_w 205, 3) := dk_20 0 205 (dk_at dksJ25_getLongUnaligned_5 12 rfl rfl)
theorem dJ25_getLongUnaligned_135 : decode cJ25_getLongUnaligned 135 = .ok (.ladd, 1) := dk_97 (dk_at dksJ25_getLongUnaligned_5 15 rfl rfl)
theorem dJ25_getLongUnaligned_136 : decode cJ25_getLongUnaligned 136 = .ok (.invokevirtual 39, 3) := dk_182 0 39 (dk_at dksJ25_getLongUnaligned_5 16 rfl rfl)
theorem dJ25_getLongUnaligned_139 : decode cJ25_getLongUnaligned 139 = .ok (.aload_n 0, 1) := dk_42 (dk_at dksJ25_getLongUnaligned_5 19 rfl rfl)
theorem dJ25_getLongUnaligned_140 : decode cJ25_getLongUnaligned 140 = .ok (.aload_n 1, 1) := dk_43 (dk_at dksJ25_getLongUnaligned_5 20 rfl rfl)
theorem dJ25_getLongUnaligned_141 : decode cJ25_getLongUnaligned 141 = .ok (.lload_n 2, 1) := dk_32 (dk_at dksJ25_getLongUnaligned_5 21 rfl rfl)
theorem dJ25_getLongUnaligned_142 : decode cJ25_getLongUnaligned 142 = .ok (.ldc2_w 707, 3) := dk_20 2 195 (dk_at dksJ25_getLongUnaligned_6 0 rfl rfl)
theorem dJ25_getLongUnaligned_145 : decode cJ25_getLongUnaligned 145 = .ok (.ladd, 1) := dk_97 (dk_at dksJ25_getLongUnaligned_6 3 rfl rfl)
theorem dJ25_getLongUnaligned_146 : decode cJ25_getLongUnaligned 146 = .ok (.invokevirtual 39, 3) := dk_182 0 39 (dk_at dksJ25_getLongUnaligned_6 4 rfl rfl)
theorem dJ25_getLongUnaligned_149 : decode cJ25_getLongUnaligned 149 = .ok (.aload_n 0, 1) := dk_42 (dk_at dksJ25_getLongUnaligned_6 7 rfl rfl)
theorem dJ25_getLongUnaligned_150 : decode cJ25_getLongUnaligned 150 = .ok (.aload_n 1, 1) := dk_43 (dk_at dksJ25_getLongUnaligned_6 8 rfl rfl)
theorem dJ25_getLongUnaligned_151 : decode cJ25_getLongUnaligned 151 = .ok (.lload_n 2, 1) := dk_32 (dk_at dksJ25_getLongUnaligned_6 9 rfl rfl)
theorem dJ25_getLongUnaligned_152 : decode cJ25_getLongUnaligned 152 = .ok (.ldc2_w 702, 3) := dk_20 2 190 (dk_at dksJ25_getLongUnaligned_6 10 rfl rfl)
theorem dJ25_getLongUnaligned_155 : decode cJ25_getLongUnaligned 155 = .ok (.ladd, 1) := dk_97 (dk_at dksJ25_getLongUnaligned_6 13 rfl rfl)
theorem dJ25_getLongUnaligned_156 : decode cJ25_getLongUnaligned 156 = .ok (.invokevirtual 39, 3) := dk_182 0 39 (dk_at dksJ25_getLongUnaligned_6 14 rfl rfl)
theorem dJ25_getLongUnaligned_159 : decode cJ25_getLongUnaligned 159 = .ok (.aload_n 0, 1) := dk_42 (dk_at dksJ25_getLongUnaligned_6 17 rfl rfl)
theorem dJ25_getLongUnaligned_160 : decode cJ25_getLongUnaligned 160 = .ok (.aload_n 1, 1) := dk_43 (dk_at dksJ25_getLongUnaligned_6 18 rfl rfl)
theorem dJ25_getLongUnaligned_161 : decode cJ25_getLongUnaligned 161 = .ok (.lload_n 2, 1) := dk_32 (dk_at dksJ25_getLongUnaligned_6 19 rfl rfl)
theorem dJ25_getLongUnaligned_162 : decode cJ25_getLongUnaligned 162 = .ok (.ldc2_w 696, 3) := dk_20 2 184 (dk_at dksJ25_getLongUnaligned_6 20 rfl rfl)
theorem dJ25_getLongUnaligned_165 : decode cJ25_getLongUnaligned 165 = .ok (.ladd, 1) := dk_97 (dk_at dksJ25_getLongUnaligned_6 23 rfl rfl)
theorem dJ25_getLongUnaligned_166 : decode cJ25_getLongUnaligned 166 = .ok (.invokevirtual 39, 3) := dk_182 0 39 (dk_at dksJ25_getLongUnaligned_7 0 rfl rfl)
theorem dJ25_getLongUnaligned_169 : decode cJ25_getLongUnaligned 169 = .ok (.invokestatic 709, 3) := dk_184 2 197 (dk_at dksJ25_getLongUnaligned_7 3 rfl rfl)
theorem dJ25_getLongUnaligned_172 : decode cJ25_getLongUnaligned 172 = .ok (.lreturn, 1) := dk_173 (dk_at dksJ25_getLongUnaligned_7 6 rfl rfl)
abbrev cJ25_makeLong : ByteArray := prog_76_method_353_code
def yJ25_makeLong : MethodName := ⟨RJ25, "makeLong", "(II)J"⟩
def dkwJ25_makeLong_1 : List UInt8 := [173]
abbrev dktJ25_makeLong_1 : List UInt8 := dkwJ25_makeLong_1 ++ []
def dkwJ25_makeLong_0 : List UInt8 := [26, 184, 3, 23, 16, 32, 3, 184, 3, 16, 121, 27, 184, 3, 23, 16, 32, 16, 32, 184, 3, 16, 121, 129]
abbrev dktJ25_makeLong_0 : List UInt8 := dkwJ25_makeLong_0 ++ dktJ25_makeLong_1
theorem dksJ25_makeLong_0 : cJ25_makeLong.data.toList.drop 0 = dktJ25_makeLong_0 := by decide +kernel
theorem dksJ25_makeLong_1 : cJ25_makeLong.data.toList.drop 24 = dktJ25_makeLong_1 := dk_seg dksJ25_makeLong_0 24 rfl rfl
theorem dJ25_makeLong_0 : decode cJ25_makeLong 0 = .ok (.iload_n 0, 1) := dk_26 (dk_at dksJ25_makeLong_0 0 rfl rfl)
theorem dJ25_makeLong_1 : decode cJ25_makeLong 1 = .ok (.invokestatic 791, 3) := dk_184 3 23 (dk_at dksJ25_makeLong_0 1 rfl rfl)
theorem dJ25_makeLong_4 : decode cJ25_makeLong 4 = .ok (.bipush 32, 2) := dk_16 32 (dk_at dksJ25_makeLong_0 4 rfl rfl)
theorem dJ25_makeLong_6 : decode cJ25_makeLong 6 = .ok (.iconst 0, 1) := dk_3 (dk_at dksJ25_makeLong_0 6 rfl rfl)
theorem dJ25_makeLong_7 : decode cJ25_makeLong 7 = .ok (.invokestatic 784, 3) := dk_184 3 16 (dk_at dksJ25_makeLong_0 7 rfl rfl)
theorem dJ25_makeLong_10 : decode cJ25_makeLong 10 = .ok (.lshl, 1) := dk_121 (dk_at dksJ25_makeLong_0 10 rfl rfl)
theorem dJ25_makeLong_11 : decode cJ25_makeLong 11 = .ok (.iload_n 1, 1) := dk_27 (dk_at dksJ25_makeLong_0 11 rfl rfl)
theorem dJ25_makeLong_12 : decode cJ25_makeLong 12 = .ok (.invokestatic 791, 3) := dk_184 3 23 (dk_at dksJ25_makeLong_0 12 rfl rfl)
theorem dJ25_makeLong_15 : decode cJ25_makeLong 15 = .ok (.bipush 32, 2) := dk_16 32 (dk_at dksJ25_makeLong_0 15 rfl rfl)
theorem dJ25_makeLong_17 : decode cJ25_makeLong 17 = .ok (.bipush 32, 2) := dk_16 32 (dk_at dksJ25_makeLong_0 17 rfl rfl)
theorem dJ25_makeLong_19 : decode cJ25_makeLong 19 = .ok (.invokestatic 784, 3) := dk_184 3 16 (dk_at dksJ25_makeLong_0 19 rfl rfl)
theorem dJ25_makeLong_22 : decode cJ25_makeLong 22 = .ok (.lshl, 1) := dk_121 (dk_at dksJ25_makeLong_0 22 rfl rfl)
theorem dJ25_makeLong_23 : decode cJ25_makeLong 23 = .ok (.lor, 1) := dk_129 (dk_at dksJ25_makeLong_0 23 rfl rfl)
theorem dJ25_makeLong_24 : decode cJ25_makeLong 24 = .ok (.lreturn, 1) := dk_173 (dk_at dksJ25_makeLong_1 0 rfl rfl)
abbrev cJ25_toUnsignedLong : ByteArray := prog_76_method_370_code
def yJ25_toUnsignedLong : MethodName := ⟨RJ25, "toUnsignedLong", "(I)J"⟩
def dkwJ25_toUnsignedLong_0 : List UInt8 := [26, 133, 20, 3, 44, 127, 173]
abbrev dktJ25_toUnsignedLong_0 : List UInt8 := dkwJ25_toUnsignedLong_0 ++ []
theorem dksJ25_toUnsignedLong_0 : cJ25_toUnsignedLong.data.toList.drop 0 = dktJ25_toUnsignedLong_0 := by decide +kernel
theorem dJ25_toUnsignedLong_0 : decode cJ25_toUnsignedLong 0 = .ok (.iload_n 0, 1) := dk_26 (dk_at dksJ25_toUnsignedLong_0 0 rfl rfl)
theorem dJ25_toUnsignedLong_1 : decode cJ25_toUnsignedLong 1 = .ok (.i2l, 1) := dk_133 (dk_at dksJ25_toUnsignedLong_0 1 rfl rfl)
theorem dJ25_toUnsignedLong_2 : decode cJ25_toUnsignedLong 2 = .ok (.ldc2_w 812, 3) := dk_20 3 44 (dk_at dksJ25_toUnsignedLong_0 2 rfl rfl)
theorem dJ25_toUnsignedLong_5 : decode cJ25_toUnsignedLong 5 = .ok (.land, 1) := dk_127 (dk_at dksJ25_toUnsignedLong_0 5 rfl rfl)
theorem dJ25_toUnsignedLong_6 : decode cJ25_toUnsignedLong 6 = .ok (.lreturn, 1) := dk_173 (dk_at dksJ25_toUnsignedLong_0 6 rfl rfl)
abbrev cJ25_pickPos : ByteArray := prog_76_method_350_code
def yJ25_pickPos : MethodName := ⟨RJ25, "pickPos", "(II)I"⟩
def dkwJ25_pickPos_0 : List UInt8 := [178, 1, 95, 153, 0, 9, 26, 27, 100, 167, 0, 4, 27, 172]
abbrev dktJ25_pickPos_0 : List UInt8 := dkwJ25_pickPos_0 ++ []
theorem dksJ25_pickPos_0 : cJ25_pickPos.data.toList.drop 0 = dktJ25_pickPos_0 := by decide +kernel
theorem dJ25_pickPos_0 : decode cJ25_pickPos 0 = .ok (.getstatic 351, 3) := dk_178 1 95 (dk_at dksJ25_pickPos_0 0 rfl rfl)
theorem dJ25_pickPos_3 : decode cJ25_pickPos 3 = .ok (.ifCond .eq 9, 3) := dk_153 0 9 (dk_at dksJ25_pickPos_0 3 rfl rfl)
theorem dJ25_pickPos_6 : decode cJ25_pickPos 6 = .ok (.iload_n 0, 1) := dk_26 (dk_at dksJ25_pickPos_0 6 rfl rfl)
theorem dJ25_pickPos_7 : decode cJ25_pickPos 7 = .ok (.iload_n 1, 1) := dk_27 (dk_at dksJ25_pickPos_0 7 rfl rfl)
theorem dJ25_pickPos_8 : decode cJ25_pickPos 8 = .ok (.isub, 1) := dk_100 (dk_at dksJ25_pickPos_0 8 rfl rfl)
theorem dJ25_pickPos_9 : decode cJ25_pickPos 9 = .ok (.goto 4, 3) := dk_167 0 4 (dk_at dksJ25_pickPos_0 9 rfl rfl)
theorem dJ25_pickPos_12 : decode cJ25_pickPos 12 = .ok (.iload_n 1, 1) := dk_27 (dk_at dksJ25_pickPos_0 12 rfl rfl)
theorem dJ25_pickPos_13 : decode cJ25_pickPos 13 = .ok (.ireturn, 1) := dk_172 (dk_at dksJ25_pickPos_0 13 rfl rfl)
abbrev cJ25_makeLong_2 : ByteArray := prog_76_method_352_code
def yJ25_makeLong_2 : MethodName := ⟨RJ25, "makeLong", "(SSSS)J"⟩
def dkwJ25_makeLong_2_2 : List UInt8 := [121, 129, 173]
abbrev dktJ25_makeLong_2_2 : List UInt8 := dkwJ25_makeLong_2_2 ++ []
def dkwJ25_makeLong_2_1 : List UInt8 := [28, 184, 3, 20, 16, 48, 16, 32, 184, 3, 16, 121, 129, 29, 184, 3, 20, 16, 48, 16, 48, 184, 3, 16]
abbrev dktJ25_makeLong_2_1 : List UInt8 := dkwJ25_makeLong_2_1 ++ dktJ25_makeLong_2_2
def dkwJ25_makeLong_2_0 : List UInt8 := [26, 184, 3, 20, 16, 48, 3, 184, 3, 16, 121, 27, 184, 3, 20, 16, 48, 16, 16, 184, 3, 16, 121, 129]
abbrev dktJ25_makeLong_2_0 : List UInt8 := dkwJ25_makeLong_2_0 ++ dktJ25_makeLong_2_1
theorem dksJ25_makeLong_2_0 : cJ25_makeLong_2.data.toList.drop 0 = dktJ25_makeLong_2_0 := by decide +kernel
theorem dksJ25_makeLong_2_1 : cJ25_makeLong_2.data.toList.drop 24 = dktJ25_makeLong_2_1 := dk_seg dksJ25_makeLong_2_0 24 rfl rfl
theorem dksJ25_makeLong_2_2 : cJ25_makeLong_2.data.toList.drop 48 = dktJ25_makeLong_2_2 := dk_seg dksJ25_makeLong_2_1 24 rfl rfl
theorem dJ25_makeLong_2_0 : decode cJ25_makeLong_2 0 = .ok (.iload_n 0, 1) := dk_26 (dk_at dksJ25_makeLong_2_0 0 rfl rfl)
theorem dJ25_makeLong_2_1 : decode cJ25_makeLong_2 1 = .ok (.invokestatic 788, 3) := dk_184 3 20 (dk_at dksJ25_makeLong_2_0 1 rfl rfl)
theorem dJ25_makeLong_2_4 : decode cJ25_makeLong_2 4 = .ok (.bipush 48, 2) := dk_16 48 (dk_at dksJ25_makeLong_2_0 4 rfl rfl)
theorem dJ25_makeLong_2_6 : decode cJ25_makeLong_2 6 = .ok (.iconst 0, 1) := dk_3 (dk_at dksJ25_makeLong_2_0 6 rfl rfl)
theorem dJ25_makeLong_2_7 : decode cJ25_makeLong_2 7 = .ok (.invokestatic 784, 3) := dk_184 3 16 (dk_at dksJ25_makeLong_2_0 7 rfl rfl)
theorem dJ25_makeLong_2_10 : decode cJ25_makeLong_2 10 = .ok (.lshl, 1) := dk_121 (dk_at dksJ25_makeLong_2_0 10 rfl rfl)
theorem dJ25_makeLong_2_11 : decode cJ25_makeLong_2 11 = .ok (.iload_n 1, 1) := dk_27 (dk_at dksJ25_makeLong_2_0 11 rfl rfl)
theorem dJ25_makeLong_2_12 : decode cJ25_makeLong_2 12 = .ok (.invokestatic 788, 3) := dk_184 3 20 (dk_at dksJ25_makeLong_2_0 12 rfl rfl)
theorem dJ25_makeLong_2_15 : decode cJ25_makeLong_2 15 = .ok (.bipush 48, 2) := dk_16 48 (dk_at dksJ25_makeLong_2_0 15 rfl rfl)
theorem dJ25_makeLong_2_17 : decode cJ25_makeLong_2 17 = .ok (.bipush 16, 2) := dk_16 16 (dk_at dksJ25_makeLong_2_0 17 rfl rfl)
theorem dJ25_makeLong_2_19 : decode cJ25_makeLong_2 19 = .ok (.invokestatic 784, 3) := dk_184 3 16 (dk_at dksJ25_makeLong_2_0 19 rfl rfl)
theorem dJ25_makeLong_2_22 : decode cJ25_makeLong_2 22 = .ok (.lshl, 1) := dk_121 (dk_at dksJ25_makeLong_2_0 22 rfl rfl)
theorem dJ25_makeLong_2_23 : decode cJ25_makeLong_2 23 = .ok (.lor, 1) := dk_129 (dk_at dksJ25_makeLong_2_0 23 rfl rfl)
theorem dJ25_makeLong_2_24 : decode cJ25_makeLong_2 24 = .ok (.iload_n 2, 1) := dk_28 (dk_at dksJ25_makeLong_2_1 0 rfl rfl)
theorem dJ25_makeLong_2_25 : decode cJ25_makeLong_2 25 = .ok (.invokestatic 788, 3) := dk_184 3 20 (dk_at dksJ25_makeLong_2_1 1 rfl rfl)
theorem dJ25_makeLong_2_28 : decode cJ25_makeLong_2 28 = .ok (.bipush 48, 2) := dk_16 48 (dk_at dksJ25_makeLong_2_1 4 rfl rfl)
theorem dJ25_makeLong_2_30 : decode cJ25_makeLong_2 30 = .ok (.bipush 32, 2) := dk_16 32 (dk_at dksJ25_makeLong_2_1 6 rfl rfl)
theorem dJ25_makeLong_2_32 : decode cJ25_makeLong_2 32 = .ok (.invokestatic 784, 3) := dk_184 3 16 (dk_at dksJ25_makeLong_2_1 8 rfl rfl)
theorem dJ25_makeLong_2_35 : decode cJ25_makeLong_2 35 = .ok (.lshl, 1) := dk_121 (dk_at dksJ25_makeLong_2_1 11 rfl rfl)
theorem dJ25_makeLong_2_36 : decode cJ25_makeLong_2 36 = .ok (.lor, 1) := dk_129 (dk_at dksJ25_makeLong_2_1 12 rfl rfl)
theorem dJ25_makeLong_2_37 : decode cJ25_makeLong_2 37 = .ok (.iload_n 3, 1) := dk_29 (dk_at dksJ25_makeLong_2_1 13 rfl rfl)
theorem dJ25_makeLong_2_38 : decode cJ25_makeLong_2 38 = .ok (.invokestatic 788, 3) := dk_184 3 20 (dk_at dksJ25_makeLong_2_1 14 rfl rfl)
theorem dJ25_makeLong_2_41 : decode cJ25_makeLong_2 41 = .ok (.bipush 48, 2) := dk_16 48 (dk_at dksJ25_makeLong_2_1 17 rfl rfl)
theorem dJ25_makeLong_2_43 : decode cJ25_makeLong_2 43 = .ok (.bipush 48, 2) := dk_16 48 (dk_at dksJ25_makeLong_2_1 19 rfl rfl)
theorem dJ25_makeLong_2_45 : decode cJ25_makeLong_2 45 = .ok (.invokestatic 784, 3) := dk_184 3 16 (dk_at dksJ25_makeLong_2_1 21 rfl rfl)
theorem dJ25_makeLong_2_48 : decode cJ25_makeLong_2 48 = .ok (.lshl, 1) := dk_121 (dk_at dksJ25_makeLong_2_2 0 rfl rfl)
theorem dJ25_makeLong_2_49 : decode cJ25_makeLong_2 49 = .ok (.lor, 1) := dk_129 (dk_at dksJ25_makeLong_2_2 1 rfl rfl)
theorem dJ25_makeLong_2_50 : decode cJ25_makeLong_2 50 = .ok (.lreturn, 1) := dk_173 (dk_at dksJ25_makeLong_2_2 2 rfl rfl)
abbrev cJ25_toUnsignedLong_2 : ByteArray := prog_76_method_369_code
def yJ25_toUnsignedLong_2 : MethodName := ⟨RJ25, "toUnsignedLong", "(S)J"⟩
def dkwJ25_toUnsignedLong_2_0 : List UInt8 := [26, 133, 20, 3, 42, 127, 173]
abbrev dktJ25_toUnsignedLong_2_0 : List UInt8 := dkwJ25_toUnsignedLong_2_0 ++ []
theorem dksJ25_toUnsignedLong_2_0 : cJ25_toUnsignedLong_2.data.toList.drop 0 = dktJ25_toUnsignedLong_2_0 := by decide +kernel
theorem dJ25_toUnsignedLong_2_0 : decode cJ25_toUnsignedLong_2 0 = .ok (.iload_n 0, 1) := dk_26 (dk_at dksJ25_toUnsignedLong_2_0 0 rfl rfl)
theorem dJ25_toUnsignedLong_2_1 : decode cJ25_toUnsignedLong_2 1 = .ok (.i2l, 1) := dk_133 (dk_at dksJ25_toUnsignedLong_2_0 1 rfl rfl)
theorem dJ25_toUnsignedLong_2_2 : decode cJ25_toUnsignedLong_2 2 = .ok (.ldc2_w 810, 3) := dk_20 3 42 (dk_at dksJ25_toUnsignedLong_2_0 2 rfl rfl)
theorem dJ25_toUnsignedLong_2_5 : decode cJ25_toUnsignedLong_2 5 = .ok (.land, 1) := dk_127 (dk_at dksJ25_toUnsignedLong_2_0 5 rfl rfl)
theorem dJ25_toUnsignedLong_2_6 : decode cJ25_toUnsignedLong_2 6 = .ok (.lreturn, 1) := dk_173 (dk_at dksJ25_toUnsignedLong_2_0 6 rfl rfl)
abbrev cJ25_makeLong_3 : ByteArray := prog_76_method_351_code
def yJ25_makeLong_3 : MethodName := ⟨RJ25, "makeLong", "(BBBBBBBB)J"⟩
def dkwJ25_makeLong_3_4 : List UInt8 := [184, 3, 13, 16, 56, 16, 56, 184, 3, 16, 121, 129, 173]
abbrev dktJ25_makeLong_3_4 : List UInt8 := dkwJ25_makeLong_3_4 ++ []
def dkwJ25_makeLong_3_3 : List UInt8 := [16, 40, 184, 3, 16, 121, 129, 21, 6, 184, 3, 13, 16, 56, 16, 48, 184, 3, 16, 121, 129, 21, 7]
abbrev dktJ25_makeLong_3_3 : List UInt8 := dkwJ25_makeLong_3_3 ++ dktJ25_makeLong_3_4
def dkwJ25_makeLong_3_2 : List UInt8 := [121, 129, 21, 4, 184, 3, 13, 16, 56, 16, 32, 184, 3, 16, 121, 129, 21, 5, 184, 3, 13, 16, 56]
abbrev dktJ25_makeLong_3_2 : List UInt8 := dkwJ25_makeLong_3_2 ++ dktJ25_makeLong_3_3
def dkwJ25_makeLong_3_1 : List UInt8 := [28, 184, 3, 13, 16, 56, 16, 16, 184, 3, 16, 121, 129, 29, 184, 3, 13, 16, 56, 16, 24, 184, 3, 16]
abbrev dktJ25_makeLong_3_1 : List UInt8 := dkwJ25_makeLong_3_1 ++ dktJ25_makeLong_3_2
def dkwJ25_makeLong_3_0 : List UInt8 := [26, 184, 3, 13, 16, 56, 3, 184, 3, 16, 121, 27, 184, 3, 13, 16, 56, 16, 8, 184, 3, 16, 121, 129]
abbrev dktJ25_makeLong_3_0 : List UInt8 := dkwJ25_makeLong_3_0 ++ dktJ25_makeLong_3_1
theorem dksJ25_makeLong_3_0 : cJ25_makeLong_3.data.toList.drop 0 = dktJ25_makeLong_3_0 := by decide +kernel
theorem dksJ25_makeLong_3_1 : cJ25_makeLong_3.data.toList.drop 24 = dktJ25_makeLong_3_1 := dk_seg dksJ25_makeLong_3_0 24 rfl rfl
theorem dksJ25_makeLong_3_2 : cJ25_makeLong_3.data.toList.drop 48 = dktJ25_makeLong_3_2 := dk_seg dksJ25_makeLong_3_1 24 rfl rfl
theorem dksJ25_makeLong_3_3 : cJ25_makeLong_3.data.toList.drop 71 = dktJ25_makeLong_3_3 := dk_seg dksJ25_makeLong_3_2 23 rfl rfl
theorem dksJ25_makeLong_3_4 : cJ25_makeLong_3.data.toList.drop 94 = dktJ25_makeLong_3_4 := dk_seg dksJ25_makeLong_3_3 23 rfl rfl
theorem dJ25_makeLong_3_0 : decode cJ25_makeLong_3 0 = .ok (.iload_n 0, 1) := dk_26 (dk_at dksJ25_makeLong_3_0 0 rfl rfl)
theorem dJ25_makeLong_3_1 : decode cJ25_makeLong_3 1 = .ok (.invokestatic 781, 3) := dk_184 3 13 (dk_at dksJ25_makeLong_3_0 1 rfl rfl)
theorem dJ25_makeLong_3_4 : decode cJ25_makeLong_3 4 = .ok (.bipush 56, 2) := dk_16 56 (dk_at dksJ25_makeLong_3_0 4 rfl rfl)
theorem dJ25_makeLong_3_6 : decode cJ25_makeLong_3 6 = .ok (.iconst 0, 1) := dk_3 (dk_at dksJ25_makeLong_3_0 6 rfl rfl)
theorem dJ25_makeLong_3_7 : decode cJ25_makeLong_3 7 = .ok (.invokestatic 784, 3) := dk_184 3 16 (dk_at dksJ25_makeLong_3_0 7 rfl rfl)
theorem dJ25_makeLong_3_10 : decode cJ25_makeLong_3 10 = .ok (.lshl, 1) := dk_121 (dk_at dksJ25_makeLong_3_0 10 rfl rfl)
theorem dJ25_makeLong_3_11 : decode cJ25_makeLong_3 11 = .ok (.iload_n 1, 1) := dk_27 (dk_at dksJ25_makeLong_3_0 11 rfl rfl)
theorem dJ25_makeLong_3_12 : decode cJ25_makeLong_3 12 = .ok (.invokestatic 781, 3) := dk_184 3 13 (dk_at dksJ25_makeLong_3_0 12 rfl rfl)
theorem dJ25_makeLong_3_15 : decode cJ25_makeLong_3 15 = .ok (.bipush 56, 2) := dk_16 56 (dk_at dksJ25_makeLong_3_0 15 rfl rfl)
theorem dJ25_makeLong_3_17 : decode cJ25_makeLong_3 17 = .ok (.bipush 8, 2) := dk_16 8 (dk_at dksJ25_makeLong_3_0 17 rfl rfl)
theorem dJ25_makeLong_3_19 : decode cJ25_makeLong_3 19 = .ok (.invokestatic 784, 3) := dk_184 3 16 (dk_at dksJ25_makeLong_3_0 19 rfl rfl)
theorem dJ25_makeLong_3_22 : decode cJ25_makeLong_3 22 = .ok (.lshl, 1) := dk_121 (dk_at dksJ25_makeLong_3_0 22 rfl rfl)
theorem dJ25_makeLong_3_23 : decode cJ25_makeLong_3 23 = .ok (.lor, 1) := dk_129 (dk_at dksJ25_makeLong_3_0 23 rfl rfl)
theorem dJ25_makeLong_3_24 : decode cJ25_makeLong_3 24 = .ok (.iload_n 2, 1) := dk_28 (dk_at dksJ25_makeLong_3_1 0 rfl rfl)
theorem dJ25_makeLong_3_25 : decode cJ25_makeLong_3 25 = .ok (.invokestatic 781, 3) := dk_184 3 13 (dk_at dksJ25_makeLong_3_1 1 rfl rfl)
theorem dJ25_makeLong_3_28 : decode cJ25_makeLong_3 28 = .ok (.bipush 56, 2) := dk_16 56 (dk_at dksJ25_makeLong_3_1 4 rfl rfl)
theorem dJ25_makeLong_3_30 : decode cJ25_makeLong_3 30 = .ok (.bipush 16, 2) := dk_16 16 (dk_at dksJ25_makeLong_3_1 6 rfl rfl)
theorem dJ25_makeLong_3_32 : decode cJ25_makeLong_3 32 = .ok (.invokestatic 784, 3) := dk_184 3 16 (dk_at dksJ25_makeLong_3_1 8 rfl rfl)
theorem dJ25_makeLong_3_35 : decode cJ25_makeLong_3 35 = .ok (.lshl, 1) := dk_121 (dk_at dksJ25_makeLong_3_1 11 rfl rfl)
theorem dJ25_makeLong_3_36 : decode cJ25_makeLong_3 36 = .ok (.lor, 1) := dk_129 (dk_at dksJ25_makeLong_3_1 12 rfl rfl)
theorem dJ25_makeLong_3_37 : decode cJ25_makeLong_3 37 = .ok (.iload_n 3, 1) := dk_29 (dk_at dksJ25_makeLong_3_1 13 rfl rfl)
theorem dJ25_makeLong_3_38 : decode cJ25_makeLong_3 38 = .ok (.invokestatic 781, 3) := dk_184 3 13 (dk_at dksJ25_makeLong_3_1 14 rfl rfl)
theorem dJ25_makeLong_3_41 : decode cJ25_makeLong_3 41 = .ok (.bipush 56, 2) := dk_16 56 (dk_at dksJ25_makeLong_3_1 17 rfl rfl)
theorem dJ25_makeLong_3_43 : decode cJ25_makeLong_3 43 = .ok (.bipush 24, 2) := dk_16 24 (dk_at dksJ25_makeLong_3_1 19 rfl rfl)
theorem dJ25_makeLong_3_45 : decode cJ25_makeLong_3 45 = .ok (.invokestatic 784, 3) := dk_184 3 16 (dk_at dksJ25_makeLong_3_1 21 rfl rfl)
theorem dJ25_makeLong_3_48 : decode cJ25_makeLong_3 48 = .ok (.lshl, 1) := dk_121 (dk_at dksJ25_makeLong_3_2 0 rfl rfl)
theorem dJ25_makeLong_3_49 : decode cJ25_makeLong_3 49 = .ok (.lor, 1) := dk_129 (dk_at dksJ25_makeLong_3_2 1 rfl rfl)
theorem dJ25_makeLong_3_50 : decode cJ25_makeLong_3 50 = .ok (.iload 4, 2) := dk_21 4 (dk_at dksJ25_makeLong_3_2 2 rfl rfl)
theorem dJ25_makeLong_3_52 : decode cJ25_makeLong_3 52 = .ok (.invokestatic 781, 3) := dk_184 3 13 (dk_at dksJ25_makeLong_3_2 4 rfl rfl)
theorem dJ25_makeLong_3_55 : decode cJ25_makeLong_3 55 = .ok (.bipush 56, 2) := dk_16 56 (dk_at dksJ25_makeLong_3_2 7 rfl rfl)
theorem dJ25_makeLong_3_57 : decode cJ25_makeLong_3 57 = .ok (.bipush 32, 2) := dk_16 32 (dk_at dksJ25_makeLong_3_2 9 rfl rfl)
theorem dJ25_makeLong_3_59 : decode cJ25_makeLong_3 59 = .ok (.invokestatic 784, 3) := dk_184 3 16 (dk_at dksJ25_makeLong_3_2 11 rfl rfl)
theorem dJ25_makeLong_3_62 : decode cJ25_makeLong_3 62 = .ok (.lshl, 1) := dk_121 (dk_at dksJ25_makeLong_3_2 14 rfl rfl)
theorem dJ25_makeLong_3_63 : decode cJ25_makeLong_3 63 = .ok (.lor, 1) := dk_129 (dk_at dksJ25_makeLong_3_2 15 rfl rfl)
theorem dJ25_makeLong_3_64 : decode cJ25_makeLong_3 64 = .ok (.iload 5, 2) := dk_21 5 (dk_at dksJ25_makeLong_3_2 16 rfl rfl)
theorem dJ25_makeLong_3_66 : decode cJ25_makeLong_3 66 = .ok (.invokestatic 781, 3) := dk_184 3 13 (dk_at dksJ25_makeLong_3_2 18 rfl rfl)
theorem dJ25_makeLong_3_69 : decode cJ25_makeLong_3 69 = .ok (.bipush 56, 2) := dk_16 56 (dk_at dksJ25_makeLong_3_2 21 rfl rfl)
theorem dJ25_makeLong_3_71 : decode cJ25_makeLong_3 71 = .ok (.bipush 40, 2) := dk_16 40 (dk_at dksJ25_makeLong_3_3 0 rfl rfl)
theorem dJ25_makeLong_3_73 : decode cJ25_makeLong_3 73 = .ok (.invokestatic 784, 3) := dk_184 3 16 (dk_at dksJ25_makeLong_3_3 2 rfl rfl)
theorem dJ25_makeLong_3_76 : decode cJ25_makeLong_3 76 = .ok (.lshl, 1) := dk_121 (dk_at dksJ25_makeLong_3_3 5 rfl rfl)
theorem dJ25_makeLong_3_77 : decode cJ25_makeLong_3 77 = .ok (.lor, 1) := dk_129 (dk_at dksJ25_makeLong_3_3 6 rfl rfl)
theorem dJ25_makeLong_3_78 : decode cJ25_makeLong_3 78 = .ok (.iload 6, 2) := dk_21 6 (dk_at dksJ25_makeLong_3_3 7 rfl rfl)
theorem dJ25_makeLong_3_80 : decode cJ25_makeLong_3 80 = .ok (.invokestatic 781, 3) := dk_184 3 13 (dk_at dksJ25_makeLong_3_3 9 rfl rfl)
theorem dJ25_makeLong_3_83 : decode cJ25_makeLong_3 83 = .ok (.bipush 56, 2) := dk_16 56 (dk_at dksJ25_makeLong_3_3 12 rfl rfl)
theorem dJ25_makeLong_3_85 : decode cJ25_makeLong_3 85 = .ok (.bipush 48, 2) := dk_16 48 (dk_at dksJ25_makeLong_3_3 14 rfl rfl)
theorem dJ25_makeLong_3_87 : decode cJ25_makeLong_3 87 = .ok (.invokestatic 784, 3) := dk_184 3 16 (dk_at dksJ25_makeLong_3_3 16 rfl rfl)
theorem dJ25_makeLong_3_90 : decode cJ25_makeLong_3 90 = .ok (.lshl, 1) := dk_121 (dk_at dksJ25_makeLong_3_3 19 rfl rfl)
theorem dJ25_makeLong_3_91 : decode cJ25_makeLong_3 91 = .ok (.lor, 1) := dk_129 (dk_at dksJ25_makeLong_3_3 20 rfl rfl)
theorem dJ25_makeLong_3_92 : decode cJ25_makeLong_3 92 = .ok (.iload 7, 2) := dk_21 7 (dk_at dksJ25_makeLong_3_3 21 rfl rfl)
theorem dJ25_makeLong_3_94 : decode cJ25_makeLong_3 94 = .ok (.invokestatic 781, 3) := dk_184 3 13 (dk_at dksJ25_makeLong_3_4 0 rfl rfl)
theorem dJ25_makeLong_3_97 : decode cJ25_makeLong_3 97 = .ok (.bipush 56, 2) := dk_16 56 (dk_at dksJ25_makeLong_3_4 3 rfl rfl)
theorem dJ25_makeLong_3_99 : decode cJ25_makeLong_3 99 = .ok (.bipush 56, 2) := dk_16 56 (dk_at dksJ25_makeLong_3_4 5 rfl rfl)
theorem dJ25_makeLong_3_101 : decode cJ25_makeLong_3 101 = .ok (.invokestatic 784, 3) := dk_184 3 16 (dk_at dksJ25_makeLong_3_4 7 rfl rfl)
theorem dJ25_makeLong_3_104 : decode cJ25_makeLong_3 104 = .ok (.lshl, 1) := dk_121 (dk_at dksJ25_makeLong_3_4 10 rfl rfl)
theorem dJ25_makeLong_3_105 : decode cJ25_makeLong_3 105 = .ok (.lor, 1) := dk_129 (dk_at dksJ25_makeLong_3_4 11 rfl rfl)
theorem dJ25_makeLong_3_106 : decode cJ25_makeLong_3 106 = .ok (.lreturn, 1) := dk_173 (dk_at dksJ25_makeLong_3_4 12 rfl rfl)
abbrev cJ25_toUnsignedLong_3 : ByteArray := prog_76_method_368_code
def yJ25_toUnsignedLong_3 : MethodName := ⟨RJ25, "toUnsignedLong", "(B)J"⟩
def dkwJ25_toUnsignedLong_3_0 : List UInt8 := [26, 133, 20, 3, 40, 127, 173]
abbrev dktJ25_toUnsignedLong_3_0 : List UInt8 := dkwJ25_toUnsignedLong_3_0 ++ []
theorem dksJ25_toUnsignedLong_3_0 : cJ25_toUnsignedLong_3.data.toList.drop 0 = dktJ25_toUnsignedLong_3_0 := by decide +kernel
theorem dJ25_toUnsignedLong_3_0 : decode cJ25_toUnsignedLong_3 0 = .ok (.iload_n 0, 1) := dk_26 (dk_at dksJ25_toUnsignedLong_3_0 0 rfl rfl)
theorem dJ25_toUnsignedLong_3_1 : decode cJ25_toUnsignedLong_3 1 = .ok (.i2l, 1) := dk_133 (dk_at dksJ25_toUnsignedLong_3_0 1 rfl rfl)
theorem dJ25_toUnsignedLong_3_2 : decode cJ25_toUnsignedLong_3 2 = .ok (.ldc2_w 808, 3) := dk_20 3 40 (dk_at dksJ25_toUnsignedLong_3_0 2 rfl rfl)
theorem dJ25_toUnsignedLong_3_5 : decode cJ25_toUnsignedLong_3 5 = .ok (.land, 1) := dk_127 (dk_at dksJ25_toUnsignedLong_3_0 5 rfl rfl)
theorem dJ25_toUnsignedLong_3_6 : decode cJ25_toUnsignedLong_3 6 = .ok (.lreturn, 1) := dk_173 (dk_at dksJ25_toUnsignedLong_3_0 6 rfl rfl)
abbrev cJ25_getIntUnaligned : ByteArray := prog_76_method_336_code
def yJ25_getIntUnaligned : MethodName := ⟨RJ25, "getIntUnaligned", "(Ljava/lang/Object;J)I"⟩
def dkwJ25_getIntUnaligned_3 : List UInt8 := [43, 32, 20, 1, 93, 97, 182, 0, 39, 184, 2, 211, 172]
abbrev dktJ25_getIntUnaligned_3 : List UInt8 := dkwJ25_getIntUnaligned_3 ++ []
def dkwJ25_getIntUnaligned_2 : List UInt8 := [43, 32, 182, 0, 39, 42, 43, 32, 10, 97, 182, 0, 39, 42, 43, 32, 20, 0, 203, 97, 182, 0, 39, 42]
abbrev dktJ25_getIntUnaligned_2 : List UInt8 := dkwJ25_getIntUnaligned_2 ++ dktJ25_getIntUnaligned_3
def dkwJ25_getIntUnaligned_1 : List UInt8 := [154, 0, 23, 42, 43, 32, 182, 0, 47, 42, 43, 32, 20, 0, 203, 97, 182, 0, 47, 184, 2, 207, 172, 42]
abbrev dktJ25_getIntUnaligned_1 : List UInt8 := dkwJ25_getIntUnaligned_1 ++ dktJ25_getIntUnaligned_2
def dkwJ25_getIntUnaligned_0 : List UInt8 := [32, 20, 1, 93, 127, 9, 148, 154, 0, 10, 42, 43, 32, 182, 0, 17, 172, 32, 10, 127, 9, 148]
abbrev dktJ25_getIntUnaligned_0 : List UInt8 := dkwJ25_getIntUnaligned_0 ++ dktJ25_getIntUnaligned_1
theorem dksJ25_getIntUnaligned_0 : cJ25_getIntUnaligned.data.toList.drop 0 = dktJ25_getIntUnaligned_0 := by decide +kernel
theorem dksJ25_getIntUnaligned_1 : cJ25_getIntUnaligned.data.toList.drop 22 = dktJ25_getIntUnaligned_1 := dk_seg dksJ25_getIntUnaligned_0 22 rfl rfl
theorem dksJ25_getIntUnaligned_2 : cJ25_getIntUnaligned.data.toList.drop 46 = dktJ25_getIntUnaligned_2 := dk_seg dksJ25_getIntUnaligned_1 24 rfl rfl
theorem dksJ25_getIntUnaligned_3 : cJ25_getIntUnaligned.data.toList.drop 70 = dktJ25_getIntUnaligned_3 := dk_seg dksJ25_getIntUnaligned_2 24 rfl rfl
theorem dJ25_getIntUnaligned_0 : decode cJ25_getIntUnaligned 0 = .ok (.lload_n 2, 1) := dk_32 (dk_at dksJ25_getIntUnaligned_0 0 rfl rfl)
theorem dJ25_getIntUnaligned_1 : decode cJ25_getIntUnaligned 1 = .ok (.ldc2_w 349, 3) := dk_20 1 93 (dk_at dksJ25_getIntUnaligned_0 1 rfl rfl)
theorem dJ25_getIntUnaligned_4 : decode cJ25_getIntUnaligned 4 = .ok (.land, 1) := dk_127 (dk_at dksJ25_getIntUnaligned_0 4 rfl rfl)
theorem dJ25_getIntUnaligned_5 : decode cJ25_getIntUnaligned 5 = .ok (.lconst 0, 1) := dk_9 (dk_at dksJ25_getIntUnaligned_0 5 rfl rfl)
theorem dJ25_getIntUnaligned_6 : decode cJ25_getIntUnaligned 6 = .ok (.lcmp, 1) := dk_148 (dk_at dksJ25_getIntUnaligned_0 6 rfl rfl)
theorem dJ25_getIntUnaligned_7 : decode cJ25_getIntUnaligned 7 = .ok (.ifCond .ne 10, 3) := dk_154 0 10 (dk_at dksJ25_getIntUnaligned_0 7 rfl rfl)
theorem dJ25_getIntUnaligned_10 : decode cJ25_getIntUnaligned 10 = .ok (.aload_n 0, 1) := dk_42 (dk_at dksJ25_getIntUnaligned_0 10 rfl rfl)
theorem dJ25_getIntUnaligned_11 : decode cJ25_getIntUnaligned 11 = .ok (.aload_n 1, 1) := dk_43 (dk_at dksJ25_getIntUnaligned_0 11 rfl rfl)
theorem dJ25_getIntUnaligned_12 : decode cJ25_getIntUnaligned 12 = .ok (.lload_n 2, 1) := dk_32 (dk_at dksJ25_getIntUnaligned_0 12 rfl rfl)
theorem dJ25_getIntUnaligned_13 : decode cJ25_getIntUnaligned 13 = .ok (.invokevirtual 17, 3) := dk_182 0 17 (dk_at dksJ25_getIntUnaligned_0 13 rfl rfl)
theorem dJ25_getIntUnaligned_16 : decode cJ25_getIntUnaligned 16 = .ok (.ireturn, 1) := dk_172 (dk_at dksJ25_getIntUnaligned_0 16 rfl rfl)
theorem dJ25_getIntUnaligned_17 : decode cJ25_getIntUnaligned 17 = .ok (.lload_n 2, 1) := dk_32 (dk_at dksJ25_getIntUnaligned_0 17 rfl rfl)
theorem dJ25_getIntUnaligned_18 : decode cJ25_getIntUnaligned 18 = .ok (.lconst 1, 1) := dk_10 (dk_at dksJ25_getIntUnaligned_0 18 rfl rfl)
theorem dJ25_getIntUnaligned_19 : decode cJ25_getIntUnaligned 19 = .ok (.land, 1) := dk_127 (dk_at dksJ25_getIntUnaligned_0 19 rfl rfl)
theorem dJ25_getIntUnaligned_20 : decode cJ25_getIntUnaligned 20 = .ok (.lconst 0, 1) := dk_9 (dk_at dksJ25_getIntUnaligned_0 20 rfl rfl)
theorem dJ25_getIntUnaligned_21 : decode cJ25_getIntUnaligned 21 = .ok (.lcmp, 1) := dk_148 (dk_at dksJ25_getIntUnaligned_0 21 rfl rfl)
theorem dJ25_getIntUnaligned_22 : decode cJ25_getIntUnaligned 22 = .ok (.ifCond .ne 23, 3) := dk_154 0 23 (dk_at dksJ25_getIntUnaligned_1 0 rfl rfl)
theorem dJ25_getIntUnaligned_25 : decode cJ25_getIntUnaligned 25 = .ok (.aload_n 0, 1) := dk_42 (dk_at dksJ25_getIntUnaligned_1 3 rfl rfl)
theorem dJ25_getIntUnaligned_26 : decode cJ25_getIntUnaligned 26 = .ok (.aload_n 1, 1) := dk_43 (dk_at dksJ25_getIntUnaligned_1 4 rfl rfl)
theorem dJ25_getIntUnaligned_27 : decode cJ25_getIntUnaligned 27 = .ok (.lload_n 2, 1) := dk_32 (dk_at dksJ25_getIntUnaligned_1 5 rfl rfl)
theorem dJ25_getIntUnaligned_28 : decode cJ25_getIntUnaligned 28 = .ok (.invokevirtual 47, 3) := dk_182 0 47 (dk_at dksJ25_getIntUnaligned_1 6 rfl rfl)
theorem dJ25_getIntUnaligned_31 : decode cJ25_getIntUnaligned 31 = .ok (.aload_n 0, 1) := dk_42 (dk_at dksJ25_getIntUnaligned_1 9 rfl rfl)
theorem dJ25_getIntUnaligned_32 : decode cJ25_getIntUnaligned 32 = .ok (.aload_n 1, 1) := dk_43 (dk_at dksJ25_getIntUnaligned_1 10 rfl rfl)
theorem dJ25_getIntUnaligned_33 : decode cJ25_getIntUnaligned 33 = .ok (.lload_n 2, 1) := dk_32 (dk_at dksJ25_getIntUnaligned_1 11 rfl rfl)
theorem dJ25_getIntUnaligned_34 : decode cJ25_getIntUnaligned 34 = .ok (.ldc2_w 203, 3) := dk_20 0 203 (dk_at dksJ25_getIntUnaligned_1 12 rfl rfl)
theorem dJ25_getIntUnaligned_37 : decode cJ25_getIntUnaligned 37 = .ok (.ladd, 1) := dk_97 (dk_at dksJ25_getIntUnaligned_1 15 rfl rfl)
theorem dJ25_getIntUnaligned_38 : decode cJ25_getIntUnaligned 38 = .ok (.invokevirtual 47, 3) := dk_182 0 47 (dk_at dksJ25_getIntUnaligned_1 16 rfl rfl)
theorem dJ25_getIntUnaligned_41 : decode cJ25_getIntUnaligned 41 = .ok (.invokestatic 719, 3) := dk_184 2 207 (dk_at dksJ25_getIntUnaligned_1 19 rfl rfl)
theorem dJ25_getIntUnaligned_44 : decode cJ25_getIntUnaligned 44 = .ok (.ireturn, 1) := dk_172 (dk_at dksJ25_getIntUnaligned_1 22 rfl rfl)
theorem dJ25_getIntUnaligned_45 : decode cJ25_getIntUnaligned 45 = .ok (.aload_n 0, 1) := dk_42 (dk_at dksJ25_getIntUnaligned_1 23 rfl rfl)
theorem dJ25_getIntUnaligned_46 : decode cJ25_getIntUnaligned 46 = .ok (.aload_n 1, 1) := dk_43 (dk_at dksJ25_getIntUnaligned_2 0 rfl rfl)
theorem dJ25_getIntUnaligned_47 : decode cJ25_getIntUnaligned 47 = .ok (.lload_n 2, 1) := dk_32 (dk_at dksJ25_getIntUnaligned_2 1 rfl rfl)
theorem dJ25_getIntUnaligned_48 : decode cJ25_getIntUnaligned 48 = .ok (.invokevirtual 39, 3) := dk_182 0 39 (dk_at dksJ25_getIntUnaligned_2 2 rfl rfl)
theorem dJ25_getIntUnaligned_51 : decode cJ25_getIntUnaligned 51 = .ok (.aload_n 0, 1) := dk_42 (dk_at dksJ25_getIntUnaligned_2 5 rfl rfl)
theorem dJ25_getIntUnaligned_52 : decode cJ25_getIntUnaligned 52 = .ok (.aload_n 1, 1) := dk_43 (dk_at dksJ25_getIntUnaligned_2 6 rfl rfl)
theorem dJ25_getIntUnaligned_53 : decode cJ25_getIntUnaligned 53 = .ok (.lload_n 2, 1) := dk_32 (dk_at dksJ25_getIntUnaligned_2 7 rfl rfl)
theorem dJ25_getIntUnaligned_54 : decode cJ25_getIntUnaligned 54 = .ok (.lconst 1, 1) := dk_10 (dk_at dksJ25_getIntUnaligned_2 8 rfl rfl)
theorem dJ25_getIntUnaligned_55 : decode cJ25_getIntUnaligned 55 = .ok (.ladd, 1) := dk_97 (dk_at dksJ25_getIntUnaligned_2 9 rfl rfl)
theorem dJ25_getIntUnaligned_56 : decode cJ25_getIntUnaligned 56 = .ok (.invokevirtual 39, 3) := dk_182 0 39 (dk_at dksJ25_getIntUnaligned_2 10 rfl rfl)
theorem dJ25_getIntUnaligned_59 : decode cJ25_getIntUnaligned 59 = .ok (.aload_n 0, 1) := dk_42 (dk_at dksJ25_getIntUnaligned_2 13 rfl rfl)
theorem dJ25_getIntUnaligned_60 : decode cJ25_getIntUnaligned 60 = .ok (.aload_n 1, 1) := dk_43 (dk_at dksJ25_getIntUnaligned_2 14 rfl rfl)
theorem dJ25_getIntUnaligned_61 : decode cJ25_getIntUnaligned 61 = .ok (.lload_n 2, 1) := dk_32 (dk_at dksJ25_getIntUnaligned_2 15 rfl rfl)
theorem dJ25_getIntUnaligned_62 : decode cJ25_getIntUnaligned 62 = .ok (.ldc2_w 203, 3) := dk_20 0 203 (dk_at dksJ25_getIntUnaligned_2 16 rfl rfl)
theorem dJ25_getIntUnaligned_65 : decode cJ25_getIntUnaligned 65 = .ok (.ladd, 1) := dk_97 (dk_at dksJ25_getIntUnaligned_2 19 rfl rfl)
theorem dJ25_getIntUnaligned_66 : decode cJ25_getIntUnaligned 66 = .ok (.invokevirtual 39, 3) := dk_182 0 39 (dk_at dksJ25_getIntUnaligned_2 20 rfl rfl)
theorem dJ25_getIntUnaligned_69 : decode cJ25_getIntUnaligned 69 = .ok (.aload_n 0, 1) := dk_42 (dk_at dksJ25_getIntUnaligned_2 23 rfl rfl)
theorem dJ25_getIntUnaligned_70 : decode cJ25_getIntUnaligned 70 = .ok (.aload_n 1, 1) := dk_43 (dk_at dksJ25_getIntUnaligned_3 0 rfl rfl)
theorem dJ25_getIntUnaligned_71 : decode cJ25_getIntUnaligned 71 = .ok (.lload_n 2, 1) := dk_32 (dk_at dksJ25_getIntUnaligned_3 1 rfl rfl)
theorem dJ25_getIntUnaligned_72 : decode cJ25_getIntUnaligned 72 = .ok (.ldc2_w 349, 3) := dk_20 1 93 (dk_at dksJ25_getIntUnaligned_3 2 rfl rfl)
theorem dJ25_getIntUnaligned_75 : decode cJ25_getIntUnaligned 75 = .ok (.ladd, 1) := dk_97 (dk_at dksJ25_getIntUnaligned_3 5 rfl rfl)
theorem dJ25_getIntUnaligned_76 : decode cJ25_getIntUnaligned 76 = .ok (.invokevirtual 39, 3) := dk_182 0 39 (dk_at dksJ25_getIntUnaligned_3 6 rfl rfl)
theorem dJ25_getIntUnaligned_79 : decode cJ25_getIntUnaligned 79 = .ok (.invokestatic 723, 3) := dk_184 2 211 (dk_at dksJ25_getIntUnaligned_3 9 rfl rfl)
theorem dJ25_getIntUnaligned_82 : decode cJ25_getIntUnaligned 82 = .ok (.ireturn, 1) := dk_172 (dk_at dksJ25_getIntUnaligned_3 12 rfl rfl)
abbrev cJ25_makeInt : ByteArray := prog_76_method_354_code
def yJ25_makeInt : MethodName := ⟨RJ25, "makeInt", "(SS)I"⟩
def dkwJ25_makeInt_1 : List UInt8 := [172]
abbrev dktJ25_makeInt_1 : List UInt8 := dkwJ25_makeInt_1 ++ []
def dkwJ25_makeInt_0 : List UInt8 := [26, 184, 3, 24, 16, 16, 3, 184, 3, 16, 120, 27, 184, 3, 24, 16, 16, 16, 16, 184, 3, 16, 120, 128]
abbrev dktJ25_makeInt_0 : List UInt8 := dkwJ25_makeInt_0 ++ dktJ25_makeInt_1
theorem dksJ25_makeInt_0 : cJ25_makeInt.data.toList.drop 0 = dktJ25_makeInt_0 := by decide +kernel
theorem dksJ25_makeInt_1 : cJ25_makeInt.data.toList.drop 24 = dktJ25_makeInt_1 := dk_seg dksJ25_makeInt_0 24 rfl rfl
theorem dJ25_makeInt_0 : decode cJ25_makeInt 0 = .ok (.iload_n 0, 1) := dk_26 (dk_at dksJ25_makeInt_0 0 rfl rfl)
theorem dJ25_makeInt_1 : decode cJ25_makeInt 1 = .ok (.invokestatic 792, 3) := dk_184 3 24 (dk_at dksJ25_makeInt_0 1 rfl rfl)
theorem dJ25_makeInt_4 : decode cJ25_makeInt 4 = .ok (.bipush 16, 2) := dk_16 16 (dk_at dksJ25_makeInt_0 4 rfl rfl)
theorem dJ25_makeInt_6 : decode cJ25_makeInt 6 = .ok (.iconst 0, 1) := dk_3 (dk_at dksJ25_makeInt_0 6 rfl rfl)
theorem dJ25_makeInt_7 : decode cJ25_makeInt 7 = .ok (.invokestatic 784, 3) := dk_184 3 16 (dk_at dksJ25_makeInt_0 7 rfl rfl)
theorem dJ25_makeInt_10 : decode cJ25_makeInt 10 = .ok (.ishl, 1) := dk_120 (dk_at dksJ25_makeInt_0 10 rfl rfl)
theorem dJ25_makeInt_11 : decode cJ25_makeInt 11 = .ok (.iload_n 1, 1) := dk_27 (dk_at dksJ25_makeInt_0 11 rfl rfl)
theorem dJ25_makeInt_12 : decode cJ25_makeInt 12 = .ok (.invokestatic 792, 3) := dk_184 3 24 (dk_at dksJ25_makeInt_0 12 rfl rfl)
theorem dJ25_makeInt_15 : decode cJ25_makeInt 15 = .ok (.bipush 16, 2) := dk_16 16 (dk_at dksJ25_makeInt_0 15 rfl rfl)
theorem dJ25_makeInt_17 : decode cJ25_makeInt 17 = .ok (.bipush 16, 2) := dk_16 16 (dk_at dksJ25_makeInt_0 17 rfl rfl)
theorem dJ25_makeInt_19 : decode cJ25_makeInt 19 = .ok (.invokestatic 784, 3) := dk_184 3 16 (dk_at dksJ25_makeInt_0 19 rfl rfl)
theorem dJ25_makeInt_22 : decode cJ25_makeInt 22 = .ok (.ishl, 1) := dk_120 (dk_at dksJ25_makeInt_0 22 rfl rfl)
theorem dJ25_makeInt_23 : decode cJ25_makeInt 23 = .ok (.ior, 1) := dk_128 (dk_at dksJ25_makeInt_0 23 rfl rfl)
theorem dJ25_makeInt_24 : decode cJ25_makeInt 24 = .ok (.ireturn, 1) := dk_172 (dk_at dksJ25_makeInt_1 0 rfl rfl)
abbrev cJ25_toUnsignedInt : ByteArray := prog_76_method_367_code
def yJ25_toUnsignedInt : MethodName := ⟨RJ25, "toUnsignedInt", "(S)I"⟩
def dkwJ25_toUnsignedInt_0 : List UInt8 := [26, 19, 1, 118, 126, 172]
abbrev dktJ25_toUnsignedInt_0 : List UInt8 := dkwJ25_toUnsignedInt_0 ++ []
theorem dksJ25_toUnsignedInt_0 : cJ25_toUnsignedInt.data.toList.drop 0 = dktJ25_toUnsignedInt_0 := by decide +kernel
theorem dJ25_toUnsignedInt_0 : decode cJ25_toUnsignedInt 0 = .ok (.iload_n 0, 1) := dk_26 (dk_at dksJ25_toUnsignedInt_0 0 rfl rfl)
theorem dJ25_toUnsignedInt_1 : decode cJ25_toUnsignedInt 1 = .ok (.ldc_w 374, 3) := dk_19 1 118 (dk_at dksJ25_toUnsignedInt_0 1 rfl rfl)
theorem dJ25_toUnsignedInt_4 : decode cJ25_toUnsignedInt 4 = .ok (.iand, 1) := dk_126 (dk_at dksJ25_toUnsignedInt_0 4 rfl rfl)
theorem dJ25_toUnsignedInt_5 : decode cJ25_toUnsignedInt 5 = .ok (.ireturn, 1) := dk_172 (dk_at dksJ25_toUnsignedInt_0 5 rfl rfl)
abbrev cJ25_makeInt_2 : ByteArray := prog_76_method_355_code
def yJ25_makeInt_2 : MethodName := ⟨RJ25, "makeInt", "(BBBB)I"⟩
def dkwJ25_makeInt_2_2 : List UInt8 := [120, 128, 172]
abbrev dktJ25_makeInt_2_2 : List UInt8 := dkwJ25_makeInt_2_2 ++ []
def dkwJ25_makeInt_2_1 : List UInt8 := [28, 184, 3, 28, 16, 24, 16, 16, 184, 3, 16, 120, 128, 29, 184, 3, 28, 16, 24, 16, 24, 184, 3, 16]
abbrev dktJ25_makeInt_2_1 : List UInt8 := dkwJ25_makeInt_2_1 ++ dktJ25_makeInt_2_2
def dkwJ25_makeInt_2_0 : List UInt8 := [26, 184, 3, 28, 16, 24, 3, 184, 3, 16, 120, 27, 184, 3, 28, 16, 24, 16, 8, 184, 3, 16, 120, 128]
abbrev dktJ25_makeInt_2_0 : List UInt8 := dkwJ25_makeInt_2_0 ++ dktJ25_makeInt_2_1
theorem dksJ25_makeInt_2_0 : cJ25_makeInt_2.data.toList.drop 0 = dktJ25_makeInt_2_0 := by decide +kernel
theorem dksJ25_makeInt_2_1 : cJ25_makeInt_2.data.toList.drop 24 = dktJ25_makeInt_2_1 := dk_seg dksJ25_makeInt_2_0 24 rfl rfl
theorem dksJ25_makeInt_2_2 : cJ25_makeInt_2.data.toList.drop 48 = dktJ25_makeInt_2_2 := dk_seg dksJ25_makeInt_2_1 24 rfl rfl
theorem dJ25_makeInt_2_0 : decode cJ25_makeInt_2 0 = .ok (.iload_n 0, 1) := dk_26 (dk_at dksJ25_makeInt_2_0 0 rfl rfl)
theorem dJ25_makeInt_2_1 : decode cJ25_makeInt_2 1 = .ok (.invokestatic 796, 3) := dk_184 3 28 (dk_at dksJ25_makeInt_2_0 1 rfl rfl)
theorem dJ25_makeInt_2_4 : decode cJ25_makeInt_2 4 = .ok (.bipush 24, 2) := dk_16 24 (dk_at dksJ25_makeInt_2_0 4 rfl rfl)
theorem dJ25_makeInt_2_6 : decode cJ25_makeInt_2 6 = .ok (.iconst 0, 1) := dk_3 (dk_at dksJ25_makeInt_2_0 6 rfl rfl)
theorem dJ25_makeInt_2_7 : decode cJ25_makeInt_2 7 = .ok (.invokestatic 784, 3) := dk_184 3 16 (dk_at dksJ25_makeInt_2_0 7 rfl rfl)
theorem dJ25_makeInt_2_10 : decode cJ25_makeInt_2 10 = .ok (.ishl, 1) := dk_120 (dk_at dksJ25_makeInt_2_0 10 rfl rfl)
theorem dJ25_makeInt_2_11 : decode cJ25_makeInt_2 11 = .ok (.iload_n 1, 1) := dk_27 (dk_at dksJ25_makeInt_2_0 11 rfl rfl)
theorem dJ25_makeInt_2_12 : decode cJ25_makeInt_2 12 = .ok (.invokestatic 796, 3) := dk_184 3 28 (dk_at dksJ25_makeInt_2_0 12 rfl rfl)
theorem dJ25_makeInt_2_15 : decode cJ25_makeInt_2 15 = .ok (.bipush 24, 2) := dk_16 24 (dk_at dksJ25_makeInt_2_0 15 rfl rfl)
theorem dJ25_makeInt_2_17 : decode cJ25_makeInt_2 17 = .ok (.bipush 8, 2) := dk_16 8 (dk_at dksJ25_makeInt_2_0 17 rfl rfl)
theorem dJ25_makeInt_2_19 : decode cJ25_makeInt_2 19 = .ok (.invokestatic 784, 3) := dk_184 3 16 (dk_at dksJ25_makeInt_2_0 19 rfl rfl)
theorem dJ25_makeInt_2_22 : decode cJ25_makeInt_2 22 = .ok (.ishl, 1) := dk_120 (dk_at dksJ25_makeInt_2_0 22 rfl rfl)
theorem dJ25_makeInt_2_23 : decode cJ25_makeInt_2 23 = .ok (.ior, 1) := dk_128 (dk_at dksJ25_makeInt_2_0 23 rfl rfl)
theorem dJ25_makeInt_2_24 : decode cJ25_makeInt_2 24 = .ok (.iload_n 2, 1) := dk_28 (dk_at dksJ25_makeInt_2_1 0 rfl rfl)
theorem dJ25_makeInt_2_25 : decode cJ25_makeInt_2 25 = .ok (.invokestatic 796, 3) := dk_184 3 28 (dk_at dksJ25_makeInt_2_1 1 rfl rfl)
theorem dJ25_makeInt_2_28 : decode cJ25_makeInt_2 28 = .ok (.bipush 24, 2) := dk_16 24 (dk_at dksJ25_makeInt_2_1 4 rfl rfl)
theorem dJ25_makeInt_2_30 : decode cJ25_makeInt_2 30 = .ok (.bipush 16, 2) := dk_16 16 (dk_at dksJ25_makeInt_2_1 6 rfl rfl)
theorem dJ25_makeInt_2_32 : decode cJ25_makeInt_2 32 = .ok (.invokestatic 784, 3) := dk_184 3 16 (dk_at dksJ25_makeInt_2_1 8 rfl rfl)
theorem dJ25_makeInt_2_35 : decode cJ25_makeInt_2 35 = .ok (.ishl, 1) := dk_120 (dk_at dksJ25_makeInt_2_1 11 rfl rfl)
theorem dJ25_makeInt_2_36 : decode cJ25_makeInt_2 36 = .ok (.ior, 1) := dk_128 (dk_at dksJ25_makeInt_2_1 12 rfl rfl)
theorem dJ25_makeInt_2_37 : decode cJ25_makeInt_2 37 = .ok (.iload_n 3, 1) := dk_29 (dk_at dksJ25_makeInt_2_1 13 rfl rfl)
theorem dJ25_makeInt_2_38 : decode cJ25_makeInt_2 38 = .ok (.invokestatic 796, 3) := dk_184 3 28 (dk_at dksJ25_makeInt_2_1 14 rfl rfl)
theorem dJ25_makeInt_2_41 : decode cJ25_makeInt_2 41 = .ok (.bipush 24, 2) := dk_16 24 (dk_at dksJ25_makeInt_2_1 17 rfl rfl)
theorem dJ25_makeInt_2_43 : decode cJ25_makeInt_2 43 = .ok (.bipush 24, 2) := dk_16 24 (dk_at dksJ25_makeInt_2_1 19 rfl rfl)
theorem dJ25_makeInt_2_45 : decode cJ25_makeInt_2 45 = .ok (.invokestatic 784, 3) := dk_184 3 16 (dk_at dksJ25_makeInt_2_1 21 rfl rfl)
theorem dJ25_makeInt_2_48 : decode cJ25_makeInt_2 48 = .ok (.ishl, 1) := dk_120 (dk_at dksJ25_makeInt_2_2 0 rfl rfl)
theorem dJ25_makeInt_2_49 : decode cJ25_makeInt_2 49 = .ok (.ior, 1) := dk_128 (dk_at dksJ25_makeInt_2_2 1 rfl rfl)
theorem dJ25_makeInt_2_50 : decode cJ25_makeInt_2 50 = .ok (.ireturn, 1) := dk_172 (dk_at dksJ25_makeInt_2_2 2 rfl rfl)
abbrev cJ25_toUnsignedInt_2 : ByteArray := prog_76_method_366_code
def yJ25_toUnsignedInt_2 : MethodName := ⟨RJ25, "toUnsignedInt", "(B)I"⟩
def dkwJ25_toUnsignedInt_2_0 : List UInt8 := [26, 17, 0, 255, 126, 172]
abbrev dktJ25_toUnsignedInt_2_0 : List UInt8 := dkwJ25_toUnsignedInt_2_0 ++ []
theorem dksJ25_toUnsignedInt_2_0 : cJ25_toUnsignedInt_2.data.toList.drop 0 = dktJ25_toUnsignedInt_2_0 := by decide +kernel
theorem dJ25_toUnsignedInt_2_0 : decode cJ25_toUnsignedInt_2 0 = .ok (.iload_n 0, 1) := dk_26 (dk_at dksJ25_toUnsignedInt_2_0 0 rfl rfl)
theorem dJ25_toUnsignedInt_2_1 : decode cJ25_toUnsignedInt_2 1 = .ok (.sipush 255, 3) := dk_17 0 255 (dk_at dksJ25_toUnsignedInt_2_0 1 rfl rfl)
theorem dJ25_toUnsignedInt_2_4 : decode cJ25_toUnsignedInt_2 4 = .ok (.iand, 1) := dk_126 (dk_at dksJ25_toUnsignedInt_2_0 4 rfl rfl)
theorem dJ25_toUnsignedInt_2_5 : decode cJ25_toUnsignedInt_2 5 = .ok (.ireturn, 1) := dk_172 (dk_at dksJ25_toUnsignedInt_2_0 5 rfl rfl)
theorem q69 : (Jvm.Cond.initialized "jdk/internal/misc/Unsafe") ∈ lw_all := lw_g (lw_at lw_m1 29 rfl) rfl
theorem q683 : (Jvm.Cond.laysStatic "jdk/internal/misc/Unsafe" "ARRAY_BYTE_BASE_OFFSET" "I") ∈ lw_tbl := lw_at lw_m3 163 rfl
theorem q694 : (Jvm.Cond.instanceMethod ({ cls := "jdk/internal/misc/Unsafe", name := "getLongUnaligned", desc := "(Ljava/lang/Object;J)J" } : Jvm.MethodName)) ∈ lw_all := lw_g (lw_at lw_m3 174 rfl) rfl
theorem q695 : (Jvm.Cond.selects "jdk/internal/misc/Unsafe" ({ cls := "jdk/internal/misc/Unsafe", name := "getLongUnaligned", desc := "(Ljava/lang/Object;J)J" } : Jvm.MethodName) ({ cls := "jdk/internal/misc/Unsafe", name := "getLongUnaligned", desc := "(Ljava/lang/Object;J)J" } : Jvm.MethodName)) ∈ lw_all := lw_g (lw_at lw_m3 175 rfl) rfl
theorem q696 : (Jvm.Cond.code ({ cls := "jdk/internal/misc/Unsafe", name := "getLongUnaligned", desc := "(Ljava/lang/Object;J)J" } : Jvm.MethodName) prog_76_method_334_code (4 : Nat) (Option.some Jvm.ClassFile.FieldType.long)) ∈ lw_all := lw_g (lw_at lw_m3 176 rfl) rfl
theorem q697 : (Jvm.Cond.constantLong "jdk/internal/misc/Unsafe" (696 : Nat) (7 : Int64)) ∈ lw_all := lw_g (lw_at lw_m3 177 rfl) rfl
theorem q698 : (Jvm.Cond.methodLink "jdk/internal/misc/Unsafe" (27 : Nat) ({ cls := "jdk/internal/misc/Unsafe", name := "getLong", desc := "(Ljava/lang/Object;J)J" } : Jvm.MethodName)) ∈ lw_all := lw_g (lw_at lw_m3 178 rfl) rfl
theorem q699 : (Jvm.Cond.instanceMethod ({ cls := "jdk/internal/misc/Unsafe", name := "getLong", desc := "(Ljava/lang/Object;J)J" } : Jvm.MethodName)) ∈ lw_all := lw_g (lw_at lw_m3 179 rfl) rfl
theorem q700 : (Jvm.Cond.selects "jdk/internal/misc/Unsafe" ({ cls := "jdk/internal/misc/Unsafe", name := "getLong", desc := "(Ljava/lang/Object;J)J" } : Jvm.MethodName) ({ cls := "jdk/internal/misc/Unsafe", name := "getLong", desc := "(Ljava/lang/Object;J)J" } : Jvm.MethodName)) ∈ lw_all := lw_g (lw_at lw_m3 180 rfl) rfl
theorem q701 : (Jvm.Cond.native ({ cls := "jdk/internal/misc/Unsafe", name := "getLong", desc := "(Ljava/lang/Object;J)J" } : Jvm.MethodName)) ∈ lw_all := lw_g (lw_at lw_m3 181 rfl) rfl
theorem q702 : (Jvm.Cond.constantLong "jdk/internal/misc/Unsafe" (349 : Nat) (3 : Int64)) ∈ lw_all := lw_g (lw_at lw_m3 182 rfl) rfl
theorem q703 : (Jvm.Cond.methodLink "jdk/internal/misc/Unsafe" (17 : Nat) ({ cls := "jdk/internal/misc/Unsafe", name := "getInt", desc := "(Ljava/lang/Object;J)I" } : Jvm.MethodName)) ∈ lw_all := lw_g (lw_at lw_m3 183 rfl) rfl
theorem q704 : (Jvm.Cond.instanceMethod ({ cls := "jdk/internal/misc/Unsafe", name := "getInt", desc := "(Ljava/lang/Object;J)I" } : Jvm.MethodName)) ∈ lw_all := lw_g (lw_at lw_m3 184 rfl) rfl
theorem q705 : (Jvm.Cond.selects "jdk/internal/misc/Unsafe" ({ cls := "jdk/internal/misc/Unsafe", name := "getInt", desc := "(Ljava/lang/Object;J)I" } : Jvm.MethodName) ({ cls := "jdk/internal/misc/Unsafe", name := "getInt", desc := "(Ljava/lang/Object;J)I" } : Jvm.MethodName)) ∈ lw_all := lw_g (lw_at lw_m3 185 rfl) rfl
theorem q706 : (Jvm.Cond.native ({ cls := "jdk/internal/misc/Unsafe", name := "getInt", desc := "(Ljava/lang/Object;J)I" } : Jvm.MethodName)) ∈ lw_all := lw_g (lw_at lw_m3 186 rfl) rfl
theorem q707 : (Jvm.Cond.constantLong "jdk/internal/misc/Unsafe" (205 : Nat) (4 : Int64)) ∈ lw_all := lw_g (lw_at lw_m3 187 rfl) rfl
theorem q708 : (Jvm.Cond.methodLink "jdk/internal/misc/Unsafe" (698 : Nat) ({ cls := "jdk/internal/misc/Unsafe", name := "makeLong", desc := "(II)J" } : Jvm.MethodName)) ∈ lw_all := lw_g (lw_at lw_m3 188 rfl) rfl
theorem q709 : (Jvm.Cond.static ({ cls := "jdk/internal/misc/Unsafe", name := "makeLong", desc := "(II)J" } : Jvm.MethodName)) ∈ lw_all := lw_g (lw_at lw_m3 189 rfl) rfl
theorem q710 : (Jvm.Cond.code ({ cls := "jdk/internal/misc/Unsafe", name := "makeLong", desc := "(II)J" } : Jvm.MethodName) prog_76_method_353_code (2 : Nat) (Option.some Jvm.ClassFile.FieldType.long)) ∈ lw_all := lw_g (lw_at lw_m3 190 rfl) rfl
theorem q711 : (Jvm.Cond.methodLink "jdk/internal/misc/Unsafe" (791 : Nat) ({ cls := "jdk/internal/misc/Unsafe", name := "toUnsignedLong", desc := "(I)J" } : Jvm.MethodName)) ∈ lw_all := lw_g (lw_at lw_m3 191 rfl) rfl
theorem q712 : (Jvm.Cond.static ({ cls := "jdk/internal/misc/Unsafe", name := "toUnsignedLong", desc := "(I)J" } : Jvm.MethodName)) ∈ lw_all := lw_g (lw_at lw_m3 192 rfl) rfl
theorem q713 : (Jvm.Cond.code ({ cls := "jdk/internal/misc/Unsafe", name := "toUnsignedLong", desc := "(I)J" } : Jvm.MethodName) prog_76_method_370_code (1 : Nat) (Option.some Jvm.ClassFile.FieldType.long)) ∈ lw_all := lw_g (lw_at lw_m3 193 rfl) rfl
theorem q714 : (Jvm.Cond.constantLong "jdk/internal/misc/Unsafe" (812 : Nat) (4294967295 : Int64)) ∈ lw_all := lw_g (lw_at lw_m3 194 rfl) rfl
theorem q715 : (Jvm.Cond.methodLink "jdk/internal/misc/Unsafe" (784 : Nat) ({ cls := "jdk/internal/misc/Unsafe", name := "pickPos", desc := "(II)I" } : Jvm.MethodName)) ∈ lw_all := lw_g (lw_at lw_m3 195 rfl) rfl
theorem q716 : (Jvm.Cond.static ({ cls := "jdk/internal/misc/Unsafe", name := "pickPos", desc := "(II)I" } : Jvm.MethodName)) ∈ lw_all := lw_g (lw_at lw_m3 196 rfl) rfl
theorem q717 : (Jvm.Cond.code ({ cls := "jdk/internal/misc/Unsafe", name := "pickPos", desc := "(II)I" } : Jvm.MethodName) prog_76_method_350_code (2 : Nat) (Option.some Jvm.ClassFile.FieldType.int)) ∈ lw_all := lw_g (lw_at lw_m3 197 rfl) rfl
theorem q718 : (Jvm.Cond.fieldLink "jdk/internal/misc/Unsafe" (351 : Nat) "jdk/internal/misc/UnsafeConstants" "BIG_ENDIAN" "Z") ∈ lw_all := lw_g (lw_at lw_m3 198 rfl) rfl
theorem q720 : (Jvm.Cond.methodLink "jdk/internal/misc/Unsafe" (47 : Nat) ({ cls := "jdk/internal/misc/Unsafe", name := "getShort", desc := "(Ljava/lang/Object;J)S" } : Jvm.MethodName)) ∈ lw_all := lw_g (lw_at lw_m3 200 rfl) rfl
theorem q721 : (Jvm.Cond.instanceMethod ({ cls := "jdk/internal/misc/Unsafe", name := "getShort", desc := "(Ljava/lang/Object;J)S" } : Jvm.MethodName)) ∈ lw_all := lw_g (lw_at lw_m3 201 rfl) rfl
theorem q722 : (Jvm.Cond.selects "jdk/internal/misc/Unsafe" ({ cls := "jdk/internal/misc/Unsafe", name := "getShort", desc := "(Ljava/lang/Object;J)S" } : Jvm.MethodName) ({ cls := "jdk/internal/misc/Unsafe", name := "getShort", desc := "(Ljava/lang/Object;J)S" } : Jvm.MethodName)) ∈ lw_all := lw_g (lw_at lw_m3 202 rfl) rfl
theorem q723 : (Jvm.Cond.native ({ cls := "jdk/internal/misc/Unsafe", name := "getShort", desc := "(Ljava/lang/Object;J)S" } : Jvm.MethodName)) ∈ lw_all := lw_g (lw_at lw_m3 203 rfl) rfl
theorem q724 : (Jvm.Cond.constantLong "jdk/internal/misc/Unsafe" (203 : Nat) (2 : Int64)) ∈ lw_all := lw_g (lw_at lw_m3 204 rfl) rfl
theorem q725 : (Jvm.Cond.constantLong "jdk/internal/misc/Unsafe" (702 : Nat) (6 : Int64)) ∈ lw_all := lw_g (lw_at lw_m3 205 rfl) rfl
theorem q726 : (Jvm.Cond.methodLink "jdk/internal/misc/Unsafe" (704 : Nat) ({ cls := "jdk/internal/misc/Unsafe", name := "makeLong", desc := "(SSSS)J" } : Jvm.MethodName)) ∈ lw_all := lw_g (lw_at lw_m3 206 rfl) rfl
theorem q727 : (Jvm.Cond.static ({ cls := "jdk/internal/misc/Unsafe", name := "makeLong", desc := "(SSSS)J" } : Jvm.MethodName)) ∈ lw_all := lw_g (lw_at lw_m3 207 rfl) rfl
theorem q728 : (Jvm.Cond.code ({ cls := "jdk/internal/misc/Unsafe", name := "makeLong", desc := "(SSSS)J" } : Jvm.MethodName) prog_76_method_352_code (4 : Nat) (Option.some Jvm.ClassFile.FieldType.long)) ∈ lw_all := lw_g (lw_at lw_m3 208 rfl) rfl
theorem q729 : (Jvm.Cond.methodLink "jdk/internal/misc/Unsafe" (788 : Nat) ({ cls := "jdk/internal/misc/Unsafe", name := "toUnsignedLong", desc := "(S)J" } : Jvm.MethodName)) ∈ lw_all := lw_g (lw_at lw_m3 209 rfl) rfl
theorem q730 : (Jvm.Cond.static ({ cls := "jdk/internal/misc/Unsafe", name := "toUnsignedLong", desc := "(S)J" } : Jvm.MethodName)) ∈ lw_all := lw_g (lw_at lw_m3 210 rfl) rfl
theorem q731 : (Jvm.Cond.code ({ cls := "jdk/internal/misc/Unsafe", name := "toUnsignedLong", desc := "(S)J" } : Jvm.MethodName) prog_76_method_369_code (1 : Nat) (Option.some Jvm.ClassFile.FieldType.long)) ∈ lw_all := lw_g (lw_at lw_m3 211 rfl) rfl
theorem q732 : (Jvm.Cond.constantLong "jdk/internal/misc/Unsafe" (810 : Nat) (65535 : Int64)) ∈ lw_all := lw_g (lw_at lw_m3 212 rfl) rfl
theorem q733 : (Jvm.Cond.methodLink "jdk/internal/misc/Unsafe" (39 : Nat) ({ cls := "jdk/internal/misc/Unsafe", name := "getByte", desc := "(Ljava/lang/Object;J)B" } : Jvm.MethodName)) ∈ lw_all := lw_g (lw_at lw_m3 213 rfl) rfl
theorem q734 : (Jvm.Cond.instanceMethod ({ cls := "jdk/internal/misc/Unsafe", name := "getByte", desc := "(Ljava/lang/Object;J)B" } : Jvm.MethodName)) ∈ lw_all := lw_g (lw_at lw_m3 214 rfl) rfl
theorem q735 : (Jvm.Cond.selects "jdk/internal/misc/Unsafe" ({ cls := "jdk/internal/misc/Unsafe", name := "getByte", desc := "(Ljava/lang/Object;J)B" } : Jvm.MethodName) ({ cls := "jdk/internal/misc/Unsafe", name := "getByte", desc := "(Ljava/lang/Object;J)B" } : Jvm.MethodName)) ∈ lw_all := lw_g (lw_at lw_m3 215 rfl) rfl
theorem q736 : (Jvm.Cond.native ({ cls := "jdk/internal/misc/Unsafe", name := "getByte", desc := "(Ljava/lang/Object;J)B" } : Jvm.MethodName)) ∈ lw_all := lw_g (lw_at lw_m3 216 rfl) rfl
theorem q737 : (Jvm.Cond.constantLong "jdk/internal/misc/Unsafe" (707 : Nat) (5 : Int64)) ∈ lw_all := lw_g (lw_at lw_m3 217 rfl) rfl
theorem q738 : (Jvm.Cond.methodLink "jdk/internal/misc/Unsafe" (709 : Nat) ({ cls := "jdk/internal/misc/Unsafe", name := "makeLong", desc := "(BBBBBBBB)J" } : Jvm.MethodName)) ∈ lw_all := lw_g (lw_at lw_m3 218 rfl) rfl
theorem q739 : (Jvm.Cond.static ({ cls := "jdk/internal/misc/Unsafe", name := "makeLong", desc := "(BBBBBBBB)J" } : Jvm.MethodName)) ∈ lw_all := lw_g (lw_at lw_m3 219 rfl) rfl
theorem q740 : (Jvm.Cond.code ({ cls := "jdk/internal/misc/Unsafe", name := "makeLong", desc := "(BBBBBBBB)J" } : Jvm.MethodName) prog_76_method_351_code (8 : Nat) (Option.some Jvm.ClassFile.FieldType.long)) ∈ lw_all := lw_g (lw_at lw_m3 220 rfl) rfl
theorem q741 : (Jvm.Cond.methodLink "jdk/internal/misc/Unsafe" (781 : Nat) ({ cls := "jdk/internal/misc/Unsafe", name := "toUnsignedLong", desc := "(B)J" } : Jvm.MethodName)) ∈ lw_all := lw_g (lw_at lw_m3 221 rfl) rfl
theorem q742 : (Jvm.Cond.static ({ cls := "jdk/internal/misc/Unsafe", name := "toUnsignedLong", desc := "(B)J" } : Jvm.MethodName)) ∈ lw_all := lw_g (lw_at lw_m3 222 rfl) rfl
theorem q743 : (Jvm.Cond.code ({ cls := "jdk/internal/misc/Unsafe", name := "toUnsignedLong", desc := "(B)J" } : Jvm.MethodName) prog_76_method_368_code (1 : Nat) (Option.some Jvm.ClassFile.FieldType.long)) ∈ lw_all := lw_g (lw_at lw_m3 223 rfl) rfl
theorem q744 : (Jvm.Cond.constantLong "jdk/internal/misc/Unsafe" (808 : Nat) (255 : Int64)) ∈ lw_all := lw_g (lw_at lw_m3 224 rfl) rfl
theorem q765 : (Jvm.Cond.instanceMethod ({ cls := "jdk/internal/misc/Unsafe", name := "getIntUnaligned", desc := "(Ljava/lang/Object;J)I" } : Jvm.MethodName)) ∈ lw_all := lw_g (lw_at lw_m4 5 rfl) rfl
theorem q766 : (Jvm.Cond.selects "jdk/internal/misc/Unsafe" ({ cls := "jdk/internal/misc/Unsafe", name := "getIntUnaligned", desc := "(Ljava/lang/Object;J)I" } : Jvm.MethodName) ({ cls := "jdk/internal/misc/Unsafe", name := "getIntUnaligned", desc := "(Ljava/lang/Object;J)I" } : Jvm.MethodName)) ∈ lw_all := lw_g (lw_at lw_m4 6 rfl) rfl
theorem q767 : (Jvm.Cond.code ({ cls := "jdk/internal/misc/Unsafe", name := "getIntUnaligned", desc := "(Ljava/lang/Object;J)I" } : Jvm.MethodName) prog_76_method_336_code (4 : Nat) (Option.some Jvm.ClassFile.FieldType.int)) ∈ lw_all := lw_g (lw_at lw_m4 7 rfl) rfl
theorem q768 : (Jvm.Cond.methodLink "jdk/internal/misc/Unsafe" (719 : Nat) ({ cls := "jdk/internal/misc/Unsafe", name := "makeInt", desc := "(SS)I" } : Jvm.MethodName)) ∈ lw_all := lw_g (lw_at lw_m4 8 rfl) rfl
theorem q769 : (Jvm.Cond.static ({ cls := "jdk/internal/misc/Unsafe", name := "makeInt", desc := "(SS)I" } : Jvm.MethodName)) ∈ lw_all := lw_g (lw_at lw_m4 9 rfl) rfl
theorem q770 : (Jvm.Cond.code ({ cls := "jdk/internal/misc/Unsafe", name := "makeInt", desc := "(SS)I" } : Jvm.MethodName) prog_76_method_354_code (2 : Nat) (Option.some Jvm.ClassFile.FieldType.int)) ∈ lw_all := lw_g (lw_at lw_m4 10 rfl) rfl
theorem q771 : (Jvm.Cond.methodLink "jdk/internal/misc/Unsafe" (792 : Nat) ({ cls := "jdk/internal/misc/Unsafe", name := "toUnsignedInt", desc := "(S)I" } : Jvm.MethodName)) ∈ lw_all := lw_g (lw_at lw_m4 11 rfl) rfl
theorem q772 : (Jvm.Cond.static ({ cls := "jdk/internal/misc/Unsafe", name := "toUnsignedInt", desc := "(S)I" } : Jvm.MethodName)) ∈ lw_all := lw_g (lw_at lw_m4 12 rfl) rfl
theorem q773 : (Jvm.Cond.code ({ cls := "jdk/internal/misc/Unsafe", name := "toUnsignedInt", desc := "(S)I" } : Jvm.MethodName) prog_76_method_367_code (1 : Nat) (Option.some Jvm.ClassFile.FieldType.int)) ∈ lw_all := lw_g (lw_at lw_m4 13 rfl) rfl
theorem q774 : (Jvm.Cond.constant "jdk/internal/misc/Unsafe" (374 : Nat) (65535 : Int32)) ∈ lw_all := lw_g (lw_at lw_m4 14 rfl) rfl
theorem q775 : (Jvm.Cond.methodLink "jdk/internal/misc/Unsafe" (723 : Nat) ({ cls := "jdk/internal/misc/Unsafe", name := "makeInt", desc := "(BBBB)I" } : Jvm.MethodName)) ∈ lw_all := lw_g (lw_at lw_m4 15 rfl) rfl
theorem q776 : (Jvm.Cond.static ({ cls := "jdk/internal/misc/Unsafe", name := "makeInt", desc := "(BBBB)I" } : Jvm.MethodName)) ∈ lw_all := lw_g (lw_at lw_m4 16 rfl) rfl
theorem q777 : (Jvm.Cond.code ({ cls := "jdk/internal/misc/Unsafe", name := "makeInt", desc := "(BBBB)I" } : Jvm.MethodName) prog_76_method_355_code (4 : Nat) (Option.some Jvm.ClassFile.FieldType.int)) ∈ lw_all := lw_g (lw_at lw_m4 17 rfl) rfl
theorem q778 : (Jvm.Cond.methodLink "jdk/internal/misc/Unsafe" (796 : Nat) ({ cls := "jdk/internal/misc/Unsafe", name := "toUnsignedInt", desc := "(B)I" } : Jvm.MethodName)) ∈ lw_all := lw_g (lw_at lw_m4 18 rfl) rfl
theorem q779 : (Jvm.Cond.static ({ cls := "jdk/internal/misc/Unsafe", name := "toUnsignedInt", desc := "(B)I" } : Jvm.MethodName)) ∈ lw_all := lw_g (lw_at lw_m4 19 rfl) rfl
theorem q780 : (Jvm.Cond.code ({ cls := "jdk/internal/misc/Unsafe", name := "toUnsignedInt", desc := "(B)I" } : Jvm.MethodName) prog_76_method_366_code (1 : Nat) (Option.some Jvm.ClassFile.FieldType.int)) ∈ lw_all := lw_g (lw_at lw_m4 20 rfl) rfl
theorem q2102 : (Jvm.Cond.selects "jdk/internal/misc/Unsafe" ({ cls := "java/lang/Object", name := "equals", desc := "(Ljava/lang/Object;)Z" } : Jvm.MethodName) ({ cls := "java/lang/Object", name := "equals", desc := "(Ljava/lang/Object;)Z" } : Jvm.MethodName)) ∈ lw_all := lw_g (lw_at lw_m9 142 rfl) rfl
theorem q2493 : (Jvm.Cond.castable "jdk/internal/misc/Unsafe" "java/lang/Object") ∈ lw_tbl := lw_at lw_m11 53 rfl
/-! java/lang/Long -/
set_option maxRecDepth 100000
def RJ26 : String := "java/lang/Long"
abbrev cJ26_numberOfLeadingZeros : ByteArray := prog_19_method_48_code
def yJ26_numberOfLeadingZeros : MethodName := ⟨RJ26, "numberOfLeadingZeros", "(J)I"⟩
def dkwJ26_numberOfLeadingZeros_1 : List UInt8 := [184, 1, 52, 172]
abbrev dktJ26_numberOfLeadingZeros_1 : List UInt8 := dkwJ26_numberOfLeadingZeros_1 ++ []
def dkwJ26_numberOfLeadingZeros_0 : List UInt8 := [30, 16, 32, 125, 136, 61, 28, 154, 0, 14, 16, 32, 30, 136, 184, 1, 52, 96, 167, 0, 7, 28]
abbrev dktJ26_numberOfLeadingZeros_0 : List UInt8 := dkwJ26_numberOfLeadingZeros_0 ++ dktJ26_numberOfLeadingZeros_1
theorem dksJ26_numberOfLeadingZeros_0 : cJ26_numberOfLeadingZeros.data.toList.drop 0 = dktJ26_numberOfLeadingZeros_0 := by decide +kernel
theorem dksJ26_numberOfLeadingZeros_1 : cJ26_numberOfLeadingZeros.data.toList.drop 22 = dktJ26_numberOfLeadingZeros_1 := dk_seg dksJ26_numberOfLeadingZeros_0 22 rfl rfl
theorem dJ26_numberOfLeadingZeros_0 : decode cJ26_numberOfLeadingZeros 0 = .ok (.lload_n 0, 1) := dk_30 (dk_at dksJ26_numberOfLeadingZeros_0 0 rfl rfl)
theorem dJ26_numberOfLeadingZeros_1 : decode cJ26_numberOfLeadingZeros 1 = .ok (.bipush 32, 2) := dk_16 32 (dk_at dksJ26_numberOfLeadingZeros_0 1 rfl rfl)
theorem dJ26_numberOfLeadingZeros_3 : decode cJ26_numberOfLeadingZeros 3 = .ok (.lushr, 1) := dk_125 (dk_at dksJ26_numberOfLeadingZeros_0 3 rfl rfl)
theorem dJ26_numberOfLeadingZeros_4 : decode cJ26_numberOfLeadingZeros 4 = .ok (.l2i, 1) := dk_136 (dk_at dksJ26_numberOfLeadingZeros_0 4 rfl rfl)
theorem dJ26_numberOfLeadingZeros_5 : decode cJ26_numberOfLeadingZeros 5 = .ok (.istore_n 2, 1) := dk_61 (dk_at dksJ26_numberOfLeadingZeros_0 5 rfl rfl)
theorem dJ26_numberOfLeadingZeros_6 : decode cJ26_numberOfLeadingZeros 6 = .ok (.iload_n 2, 1) := dk_28 (dk_at dksJ26_numberOfLeadingZeros_0 6 rfl rfl)
theorem dJ26_numberOfLeadingZeros_7 : decode cJ26_numberOfLeadingZeros 7 = .ok (.ifCond .ne 14, 3) := dk_154 0 14 (dk_at dksJ26_numberOfLeadingZeros_0 7 rfl rfl)
theorem dJ26_numberOfLeadingZeros_10 : decode cJ26_numberOfLeadingZeros 10 = .ok (.bipush 32, 2) := dk_16 32 (dk_at dksJ26_numberOfLeadingZeros_0 10 rfl rfl)
theorem dJ26_numberOfLeadingZeros_12 : decode cJ26_numberOfLeadingZeros 12 = .ok (.lload_n 0, 1) := dk_30 (dk_at dksJ26_numberOfLeadingZeros_0 12 rfl rfl)
theorem dJ26_numberOfLeadingZeros_13 : decode cJ26_numberOfLeadingZeros 13 = .ok (.l2i, 1) := dk_136 (dk_at dksJ26_numberOfLeadingZeros_0 13 rfl rfl)
theorem dJ26_numberOfLeadingZeros_14 : decode cJ26_numberOfLeadingZeros 14 = .ok (.invokestatic 308, 3) := dk_184 1 52 (dk_at dksJ26_numberOfLeadingZeros_0 14 rfl rfl)
theorem dJ26_numberOfLeadingZeros_17 : decode cJ26_numberOfLeadingZeros 17 = .ok (.iadd, 1) := dk_96 (dk_at dksJ26_numberOfLeadingZeros_0 17 rfl rfl)
theorem dJ26_numberOfLeadingZeros_18 : decode cJ26_numberOfLeadingZeros 18 = .ok (.goto 7, 3) := dk_167 0 7 (dk_at dksJ26_numberOfLeadingZeros_0 18 rfl rfl)
theorem dJ26_numberOfLeadingZeros_21 : decode cJ26_numberOfLeadingZeros 21 = .ok (.iload_n 2, 1) := dk_28 (dk_at dksJ26_numberOfLeadingZeros_0 21 rfl rfl)
theorem dJ26_numberOfLeadingZeros_22 : decode cJ26_numberOfLeadingZeros 22 = .ok (.invokestatic 308, 3) := dk_184 1 52 (dk_at dksJ26_numberOfLeadingZeros_1 0 rfl rfl)
theorem dJ26_numberOfLeadingZeros_25 : decode cJ26_numberOfLeadingZeros 25 = .ok (.ireturn, 1) := dk_172 (dk_at dksJ26_numberOfLeadingZeros_1 3 rfl rfl)
abbrev cJ26_numberOfTrailingZeros : ByteArray := prog_19_method_49_code
def yJ26_numberOfTrailingZeros : MethodName := ⟨RJ26, "numberOfTrailingZeros", "(J)I"⟩
def dkwJ26_numberOfTrailingZeros_1 : List UInt8 := [184, 1, 55, 172]
abbrev dktJ26_numberOfTrailingZeros_1 : List UInt8 := dkwJ26_numberOfTrailingZeros_1 ++ []
def dkwJ26_numberOfTrailingZeros_0 : List UInt8 := [30, 136, 61, 28, 154, 0, 17, 16, 32, 30, 16, 32, 125, 136, 184, 1, 55, 96, 167, 0, 7, 28]
abbrev dktJ26_numberOfTrailingZeros_0 : List UInt8 := dkwJ26_numberOfTrailingZeros_0 ++ dktJ26_numberOfTrailingZeros_1
theorem dksJ26_numberOfTrailingZeros_0 : cJ26_numberOfTrailingZeros.data.toList.drop 0 = dktJ26_numberOfTrailingZeros_0 := by decide +kernel
theorem dksJ26_numberOfTrailingZeros_1 : cJ26_numberOfTrailingZeros.data.toList.drop 22 = dktJ26_numberOfTrailingZeros_1 := dk_seg dksJ26_numberOfTrailingZeros_0 22 rfl rfl
theorem dJ26_numberOfTrailingZeros_0 : decode cJ26_numberOfTrailingZeros 0 = .ok (.lload_n 0, 1) := dk_30 (dk_at dksJ26_numberOfTrailingZeros_0 0 rfl rfl)
theorem dJ26_numberOfTrailingZeros_1 : decode cJ26_numberOfTrailingZeros 1 = .ok (.l2i, 1) := dk_136 (dk_at dksJ26_numberOfTrailingZeros_0 1 rfl rfl)
theorem dJ26_numberOfTrailingZeros_2 : decode cJ26_numberOfTrailingZeros 2 = .ok (.istore_n 2, 1) := dk_61 (dk_at dksJ26_numberOfTrailingZeros_0 2 rfl rfl)
theorem dJ26_numberOfTrailingZeros_3 : decode cJ26_numberOfTrailingZeros 3 = .ok (.iload_n 2, 1) := dk_28 (dk_at dksJ26_numberOfTrailingZeros_0 3 rfl rfl)
theorem dJ26_numberOfTrailingZeros_4 : decode cJ26_numberOfTrailingZeros 4 = .ok (.ifCond .ne 17, 3) := dk_154 0 17 (dk_at dksJ26_numberOfTrailingZeros_0 4 rfl rfl)
theorem dJ26_numberOfTrailingZeros_7 : decode cJ26_numberOfTrailingZeros 7 = .ok (.bipush 32, 2) := dk_16 32 (dk_at dksJ26_numberOfTrailingZeros_0 7 rfl rfl)
theorem dJ26_numberOfTrailingZeros_9 : decode cJ26_numberOfTrailingZeros 9 = .ok (.lload_n 0, 1) := dk_30 (dk_at dksJ26_numberOfTrailingZeros_0 9 rfl rfl)
theorem dJ26_numberOfTrailingZeros_10 : decode cJ26_numberOfTrailingZeros 10 = .ok (.bipush 32, 2) := dk_16 32 (dk_at dksJ26_numberOfTrailingZeros_0 10 rfl rfl)
theorem dJ26_numberOfTrailingZeros_12 : decode cJ26_numberOfTrailingZeros 12 = .ok (.lushr, 1) := dk_125 (dk_at dksJ26_numberOfTrailingZeros_0 12 rfl rfl)
theorem dJ26_numberOfTrailingZeros_13 : decode cJ26_numberOfTrailingZeros 13 = .ok (.l2i, 1) := dk_136 (dk_at dksJ26_numberOfTrailingZeros_0 13 rfl rfl)
theorem dJ26_numberOfTrailingZeros_14 : decode cJ26_numberOfTrailingZeros 14 = .ok (.invokestatic 311, 3) := dk_184 1 55 (dk_at dksJ26_numberOfTrailingZeros_0 14 rfl rfl)
theorem dJ26_numberOfTrailingZeros_17 : decode cJ26_numberOfTrailingZeros 17 = .ok (.iadd, 1) := dk_96 (dk_at dksJ26_numberOfTrailingZeros_0 17 rfl rfl)
theorem dJ26_numberOfTrailingZeros_18 : decode cJ26_numberOfTrailingZeros 18 = .ok (.goto 7, 3) := dk_167 0 7 (dk_at dksJ26_numberOfTrailingZeros_0 18 rfl rfl)
theorem dJ26_numberOfTrailingZeros_21 : decode cJ26_numberOfTrailingZeros 21 = .ok (.iload_n 2, 1) := dk_28 (dk_at dksJ26_numberOfTrailingZeros_0 21 rfl rfl)
theorem dJ26_numberOfTrailingZeros_22 : decode cJ26_numberOfTrailingZeros 22 = .ok (.invokestatic 311, 3) := dk_184 1 55 (dk_at dksJ26_numberOfTrailingZeros_1 0 rfl rfl)
theorem dJ26_numberOfTrailingZeros_25 : decode cJ26_numberOfTrailingZeros 25 = .ok (.ireturn, 1) := dk_172 (dk_at dksJ26_numberOfTrailingZeros_1 3 rfl rfl)
theorem q71 : (Jvm.Cond.initialized "java/lang/Long") ∈ lw_all := lw_g (lw_at lw_m1 31 rfl) rfl
theorem q748 : (Jvm.Cond.static ({ cls := "java/lang/Long", name := "numberOfLeadingZeros", desc := "(J)I" } : Jvm.MethodName)) ∈ lw_all := lw_g (lw_at lw_m3 228 rfl) rfl
theorem q749 : (Jvm.Cond.code ({ cls := "java/lang/Long", name := "numberOfLeadingZeros", desc := "(J)I" } : Jvm.MethodName) prog_19_method_48_code (3 : Nat) (Option.some Jvm.ClassFile.FieldType.int)) ∈ lw_all := lw_g (lw_at lw_m3 229 rfl) rfl
theorem q750 : (Jvm.Cond.methodLink "java/lang/Long" (308 : Nat) ({ cls := "java/lang/Integer", name := "numberOfLeadingZeros", desc := "(I)I" } : Jvm.MethodName)) ∈ lw_all := lw_g (lw_at lw_m3 230 rfl) rfl
theorem q757 : (Jvm.Cond.static ({ cls := "java/lang/Long", name := "numberOfTrailingZeros", desc := "(J)I" } : Jvm.MethodName)) ∈ lw_all := lw_g (lw_at lw_m3 237 rfl) rfl
theorem q758 : (Jvm.Cond.code ({ cls := "java/lang/Long", name := "numberOfTrailingZeros", desc := "(J)I" } : Jvm.MethodName) prog_19_method_49_code (3 : Nat) (Option.some Jvm.ClassFile.FieldType.int)) ∈ lw_all := lw_g (lw_at lw_m3 238 rfl) rfl
theorem q759 : (Jvm.Cond.methodLink "java/lang/Long" (311 : Nat) ({ cls := "java/lang/Integer", name := "numberOfTrailingZeros", desc := "(I)I" } : Jvm.MethodName)) ∈ lw_all := lw_g (lw_at lw_m3 239 rfl) rfl
/-! java/lang/Object -/
set_option maxRecDepth 100000
def RJ47 : String := "java/lang/Object"
abbrev cJ47_init : ByteArray := object_method_1_code
def yJ47_init : MethodName := ⟨RJ47, "<init>", "()V"⟩
theorem dJ47_init_0 : decode cJ47_init 0 = .ok (.return_, 1) := by decide +kernel
abbrev cJ47_equals : ByteArray := object_method_4_code
def yJ47_equals : MethodName := ⟨RJ47, "equals", "(Ljava/lang/Object;)Z"⟩
def dkwJ47_equals_0 : List UInt8 := [42, 43, 166, 0, 7, 4, 167, 0, 4, 3, 172]
abbrev dktJ47_equals_0 : List UInt8 := dkwJ47_equals_0 ++ []
theorem dksJ47_equals_0 : cJ47_equals.data.toList.drop 0 = dktJ47_equals_0 := by decide +kernel
theorem dJ47_equals_0 : decode cJ47_equals 0 = .ok (.aload_n 0, 1) := dk_42 (dk_at dksJ47_equals_0 0 rfl rfl)
theorem dJ47_equals_1 : decode cJ47_equals 1 = .ok (.aload_n 1, 1) := dk_43 (dk_at dksJ47_equals_0 1 rfl rfl)
theorem dJ47_equals_2 : decode cJ47_equals 2 = .ok (.if_acmp .ne 7, 3) := dk_166 0 7 (dk_at dksJ47_equals_0 2 rfl rfl)
theorem dJ47_equals_5 : decode cJ47_equals 5 = .ok (.iconst 1, 1) := dk_4 (dk_at dksJ47_equals_0 5 rfl rfl)
theorem dJ47_equals_6 : decode cJ47_equals 6 = .ok (.goto 4, 3) := dk_167 0 4 (dk_at dksJ47_equals_0 6 rfl rfl)
theorem dJ47_equals_9 : decode cJ47_equals 9 = .ok (.iconst 0, 1) := dk_3 (dk_at dksJ47_equals_0 9 rfl rfl)
theorem dJ47_equals_10 : decode cJ47_equals 10 = .ok (.ireturn, 1) := dk_172 (dk_at dksJ47_equals_0 10 rfl rfl)
theorem q99 : (Jvm.Cond.instanceMethod ({ cls := "java/lang/Object", name := "<init>", desc := "()V" } : Jvm.MethodName)) ∈ lw_all := lw_g (lw_at lw_m1 59 rfl) rfl
theorem q100 : (Jvm.Cond.code ({ cls := "java/lang/Object", name := "<init>", desc := "()V" } : Jvm.MethodName) object_method_1_code (1 : Nat) (Option.none : Option Jvm.ClassFile.FieldType)) ∈ lw_all := lw_g (lw_at lw_m1 60 rfl) rfl
theorem q298 : (Jvm.Cond.native ({ cls := "java/lang/Object", name := "clone", desc := "()Ljava/lang/Object;" } : Jvm.MethodName)) ∈ lw_all := lw_g (lw_at lw_m2 18 rfl) rfl
theorem q299 : (Jvm.Cond.instanceMethod ({ cls := "java/lang/Object", name := "clone", desc := "()Ljava/lang/Object;" } : Jvm.MethodName)) ∈ lw_all := lw_g (lw_at lw_m2 19 rfl) rfl
theorem q2084 : (Jvm.Cond.declares ({ cls := "java/lang/Object", name := "equals", desc := "(Ljava/lang/Object;)Z" } : Jvm.MethodName)) ∈ lw_tbl := lw_at lw_m9 124 rfl
theorem q2086 : (Jvm.Cond.instanceMethod ({ cls := "java/lang/Object", name := "equals", desc := "(Ljava/lang/Object;)Z" } : Jvm.MethodName)) ∈ lw_all := lw_g (lw_at lw_m9 126 rfl) rfl
theorem q2087 : (Jvm.Cond.sameMethod "java/lang/Object" "java/lang/Object" "equals" "(Ljava/lang/Object;)Z") ∈ lw_all := lw_g (lw_at lw_m9 127 rfl) rfl
theorem q2103 : (Jvm.Cond.code ({ cls := "java/lang/Object", name := "equals", desc := "(Ljava/lang/Object;)Z" } : Jvm.MethodName) object_method_4_code (2 : Nat) (Option.some Jvm.ClassFile.FieldType.boolean)) ∈ lw_all := lw_g (lw_at lw_m9 143 rfl) rfl
theorem q2476 : (Jvm.Cond.initialized "java/lang/Object") ∈ lw_all := lw_g (lw_at lw_m11 36 rfl) rfl
theorem q2480 : (Jvm.Cond.selects "java/lang/Object" ({ cls := "java/lang/Object", name := "equals", desc := "(Ljava/lang/Object;)Z" } : Jvm.MethodName) ({ cls := "java/lang/Object", name := "equals", desc := "(Ljava/lang/Object;)Z" } : Jvm.MethodName)) ∈ lw_all := lw_g (lw_at lw_m11 40 rfl) rfl
/-! jdk/internal/util/Preconditions -/
set_option maxRecDepth 100000
def RJ6 : String := "jdk/internal/util/Preconditions"
abbrev cJ6_checkFromToIndex : ByteArray := prog_79_method_12_code
def yJ6_checkFromToIndex : MethodName := ⟨RJ6, "checkFromToIndex", "(IIILjava/util/function/BiFunction;)I"⟩
def dkwJ6_checkFromToIndex_0 : List UInt8 := [26, 155, 0, 13, 26, 27, 163, 0, 8, 27, 28, 164, 0, 11, 45, 26, 27, 28, 184, 0, 99, 191, 26, 172]
abbrev dktJ6_checkFromToIndex_0 : List UInt8 := dkwJ6_checkFromToIndex_0 ++ []
theorem dksJ6_checkFromToIndex_0 : cJ6_checkFromToIndex.data.toList.drop 0 = dktJ6_checkFromToIndex_0 := by decide +kernel
theorem dJ6_checkFromToIndex_0 : decode cJ6_checkFromToIndex 0 = .ok (.iload_n 0, 1) := dk_26 (dk_at dksJ6_checkFromToIndex_0 0 rfl rfl)
theorem dJ6_checkFromToIndex_1 : decode cJ6_checkFromToIndex 1 = .ok (.ifCond .lt 13, 3) := dk_155 0 13 (dk_at dksJ6_checkFromToIndex_0 1 rfl rfl)
theorem dJ6_checkFromToIndex_4 : decode cJ6_checkFromToIndex 4 = .ok (.iload_n 0, 1) := dk_26 (dk_at dksJ6_checkFromToIndex_0 4 rfl rfl)
theorem dJ6_checkFromToIndex_5 : decode cJ6_checkFromToIndex 5 = .ok (.iload_n 1, 1) := dk_27 (dk_at dksJ6_checkFromToIndex_0 5 rfl rfl)
theorem dJ6_checkFromToIndex_6 : decode cJ6_checkFromToIndex 6 = .ok (.if_icmp .gt 8, 3) := dk_163 0 8 (dk_at dksJ6_checkFromToIndex_0 6 rfl rfl)
theorem dJ6_checkFromToIndex_9 : decode cJ6_checkFromToIndex 9 = .ok (.iload_n 1, 1) := dk_27 (dk_at dksJ6_checkFromToIndex_0 9 rfl rfl)
theorem dJ6_checkFromToIndex_10 : decode cJ6_checkFromToIndex 10 = .ok (.iload_n 2, 1) := dk_28 (dk_at dksJ6_checkFromToIndex_0 10 rfl rfl)
theorem dJ6_checkFromToIndex_11 : decode cJ6_checkFromToIndex 11 = .ok (.if_icmp .le 11, 3) := dk_164 0 11 (dk_at dksJ6_checkFromToIndex_0 11 rfl rfl)
theorem dJ6_checkFromToIndex_14 : decode cJ6_checkFromToIndex 14 = .ok (.aload_n 3, 1) := dk_45 (dk_at dksJ6_checkFromToIndex_0 14 rfl rfl)
theorem dJ6_checkFromToIndex_15 : decode cJ6_checkFromToIndex 15 = .ok (.iload_n 0, 1) := dk_26 (dk_at dksJ6_checkFromToIndex_0 15 rfl rfl)
theorem dJ6_checkFromToIndex_16 : decode cJ6_checkFromToIndex 16 = .ok (.iload_n 1, 1) := dk_27 (dk_at dksJ6_checkFromToIndex_0 16 rfl rfl)
theorem dJ6_checkFromToIndex_17 : decode cJ6_checkFromToIndex 17 = .ok (.iload_n 2, 1) := dk_28 (dk_at dksJ6_checkFromToIndex_0 17 rfl rfl)
theorem dJ6_checkFromToIndex_18 : decode cJ6_checkFromToIndex 18 = .ok (.invokestatic 99, 3) := dk_184 0 99 (dk_at dksJ6_checkFromToIndex_0 18 rfl rfl)
theorem dJ6_checkFromToIndex_21 : decode cJ6_checkFromToIndex 21 = .ok (.athrow, 1) := dk_191 (dk_at dksJ6_checkFromToIndex_0 21 rfl rfl)
theorem dJ6_checkFromToIndex_22 : decode cJ6_checkFromToIndex 22 = .ok (.iload_n 0, 1) := dk_26 (dk_at dksJ6_checkFromToIndex_0 22 rfl rfl)
theorem dJ6_checkFromToIndex_23 : decode cJ6_checkFromToIndex 23 = .ok (.ireturn, 1) := dk_172 (dk_at dksJ6_checkFromToIndex_0 23 rfl rfl)
abbrev cJ6_checkFromIndexSize : ByteArray := prog_79_method_13_code
def yJ6_checkFromIndexSize : MethodName := ⟨RJ6, "checkFromIndexSize", "(IIILjava/util/function/BiFunction;)I"⟩
def dkwJ6_checkFromIndexSize_1 : List UInt8 := [172]
abbrev dktJ6_checkFromIndexSize_1 : List UInt8 := dkwJ6_checkFromIndexSize_1 ++ []
def dkwJ6_checkFromIndexSize_0 : List UInt8 := [28, 26, 128, 27, 128, 155, 0, 10, 27, 28, 26, 100, 164, 0, 11, 45, 26, 27, 28, 184, 0, 103, 191, 26]
abbrev dktJ6_checkFromIndexSize_0 : List UInt8 := dkwJ6_checkFromIndexSize_0 ++ dktJ6_checkFromIndexSize_1
theorem dksJ6_checkFromIndexSize_0 : cJ6_checkFromIndexSize.data.toList.drop 0 = dktJ6_checkFromIndexSize_0 := by decide +kernel
theorem dksJ6_checkFromIndexSize_1 : cJ6_checkFromIndexSize.data.toList.drop 24 = dktJ6_checkFromIndexSize_1 := dk_seg dksJ6_checkFromIndexSize_0 24 rfl rfl
theorem dJ6_checkFromIndexSize_0 : decode cJ6_checkFromIndexSize 0 = .ok (.iload_n 2, 1) := dk_28 (dk_at dksJ6_checkFromIndexSize_0 0 rfl rfl)
theorem dJ6_checkFromIndexSize_1 : decode cJ6_checkFromIndexSize 1 = .ok (.iload_n 0, 1) := dk_26 (dk_at dksJ6_checkFromIndexSize_0 1 rfl rfl)
theorem dJ6_checkFromIndexSize_2 : decode cJ6_checkFromIndexSize 2 = .ok (.ior, 1) := dk_128 (dk_at dksJ6_checkFromIndexSize_0 2 rfl rfl)
theorem dJ6_checkFromIndexSize_3 : decode cJ6_checkFromIndexSize 3 = .ok (.iload_n 1, 1) := dk_27 (dk_at dksJ6_checkFromIndexSize_0 3 rfl rfl)
theorem dJ6_checkFromIndexSize_4 : decode cJ6_checkFromIndexSize 4 = .ok (.ior, 1) := dk_128 (dk_at dksJ6_checkFromIndexSize_0 4 rfl rfl)
theorem dJ6_checkFromIndexSize_5 : decode cJ6_checkFromIndexSize 5 = .ok (.ifCond .lt 10, 3) := dk_155 0 10 (dk_at dksJ6_checkFromIndexSize_0 5 rfl rfl)
theorem dJ6_checkFromIndexSize_8 : decode cJ6_checkFromIndexSize 8 = .ok (.iload_n 1, 1) := dk_27 (dk_at dksJ6_checkFromIndexSize_0 8 rfl rfl)
theorem dJ6_checkFromIndexSize_9 : decode cJ6_checkFromIndexSize 9 = .ok (.iload_n 2, 1) := dk_28 (dk_at dksJ6_checkFromIndexSize_0 9 rfl rfl)
theorem dJ6_checkFromIndexSize_10 : decode cJ6_checkFromIndexSize 10 = .ok (.iload_n 0, 1) := dk_26 (dk_at dksJ6_checkFromIndexSize_0 10 rfl rfl)
theorem dJ6_checkFromIndexSize_11 : decode cJ6_checkFromIndexSize 11 = .ok (.isub, 1) := dk_100 (dk_at dksJ6_checkFromIndexSize_0 11 rfl rfl)
theorem dJ6_checkFromIndexSize_12 : decode cJ6_checkFromIndexSize 12 = .ok (.if_icmp .le 11, 3) := dk_164 0 11 (dk_at dksJ6_checkFromIndexSize_0 12 rfl rfl)
theorem dJ6_checkFromIndexSize_15 : decode cJ6_checkFromIndexSize 15 = .ok (.aload_n 3, 1) := dk_45 (dk_at dksJ6_checkFromIndexSize_0 15 rfl rfl)
theorem dJ6_checkFromIndexSize_16 : decode cJ6_checkFromIndexSize 16 = .ok (.iload_n 0, 1) := dk_26 (dk_at dksJ6_checkFromIndexSize_0 16 rfl rfl)
theorem dJ6_checkFromIndexSize_17 : decode cJ6_checkFromIndexSize 17 = .ok (.iload_n 1, 1) := dk_27 (dk_at dksJ6_checkFromIndexSize_0 17 rfl rfl)
theorem dJ6_checkFromIndexSize_18 : decode cJ6_checkFromIndexSize 18 = .ok (.iload_n 2, 1) := dk_28 (dk_at dksJ6_checkFromIndexSize_0 18 rfl rfl)
theorem dJ6_checkFromIndexSize_19 : decode cJ6_checkFromIndexSize 19 = .ok (.invokestatic 103, 3) := dk_184 0 103 (dk_at dksJ6_checkFromIndexSize_0 19 rfl rfl)
theorem dJ6_checkFromIndexSize_22 : decode cJ6_checkFromIndexSize 22 = .ok (.athrow, 1) := dk_191 (dk_at dksJ6_checkFromIndexSize_0 22 rfl rfl)
theorem dJ6_checkFromIndexSize_23 : decode cJ6_checkFromIndexSize 23 = .ok (.iload_n 0, 1) := dk_26 (dk_at dksJ6_checkFromIndexSize_0 23 rfl rfl)
theorem dJ6_checkFromIndexSize_24 : decode cJ6_checkFromIndexSize 24 = .ok (.ireturn, 1) := dk_172 (dk_at dksJ6_checkFromIndexSize_1 0 rfl rfl)
abbrev cJ6_checkIndex : ByteArray := prog_79_method_11_code
def yJ6_checkIndex : MethodName := ⟨RJ6, "checkIndex", "(IILjava/util/function/BiFunction;)I"⟩
def dkwJ6_checkIndex_0 : List UInt8 := [26, 155, 0, 8, 26, 27, 161, 0, 10, 44, 26, 27, 184, 0, 95, 191, 26, 172]
abbrev dktJ6_checkIndex_0 : List UInt8 := dkwJ6_checkIndex_0 ++ []
theorem dksJ6_checkIndex_0 : cJ6_checkIndex.data.toList.drop 0 = dktJ6_checkIndex_0 := by decide +kernel
theorem dJ6_checkIndex_0 : decode cJ6_checkIndex 0 = .ok (.iload_n 0, 1) := dk_26 (dk_at dksJ6_checkIndex_0 0 rfl rfl)
theorem dJ6_checkIndex_1 : decode cJ6_checkIndex 1 = .ok (.ifCond .lt 8, 3) := dk_155 0 8 (dk_at dksJ6_checkIndex_0 1 rfl rfl)
theorem dJ6_checkIndex_4 : decode cJ6_checkIndex 4 = .ok (.iload_n 0, 1) := dk_26 (dk_at dksJ6_checkIndex_0 4 rfl rfl)
theorem dJ6_checkIndex_5 : decode cJ6_checkIndex 5 = .ok (.iload_n 1, 1) := dk_27 (dk_at dksJ6_checkIndex_0 5 rfl rfl)
theorem dJ6_checkIndex_6 : decode cJ6_checkIndex 6 = .ok (.if_icmp .lt 10, 3) := dk_161 0 10 (dk_at dksJ6_checkIndex_0 6 rfl rfl)
theorem dJ6_checkIndex_9 : decode cJ6_checkIndex 9 = .ok (.aload_n 2, 1) := dk_44 (dk_at dksJ6_checkIndex_0 9 rfl rfl)
theorem dJ6_checkIndex_10 : decode cJ6_checkIndex 10 = .ok (.iload_n 0, 1) := dk_26 (dk_at dksJ6_checkIndex_0 10 rfl rfl)
theorem dJ6_checkIndex_11 : decode cJ6_checkIndex 11 = .ok (.iload_n 1, 1) := dk_27 (dk_at dksJ6_checkIndex_0 11 rfl rfl)
theorem dJ6_checkIndex_12 : decode cJ6_checkIndex 12 = .ok (.invokestatic 95, 3) := dk_184 0 95 (dk_at dksJ6_checkIndex_0 12 rfl rfl)
theorem dJ6_checkIndex_15 : decode cJ6_checkIndex 15 = .ok (.athrow, 1) := dk_191 (dk_at dksJ6_checkIndex_0 15 rfl rfl)
theorem dJ6_checkIndex_16 : decode cJ6_checkIndex 16 = .ok (.iload_n 0, 1) := dk_26 (dk_at dksJ6_checkIndex_0 16 rfl rfl)
theorem dJ6_checkIndex_17 : decode cJ6_checkIndex 17 = .ok (.ireturn, 1) := dk_172 (dk_at dksJ6_checkIndex_0 17 rfl rfl)
theorem q48 : (Jvm.Cond.initialized "jdk/internal/util/Preconditions") ∈ lw_all := lw_g (lw_at lw_m1 8 rfl) rfl
theorem q194 : (Jvm.Cond.laysStatic "jdk/internal/util/Preconditions" "SIOOBE_FORMATTER" "Ljava/util/function/BiFunction;") ∈ lw_tbl := lw_at lw_m1 154 rfl
theorem q196 : (Jvm.Cond.static ({ cls := "jdk/internal/util/Preconditions", name := "checkFromToIndex", desc := "(IIILjava/util/function/BiFunction;)I" } : Jvm.MethodName)) ∈ lw_all := lw_g (lw_at lw_m1 156 rfl) rfl
theorem q197 : (Jvm.Cond.code ({ cls := "jdk/internal/util/Preconditions", name := "checkFromToIndex", desc := "(IIILjava/util/function/BiFunction;)I" } : Jvm.MethodName) prog_79_method_12_code (4 : Nat) (Option.some Jvm.ClassFile.FieldType.int)) ∈ lw_all := lw_g (lw_at lw_m1 157 rfl) rfl
theorem q387 : (Jvm.Cond.static ({ cls := "jdk/internal/util/Preconditions", name := "checkFromIndexSize", desc := "(IIILjava/util/function/BiFunction;)I" } : Jvm.MethodName)) ∈ lw_all := lw_g (lw_at lw_m2 107 rfl) rfl
theorem q388 : (Jvm.Cond.code ({ cls := "jdk/internal/util/Preconditions", name := "checkFromIndexSize", desc := "(IIILjava/util/function/BiFunction;)I" } : Jvm.MethodName) prog_79_method_13_code (4 : Nat) (Option.some Jvm.ClassFile.FieldType.int)) ∈ lw_all := lw_g (lw_at lw_m2 108 rfl) rfl
theorem q1191 : (Jvm.Cond.static ({ cls := "jdk/internal/util/Preconditions", name := "checkIndex", desc := "(IILjava/util/function/BiFunction;)I" } : Jvm.MethodName)) ∈ lw_all := lw_g (lw_at lw_m5 191 rfl) rfl
theorem q1192 : (Jvm.Cond.code ({ cls := "jdk/internal/util/Preconditions", name := "checkIndex", desc := "(IILjava/util/function/BiFunction;)I" } : Jvm.MethodName) prog_79_method_11_code (3 : Nat) (Option.some Jvm.ClassFile.FieldType.int)) ∈ lw_all := lw_g (lw_at lw_m5 192 rfl) rfl
