/-! StemspanLaw -/
set_option maxRecDepth 100000
def RX0 : String := "StemspanLaw"
abbrev cX0_type : ByteArray := method_3_code
def yX0_type : MethodName := ⟨RX0, "type", "(LStemspan;C[J)I"⟩
def dkwX0_type_0 : List UInt8 := [44, 3, 42, 27, 182, 0, 7, 133, 80, 167, 0, 9, 78, 4, 172, 78, 5, 172, 3, 172]
abbrev dktX0_type_0 : List UInt8 := dkwX0_type_0 ++ []
theorem dksX0_type_0 : cX0_type.data.toList.drop 0 = dktX0_type_0 := by decide +kernel
theorem dX0_type_0 : decode cX0_type 0 = .ok (.aload_n 2, 1) := dk_44 (dk_at dksX0_type_0 0 rfl rfl)
theorem dX0_type_1 : decode cX0_type 1 = .ok (.iconst 0, 1) := dk_3 (dk_at dksX0_type_0 1 rfl rfl)
theorem dX0_type_2 : decode cX0_type 2 = .ok (.aload_n 0, 1) := dk_42 (dk_at dksX0_type_0 2 rfl rfl)
theorem dX0_type_3 : decode cX0_type 3 = .ok (.iload_n 1, 1) := dk_27 (dk_at dksX0_type_0 3 rfl rfl)
theorem dX0_type_4 : decode cX0_type 4 = .ok (.invokevirtual 7, 3) := dk_182 0 7 (dk_at dksX0_type_0 4 rfl rfl)
theorem dX0_type_7 : decode cX0_type 7 = .ok (.i2l, 1) := dk_133 (dk_at dksX0_type_0 7 rfl rfl)
theorem dX0_type_8 : decode cX0_type 8 = .ok (.lastore, 1) := dk_80 (dk_at dksX0_type_0 8 rfl rfl)
theorem dX0_type_9 : decode cX0_type 9 = .ok (.goto 9, 3) := dk_167 0 9 (dk_at dksX0_type_0 9 rfl rfl)
theorem dX0_type_12 : decode cX0_type 12 = .ok (.astore_n 3, 1) := dk_78 (dk_at dksX0_type_0 12 rfl rfl)
theorem dX0_type_13 : decode cX0_type 13 = .ok (.iconst 1, 1) := dk_4 (dk_at dksX0_type_0 13 rfl rfl)
theorem dX0_type_14 : decode cX0_type 14 = .ok (.ireturn, 1) := dk_172 (dk_at dksX0_type_0 14 rfl rfl)
theorem dX0_type_15 : decode cX0_type 15 = .ok (.astore_n 3, 1) := dk_78 (dk_at dksX0_type_0 15 rfl rfl)
theorem dX0_type_16 : decode cX0_type 16 = .ok (.iconst 2, 1) := dk_5 (dk_at dksX0_type_0 16 rfl rfl)
theorem dX0_type_17 : decode cX0_type 17 = .ok (.ireturn, 1) := dk_172 (dk_at dksX0_type_0 17 rfl rfl)
theorem dX0_type_18 : decode cX0_type 18 = .ok (.iconst 0, 1) := dk_3 (dk_at dksX0_type_0 18 rfl rfl)
theorem dX0_type_19 : decode cX0_type 19 = .ok (.ireturn, 1) := dk_172 (dk_at dksX0_type_0 19 rfl rfl)
abbrev cX0_typeMore : ByteArray := method_4_code
def yX0_typeMore : MethodName := ⟨RX0, "typeMore", "(LStemspan;II[J)I"⟩
def dkwX0_typeMore_0 : List UInt8 := [45, 3, 42, 27, 28, 182, 0, 17, 133, 80, 167, 0, 11, 58, 4, 4, 172, 58, 4, 5, 172, 3, 172]
abbrev dktX0_typeMore_0 : List UInt8 := dkwX0_typeMore_0 ++ []
theorem dksX0_typeMore_0 : cX0_typeMore.data.toList.drop 0 = dktX0_typeMore_0 := by decide +kernel
theorem dX0_typeMore_0 : decode cX0_typeMore 0 = .ok (.aload_n 3, 1) := dk_45 (dk_at dksX0_typeMore_0 0 rfl rfl)
theorem dX0_typeMore_1 : decode cX0_typeMore 1 = .ok (.iconst 0, 1) := dk_3 (dk_at dksX0_typeMore_0 1 rfl rfl)
theorem dX0_typeMore_2 : decode cX0_typeMore 2 = .ok (.aload_n 0, 1) := dk_42 (dk_at dksX0_typeMore_0 2 rfl rfl)
theorem dX0_typeMore_3 : decode cX0_typeMore 3 = .ok (.iload_n 1, 1) := dk_27 (dk_at dksX0_typeMore_0 3 rfl rfl)
theorem dX0_typeMore_4 : decode cX0_typeMore 4 = .ok (.iload_n 2, 1) := dk_28 (dk_at dksX0_typeMore_0 4 rfl rfl)
theorem dX0_typeMore_5 : decode cX0_typeMore 5 = .ok (.invokevirtual 17, 3) := dk_182 0 17 (dk_at dksX0_typeMore_0 5 rfl rfl)
theorem dX0_typeMore_8 : decode cX0_typeMore 8 = .ok (.i2l, 1) := dk_133 (dk_at dksX0_typeMore_0 8 rfl rfl)
theorem dX0_typeMore_9 : decode cX0_typeMore 9 = .ok (.lastore, 1) := dk_80 (dk_at dksX0_typeMore_0 9 rfl rfl)
theorem dX0_typeMore_10 : decode cX0_typeMore 10 = .ok (.goto 11, 3) := dk_167 0 11 (dk_at dksX0_typeMore_0 10 rfl rfl)
theorem dX0_typeMore_13 : decode cX0_typeMore 13 = .ok (.astore 4, 2) := dk_58 4 (dk_at dksX0_typeMore_0 13 rfl rfl)
theorem dX0_typeMore_15 : decode cX0_typeMore 15 = .ok (.iconst 1, 1) := dk_4 (dk_at dksX0_typeMore_0 15 rfl rfl)
theorem dX0_typeMore_16 : decode cX0_typeMore 16 = .ok (.ireturn, 1) := dk_172 (dk_at dksX0_typeMore_0 16 rfl rfl)
theorem dX0_typeMore_17 : decode cX0_typeMore 17 = .ok (.astore 4, 2) := dk_58 4 (dk_at dksX0_typeMore_0 17 rfl rfl)
theorem dX0_typeMore_19 : decode cX0_typeMore 19 = .ok (.iconst 2, 1) := dk_5 (dk_at dksX0_typeMore_0 19 rfl rfl)
theorem dX0_typeMore_20 : decode cX0_typeMore 20 = .ok (.ireturn, 1) := dk_172 (dk_at dksX0_typeMore_0 20 rfl rfl)
theorem dX0_typeMore_21 : decode cX0_typeMore 21 = .ok (.iconst 0, 1) := dk_3 (dk_at dksX0_typeMore_0 21 rfl rfl)
theorem dX0_typeMore_22 : decode cX0_typeMore 22 = .ok (.ireturn, 1) := dk_172 (dk_at dksX0_typeMore_0 22 rfl rfl)
abbrev cX0_typeAt : ByteArray := method_5_code
def yX0_typeAt : MethodName := ⟨RX0, "typeAt", "(LStemspan;IC[J)I"⟩
def dkwX0_typeAt_1 : List UInt8 := [172, 3, 172]
abbrev dktX0_typeAt_1 : List UInt8 := dkwX0_typeAt_1 ++ []
def dkwX0_typeAt_0 : List UInt8 := [45, 3, 42, 27, 28, 182, 0, 21, 133, 80, 167, 0, 15, 58, 4, 4, 172, 58, 4, 5, 172, 58, 4, 6]
abbrev dktX0_typeAt_0 : List UInt8 := dkwX0_typeAt_0 ++ dktX0_typeAt_1
theorem dksX0_typeAt_0 : cX0_typeAt.data.toList.drop 0 = dktX0_typeAt_0 := by decide +kernel
theorem dksX0_typeAt_1 : cX0_typeAt.data.toList.drop 24 = dktX0_typeAt_1 := dk_seg dksX0_typeAt_0 24 rfl rfl
theorem dX0_typeAt_0 : decode cX0_typeAt 0 = .ok (.aload_n 3, 1) := dk_45 (dk_at dksX0_typeAt_0 0 rfl rfl)
theorem dX0_typeAt_1 : decode cX0_typeAt 1 = .ok (.iconst 0, 1) := dk_3 (dk_at dksX0_typeAt_0 1 rfl rfl)
theorem dX0_typeAt_2 : decode cX0_typeAt 2 = .ok (.aload_n 0, 1) := dk_42 (dk_at dksX0_typeAt_0 2 rfl rfl)
theorem dX0_typeAt_3 : decode cX0_typeAt 3 = .ok (.iload_n 1, 1) := dk_27 (dk_at dksX0_typeAt_0 3 rfl rfl)
theorem dX0_typeAt_4 : decode cX0_typeAt 4 = .ok (.iload_n 2, 1) := dk_28 (dk_at dksX0_typeAt_0 4 rfl rfl)
theorem dX0_typeAt_5 : decode cX0_typeAt 5 = .ok (.invokevirtual 21, 3) := dk_182 0 21 (dk_at dksX0_typeAt_0 5 rfl rfl)
theorem dX0_typeAt_8 : decode cX0_typeAt 8 = .ok (.i2l, 1) := dk_133 (dk_at dksX0_typeAt_0 8 rfl rfl)
theorem dX0_typeAt_9 : decode cX0_typeAt 9 = .ok (.lastore, 1) := dk_80 (dk_at dksX0_typeAt_0 9 rfl rfl)
theorem dX0_typeAt_10 : decode cX0_typeAt 10 = .ok (.goto 15, 3) := dk_167 0 15 (dk_at dksX0_typeAt_0 10 rfl rfl)
theorem dX0_typeAt_13 : decode cX0_typeAt 13 = .ok (.astore 4, 2) := dk_58 4 (dk_at dksX0_typeAt_0 13 rfl rfl)
theorem dX0_typeAt_15 : decode cX0_typeAt 15 = .ok (.iconst 1, 1) := dk_4 (dk_at dksX0_typeAt_0 15 rfl rfl)
theorem dX0_typeAt_16 : decode cX0_typeAt 16 = .ok (.ireturn, 1) := dk_172 (dk_at dksX0_typeAt_0 16 rfl rfl)
theorem dX0_typeAt_17 : decode cX0_typeAt 17 = .ok (.astore 4, 2) := dk_58 4 (dk_at dksX0_typeAt_0 17 rfl rfl)
theorem dX0_typeAt_19 : decode cX0_typeAt 19 = .ok (.iconst 2, 1) := dk_5 (dk_at dksX0_typeAt_0 19 rfl rfl)
theorem dX0_typeAt_20 : decode cX0_typeAt 20 = .ok (.ireturn, 1) := dk_172 (dk_at dksX0_typeAt_0 20 rfl rfl)
theorem dX0_typeAt_21 : decode cX0_typeAt 21 = .ok (.astore 4, 2) := dk_58 4 (dk_at dksX0_typeAt_0 21 rfl rfl)
theorem dX0_typeAt_23 : decode cX0_typeAt 23 = .ok (.iconst 3, 1) := dk_6 (dk_at dksX0_typeAt_0 23 rfl rfl)
theorem dX0_typeAt_24 : decode cX0_typeAt 24 = .ok (.ireturn, 1) := dk_172 (dk_at dksX0_typeAt_1 0 rfl rfl)
theorem dX0_typeAt_25 : decode cX0_typeAt 25 = .ok (.iconst 0, 1) := dk_3 (dk_at dksX0_typeAt_1 1 rfl rfl)
theorem dX0_typeAt_26 : decode cX0_typeAt 26 = .ok (.ireturn, 1) := dk_172 (dk_at dksX0_typeAt_1 2 rfl rfl)
abbrev cX0_drop : ByteArray := method_6_code
def yX0_drop : MethodName := ⟨RX0, "drop", "(LStemspan;[J)I"⟩
def dkwX0_drop_0 : List UInt8 := [43, 3, 42, 182, 0, 27, 133, 80, 167, 0, 6, 77, 4, 172, 3, 172]
abbrev dktX0_drop_0 : List UInt8 := dkwX0_drop_0 ++ []
theorem dksX0_drop_0 : cX0_drop.data.toList.drop 0 = dktX0_drop_0 := by decide +kernel
theorem dX0_drop_0 : decode cX0_drop 0 = .ok (.aload_n 1, 1) := dk_43 (dk_at dksX0_drop_0 0 rfl rfl)
theorem dX0_drop_1 : decode cX0_drop 1 = .ok (.iconst 0, 1) := dk_3 (dk_at dksX0_drop_0 1 rfl rfl)
theorem dX0_drop_2 : decode cX0_drop 2 = .ok (.aload_n 0, 1) := dk_42 (dk_at dksX0_drop_0 2 rfl rfl)
theorem dX0_drop_3 : decode cX0_drop 3 = .ok (.invokevirtual 27, 3) := dk_182 0 27 (dk_at dksX0_drop_0 3 rfl rfl)
theorem dX0_drop_6 : decode cX0_drop 6 = .ok (.i2l, 1) := dk_133 (dk_at dksX0_drop_0 6 rfl rfl)
theorem dX0_drop_7 : decode cX0_drop 7 = .ok (.lastore, 1) := dk_80 (dk_at dksX0_drop_0 7 rfl rfl)
theorem dX0_drop_8 : decode cX0_drop 8 = .ok (.goto 6, 3) := dk_167 0 6 (dk_at dksX0_drop_0 8 rfl rfl)
theorem dX0_drop_11 : decode cX0_drop 11 = .ok (.astore_n 2, 1) := dk_77 (dk_at dksX0_drop_0 11 rfl rfl)
theorem dX0_drop_12 : decode cX0_drop 12 = .ok (.iconst 1, 1) := dk_4 (dk_at dksX0_drop_0 12 rfl rfl)
theorem dX0_drop_13 : decode cX0_drop 13 = .ok (.ireturn, 1) := dk_172 (dk_at dksX0_drop_0 13 rfl rfl)
theorem dX0_drop_14 : decode cX0_drop 14 = .ok (.iconst 0, 1) := dk_3 (dk_at dksX0_drop_0 14 rfl rfl)
theorem dX0_drop_15 : decode cX0_drop 15 = .ok (.ireturn, 1) := dk_172 (dk_at dksX0_drop_0 15 rfl rfl)
abbrev cX0_clip : ByteArray := method_7_code
def yX0_clip : MethodName := ⟨RX0, "clip", "(LStemspan;II[J)I"⟩
def dkwX0_clip_0 : List UInt8 := [45, 3, 42, 27, 28, 182, 0, 33, 133, 80, 167, 0, 7, 58, 4, 4, 172, 3, 172]
abbrev dktX0_clip_0 : List UInt8 := dkwX0_clip_0 ++ []
theorem dksX0_clip_0 : cX0_clip.data.toList.drop 0 = dktX0_clip_0 := by decide +kernel
theorem dX0_clip_0 : decode cX0_clip 0 = .ok (.aload_n 3, 1) := dk_45 (dk_at dksX0_clip_0 0 rfl rfl)
theorem dX0_clip_1 : decode cX0_clip 1 = .ok (.iconst 0, 1) := dk_3 (dk_at dksX0_clip_0 1 rfl rfl)
theorem dX0_clip_2 : decode cX0_clip 2 = .ok (.aload_n 0, 1) := dk_42 (dk_at dksX0_clip_0 2 rfl rfl)
theorem dX0_clip_3 : decode cX0_clip 3 = .ok (.iload_n 1, 1) := dk_27 (dk_at dksX0_clip_0 3 rfl rfl)
theorem dX0_clip_4 : decode cX0_clip 4 = .ok (.iload_n 2, 1) := dk_28 (dk_at dksX0_clip_0 4 rfl rfl)
theorem dX0_clip_5 : decode cX0_clip 5 = .ok (.invokevirtual 33, 3) := dk_182 0 33 (dk_at dksX0_clip_0 5 rfl rfl)
theorem dX0_clip_8 : decode cX0_clip 8 = .ok (.i2l, 1) := dk_133 (dk_at dksX0_clip_0 8 rfl rfl)
theorem dX0_clip_9 : decode cX0_clip 9 = .ok (.lastore, 1) := dk_80 (dk_at dksX0_clip_0 9 rfl rfl)
theorem dX0_clip_10 : decode cX0_clip 10 = .ok (.goto 7, 3) := dk_167 0 7 (dk_at dksX0_clip_0 10 rfl rfl)
theorem dX0_clip_13 : decode cX0_clip 13 = .ok (.astore 4, 2) := dk_58 4 (dk_at dksX0_clip_0 13 rfl rfl)
theorem dX0_clip_15 : decode cX0_clip 15 = .ok (.iconst 1, 1) := dk_4 (dk_at dksX0_clip_0 15 rfl rfl)
theorem dX0_clip_16 : decode cX0_clip 16 = .ok (.ireturn, 1) := dk_172 (dk_at dksX0_clip_0 16 rfl rfl)
theorem dX0_clip_17 : decode cX0_clip 17 = .ok (.iconst 0, 1) := dk_3 (dk_at dksX0_clip_0 17 rfl rfl)
theorem dX0_clip_18 : decode cX0_clip 18 = .ok (.ireturn, 1) := dk_172 (dk_at dksX0_clip_0 18 rfl rfl)
abbrev cX0_signAt : ByteArray := method_8_code
def yX0_signAt : MethodName := ⟨RX0, "signAt", "(LStemspan;I[J)I"⟩
def dkwX0_signAt_0 : List UInt8 := [44, 3, 42, 27, 182, 0, 36, 133, 80, 167, 0, 6, 78, 4, 172, 3, 172]
abbrev dktX0_signAt_0 : List UInt8 := dkwX0_signAt_0 ++ []
theorem dksX0_signAt_0 : cX0_signAt.data.toList.drop 0 = dktX0_signAt_0 := by decide +kernel
theorem dX0_signAt_0 : decode cX0_signAt 0 = .ok (.aload_n 2, 1) := dk_44 (dk_at dksX0_signAt_0 0 rfl rfl)
theorem dX0_signAt_1 : decode cX0_signAt 1 = .ok (.iconst 0, 1) := dk_3 (dk_at dksX0_signAt_0 1 rfl rfl)
theorem dX0_signAt_2 : decode cX0_signAt 2 = .ok (.aload_n 0, 1) := dk_42 (dk_at dksX0_signAt_0 2 rfl rfl)
theorem dX0_signAt_3 : decode cX0_signAt 3 = .ok (.iload_n 1, 1) := dk_27 (dk_at dksX0_signAt_0 3 rfl rfl)
theorem dX0_signAt_4 : decode cX0_signAt 4 = .ok (.invokevirtual 36, 3) := dk_182 0 36 (dk_at dksX0_signAt_0 4 rfl rfl)
theorem dX0_signAt_7 : decode cX0_signAt 7 = .ok (.i2l, 1) := dk_133 (dk_at dksX0_signAt_0 7 rfl rfl)
theorem dX0_signAt_8 : decode cX0_signAt 8 = .ok (.lastore, 1) := dk_80 (dk_at dksX0_signAt_0 8 rfl rfl)
theorem dX0_signAt_9 : decode cX0_signAt 9 = .ok (.goto 6, 3) := dk_167 0 6 (dk_at dksX0_signAt_0 9 rfl rfl)
theorem dX0_signAt_12 : decode cX0_signAt 12 = .ok (.astore_n 3, 1) := dk_78 (dk_at dksX0_signAt_0 12 rfl rfl)
theorem dX0_signAt_13 : decode cX0_signAt 13 = .ok (.iconst 1, 1) := dk_4 (dk_at dksX0_signAt_0 13 rfl rfl)
theorem dX0_signAt_14 : decode cX0_signAt 14 = .ok (.ireturn, 1) := dk_172 (dk_at dksX0_signAt_0 14 rfl rfl)
theorem dX0_signAt_15 : decode cX0_signAt 15 = .ok (.iconst 0, 1) := dk_3 (dk_at dksX0_signAt_0 15 rfl rfl)
theorem dX0_signAt_16 : decode cX0_signAt 16 = .ok (.ireturn, 1) := dk_172 (dk_at dksX0_signAt_0 16 rfl rfl)
abbrev cX0_put : ByteArray := method_9_code
def yX0_put : MethodName := ⟨RX0, "put", "(LStemspan;I[J)I"⟩
def dkwX0_put_0 : List UInt8 := [44, 3, 42, 27, 182, 0, 40, 133, 80, 167, 0, 12, 78, 4, 172, 78, 5, 172, 78, 6, 172, 3, 172]
abbrev dktX0_put_0 : List UInt8 := dkwX0_put_0 ++ []
theorem dksX0_put_0 : cX0_put.data.toList.drop 0 = dktX0_put_0 := by decide +kernel
theorem dX0_put_0 : decode cX0_put 0 = .ok (.aload_n 2, 1) := dk_44 (dk_at dksX0_put_0 0 rfl rfl)
theorem dX0_put_1 : decode cX0_put 1 = .ok (.iconst 0, 1) := dk_3 (dk_at dksX0_put_0 1 rfl rfl)
theorem dX0_put_2 : decode cX0_put 2 = .ok (.aload_n 0, 1) := dk_42 (dk_at dksX0_put_0 2 rfl rfl)
theorem dX0_put_3 : decode cX0_put 3 = .ok (.iload_n 1, 1) := dk_27 (dk_at dksX0_put_0 3 rfl rfl)
theorem dX0_put_4 : decode cX0_put 4 = .ok (.invokevirtual 40, 3) := dk_182 0 40 (dk_at dksX0_put_0 4 rfl rfl)
theorem dX0_put_7 : decode cX0_put 7 = .ok (.i2l, 1) := dk_133 (dk_at dksX0_put_0 7 rfl rfl)
theorem dX0_put_8 : decode cX0_put 8 = .ok (.lastore, 1) := dk_80 (dk_at dksX0_put_0 8 rfl rfl)
theorem dX0_put_9 : decode cX0_put 9 = .ok (.goto 12, 3) := dk_167 0 12 (dk_at dksX0_put_0 9 rfl rfl)
theorem dX0_put_12 : decode cX0_put 12 = .ok (.astore_n 3, 1) := dk_78 (dk_at dksX0_put_0 12 rfl rfl)
theorem dX0_put_13 : decode cX0_put 13 = .ok (.iconst 1, 1) := dk_4 (dk_at dksX0_put_0 13 rfl rfl)
theorem dX0_put_14 : decode cX0_put 14 = .ok (.ireturn, 1) := dk_172 (dk_at dksX0_put_0 14 rfl rfl)
theorem dX0_put_15 : decode cX0_put 15 = .ok (.astore_n 3, 1) := dk_78 (dk_at dksX0_put_0 15 rfl rfl)
theorem dX0_put_16 : decode cX0_put 16 = .ok (.iconst 2, 1) := dk_5 (dk_at dksX0_put_0 16 rfl rfl)
theorem dX0_put_17 : decode cX0_put 17 = .ok (.ireturn, 1) := dk_172 (dk_at dksX0_put_0 17 rfl rfl)
theorem dX0_put_18 : decode cX0_put 18 = .ok (.astore_n 3, 1) := dk_78 (dk_at dksX0_put_0 18 rfl rfl)
theorem dX0_put_19 : decode cX0_put 19 = .ok (.iconst 3, 1) := dk_6 (dk_at dksX0_put_0 19 rfl rfl)
theorem dX0_put_20 : decode cX0_put 20 = .ok (.ireturn, 1) := dk_172 (dk_at dksX0_put_0 20 rfl rfl)
theorem dX0_put_21 : decode cX0_put 21 = .ok (.iconst 0, 1) := dk_3 (dk_at dksX0_put_0 21 rfl rfl)
theorem dX0_put_22 : decode cX0_put 22 = .ok (.ireturn, 1) := dk_172 (dk_at dksX0_put_0 22 rfl rfl)
abbrev cX0_take : ByteArray := method_10_code
def yX0_take : MethodName := ⟨RX0, "take", "(LStemspan;[J)I"⟩
def dkwX0_take_0 : List UInt8 := [43, 3, 42, 182, 0, 46, 133, 80, 167, 0, 6, 77, 4, 172, 3, 172]
abbrev dktX0_take_0 : List UInt8 := dkwX0_take_0 ++ []
theorem dksX0_take_0 : cX0_take.data.toList.drop 0 = dktX0_take_0 := by decide +kernel
theorem dX0_take_0 : decode cX0_take 0 = .ok (.aload_n 1, 1) := dk_43 (dk_at dksX0_take_0 0 rfl rfl)
theorem dX0_take_1 : decode cX0_take 1 = .ok (.iconst 0, 1) := dk_3 (dk_at dksX0_take_0 1 rfl rfl)
theorem dX0_take_2 : decode cX0_take 2 = .ok (.aload_n 0, 1) := dk_42 (dk_at dksX0_take_0 2 rfl rfl)
theorem dX0_take_3 : decode cX0_take 3 = .ok (.invokevirtual 46, 3) := dk_182 0 46 (dk_at dksX0_take_0 3 rfl rfl)
theorem dX0_take_6 : decode cX0_take 6 = .ok (.i2l, 1) := dk_133 (dk_at dksX0_take_0 6 rfl rfl)
theorem dX0_take_7 : decode cX0_take 7 = .ok (.lastore, 1) := dk_80 (dk_at dksX0_take_0 7 rfl rfl)
theorem dX0_take_8 : decode cX0_take 8 = .ok (.goto 6, 3) := dk_167 0 6 (dk_at dksX0_take_0 8 rfl rfl)
theorem dX0_take_11 : decode cX0_take 11 = .ok (.astore_n 2, 1) := dk_77 (dk_at dksX0_take_0 11 rfl rfl)
theorem dX0_take_12 : decode cX0_take 12 = .ok (.iconst 1, 1) := dk_4 (dk_at dksX0_take_0 12 rfl rfl)
theorem dX0_take_13 : decode cX0_take 13 = .ok (.ireturn, 1) := dk_172 (dk_at dksX0_take_0 13 rfl rfl)
theorem dX0_take_14 : decode cX0_take 14 = .ok (.iconst 0, 1) := dk_3 (dk_at dksX0_take_0 14 rfl rfl)
theorem dX0_take_15 : decode cX0_take 15 = .ok (.ireturn, 1) := dk_172 (dk_at dksX0_take_0 15 rfl rfl)
abbrev cX0_number : ByteArray := method_11_code
def yX0_number : MethodName := ⟨RX0, "number", "(LStemspan;[J)I"⟩
def dkwX0_number_0 : List UInt8 := [43, 3, 42, 182, 0, 49, 133, 80, 167, 0, 6, 77, 4, 172, 3, 172]
abbrev dktX0_number_0 : List UInt8 := dkwX0_number_0 ++ []
theorem dksX0_number_0 : cX0_number.data.toList.drop 0 = dktX0_number_0 := by decide +kernel
theorem dX0_number_0 : decode cX0_number 0 = .ok (.aload_n 1, 1) := dk_43 (dk_at dksX0_number_0 0 rfl rfl)
theorem dX0_number_1 : decode cX0_number 1 = .ok (.iconst 0, 1) := dk_3 (dk_at dksX0_number_0 1 rfl rfl)
theorem dX0_number_2 : decode cX0_number 2 = .ok (.aload_n 0, 1) := dk_42 (dk_at dksX0_number_0 2 rfl rfl)
theorem dX0_number_3 : decode cX0_number 3 = .ok (.invokevirtual 49, 3) := dk_182 0 49 (dk_at dksX0_number_0 3 rfl rfl)
theorem dX0_number_6 : decode cX0_number 6 = .ok (.i2l, 1) := dk_133 (dk_at dksX0_number_0 6 rfl rfl)
theorem dX0_number_7 : decode cX0_number 7 = .ok (.lastore, 1) := dk_80 (dk_at dksX0_number_0 7 rfl rfl)
theorem dX0_number_8 : decode cX0_number 8 = .ok (.goto 6, 3) := dk_167 0 6 (dk_at dksX0_number_0 8 rfl rfl)
theorem dX0_number_11 : decode cX0_number 11 = .ok (.astore_n 2, 1) := dk_77 (dk_at dksX0_number_0 11 rfl rfl)
theorem dX0_number_12 : decode cX0_number 12 = .ok (.iconst 1, 1) := dk_4 (dk_at dksX0_number_0 12 rfl rfl)
theorem dX0_number_13 : decode cX0_number 13 = .ok (.ireturn, 1) := dk_172 (dk_at dksX0_number_0 13 rfl rfl)
theorem dX0_number_14 : decode cX0_number 14 = .ok (.iconst 0, 1) := dk_3 (dk_at dksX0_number_0 14 rfl rfl)
theorem dX0_number_15 : decode cX0_number 15 = .ok (.ireturn, 1) := dk_172 (dk_at dksX0_number_0 15 rfl rfl)
abbrev cX0_word : ByteArray := method_12_code
def yX0_word : MethodName := ⟨RX0, "word", "(LStemspan;I[J)I"⟩
def dkwX0_word_0 : List UInt8 := [44, 3, 42, 27, 182, 0, 52, 133, 80, 167, 0, 6, 78, 4, 172, 3, 172]
abbrev dktX0_word_0 : List UInt8 := dkwX0_word_0 ++ []
theorem dksX0_word_0 : cX0_word.data.toList.drop 0 = dktX0_word_0 := by decide +kernel
theorem dX0_word_0 : decode cX0_word 0 = .ok (.aload_n 2, 1) := dk_44 (dk_at dksX0_word_0 0 rfl rfl)
theorem dX0_word_1 : decode cX0_word 1 = .ok (.iconst 0, 1) := dk_3 (dk_at dksX0_word_0 1 rfl rfl)
theorem dX0_word_2 : decode cX0_word 2 = .ok (.aload_n 0, 1) := dk_42 (dk_at dksX0_word_0 2 rfl rfl)
theorem dX0_word_3 : decode cX0_word 3 = .ok (.iload_n 1, 1) := dk_27 (dk_at dksX0_word_0 3 rfl rfl)
theorem dX0_word_4 : decode cX0_word 4 = .ok (.invokevirtual 52, 3) := dk_182 0 52 (dk_at dksX0_word_0 4 rfl rfl)
theorem dX0_word_7 : decode cX0_word 7 = .ok (.i2l, 1) := dk_133 (dk_at dksX0_word_0 7 rfl rfl)
theorem dX0_word_8 : decode cX0_word 8 = .ok (.lastore, 1) := dk_80 (dk_at dksX0_word_0 8 rfl rfl)
theorem dX0_word_9 : decode cX0_word 9 = .ok (.goto 6, 3) := dk_167 0 6 (dk_at dksX0_word_0 9 rfl rfl)
theorem dX0_word_12 : decode cX0_word 12 = .ok (.astore_n 3, 1) := dk_78 (dk_at dksX0_word_0 12 rfl rfl)
theorem dX0_word_13 : decode cX0_word 13 = .ok (.iconst 1, 1) := dk_4 (dk_at dksX0_word_0 13 rfl rfl)
theorem dX0_word_14 : decode cX0_word 14 = .ok (.ireturn, 1) := dk_172 (dk_at dksX0_word_0 14 rfl rfl)
theorem dX0_word_15 : decode cX0_word 15 = .ok (.iconst 0, 1) := dk_3 (dk_at dksX0_word_0 15 rfl rfl)
theorem dX0_word_16 : decode cX0_word 16 = .ok (.ireturn, 1) := dk_172 (dk_at dksX0_word_0 16 rfl rfl)
abbrev cX0_near : ByteArray := method_13_code
def yX0_near : MethodName := ⟨RX0, "near", "(LStemspan;C[J)I"⟩
def dkwX0_near_0 : List UInt8 := [44, 3, 42, 27, 182, 0, 55, 133, 80, 167, 0, 9, 78, 4, 172, 78, 5, 172, 3, 172]
abbrev dktX0_near_0 : List UInt8 := dkwX0_near_0 ++ []
theorem dksX0_near_0 : cX0_near.data.toList.drop 0 = dktX0_near_0 := by decide +kernel
theorem dX0_near_0 : decode cX0_near 0 = .ok (.aload_n 2, 1) := dk_44 (dk_at dksX0_near_0 0 rfl rfl)
theorem dX0_near_1 : decode cX0_near 1 = .ok (.iconst 0, 1) := dk_3 (dk_at dksX0_near_0 1 rfl rfl)
theorem dX0_near_2 : decode cX0_near 2 = .ok (.aload_n 0, 1) := dk_42 (dk_at dksX0_near_0 2 rfl rfl)
theorem dX0_near_3 : decode cX0_near 3 = .ok (.iload_n 1, 1) := dk_27 (dk_at dksX0_near_0 3 rfl rfl)
theorem dX0_near_4 : decode cX0_near 4 = .ok (.invokevirtual 55, 3) := dk_182 0 55 (dk_at dksX0_near_0 4 rfl rfl)
theorem dX0_near_7 : decode cX0_near 7 = .ok (.i2l, 1) := dk_133 (dk_at dksX0_near_0 7 rfl rfl)
theorem dX0_near_8 : decode cX0_near 8 = .ok (.lastore, 1) := dk_80 (dk_at dksX0_near_0 8 rfl rfl)
theorem dX0_near_9 : decode cX0_near 9 = .ok (.goto 9, 3) := dk_167 0 9 (dk_at dksX0_near_0 9 rfl rfl)
theorem dX0_near_12 : decode cX0_near 12 = .ok (.astore_n 3, 1) := dk_78 (dk_at dksX0_near_0 12 rfl rfl)
theorem dX0_near_13 : decode cX0_near 13 = .ok (.iconst 1, 1) := dk_4 (dk_at dksX0_near_0 13 rfl rfl)
theorem dX0_near_14 : decode cX0_near 14 = .ok (.ireturn, 1) := dk_172 (dk_at dksX0_near_0 14 rfl rfl)
theorem dX0_near_15 : decode cX0_near 15 = .ok (.astore_n 3, 1) := dk_78 (dk_at dksX0_near_0 15 rfl rfl)
theorem dX0_near_16 : decode cX0_near 16 = .ok (.iconst 2, 1) := dk_5 (dk_at dksX0_near_0 16 rfl rfl)
theorem dX0_near_17 : decode cX0_near 17 = .ok (.ireturn, 1) := dk_172 (dk_at dksX0_near_0 17 rfl rfl)
theorem dX0_near_18 : decode cX0_near 18 = .ok (.iconst 0, 1) := dk_3 (dk_at dksX0_near_0 18 rfl rfl)
theorem dX0_near_19 : decode cX0_near 19 = .ok (.ireturn, 1) := dk_172 (dk_at dksX0_near_0 19 rfl rfl)
abbrev cX0_begunAt : ByteArray := method_14_code
def yX0_begunAt : MethodName := ⟨RX0, "begunAt", "(LStemspan;I[J)I"⟩
def dkwX0_begunAt_0 : List UInt8 := [44, 3, 42, 27, 182, 0, 58, 133, 80, 167, 0, 6, 78, 4, 172, 3, 172]
abbrev dktX0_begunAt_0 : List UInt8 := dkwX0_begunAt_0 ++ []
theorem dksX0_begunAt_0 : cX0_begunAt.data.toList.drop 0 = dktX0_begunAt_0 := by decide +kernel
theorem dX0_begunAt_0 : decode cX0_begunAt 0 = .ok (.aload_n 2, 1) := dk_44 (dk_at dksX0_begunAt_0 0 rfl rfl)
theorem dX0_begunAt_1 : decode cX0_begunAt 1 = .ok (.iconst 0, 1) := dk_3 (dk_at dksX0_begunAt_0 1 rfl rfl)
theorem dX0_begunAt_2 : decode cX0_begunAt 2 = .ok (.aload_n 0, 1) := dk_42 (dk_at dksX0_begunAt_0 2 rfl rfl)
theorem dX0_begunAt_3 : decode cX0_begunAt 3 = .ok (.iload_n 1, 1) := dk_27 (dk_at dksX0_begunAt_0 3 rfl rfl)
theorem dX0_begunAt_4 : decode cX0_begunAt 4 = .ok (.invokevirtual 58, 3) := dk_182 0 58 (dk_at dksX0_begunAt_0 4 rfl rfl)
theorem dX0_begunAt_7 : decode cX0_begunAt 7 = .ok (.i2l, 1) := dk_133 (dk_at dksX0_begunAt_0 7 rfl rfl)
theorem dX0_begunAt_8 : decode cX0_begunAt 8 = .ok (.lastore, 1) := dk_80 (dk_at dksX0_begunAt_0 8 rfl rfl)
theorem dX0_begunAt_9 : decode cX0_begunAt 9 = .ok (.goto 6, 3) := dk_167 0 6 (dk_at dksX0_begunAt_0 9 rfl rfl)
theorem dX0_begunAt_12 : decode cX0_begunAt 12 = .ok (.astore_n 3, 1) := dk_78 (dk_at dksX0_begunAt_0 12 rfl rfl)
theorem dX0_begunAt_13 : decode cX0_begunAt 13 = .ok (.iconst 1, 1) := dk_4 (dk_at dksX0_begunAt_0 13 rfl rfl)
theorem dX0_begunAt_14 : decode cX0_begunAt 14 = .ok (.ireturn, 1) := dk_172 (dk_at dksX0_begunAt_0 14 rfl rfl)
theorem dX0_begunAt_15 : decode cX0_begunAt 15 = .ok (.iconst 0, 1) := dk_3 (dk_at dksX0_begunAt_0 15 rfl rfl)
theorem dX0_begunAt_16 : decode cX0_begunAt 16 = .ok (.ireturn, 1) := dk_172 (dk_at dksX0_begunAt_0 16 rfl rfl)
abbrev cX0_longest : ByteArray := method_15_code
def yX0_longest : MethodName := ⟨RX0, "longest", "(LStemspan;I[J)I"⟩
def dkwX0_longest_0 : List UInt8 := [44, 3, 42, 27, 182, 0, 61, 133, 80, 167, 0, 6, 78, 4, 172, 3, 172]
abbrev dktX0_longest_0 : List UInt8 := dkwX0_longest_0 ++ []
theorem dksX0_longest_0 : cX0_longest.data.toList.drop 0 = dktX0_longest_0 := by decide +kernel
theorem dX0_longest_0 : decode cX0_longest 0 = .ok (.aload_n 2, 1) := dk_44 (dk_at dksX0_longest_0 0 rfl rfl)
theorem dX0_longest_1 : decode cX0_longest 1 = .ok (.iconst 0, 1) := dk_3 (dk_at dksX0_longest_0 1 rfl rfl)
theorem dX0_longest_2 : decode cX0_longest 2 = .ok (.aload_n 0, 1) := dk_42 (dk_at dksX0_longest_0 2 rfl rfl)
theorem dX0_longest_3 : decode cX0_longest 3 = .ok (.iload_n 1, 1) := dk_27 (dk_at dksX0_longest_0 3 rfl rfl)
theorem dX0_longest_4 : decode cX0_longest 4 = .ok (.invokevirtual 61, 3) := dk_182 0 61 (dk_at dksX0_longest_0 4 rfl rfl)
theorem dX0_longest_7 : decode cX0_longest 7 = .ok (.i2l, 1) := dk_133 (dk_at dksX0_longest_0 7 rfl rfl)
theorem dX0_longest_8 : decode cX0_longest 8 = .ok (.lastore, 1) := dk_80 (dk_at dksX0_longest_0 8 rfl rfl)
theorem dX0_longest_9 : decode cX0_longest 9 = .ok (.goto 6, 3) := dk_167 0 6 (dk_at dksX0_longest_0 9 rfl rfl)
theorem dX0_longest_12 : decode cX0_longest 12 = .ok (.astore_n 3, 1) := dk_78 (dk_at dksX0_longest_0 12 rfl rfl)
theorem dX0_longest_13 : decode cX0_longest 13 = .ok (.iconst 1, 1) := dk_4 (dk_at dksX0_longest_0 13 rfl rfl)
theorem dX0_longest_14 : decode cX0_longest 14 = .ok (.ireturn, 1) := dk_172 (dk_at dksX0_longest_0 14 rfl rfl)
theorem dX0_longest_15 : decode cX0_longest 15 = .ok (.iconst 0, 1) := dk_3 (dk_at dksX0_longest_0 15 rfl rfl)
theorem dX0_longest_16 : decode cX0_longest 16 = .ok (.ireturn, 1) := dk_172 (dk_at dksX0_longest_0 16 rfl rfl)
abbrev cX0_twin : ByteArray := method_16_code
def yX0_twin : MethodName := ⟨RX0, "twin", "(LStemspan;[J)I"⟩
def dkwX0_twin_0 : List UInt8 := [43, 3, 42, 182, 0, 64, 133, 80, 167, 0, 6, 77, 4, 172, 3, 172]
abbrev dktX0_twin_0 : List UInt8 := dkwX0_twin_0 ++ []
theorem dksX0_twin_0 : cX0_twin.data.toList.drop 0 = dktX0_twin_0 := by decide +kernel
theorem dX0_twin_0 : decode cX0_twin 0 = .ok (.aload_n 1, 1) := dk_43 (dk_at dksX0_twin_0 0 rfl rfl)
theorem dX0_twin_1 : decode cX0_twin 1 = .ok (.iconst 0, 1) := dk_3 (dk_at dksX0_twin_0 1 rfl rfl)
theorem dX0_twin_2 : decode cX0_twin 2 = .ok (.aload_n 0, 1) := dk_42 (dk_at dksX0_twin_0 2 rfl rfl)
theorem dX0_twin_3 : decode cX0_twin 3 = .ok (.invokevirtual 64, 3) := dk_182 0 64 (dk_at dksX0_twin_0 3 rfl rfl)
theorem dX0_twin_6 : decode cX0_twin 6 = .ok (.i2l, 1) := dk_133 (dk_at dksX0_twin_0 6 rfl rfl)
theorem dX0_twin_7 : decode cX0_twin 7 = .ok (.lastore, 1) := dk_80 (dk_at dksX0_twin_0 7 rfl rfl)
theorem dX0_twin_8 : decode cX0_twin 8 = .ok (.goto 6, 3) := dk_167 0 6 (dk_at dksX0_twin_0 8 rfl rfl)
theorem dX0_twin_11 : decode cX0_twin 11 = .ok (.astore_n 2, 1) := dk_77 (dk_at dksX0_twin_0 11 rfl rfl)
theorem dX0_twin_12 : decode cX0_twin 12 = .ok (.iconst 1, 1) := dk_4 (dk_at dksX0_twin_0 12 rfl rfl)
theorem dX0_twin_13 : decode cX0_twin 13 = .ok (.ireturn, 1) := dk_172 (dk_at dksX0_twin_0 13 rfl rfl)
theorem dX0_twin_14 : decode cX0_twin 14 = .ok (.iconst 0, 1) := dk_3 (dk_at dksX0_twin_0 14 rfl rfl)
theorem dX0_twin_15 : decode cX0_twin 15 = .ok (.ireturn, 1) := dk_172 (dk_at dksX0_twin_0 15 rfl rfl)
abbrev cX0_piece : ByteArray := method_17_code
def yX0_piece : MethodName := ⟨RX0, "piece", "(LStemspan;I[J)I"⟩
def dkwX0_piece_0 : List UInt8 := [44, 3, 42, 27, 182, 0, 67, 133, 80, 167, 0, 6, 78, 4, 172, 3, 172]
abbrev dktX0_piece_0 : List UInt8 := dkwX0_piece_0 ++ []
theorem dksX0_piece_0 : cX0_piece.data.toList.drop 0 = dktX0_piece_0 := by decide +kernel
theorem dX0_piece_0 : decode cX0_piece 0 = .ok (.aload_n 2, 1) := dk_44 (dk_at dksX0_piece_0 0 rfl rfl)
theorem dX0_piece_1 : decode cX0_piece 1 = .ok (.iconst 0, 1) := dk_3 (dk_at dksX0_piece_0 1 rfl rfl)
theorem dX0_piece_2 : decode cX0_piece 2 = .ok (.aload_n 0, 1) := dk_42 (dk_at dksX0_piece_0 2 rfl rfl)
theorem dX0_piece_3 : decode cX0_piece 3 = .ok (.iload_n 1, 1) := dk_27 (dk_at dksX0_piece_0 3 rfl rfl)
theorem dX0_piece_4 : decode cX0_piece 4 = .ok (.invokevirtual 67, 3) := dk_182 0 67 (dk_at dksX0_piece_0 4 rfl rfl)
theorem dX0_piece_7 : decode cX0_piece 7 = .ok (.i2l, 1) := dk_133 (dk_at dksX0_piece_0 7 rfl rfl)
theorem dX0_piece_8 : decode cX0_piece 8 = .ok (.lastore, 1) := dk_80 (dk_at dksX0_piece_0 8 rfl rfl)
theorem dX0_piece_9 : decode cX0_piece 9 = .ok (.goto 6, 3) := dk_167 0 6 (dk_at dksX0_piece_0 9 rfl rfl)
theorem dX0_piece_12 : decode cX0_piece 12 = .ok (.astore_n 3, 1) := dk_78 (dk_at dksX0_piece_0 12 rfl rfl)
theorem dX0_piece_13 : decode cX0_piece 13 = .ok (.iconst 1, 1) := dk_4 (dk_at dksX0_piece_0 13 rfl rfl)
theorem dX0_piece_14 : decode cX0_piece 14 = .ok (.ireturn, 1) := dk_172 (dk_at dksX0_piece_0 14 rfl rfl)
theorem dX0_piece_15 : decode cX0_piece 15 = .ok (.iconst 0, 1) := dk_3 (dk_at dksX0_piece_0 15 rfl rfl)
theorem dX0_piece_16 : decode cX0_piece 16 = .ok (.ireturn, 1) := dk_172 (dk_at dksX0_piece_0 16 rfl rfl)
abbrev cX0_code : ByteArray := method_18_code
def yX0_code : MethodName := ⟨RX0, "code", "(LStemspan;C[J)I"⟩
def dkwX0_code_0 : List UInt8 := [44, 3, 42, 27, 182, 0, 70, 133, 80, 167, 0, 9, 78, 4, 172, 78, 5, 172, 3, 172]
abbrev dktX0_code_0 : List UInt8 := dkwX0_code_0 ++ []
theorem dksX0_code_0 : cX0_code.data.toList.drop 0 = dktX0_code_0 := by decide +kernel
theorem dX0_code_0 : decode cX0_code 0 = .ok (.aload_n 2, 1) := dk_44 (dk_at dksX0_code_0 0 rfl rfl)
theorem dX0_code_1 : decode cX0_code 1 = .ok (.iconst 0, 1) := dk_3 (dk_at dksX0_code_0 1 rfl rfl)
theorem dX0_code_2 : decode cX0_code 2 = .ok (.aload_n 0, 1) := dk_42 (dk_at dksX0_code_0 2 rfl rfl)
theorem dX0_code_3 : decode cX0_code 3 = .ok (.iload_n 1, 1) := dk_27 (dk_at dksX0_code_0 3 rfl rfl)
theorem dX0_code_4 : decode cX0_code 4 = .ok (.invokevirtual 70, 3) := dk_182 0 70 (dk_at dksX0_code_0 4 rfl rfl)
theorem dX0_code_7 : decode cX0_code 7 = .ok (.i2l, 1) := dk_133 (dk_at dksX0_code_0 7 rfl rfl)
theorem dX0_code_8 : decode cX0_code 8 = .ok (.lastore, 1) := dk_80 (dk_at dksX0_code_0 8 rfl rfl)
theorem dX0_code_9 : decode cX0_code 9 = .ok (.goto 9, 3) := dk_167 0 9 (dk_at dksX0_code_0 9 rfl rfl)
theorem dX0_code_12 : decode cX0_code 12 = .ok (.astore_n 3, 1) := dk_78 (dk_at dksX0_code_0 12 rfl rfl)
theorem dX0_code_13 : decode cX0_code 13 = .ok (.iconst 1, 1) := dk_4 (dk_at dksX0_code_0 13 rfl rfl)
theorem dX0_code_14 : decode cX0_code 14 = .ok (.ireturn, 1) := dk_172 (dk_at dksX0_code_0 14 rfl rfl)
theorem dX0_code_15 : decode cX0_code 15 = .ok (.astore_n 3, 1) := dk_78 (dk_at dksX0_code_0 15 rfl rfl)
theorem dX0_code_16 : decode cX0_code 16 = .ok (.iconst 2, 1) := dk_5 (dk_at dksX0_code_0 16 rfl rfl)
theorem dX0_code_17 : decode cX0_code 17 = .ok (.ireturn, 1) := dk_172 (dk_at dksX0_code_0 17 rfl rfl)
theorem dX0_code_18 : decode cX0_code 18 = .ok (.iconst 0, 1) := dk_3 (dk_at dksX0_code_0 18 rfl rfl)
theorem dX0_code_19 : decode cX0_code 19 = .ok (.ireturn, 1) := dk_172 (dk_at dksX0_code_0 19 rfl rfl)
abbrev cX0_write : ByteArray := method_19_code
def yX0_write : MethodName := ⟨RX0, "write", "(LStemspan;[J)I"⟩
def dkwX0_write_0 : List UInt8 := [43, 3, 42, 182, 0, 73, 133, 80, 167, 0, 6, 77, 4, 172, 3, 172]
abbrev dktX0_write_0 : List UInt8 := dkwX0_write_0 ++ []
theorem dksX0_write_0 : cX0_write.data.toList.drop 0 = dktX0_write_0 := by decide +kernel
theorem dX0_write_0 : decode cX0_write 0 = .ok (.aload_n 1, 1) := dk_43 (dk_at dksX0_write_0 0 rfl rfl)
theorem dX0_write_1 : decode cX0_write 1 = .ok (.iconst 0, 1) := dk_3 (dk_at dksX0_write_0 1 rfl rfl)
theorem dX0_write_2 : decode cX0_write 2 = .ok (.aload_n 0, 1) := dk_42 (dk_at dksX0_write_0 2 rfl rfl)
theorem dX0_write_3 : decode cX0_write 3 = .ok (.invokevirtual 73, 3) := dk_182 0 73 (dk_at dksX0_write_0 3 rfl rfl)
theorem dX0_write_6 : decode cX0_write 6 = .ok (.i2l, 1) := dk_133 (dk_at dksX0_write_0 6 rfl rfl)
theorem dX0_write_7 : decode cX0_write 7 = .ok (.lastore, 1) := dk_80 (dk_at dksX0_write_0 7 rfl rfl)
theorem dX0_write_8 : decode cX0_write 8 = .ok (.goto 6, 3) := dk_167 0 6 (dk_at dksX0_write_0 8 rfl rfl)
theorem dX0_write_11 : decode cX0_write 11 = .ok (.astore_n 2, 1) := dk_77 (dk_at dksX0_write_0 11 rfl rfl)
theorem dX0_write_12 : decode cX0_write 12 = .ok (.iconst 1, 1) := dk_4 (dk_at dksX0_write_0 12 rfl rfl)
theorem dX0_write_13 : decode cX0_write 13 = .ok (.ireturn, 1) := dk_172 (dk_at dksX0_write_0 13 rfl rfl)
theorem dX0_write_14 : decode cX0_write 14 = .ok (.iconst 0, 1) := dk_3 (dk_at dksX0_write_0 14 rfl rfl)
theorem dX0_write_15 : decode cX0_write 15 = .ok (.ireturn, 1) := dk_172 (dk_at dksX0_write_0 15 rfl rfl)
abbrev cX0_read : ByteArray := method_20_code
def yX0_read : MethodName := ⟨RX0, "read", "(LStemspan;[J)I"⟩
def dkwX0_read_0 : List UInt8 := [43, 3, 42, 182, 0, 76, 133, 80, 167, 0, 9, 77, 4, 172, 77, 5, 172, 3, 172]
abbrev dktX0_read_0 : List UInt8 := dkwX0_read_0 ++ []
theorem dksX0_read_0 : cX0_read.data.toList.drop 0 = dktX0_read_0 := by decide +kernel
theorem dX0_read_0 : decode cX0_read 0 = .ok (.aload_n 1, 1) := dk_43 (dk_at dksX0_read_0 0 rfl rfl)
theorem dX0_read_1 : decode cX0_read 1 = .ok (.iconst 0, 1) := dk_3 (dk_at dksX0_read_0 1 rfl rfl)
theorem dX0_read_2 : decode cX0_read 2 = .ok (.aload_n 0, 1) := dk_42 (dk_at dksX0_read_0 2 rfl rfl)
theorem dX0_read_3 : decode cX0_read 3 = .ok (.invokevirtual 76, 3) := dk_182 0 76 (dk_at dksX0_read_0 3 rfl rfl)
theorem dX0_read_6 : decode cX0_read 6 = .ok (.i2l, 1) := dk_133 (dk_at dksX0_read_0 6 rfl rfl)
theorem dX0_read_7 : decode cX0_read 7 = .ok (.lastore, 1) := dk_80 (dk_at dksX0_read_0 7 rfl rfl)
theorem dX0_read_8 : decode cX0_read 8 = .ok (.goto 9, 3) := dk_167 0 9 (dk_at dksX0_read_0 8 rfl rfl)
theorem dX0_read_11 : decode cX0_read 11 = .ok (.astore_n 2, 1) := dk_77 (dk_at dksX0_read_0 11 rfl rfl)
theorem dX0_read_12 : decode cX0_read 12 = .ok (.iconst 1, 1) := dk_4 (dk_at dksX0_read_0 12 rfl rfl)
theorem dX0_read_13 : decode cX0_read 13 = .ok (.ireturn, 1) := dk_172 (dk_at dksX0_read_0 13 rfl rfl)
theorem dX0_read_14 : decode cX0_read 14 = .ok (.astore_n 2, 1) := dk_77 (dk_at dksX0_read_0 14 rfl rfl)
theorem dX0_read_15 : decode cX0_read 15 = .ok (.iconst 2, 1) := dk_5 (dk_at dksX0_read_0 15 rfl rfl)
theorem dX0_read_16 : decode cX0_read 16 = .ok (.ireturn, 1) := dk_172 (dk_at dksX0_read_0 16 rfl rfl)
theorem dX0_read_17 : decode cX0_read 17 = .ok (.iconst 0, 1) := dk_3 (dk_at dksX0_read_0 17 rfl rfl)
theorem dX0_read_18 : decode cX0_read 18 = .ok (.ireturn, 1) := dk_172 (dk_at dksX0_read_0 18 rfl rfl)
abbrev cX0_writeAll : ByteArray := method_21_code
def yX0_writeAll : MethodName := ⟨RX0, "writeAll", "(LStemspan;[J)I"⟩
def dkwX0_writeAll_0 : List UInt8 := [43, 3, 42, 182, 0, 79, 133, 80, 167, 0, 9, 77, 4, 172, 77, 5, 172, 3, 172]
abbrev dktX0_writeAll_0 : List UInt8 := dkwX0_writeAll_0 ++ []
theorem dksX0_writeAll_0 : cX0_writeAll.data.toList.drop 0 = dktX0_writeAll_0 := by decide +kernel
theorem dX0_writeAll_0 : decode cX0_writeAll 0 = .ok (.aload_n 1, 1) := dk_43 (dk_at dksX0_writeAll_0 0 rfl rfl)
theorem dX0_writeAll_1 : decode cX0_writeAll 1 = .ok (.iconst 0, 1) := dk_3 (dk_at dksX0_writeAll_0 1 rfl rfl)
theorem dX0_writeAll_2 : decode cX0_writeAll 2 = .ok (.aload_n 0, 1) := dk_42 (dk_at dksX0_writeAll_0 2 rfl rfl)
theorem dX0_writeAll_3 : decode cX0_writeAll 3 = .ok (.invokevirtual 79, 3) := dk_182 0 79 (dk_at dksX0_writeAll_0 3 rfl rfl)
theorem dX0_writeAll_6 : decode cX0_writeAll 6 = .ok (.i2l, 1) := dk_133 (dk_at dksX0_writeAll_0 6 rfl rfl)
theorem dX0_writeAll_7 : decode cX0_writeAll 7 = .ok (.lastore, 1) := dk_80 (dk_at dksX0_writeAll_0 7 rfl rfl)
theorem dX0_writeAll_8 : decode cX0_writeAll 8 = .ok (.goto 9, 3) := dk_167 0 9 (dk_at dksX0_writeAll_0 8 rfl rfl)
theorem dX0_writeAll_11 : decode cX0_writeAll 11 = .ok (.astore_n 2, 1) := dk_77 (dk_at dksX0_writeAll_0 11 rfl rfl)
theorem dX0_writeAll_12 : decode cX0_writeAll 12 = .ok (.iconst 1, 1) := dk_4 (dk_at dksX0_writeAll_0 12 rfl rfl)
theorem dX0_writeAll_13 : decode cX0_writeAll 13 = .ok (.ireturn, 1) := dk_172 (dk_at dksX0_writeAll_0 13 rfl rfl)
theorem dX0_writeAll_14 : decode cX0_writeAll 14 = .ok (.astore_n 2, 1) := dk_77 (dk_at dksX0_writeAll_0 14 rfl rfl)
theorem dX0_writeAll_15 : decode cX0_writeAll 15 = .ok (.iconst 2, 1) := dk_5 (dk_at dksX0_writeAll_0 15 rfl rfl)
theorem dX0_writeAll_16 : decode cX0_writeAll 16 = .ok (.ireturn, 1) := dk_172 (dk_at dksX0_writeAll_0 16 rfl rfl)
theorem dX0_writeAll_17 : decode cX0_writeAll 17 = .ok (.iconst 0, 1) := dk_3 (dk_at dksX0_writeAll_0 17 rfl rfl)
theorem dX0_writeAll_18 : decode cX0_writeAll 18 = .ok (.ireturn, 1) := dk_172 (dk_at dksX0_writeAll_0 18 rfl rfl)
theorem q40 : (Jvm.Cond.initialized "StemspanLaw") ∈ lw_all := lw_g (lw_at lw_m1 0 rfl) rfl
theorem q93 : (Jvm.Cond.classLink "StemspanLaw" (8 : Nat) "Stemspan") ∈ lw_all := lw_g (lw_at lw_m1 53 rfl) rfl
theorem q95 : (Jvm.Cond.methodLink "StemspanLaw" (82 : Nat) ({ cls := "Stemspan", name := "<init>", desc := "()V" } : Jvm.MethodName)) ∈ lw_all := lw_g (lw_at lw_m1 55 rfl) rfl
theorem q493 : (Jvm.Cond.methodLink "StemspanLaw" (110 : Nat) ({ cls := "Stemspan", name := "wipe", desc := "()I" } : Jvm.MethodName)) ∈ lw_all := lw_g (lw_at lw_m2 213 rfl) rfl
theorem q566 : (Jvm.Cond.methodLink "StemspanLaw" (114 : Nat) ({ cls := "Stemspan", name := "turn", desc := "()Z" } : Jvm.MethodName)) ∈ lw_all := lw_g (lw_at lw_m3 46 rfl) rfl
theorem q610 : (Jvm.Cond.methodLink "StemspanLaw" (132 : Nat) ({ cls := "Stemspan", name := "words", desc := "()I" } : Jvm.MethodName)) ∈ lw_all := lw_g (lw_at lw_m3 90 rfl) rfl
theorem q618 : (Jvm.Cond.methodLink "StemspanLaw" (136 : Nat) ({ cls := "Stemspan", name := "rank", desc := "()I" } : Jvm.MethodName)) ∈ lw_all := lw_g (lw_at lw_m3 98 rfl) rfl
theorem q1159 : (Jvm.Cond.methodLink "StemspanLaw" (146 : Nat) ({ cls := "Stemspan", name := "begun", desc := "()I" } : Jvm.MethodName)) ∈ lw_all := lw_g (lw_at lw_m5 159 rfl) rfl
theorem q1201 : (Jvm.Cond.methodLink "StemspanLaw" (153 : Nat) ({ cls := "Stemspan", name := "sum", desc := "()I" } : Jvm.MethodName)) ∈ lw_all := lw_g (lw_at lw_m5 201 rfl) rfl
theorem q1390 : (Jvm.Cond.methodLink "StemspanLaw" (157 : Nat) ({ cls := "Stemspan", name := "gone", desc := "()I" } : Jvm.MethodName)) ∈ lw_all := lw_g (lw_at lw_m6 150 rfl) rfl
theorem q1523 : (Jvm.Cond.methodLink "StemspanLaw" (164 : Nat) ({ cls := "Stemspan", name := "shared", desc := "()I" } : Jvm.MethodName)) ∈ lw_all := lw_g (lw_at lw_m7 43 rfl) rfl
theorem q1558 : (Jvm.Cond.methodLink "StemspanLaw" (171 : Nat) ({ cls := "Stemspan", name := "pieces", desc := "()I" } : Jvm.MethodName)) ∈ lw_all := lw_g (lw_at lw_m7 78 rfl) rfl
theorem q1588 : (Jvm.Cond.methodLink "StemspanLaw" (178 : Nat) ({ cls := "Stemspan", name := "cuts", desc := "()J" } : Jvm.MethodName)) ∈ lw_all := lw_g (lw_at lw_m7 108 rfl) rfl
theorem q1609 : (Jvm.Cond.methodLink "StemspanLaw" (183 : Nat) ({ cls := "Stemspan", name := "fewest", desc := "()I" } : Jvm.MethodName)) ∈ lw_all := lw_g (lw_at lw_m7 129 rfl) rfl
theorem q1614 : (Jvm.Cond.methodLink "StemspanLaw" (199 : Nat) ({ cls := "Stemspan", name := "isTrue", desc := "()Z" } : Jvm.MethodName)) ∈ lw_all := lw_g (lw_at lw_m7 134 rfl) rfl
theorem q1685 : (Jvm.Cond.methodLink "StemspanLaw" (203 : Nat) ({ cls := "Stemspan", name := "checksum", desc := "()J" } : Jvm.MethodName)) ∈ lw_all := lw_g (lw_at lw_m7 205 rfl) rfl
theorem q1719 : (Jvm.Cond.methodLink "StemspanLaw" (86 : Nat) ({ cls := "StemspanLaw", name := "type", desc := "(LStemspan;C[J)I" } : Jvm.MethodName)) ∈ lw_all := lw_g (lw_at lw_m7 239 rfl) rfl
theorem q1720 : (Jvm.Cond.static ({ cls := "StemspanLaw", name := "type", desc := "(LStemspan;C[J)I" } : Jvm.MethodName)) ∈ lw_all := lw_g (lw_at lw_m8 0 rfl) rfl
theorem q1721 : (Jvm.Cond.codeWith ({ cls := "StemspanLaw", name := "type", desc := "(LStemspan;C[J)I" } : Jvm.MethodName) method_3_code (4 : Nat) (Option.some Jvm.ClassFile.FieldType.int) [((0 : Nat), (9 : Nat), (12 : Nat), (13 : Nat)), ((0 : Nat), (9 : Nat), (15 : Nat), (15 : Nat))]) ∈ lw_all := lw_g (lw_at lw_m8 1 rfl) rfl
theorem q1722 : (Jvm.Cond.classLink "StemspanLaw" (13 : Nat) "java/lang/IllegalArgumentException") ∈ lw_all := lw_g (lw_at lw_m8 2 rfl) rfl
theorem q1723 : (Jvm.Cond.classLink "StemspanLaw" (15 : Nat) "java/lang/IllegalStateException") ∈ lw_all := lw_g (lw_at lw_m8 3 rfl) rfl
theorem q1724 : (Jvm.Cond.methodLink "StemspanLaw" (7 : Nat) ({ cls := "Stemspan", name := "type", desc := "(C)I" } : Jvm.MethodName)) ∈ lw_all := lw_g (lw_at lw_m8 4 rfl) rfl
theorem q1738 : (Jvm.Cond.methodLink "StemspanLaw" (95 : Nat) ({ cls := "StemspanLaw", name := "typeMore", desc := "(LStemspan;II[J)I" } : Jvm.MethodName)) ∈ lw_all := lw_g (lw_at lw_m8 18 rfl) rfl
theorem q1739 : (Jvm.Cond.static ({ cls := "StemspanLaw", name := "typeMore", desc := "(LStemspan;II[J)I" } : Jvm.MethodName)) ∈ lw_all := lw_g (lw_at lw_m8 19 rfl) rfl
theorem q1740 : (Jvm.Cond.codeWith ({ cls := "StemspanLaw", name := "typeMore", desc := "(LStemspan;II[J)I" } : Jvm.MethodName) method_4_code (5 : Nat) (Option.some Jvm.ClassFile.FieldType.int) [((0 : Nat), (10 : Nat), (13 : Nat), (13 : Nat)), ((0 : Nat), (10 : Nat), (17 : Nat), (15 : Nat))]) ∈ lw_all := lw_g (lw_at lw_m8 20 rfl) rfl
theorem q1741 : (Jvm.Cond.methodLink "StemspanLaw" (17 : Nat) ({ cls := "Stemspan", name := "typeMore", desc := "(II)I" } : Jvm.MethodName)) ∈ lw_all := lw_g (lw_at lw_m8 21 rfl) rfl
theorem q1746 : (Jvm.Cond.methodLink "StemspanLaw" (99 : Nat) ({ cls := "StemspanLaw", name := "typeAt", desc := "(LStemspan;IC[J)I" } : Jvm.MethodName)) ∈ lw_all := lw_g (lw_at lw_m8 26 rfl) rfl
theorem q1747 : (Jvm.Cond.static ({ cls := "StemspanLaw", name := "typeAt", desc := "(LStemspan;IC[J)I" } : Jvm.MethodName)) ∈ lw_all := lw_g (lw_at lw_m8 27 rfl) rfl
theorem q1748 : (Jvm.Cond.codeWith ({ cls := "StemspanLaw", name := "typeAt", desc := "(LStemspan;IC[J)I" } : Jvm.MethodName) method_5_code (5 : Nat) (Option.some Jvm.ClassFile.FieldType.int) [((0 : Nat), (10 : Nat), (13 : Nat), (25 : Nat)), ((0 : Nat), (10 : Nat), (17 : Nat), (13 : Nat)), ((0 : Nat), (10 : Nat), (21 : Nat), (15 : Nat))]) ∈ lw_all := lw_g (lw_at lw_m8 28 rfl) rfl
theorem q1749 : (Jvm.Cond.classLink "StemspanLaw" (25 : Nat) "java/lang/IndexOutOfBoundsException") ∈ lw_all := lw_g (lw_at lw_m8 29 rfl) rfl
theorem q1752 : (Jvm.Cond.methodLink "StemspanLaw" (21 : Nat) ({ cls := "Stemspan", name := "typeAt", desc := "(IC)I" } : Jvm.MethodName)) ∈ lw_all := lw_g (lw_at lw_m8 32 rfl) rfl
theorem q1784 : (Jvm.Cond.methodLink "StemspanLaw" (103 : Nat) ({ cls := "StemspanLaw", name := "drop", desc := "(LStemspan;[J)I" } : Jvm.MethodName)) ∈ lw_all := lw_g (lw_at lw_m8 64 rfl) rfl
theorem q1785 : (Jvm.Cond.static ({ cls := "StemspanLaw", name := "drop", desc := "(LStemspan;[J)I" } : Jvm.MethodName)) ∈ lw_all := lw_g (lw_at lw_m8 65 rfl) rfl
theorem q1786 : (Jvm.Cond.codeWith ({ cls := "StemspanLaw", name := "drop", desc := "(LStemspan;[J)I" } : Jvm.MethodName) method_6_code (3 : Nat) (Option.some Jvm.ClassFile.FieldType.int) [((0 : Nat), (8 : Nat), (11 : Nat), (31 : Nat))]) ∈ lw_all := lw_g (lw_at lw_m8 66 rfl) rfl
theorem q1787 : (Jvm.Cond.classLink "StemspanLaw" (31 : Nat) "java/util/NoSuchElementException") ∈ lw_all := lw_g (lw_at lw_m8 67 rfl) rfl
theorem q1788 : (Jvm.Cond.methodLink "StemspanLaw" (27 : Nat) ({ cls := "Stemspan", name := "drop", desc := "()I" } : Jvm.MethodName)) ∈ lw_all := lw_g (lw_at lw_m8 68 rfl) rfl
theorem q1799 : (Jvm.Cond.methodLink "StemspanLaw" (107 : Nat) ({ cls := "StemspanLaw", name := "clip", desc := "(LStemspan;II[J)I" } : Jvm.MethodName)) ∈ lw_all := lw_g (lw_at lw_m8 79 rfl) rfl
theorem q1800 : (Jvm.Cond.static ({ cls := "StemspanLaw", name := "clip", desc := "(LStemspan;II[J)I" } : Jvm.MethodName)) ∈ lw_all := lw_g (lw_at lw_m8 80 rfl) rfl
theorem q1801 : (Jvm.Cond.codeWith ({ cls := "StemspanLaw", name := "clip", desc := "(LStemspan;II[J)I" } : Jvm.MethodName) method_7_code (5 : Nat) (Option.some Jvm.ClassFile.FieldType.int) [((0 : Nat), (10 : Nat), (13 : Nat), (25 : Nat))]) ∈ lw_all := lw_g (lw_at lw_m8 81 rfl) rfl
theorem q1802 : (Jvm.Cond.methodLink "StemspanLaw" (33 : Nat) ({ cls := "Stemspan", name := "clip", desc := "(II)I" } : Jvm.MethodName)) ∈ lw_all := lw_g (lw_at lw_m8 82 rfl) rfl
theorem q1813 : (Jvm.Cond.methodLink "StemspanLaw" (119 : Nat) ({ cls := "StemspanLaw", name := "signAt", desc := "(LStemspan;I[J)I" } : Jvm.MethodName)) ∈ lw_all := lw_g (lw_at lw_m8 93 rfl) rfl
theorem q1814 : (Jvm.Cond.static ({ cls := "StemspanLaw", name := "signAt", desc := "(LStemspan;I[J)I" } : Jvm.MethodName)) ∈ lw_all := lw_g (lw_at lw_m8 94 rfl) rfl
theorem q1815 : (Jvm.Cond.codeWith ({ cls := "StemspanLaw", name := "signAt", desc := "(LStemspan;I[J)I" } : Jvm.MethodName) method_8_code (4 : Nat) (Option.some Jvm.ClassFile.FieldType.int) [((0 : Nat), (9 : Nat), (12 : Nat), (25 : Nat))]) ∈ lw_all := lw_g (lw_at lw_m8 95 rfl) rfl
theorem q1816 : (Jvm.Cond.methodLink "StemspanLaw" (36 : Nat) ({ cls := "Stemspan", name := "signAt", desc := "(I)C" } : Jvm.MethodName)) ∈ lw_all := lw_g (lw_at lw_m8 96 rfl) rfl
theorem q1820 : (Jvm.Cond.methodLink "StemspanLaw" (123 : Nat) ({ cls := "StemspanLaw", name := "put", desc := "(LStemspan;I[J)I" } : Jvm.MethodName)) ∈ lw_all := lw_g (lw_at lw_m8 100 rfl) rfl
theorem q1821 : (Jvm.Cond.static ({ cls := "StemspanLaw", name := "put", desc := "(LStemspan;I[J)I" } : Jvm.MethodName)) ∈ lw_all := lw_g (lw_at lw_m8 101 rfl) rfl
theorem q1822 : (Jvm.Cond.codeWith ({ cls := "StemspanLaw", name := "put", desc := "(LStemspan;I[J)I" } : Jvm.MethodName) method_9_code (4 : Nat) (Option.some Jvm.ClassFile.FieldType.int) [((0 : Nat), (9 : Nat), (12 : Nat), (13 : Nat)), ((0 : Nat), (9 : Nat), (15 : Nat), (44 : Nat)), ((0 : Nat), (9 : Nat), (18 : Nat), (15 : Nat))]) ∈ lw_all := lw_g (lw_at lw_m8 102 rfl) rfl
theorem q1823 : (Jvm.Cond.classLink "StemspanLaw" (44 : Nat) "java/lang/UnsupportedOperationException") ∈ lw_all := lw_g (lw_at lw_m8 103 rfl) rfl
theorem q1824 : (Jvm.Cond.methodLink "StemspanLaw" (40 : Nat) ({ cls := "Stemspan", name := "put", desc := "(I)I" } : Jvm.MethodName)) ∈ lw_all := lw_g (lw_at lw_m8 104 rfl) rfl
theorem q1920 : (Jvm.Cond.methodLink "StemspanLaw" (126 : Nat) ({ cls := "StemspanLaw", name := "take", desc := "(LStemspan;[J)I" } : Jvm.MethodName)) ∈ lw_all := lw_g (lw_at lw_m8 200 rfl) rfl
theorem q1921 : (Jvm.Cond.static ({ cls := "StemspanLaw", name := "take", desc := "(LStemspan;[J)I" } : Jvm.MethodName)) ∈ lw_all := lw_g (lw_at lw_m8 201 rfl) rfl
theorem q1922 : (Jvm.Cond.codeWith ({ cls := "StemspanLaw", name := "take", desc := "(LStemspan;[J)I" } : Jvm.MethodName) method_10_code (3 : Nat) (Option.some Jvm.ClassFile.FieldType.int) [((0 : Nat), (8 : Nat), (11 : Nat), (31 : Nat))]) ∈ lw_all := lw_g (lw_at lw_m8 202 rfl) rfl
theorem q1923 : (Jvm.Cond.methodLink "StemspanLaw" (46 : Nat) ({ cls := "Stemspan", name := "take", desc := "()I" } : Jvm.MethodName)) ∈ lw_all := lw_g (lw_at lw_m8 203 rfl) rfl
theorem q1932 : (Jvm.Cond.methodLink "StemspanLaw" (129 : Nat) ({ cls := "StemspanLaw", name := "number", desc := "(LStemspan;[J)I" } : Jvm.MethodName)) ∈ lw_all := lw_g (lw_at lw_m8 212 rfl) rfl
theorem q1933 : (Jvm.Cond.static ({ cls := "StemspanLaw", name := "number", desc := "(LStemspan;[J)I" } : Jvm.MethodName)) ∈ lw_all := lw_g (lw_at lw_m8 213 rfl) rfl
theorem q1934 : (Jvm.Cond.codeWith ({ cls := "StemspanLaw", name := "number", desc := "(LStemspan;[J)I" } : Jvm.MethodName) method_11_code (3 : Nat) (Option.some Jvm.ClassFile.FieldType.int) [((0 : Nat), (8 : Nat), (11 : Nat), (31 : Nat))]) ∈ lw_all := lw_g (lw_at lw_m8 214 rfl) rfl
theorem q1935 : (Jvm.Cond.methodLink "StemspanLaw" (49 : Nat) ({ cls := "Stemspan", name := "number", desc := "()I" } : Jvm.MethodName)) ∈ lw_all := lw_g (lw_at lw_m8 215 rfl) rfl
theorem q1943 : (Jvm.Cond.methodLink "StemspanLaw" (140 : Nat) ({ cls := "StemspanLaw", name := "word", desc := "(LStemspan;I[J)I" } : Jvm.MethodName)) ∈ lw_all := lw_g (lw_at lw_m8 223 rfl) rfl
theorem q1944 : (Jvm.Cond.static ({ cls := "StemspanLaw", name := "word", desc := "(LStemspan;I[J)I" } : Jvm.MethodName)) ∈ lw_all := lw_g (lw_at lw_m8 224 rfl) rfl
theorem q1945 : (Jvm.Cond.codeWith ({ cls := "StemspanLaw", name := "word", desc := "(LStemspan;I[J)I" } : Jvm.MethodName) method_12_code (4 : Nat) (Option.some Jvm.ClassFile.FieldType.int) [((0 : Nat), (9 : Nat), (12 : Nat), (25 : Nat))]) ∈ lw_all := lw_g (lw_at lw_m8 225 rfl) rfl
theorem q1946 : (Jvm.Cond.methodLink "StemspanLaw" (52 : Nat) ({ cls := "Stemspan", name := "word", desc := "(I)I" } : Jvm.MethodName)) ∈ lw_all := lw_g (lw_at lw_m8 226 rfl) rfl
theorem q1954 : (Jvm.Cond.methodLink "StemspanLaw" (143 : Nat) ({ cls := "StemspanLaw", name := "near", desc := "(LStemspan;C[J)I" } : Jvm.MethodName)) ∈ lw_all := lw_g (lw_at lw_m8 234 rfl) rfl
theorem q1955 : (Jvm.Cond.static ({ cls := "StemspanLaw", name := "near", desc := "(LStemspan;C[J)I" } : Jvm.MethodName)) ∈ lw_all := lw_g (lw_at lw_m8 235 rfl) rfl
theorem q1956 : (Jvm.Cond.codeWith ({ cls := "StemspanLaw", name := "near", desc := "(LStemspan;C[J)I" } : Jvm.MethodName) method_13_code (4 : Nat) (Option.some Jvm.ClassFile.FieldType.int) [((0 : Nat), (9 : Nat), (12 : Nat), (13 : Nat)), ((0 : Nat), (9 : Nat), (15 : Nat), (31 : Nat))]) ∈ lw_all := lw_g (lw_at lw_m8 236 rfl) rfl
theorem q1957 : (Jvm.Cond.methodLink "StemspanLaw" (55 : Nat) ({ cls := "Stemspan", name := "near", desc := "(C)I" } : Jvm.MethodName)) ∈ lw_all := lw_g (lw_at lw_m8 237 rfl) rfl
theorem q1974 : (Jvm.Cond.methodLink "StemspanLaw" (150 : Nat) ({ cls := "StemspanLaw", name := "begunAt", desc := "(LStemspan;I[J)I" } : Jvm.MethodName)) ∈ lw_all := lw_g (lw_at lw_m9 14 rfl) rfl
theorem q1975 : (Jvm.Cond.static ({ cls := "StemspanLaw", name := "begunAt", desc := "(LStemspan;I[J)I" } : Jvm.MethodName)) ∈ lw_all := lw_g (lw_at lw_m9 15 rfl) rfl
theorem q1976 : (Jvm.Cond.codeWith ({ cls := "StemspanLaw", name := "begunAt", desc := "(LStemspan;I[J)I" } : Jvm.MethodName) method_14_code (4 : Nat) (Option.some Jvm.ClassFile.FieldType.int) [((0 : Nat), (9 : Nat), (12 : Nat), (31 : Nat))]) ∈ lw_all := lw_g (lw_at lw_m9 16 rfl) rfl
theorem q1977 : (Jvm.Cond.methodLink "StemspanLaw" (58 : Nat) ({ cls := "Stemspan", name := "begunAt", desc := "(I)I" } : Jvm.MethodName)) ∈ lw_all := lw_g (lw_at lw_m9 17 rfl) rfl
theorem q2009 : (Jvm.Cond.methodLink "StemspanLaw" (161 : Nat) ({ cls := "StemspanLaw", name := "longest", desc := "(LStemspan;I[J)I" } : Jvm.MethodName)) ∈ lw_all := lw_g (lw_at lw_m9 49 rfl) rfl
theorem q2010 : (Jvm.Cond.static ({ cls := "StemspanLaw", name := "longest", desc := "(LStemspan;I[J)I" } : Jvm.MethodName)) ∈ lw_all := lw_g (lw_at lw_m9 50 rfl) rfl
theorem q2011 : (Jvm.Cond.codeWith ({ cls := "StemspanLaw", name := "longest", desc := "(LStemspan;I[J)I" } : Jvm.MethodName) method_15_code (4 : Nat) (Option.some Jvm.ClassFile.FieldType.int) [((0 : Nat), (9 : Nat), (12 : Nat), (25 : Nat))]) ∈ lw_all := lw_g (lw_at lw_m9 51 rfl) rfl
theorem q2012 : (Jvm.Cond.methodLink "StemspanLaw" (61 : Nat) ({ cls := "Stemspan", name := "longest", desc := "(I)I" } : Jvm.MethodName)) ∈ lw_all := lw_g (lw_at lw_m9 52 rfl) rfl
theorem q2016 : (Jvm.Cond.methodLink "StemspanLaw" (168 : Nat) ({ cls := "StemspanLaw", name := "twin", desc := "(LStemspan;[J)I" } : Jvm.MethodName)) ∈ lw_all := lw_g (lw_at lw_m9 56 rfl) rfl
theorem q2017 : (Jvm.Cond.static ({ cls := "StemspanLaw", name := "twin", desc := "(LStemspan;[J)I" } : Jvm.MethodName)) ∈ lw_all := lw_g (lw_at lw_m9 57 rfl) rfl
theorem q2018 : (Jvm.Cond.codeWith ({ cls := "StemspanLaw", name := "twin", desc := "(LStemspan;[J)I" } : Jvm.MethodName) method_16_code (3 : Nat) (Option.some Jvm.ClassFile.FieldType.int) [((0 : Nat), (8 : Nat), (11 : Nat), (31 : Nat))]) ∈ lw_all := lw_g (lw_at lw_m9 58 rfl) rfl
theorem q2019 : (Jvm.Cond.methodLink "StemspanLaw" (64 : Nat) ({ cls := "Stemspan", name := "twin", desc := "()I" } : Jvm.MethodName)) ∈ lw_all := lw_g (lw_at lw_m9 59 rfl) rfl
theorem q2020 : (Jvm.Cond.methodLink "StemspanLaw" (175 : Nat) ({ cls := "StemspanLaw", name := "piece", desc := "(LStemspan;I[J)I" } : Jvm.MethodName)) ∈ lw_all := lw_g (lw_at lw_m9 60 rfl) rfl
theorem q2021 : (Jvm.Cond.static ({ cls := "StemspanLaw", name := "piece", desc := "(LStemspan;I[J)I" } : Jvm.MethodName)) ∈ lw_all := lw_g (lw_at lw_m9 61 rfl) rfl
theorem q2022 : (Jvm.Cond.codeWith ({ cls := "StemspanLaw", name := "piece", desc := "(LStemspan;I[J)I" } : Jvm.MethodName) method_17_code (4 : Nat) (Option.some Jvm.ClassFile.FieldType.int) [((0 : Nat), (9 : Nat), (12 : Nat), (31 : Nat))]) ∈ lw_all := lw_g (lw_at lw_m9 62 rfl) rfl
theorem q2023 : (Jvm.Cond.methodLink "StemspanLaw" (67 : Nat) ({ cls := "Stemspan", name := "piece", desc := "(I)I" } : Jvm.MethodName)) ∈ lw_all := lw_g (lw_at lw_m9 63 rfl) rfl
theorem q2027 : (Jvm.Cond.methodLink "StemspanLaw" (187 : Nat) ({ cls := "StemspanLaw", name := "code", desc := "(LStemspan;C[J)I" } : Jvm.MethodName)) ∈ lw_all := lw_g (lw_at lw_m9 67 rfl) rfl
theorem q2028 : (Jvm.Cond.static ({ cls := "StemspanLaw", name := "code", desc := "(LStemspan;C[J)I" } : Jvm.MethodName)) ∈ lw_all := lw_g (lw_at lw_m9 68 rfl) rfl
theorem q2029 : (Jvm.Cond.codeWith ({ cls := "StemspanLaw", name := "code", desc := "(LStemspan;C[J)I" } : Jvm.MethodName) method_18_code (4 : Nat) (Option.some Jvm.ClassFile.FieldType.int) [((0 : Nat), (9 : Nat), (12 : Nat), (13 : Nat)), ((0 : Nat), (9 : Nat), (15 : Nat), (44 : Nat))]) ∈ lw_all := lw_g (lw_at lw_m9 69 rfl) rfl
theorem q2030 : (Jvm.Cond.methodLink "StemspanLaw" (70 : Nat) ({ cls := "Stemspan", name := "code", desc := "(C)I" } : Jvm.MethodName)) ∈ lw_all := lw_g (lw_at lw_m9 70 rfl) rfl
theorem q2034 : (Jvm.Cond.methodLink "StemspanLaw" (190 : Nat) ({ cls := "StemspanLaw", name := "write", desc := "(LStemspan;[J)I" } : Jvm.MethodName)) ∈ lw_all := lw_g (lw_at lw_m9 74 rfl) rfl
theorem q2035 : (Jvm.Cond.static ({ cls := "StemspanLaw", name := "write", desc := "(LStemspan;[J)I" } : Jvm.MethodName)) ∈ lw_all := lw_g (lw_at lw_m9 75 rfl) rfl
theorem q2036 : (Jvm.Cond.codeWith ({ cls := "StemspanLaw", name := "write", desc := "(LStemspan;[J)I" } : Jvm.MethodName) method_19_code (3 : Nat) (Option.some Jvm.ClassFile.FieldType.int) [((0 : Nat), (8 : Nat), (11 : Nat), (15 : Nat))]) ∈ lw_all := lw_g (lw_at lw_m9 76 rfl) rfl
theorem q2037 : (Jvm.Cond.methodLink "StemspanLaw" (73 : Nat) ({ cls := "Stemspan", name := "write", desc := "()I" } : Jvm.MethodName)) ∈ lw_all := lw_g (lw_at lw_m9 77 rfl) rfl
theorem q2041 : (Jvm.Cond.methodLink "StemspanLaw" (193 : Nat) ({ cls := "StemspanLaw", name := "read", desc := "(LStemspan;[J)I" } : Jvm.MethodName)) ∈ lw_all := lw_g (lw_at lw_m9 81 rfl) rfl
theorem q2042 : (Jvm.Cond.static ({ cls := "StemspanLaw", name := "read", desc := "(LStemspan;[J)I" } : Jvm.MethodName)) ∈ lw_all := lw_g (lw_at lw_m9 82 rfl) rfl
theorem q2043 : (Jvm.Cond.codeWith ({ cls := "StemspanLaw", name := "read", desc := "(LStemspan;[J)I" } : Jvm.MethodName) method_20_code (3 : Nat) (Option.some Jvm.ClassFile.FieldType.int) [((0 : Nat), (8 : Nat), (11 : Nat), (44 : Nat)), ((0 : Nat), (8 : Nat), (14 : Nat), (31 : Nat))]) ∈ lw_all := lw_g (lw_at lw_m9 83 rfl) rfl
theorem q2044 : (Jvm.Cond.methodLink "StemspanLaw" (76 : Nat) ({ cls := "Stemspan", name := "read", desc := "()I" } : Jvm.MethodName)) ∈ lw_all := lw_g (lw_at lw_m9 84 rfl) rfl
theorem q2048 : (Jvm.Cond.methodLink "StemspanLaw" (196 : Nat) ({ cls := "StemspanLaw", name := "writeAll", desc := "(LStemspan;[J)I" } : Jvm.MethodName)) ∈ lw_all := lw_g (lw_at lw_m9 88 rfl) rfl
theorem q2049 : (Jvm.Cond.static ({ cls := "StemspanLaw", name := "writeAll", desc := "(LStemspan;[J)I" } : Jvm.MethodName)) ∈ lw_all := lw_g (lw_at lw_m9 89 rfl) rfl
theorem q2050 : (Jvm.Cond.codeWith ({ cls := "StemspanLaw", name := "writeAll", desc := "(LStemspan;[J)I" } : Jvm.MethodName) method_21_code (3 : Nat) (Option.some Jvm.ClassFile.FieldType.int) [((0 : Nat), (8 : Nat), (11 : Nat), (44 : Nat)), ((0 : Nat), (8 : Nat), (14 : Nat), (15 : Nat))]) ∈ lw_all := lw_g (lw_at lw_m9 90 rfl) rfl
theorem q2051 : (Jvm.Cond.methodLink "StemspanLaw" (79 : Nat) ({ cls := "Stemspan", name := "writeAll", desc := "()I" } : Jvm.MethodName)) ∈ lw_all := lw_g (lw_at lw_m9 91 rfl) rfl
theorem q2171 : (Jvm.Cond.methodLink "StemspanLaw" (92 : Nat) ({ cls := "StemspanModel", name := "thrown", desc := "()I" } : Jvm.MethodName)) ∈ lw_all := lw_g (lw_at lw_m9 211 rfl) rfl
theorem q2175 : (Jvm.Cond.classLink "StemspanLaw" (83 : Nat) "StemspanModel") ∈ lw_all := lw_g (lw_at lw_m9 215 rfl) rfl
theorem q2177 : (Jvm.Cond.methodLink "StemspanLaw" (85 : Nat) ({ cls := "StemspanModel", name := "<init>", desc := "()V" } : Jvm.MethodName)) ∈ lw_all := lw_g (lw_at lw_m9 217 rfl) rfl
theorem q2225 : (Jvm.Cond.methodLink "StemspanLaw" (91 : Nat) ({ cls := "StemspanModel", name := "type", desc := "(C)I" } : Jvm.MethodName)) ∈ lw_all := lw_g (lw_at lw_m10 25 rfl) rfl
theorem q2236 : (Jvm.Cond.methodLink "StemspanLaw" (98 : Nat) ({ cls := "StemspanModel", name := "typeMore", desc := "(II)I" } : Jvm.MethodName)) ∈ lw_all := lw_g (lw_at lw_m10 36 rfl) rfl
theorem q2244 : (Jvm.Cond.methodLink "StemspanLaw" (102 : Nat) ({ cls := "StemspanModel", name := "typeAt", desc := "(IC)I" } : Jvm.MethodName)) ∈ lw_all := lw_g (lw_at lw_m10 44 rfl) rfl
theorem q2248 : (Jvm.Cond.methodLink "StemspanLaw" (106 : Nat) ({ cls := "StemspanModel", name := "drop", desc := "()I" } : Jvm.MethodName)) ∈ lw_all := lw_g (lw_at lw_m10 48 rfl) rfl
theorem q2252 : (Jvm.Cond.methodLink "StemspanLaw" (109 : Nat) ({ cls := "StemspanModel", name := "clip", desc := "(II)I" } : Jvm.MethodName)) ∈ lw_all := lw_g (lw_at lw_m10 52 rfl) rfl
theorem q2256 : (Jvm.Cond.methodLink "StemspanLaw" (113 : Nat) ({ cls := "StemspanModel", name := "wipe", desc := "()I" } : Jvm.MethodName)) ∈ lw_all := lw_g (lw_at lw_m10 56 rfl) rfl
theorem q2260 : (Jvm.Cond.methodLink "StemspanLaw" (118 : Nat) ({ cls := "StemspanModel", name := "turn", desc := "()Z" } : Jvm.MethodName)) ∈ lw_all := lw_g (lw_at lw_m10 60 rfl) rfl
theorem q2264 : (Jvm.Cond.methodLink "StemspanLaw" (122 : Nat) ({ cls := "StemspanModel", name := "signAt", desc := "(I)C" } : Jvm.MethodName)) ∈ lw_all := lw_g (lw_at lw_m10 64 rfl) rfl
theorem q2268 : (Jvm.Cond.methodLink "StemspanLaw" (125 : Nat) ({ cls := "StemspanModel", name := "put", desc := "(I)I" } : Jvm.MethodName)) ∈ lw_all := lw_g (lw_at lw_m10 68 rfl) rfl
theorem q2284 : (Jvm.Cond.methodLink "StemspanLaw" (128 : Nat) ({ cls := "StemspanModel", name := "take", desc := "()I" } : Jvm.MethodName)) ∈ lw_all := lw_g (lw_at lw_m10 84 rfl) rfl
theorem q2292 : (Jvm.Cond.methodLink "StemspanLaw" (131 : Nat) ({ cls := "StemspanModel", name := "number", desc := "()I" } : Jvm.MethodName)) ∈ lw_all := lw_g (lw_at lw_m10 92 rfl) rfl
theorem q2296 : (Jvm.Cond.methodLink "StemspanLaw" (135 : Nat) ({ cls := "StemspanModel", name := "words", desc := "()I" } : Jvm.MethodName)) ∈ lw_all := lw_g (lw_at lw_m10 96 rfl) rfl
theorem q2300 : (Jvm.Cond.methodLink "StemspanLaw" (139 : Nat) ({ cls := "StemspanModel", name := "rank", desc := "()I" } : Jvm.MethodName)) ∈ lw_all := lw_g (lw_at lw_m10 100 rfl) rfl
theorem q2304 : (Jvm.Cond.methodLink "StemspanLaw" (142 : Nat) ({ cls := "StemspanModel", name := "word", desc := "(I)I" } : Jvm.MethodName)) ∈ lw_all := lw_g (lw_at lw_m10 104 rfl) rfl
theorem q2328 : (Jvm.Cond.methodLink "StemspanLaw" (145 : Nat) ({ cls := "StemspanModel", name := "near", desc := "(C)I" } : Jvm.MethodName)) ∈ lw_all := lw_g (lw_at lw_m10 128 rfl) rfl
theorem q2332 : (Jvm.Cond.methodLink "StemspanLaw" (149 : Nat) ({ cls := "StemspanModel", name := "begun", desc := "()I" } : Jvm.MethodName)) ∈ lw_all := lw_g (lw_at lw_m10 132 rfl) rfl
theorem q2340 : (Jvm.Cond.methodLink "StemspanLaw" (152 : Nat) ({ cls := "StemspanModel", name := "begunAt", desc := "(I)I" } : Jvm.MethodName)) ∈ lw_all := lw_g (lw_at lw_m10 140 rfl) rfl
theorem q2344 : (Jvm.Cond.methodLink "StemspanLaw" (156 : Nat) ({ cls := "StemspanModel", name := "sum", desc := "()I" } : Jvm.MethodName)) ∈ lw_all := lw_g (lw_at lw_m10 144 rfl) rfl
theorem q2348 : (Jvm.Cond.methodLink "StemspanLaw" (160 : Nat) ({ cls := "StemspanModel", name := "gone", desc := "()I" } : Jvm.MethodName)) ∈ lw_all := lw_g (lw_at lw_m10 148 rfl) rfl
theorem q2352 : (Jvm.Cond.methodLink "StemspanLaw" (163 : Nat) ({ cls := "StemspanModel", name := "longest", desc := "(I)I" } : Jvm.MethodName)) ∈ lw_all := lw_g (lw_at lw_m10 152 rfl) rfl
theorem q2360 : (Jvm.Cond.methodLink "StemspanLaw" (167 : Nat) ({ cls := "StemspanModel", name := "shared", desc := "()I" } : Jvm.MethodName)) ∈ lw_all := lw_g (lw_at lw_m10 160 rfl) rfl
theorem q2364 : (Jvm.Cond.methodLink "StemspanLaw" (170 : Nat) ({ cls := "StemspanModel", name := "twin", desc := "()I" } : Jvm.MethodName)) ∈ lw_all := lw_g (lw_at lw_m10 164 rfl) rfl
theorem q2368 : (Jvm.Cond.methodLink "StemspanLaw" (174 : Nat) ({ cls := "StemspanModel", name := "pieces", desc := "()I" } : Jvm.MethodName)) ∈ lw_all := lw_g (lw_at lw_m10 168 rfl) rfl
theorem q2372 : (Jvm.Cond.methodLink "StemspanLaw" (177 : Nat) ({ cls := "StemspanModel", name := "piece", desc := "(I)I" } : Jvm.MethodName)) ∈ lw_all := lw_g (lw_at lw_m10 172 rfl) rfl
theorem q2376 : (Jvm.Cond.methodLink "StemspanLaw" (182 : Nat) ({ cls := "StemspanModel", name := "cuts", desc := "()J" } : Jvm.MethodName)) ∈ lw_all := lw_g (lw_at lw_m10 176 rfl) rfl
theorem q2384 : (Jvm.Cond.methodLink "StemspanLaw" (186 : Nat) ({ cls := "StemspanModel", name := "fewest", desc := "()I" } : Jvm.MethodName)) ∈ lw_all := lw_g (lw_at lw_m10 184 rfl) rfl
theorem q2388 : (Jvm.Cond.methodLink "StemspanLaw" (189 : Nat) ({ cls := "StemspanModel", name := "code", desc := "(C)I" } : Jvm.MethodName)) ∈ lw_all := lw_g (lw_at lw_m10 188 rfl) rfl
theorem q2392 : (Jvm.Cond.methodLink "StemspanLaw" (192 : Nat) ({ cls := "StemspanModel", name := "write", desc := "()I" } : Jvm.MethodName)) ∈ lw_all := lw_g (lw_at lw_m10 192 rfl) rfl
theorem q2400 : (Jvm.Cond.methodLink "StemspanLaw" (195 : Nat) ({ cls := "StemspanModel", name := "read", desc := "()I" } : Jvm.MethodName)) ∈ lw_all := lw_g (lw_at lw_m10 200 rfl) rfl
theorem q2416 : (Jvm.Cond.methodLink "StemspanLaw" (198 : Nat) ({ cls := "StemspanModel", name := "writeAll", desc := "()I" } : Jvm.MethodName)) ∈ lw_all := lw_g (lw_at lw_m10 216 rfl) rfl
theorem q2424 : (Jvm.Cond.methodLink "StemspanLaw" (202 : Nat) ({ cls := "StemspanModel", name := "isTrue", desc := "()Z" } : Jvm.MethodName)) ∈ lw_all := lw_g (lw_at lw_m10 224 rfl) rfl
theorem q2436 : (Jvm.Cond.methodLink "StemspanLaw" (206 : Nat) ({ cls := "StemspanModel", name := "checksum", desc := "()J" } : Jvm.MethodName)) ∈ lw_all := lw_g (lw_at lw_m10 236 rfl) rfl
/-! the law's own entry -/
set_option maxRecDepth 100000
abbrev cL_law : ByteArray := code
def dkwL_law_54 : List UInt8 := [172, 43, 182, 0, 203, 44, 182, 0, 206, 148, 153, 0, 5, 3, 172, 132, 4, 3, 167, 250, 181, 4, 172]
abbrev dktL_law_54 : List UInt8 := dkwL_law_54 ++ []
def dkwL_law_53 : List UInt8 := [21, 6, 133, 148, 153, 0, 5, 3, 172, 167, 0, 30, 43, 182, 0, 199, 44, 182, 0, 202, 159, 0, 19, 3]
abbrev dktL_law_53 : List UInt8 := dkwL_law_53 ++ dktL_law_54
def dkwL_law_52 : List UInt8 := [182, 0, 198, 54, 6, 44, 182, 0, 92, 21, 5, 159, 0, 5, 3, 172, 21, 5, 154, 0, 15, 45, 3, 47]
abbrev dktL_law_52 : List UInt8 := dkwL_law_52 ++ dktL_law_53
def dkwL_law_51 : List UInt8 := [45, 3, 47, 21, 6, 133, 148, 153, 0, 5, 3, 172, 167, 0, 74, 43, 45, 184, 0, 196, 54, 5, 44]
abbrev dktL_law_51 : List UInt8 := dkwL_law_51 ++ dktL_law_52
def dkwL_law_50 : List UInt8 := [54, 5, 44, 182, 0, 195, 54, 6, 44, 182, 0, 92, 21, 5, 159, 0, 5, 3, 172, 21, 5, 154, 0, 15]
abbrev dktL_law_50 : List UInt8 := dkwL_law_50 ++ dktL_law_51
def dkwL_law_49 : List UInt8 := [154, 0, 15, 45, 3, 47, 21, 6, 133, 148, 153, 0, 5, 3, 172, 167, 0, 118, 43, 45, 184, 0, 193]
abbrev dktL_law_49 : List UInt8 := dkwL_law_49 ++ dktL_law_50
def dkwL_law_48 : List UInt8 := [184, 0, 190, 54, 5, 44, 182, 0, 192, 54, 6, 44, 182, 0, 92, 21, 5, 159, 0, 5, 3, 172, 21, 5]
abbrev dktL_law_48 : List UInt8 := dkwL_law_48 ++ dktL_law_49
def dkwL_law_47 : List UInt8 := [3, 172, 21, 5, 154, 0, 15, 45, 3, 47, 21, 6, 133, 148, 153, 0, 5, 3, 172, 167, 0, 162, 43, 45]
abbrev dktL_law_47 : List UInt8 := dkwL_law_47 ++ dktL_law_48
def dkwL_law_46 : List UInt8 := [54, 5, 44, 42, 21, 4, 4, 96, 46, 146, 182, 0, 189, 54, 6, 44, 182, 0, 92, 21, 5, 159, 0, 5]
abbrev dktL_law_46 : List UInt8 := dkwL_law_46 ++ dktL_law_47
def dkwL_law_45 : List UInt8 := [182, 0, 183, 44, 182, 0, 186, 159, 0, 222, 3, 172, 43, 42, 21, 4, 4, 96, 46, 146, 45, 184, 0, 187]
abbrev dktL_law_45 : List UInt8 := dkwL_law_45 ++ dktL_law_46
def dkwL_law_44 : List UInt8 := [153, 0, 5, 3, 172, 167, 0, 247, 43, 182, 0, 178, 44, 182, 0, 182, 148, 153, 0, 235, 3, 172, 43]
abbrev dktL_law_44 : List UInt8 := dkwL_law_44 ++ dktL_law_45
def dkwL_law_43 : List UInt8 := [182, 0, 92, 21, 5, 159, 0, 5, 3, 172, 21, 5, 154, 0, 15, 45, 3, 47, 21, 6, 133, 148]
abbrev dktL_law_43 : List UInt8 := dkwL_law_43 ++ dktL_law_44
def dkwL_law_42 : List UInt8 := [21, 4, 4, 96, 46, 45, 184, 0, 175, 54, 5, 44, 42, 21, 4, 4, 96, 46, 182, 0, 177, 54, 6, 44]
abbrev dktL_law_42 : List UInt8 := dkwL_law_42 ++ dktL_law_43
def dkwL_law_41 : List UInt8 := [148, 153, 0, 5, 3, 172, 167, 1, 60, 43, 182, 0, 171, 44, 182, 0, 174, 159, 1, 49, 3, 172, 43, 42]
abbrev dktL_law_41 : List UInt8 := dkwL_law_41 ++ dktL_law_42
def dkwL_law_40 : List UInt8 := [54, 6, 44, 182, 0, 92, 21, 5, 159, 0, 5, 3, 172, 21, 5, 154, 0, 15, 45, 3, 47, 21, 6, 133]
abbrev dktL_law_40 : List UInt8 := dkwL_law_40 ++ dktL_law_41
def dkwL_law_39 : List UInt8 := [182, 0, 164, 44, 182, 0, 167, 159, 1, 106, 3, 172, 43, 45, 184, 0, 168, 54, 5, 44, 182, 0, 170]
abbrev dktL_law_39 : List UInt8 := dkwL_law_39 ++ dktL_law_40
def dkwL_law_38 : List UInt8 := [172, 21, 5, 154, 0, 15, 45, 3, 47, 21, 6, 133, 148, 153, 0, 5, 3, 172, 167, 1, 117, 43]
abbrev dktL_law_38 : List UInt8 := dkwL_law_38 ++ dktL_law_39
def dkwL_law_37 : List UInt8 := [54, 5, 44, 42, 21, 4, 4, 96, 46, 182, 0, 163, 54, 6, 44, 182, 0, 92, 21, 5, 159, 0, 5, 3]
abbrev dktL_law_37 : List UInt8 := dkwL_law_37 ++ dktL_law_38
def dkwL_law_36 : List UInt8 := [182, 0, 157, 44, 182, 0, 160, 159, 1, 175, 3, 172, 43, 42, 21, 4, 4, 96, 46, 45, 184, 0, 161]
abbrev dktL_law_36 : List UInt8 := dkwL_law_36 ++ dktL_law_37
def dkwL_law_35 : List UInt8 := [153, 0, 5, 3, 172, 167, 1, 199, 43, 182, 0, 153, 44, 182, 0, 156, 159, 1, 188, 3, 172, 43]
abbrev dktL_law_35 : List UInt8 := dkwL_law_35 ++ dktL_law_36
def dkwL_law_34 : List UInt8 := [182, 0, 92, 21, 5, 159, 0, 5, 3, 172, 21, 5, 154, 0, 15, 45, 3, 47, 21, 6, 133, 148]
abbrev dktL_law_34 : List UInt8 := dkwL_law_34 ++ dktL_law_35
def dkwL_law_33 : List UInt8 := [21, 4, 4, 96, 46, 45, 184, 0, 150, 54, 5, 44, 42, 21, 4, 4, 96, 46, 182, 0, 152, 54, 6, 44]
abbrev dktL_law_33 : List UInt8 := dkwL_law_33 ++ dktL_law_34
def dkwL_law_32 : List UInt8 := [148, 153, 0, 5, 3, 172, 167, 2, 12, 43, 182, 0, 146, 44, 182, 0, 149, 159, 2, 1, 3, 172, 43, 42]
abbrev dktL_law_32 : List UInt8 := dkwL_law_32 ++ dktL_law_33
def dkwL_law_31 : List UInt8 := [54, 6, 44, 182, 0, 92, 21, 5, 159, 0, 5, 3, 172, 21, 5, 154, 0, 15, 45, 3, 47, 21, 6, 133]
abbrev dktL_law_31 : List UInt8 := dkwL_law_31 ++ dktL_law_32
def dkwL_law_30 : List UInt8 := [21, 4, 4, 96, 46, 146, 45, 184, 0, 143, 54, 5, 44, 42, 21, 4, 4, 96, 46, 146, 182, 0, 145]
abbrev dktL_law_30 : List UInt8 := dkwL_law_30 ++ dktL_law_31
def dkwL_law_29 : List UInt8 := [172, 21, 5, 154, 0, 15, 45, 3, 47, 21, 6, 133, 148, 153, 0, 5, 3, 172, 167, 2, 70, 43, 42]
abbrev dktL_law_29 : List UInt8 := dkwL_law_29 ++ dktL_law_30
def dkwL_law_28 : List UInt8 := [54, 5, 44, 42, 21, 4, 4, 96, 46, 182, 0, 142, 54, 6, 44, 182, 0, 92, 21, 5, 159, 0, 5, 3]
abbrev dktL_law_28 : List UInt8 := dkwL_law_28 ++ dktL_law_29
def dkwL_law_27 : List UInt8 := [182, 0, 136, 44, 182, 0, 139, 159, 2, 128, 3, 172, 43, 42, 21, 4, 4, 96, 46, 45, 184, 0, 140]
abbrev dktL_law_27 : List UInt8 := dkwL_law_27 ++ dktL_law_28
def dkwL_law_26 : List UInt8 := [153, 0, 5, 3, 172, 167, 2, 152, 43, 182, 0, 132, 44, 182, 0, 135, 159, 2, 141, 3, 172, 43]
abbrev dktL_law_26 : List UInt8 := dkwL_law_26 ++ dktL_law_27
def dkwL_law_25 : List UInt8 := [182, 0, 92, 21, 5, 159, 0, 5, 3, 172, 21, 5, 154, 0, 15, 45, 3, 47, 21, 6, 133, 148]
abbrev dktL_law_25 : List UInt8 := dkwL_law_25 ++ dktL_law_26
def dkwL_law_24 : List UInt8 := [153, 0, 5, 3, 172, 167, 2, 196, 43, 45, 184, 0, 129, 54, 5, 44, 182, 0, 131, 54, 6, 44]
abbrev dktL_law_24 : List UInt8 := dkwL_law_24 ++ dktL_law_25
def dkwL_law_23 : List UInt8 := [182, 0, 92, 21, 5, 159, 0, 5, 3, 172, 21, 5, 154, 0, 15, 45, 3, 47, 21, 6, 133, 148]
abbrev dktL_law_23 : List UInt8 := dkwL_law_23 ++ dktL_law_24
def dkwL_law_22 : List UInt8 := [153, 0, 5, 3, 172, 167, 2, 240, 43, 45, 184, 0, 126, 54, 5, 44, 182, 0, 128, 54, 6, 44]
abbrev dktL_law_22 : List UInt8 := dkwL_law_22 ++ dktL_law_23
def dkwL_law_21 : List UInt8 := [182, 0, 92, 21, 5, 159, 0, 5, 3, 172, 21, 5, 154, 0, 15, 45, 3, 47, 21, 6, 133, 148]
abbrev dktL_law_21 : List UInt8 := dkwL_law_21 ++ dktL_law_22
def dkwL_law_20 : List UInt8 := [21, 4, 4, 96, 46, 45, 184, 0, 123, 54, 5, 44, 42, 21, 4, 4, 96, 46, 182, 0, 125, 54, 6, 44]
abbrev dktL_law_20 : List UInt8 := dkwL_law_20 ++ dktL_law_21
def dkwL_law_19 : List UInt8 := [172, 21, 5, 154, 0, 15, 45, 3, 47, 21, 6, 133, 148, 153, 0, 5, 3, 172, 167, 3, 40, 43, 42]
abbrev dktL_law_19 : List UInt8 := dkwL_law_19 ++ dktL_law_20
def dkwL_law_18 : List UInt8 := [54, 5, 44, 42, 21, 4, 4, 96, 46, 182, 0, 122, 54, 6, 44, 182, 0, 92, 21, 5, 159, 0, 5, 3]
abbrev dktL_law_18 : List UInt8 := dkwL_law_18 ++ dktL_law_19
def dkwL_law_17 : List UInt8 := [182, 0, 114, 44, 182, 0, 118, 159, 3, 98, 3, 172, 43, 42, 21, 4, 4, 96, 46, 45, 184, 0, 119]
abbrev dktL_law_17 : List UInt8 := dkwL_law_17 ++ dktL_law_18
def dkwL_law_16 : List UInt8 := [153, 0, 5, 3, 172, 167, 3, 122, 43, 182, 0, 110, 44, 182, 0, 113, 159, 3, 111, 3, 172, 43]
abbrev dktL_law_16 : List UInt8 := dkwL_law_16 ++ dktL_law_17
def dkwL_law_15 : List UInt8 := [182, 0, 92, 21, 5, 159, 0, 5, 3, 172, 21, 5, 154, 0, 15, 45, 3, 47, 21, 6, 133, 148]
abbrev dktL_law_15 : List UInt8 := dkwL_law_15 ++ dktL_law_16
def dkwL_law_14 : List UInt8 := [184, 0, 107, 54, 5, 44, 42, 21, 4, 4, 96, 46, 42, 21, 4, 5, 96, 46, 182, 0, 109, 54, 6, 44]
abbrev dktL_law_14 : List UInt8 := dkwL_law_14 ++ dktL_law_15
def dkwL_law_13 : List UInt8 := [153, 0, 5, 3, 172, 167, 3, 190, 43, 42, 21, 4, 4, 96, 46, 42, 21, 4, 5, 96, 46, 45]
abbrev dktL_law_13 : List UInt8 := dkwL_law_13 ++ dktL_law_14
def dkwL_law_12 : List UInt8 := [182, 0, 92, 21, 5, 159, 0, 5, 3, 172, 21, 5, 154, 0, 15, 45, 3, 47, 21, 6, 133, 148]
abbrev dktL_law_12 : List UInt8 := dkwL_law_12 ++ dktL_law_13
def dkwL_law_11 : List UInt8 := [153, 0, 5, 3, 172, 167, 3, 234, 43, 45, 184, 0, 103, 54, 5, 44, 182, 0, 106, 54, 6, 44]
abbrev dktL_law_11 : List UInt8 := dkwL_law_11 ++ dktL_law_12
def dkwL_law_10 : List UInt8 := [44, 182, 0, 92, 21, 5, 159, 0, 5, 3, 172, 21, 5, 154, 0, 15, 45, 3, 47, 21, 6, 133, 148]
abbrev dktL_law_10 : List UInt8 := dkwL_law_10 ++ dktL_law_11
def dkwL_law_9 : List UInt8 := [184, 0, 99, 54, 5, 44, 42, 21, 4, 4, 96, 46, 42, 21, 4, 5, 96, 46, 146, 182, 0, 102, 54, 6]
abbrev dktL_law_9 : List UInt8 := dkwL_law_9 ++ dktL_law_10
def dkwL_law_8 : List UInt8 := [148, 153, 0, 5, 3, 172, 167, 4, 48, 43, 42, 21, 4, 4, 96, 46, 42, 21, 4, 5, 96, 46, 146, 45]
abbrev dktL_law_8 : List UInt8 := dkwL_law_8 ++ dktL_law_9
def dkwL_law_7 : List UInt8 := [54, 6, 44, 182, 0, 92, 21, 5, 159, 0, 5, 3, 172, 21, 5, 154, 0, 15, 45, 3, 47, 21, 6, 133]
abbrev dktL_law_7 : List UInt8 := dkwL_law_7 ++ dktL_law_8
def dkwL_law_6 : List UInt8 := [46, 45, 184, 0, 95, 54, 5, 44, 42, 21, 4, 4, 96, 46, 42, 21, 4, 5, 96, 46, 182, 0, 98]
abbrev dktL_law_6 : List UInt8 := dkwL_law_6 ++ dktL_law_7
def dkwL_law_5 : List UInt8 := [21, 6, 133, 148, 153, 0, 5, 3, 172, 167, 4, 116, 43, 42, 21, 4, 4, 96, 46, 42, 21, 4, 5, 96]
abbrev dktL_law_5 : List UInt8 := dkwL_law_5 ++ dktL_law_6
def dkwL_law_4 : List UInt8 := [182, 0, 91, 54, 6, 44, 182, 0, 92, 21, 5, 159, 0, 5, 3, 172, 21, 5, 154, 0, 15, 45, 3, 47]
abbrev dktL_law_4 : List UInt8 := dkwL_law_4 ++ dktL_law_5
def dkwL_law_3 : List UInt8 := [43, 42, 21, 4, 4, 96, 46, 146, 45, 184, 0, 86, 54, 5, 44, 42, 21, 4, 4, 96, 46, 146]
abbrev dktL_law_3 : List UInt8 := dkwL_law_3 ++ dktL_law_4
def dkwL_law_2 : List UInt8 := [170, 0, 0, 5, 56, 0, 0, 0, 0, 0, 0, 0, 31, 0, 0, 0, 141, 0, 0, 0, 199, 0, 0, 1, 11, 0, 0, 1, 81, 0, 0, 1, 125, 0, 0, 1, 193, 0, 0, 1, 206, 0, 0, 1, 219, 0, 0, 2, 19, 0, 0, 2, 75, 0, 0, 2, 119, 0, 0, 2, 163, 0, 0, 2, 176, 0, 0, 2, 189, 0, 0, 2, 245, 0, 0, 3, 47, 0, 0, 3, 60, 0, 0, 3, 116, 0, 0, 3, 129, 0, 0, 3, 142, 0, 0, 3, 198, 0, 0, 3, 211, 0, 0, 3, 255, 0, 0, 4, 12, 0, 0, 4, 68, 0, 0, 4, 82, 0, 0, 4, 95, 0, 0, 4, 153, 0, 0, 4, 197, 0, 0, 4, 241, 0, 0, 5, 29, 0, 0, 5, 42]
abbrev dktL_law_2 : List UInt8 := dkwL_law_2 ++ dktL_law_3
def dkwL_law_1 : List UInt8 := [21, 4, 42, 190, 6, 100, 163, 5, 72, 42, 21, 4, 46, 16, 31, 126]
abbrev dktL_law_1 : List UInt8 := dkwL_law_1 ++ dktL_law_2
def dkwL_law_0 : List UInt8 := [187, 0, 8, 89, 183, 0, 82, 76, 187, 0, 83, 89, 183, 0, 85, 77, 4, 188, 11, 78, 3, 54, 4]
abbrev dktL_law_0 : List UInt8 := dkwL_law_0 ++ dktL_law_1
theorem dksL_law_0 : cL_law.data.toList.drop 0 = dktL_law_0 := by decide +kernel
theorem dksL_law_1 : cL_law.data.toList.drop 23 = dktL_law_1 := dk_seg dksL_law_0 23 rfl rfl
theorem dksL_law_2 : cL_law.data.toList.drop 39 = dktL_law_2 := dk_seg dksL_law_1 16 rfl rfl
theorem dksL_law_3 : cL_law.data.toList.drop 180 = dktL_law_3 := dk_seg dksL_law_2 141 rfl rfl
theorem dksL_law_4 : cL_law.data.toList.drop 202 = dktL_law_4 := dk_seg dksL_law_3 22 rfl rfl
theorem dksL_law_5 : cL_law.data.toList.drop 226 = dktL_law_5 := dk_seg dksL_law_4 24 rfl rfl
theorem dksL_law_6 : cL_law.data.toList.drop 250 = dktL_law_6 := dk_seg dksL_law_5 24 rfl rfl
theorem dksL_law_7 : cL_law.data.toList.drop 273 = dktL_law_7 := dk_seg dksL_law_6 23 rfl rfl
theorem dksL_law_8 : cL_law.data.toList.drop 297 = dktL_law_8 := dk_seg dksL_law_7 24 rfl rfl
theorem dksL_law_9 : cL_law.data.toList.drop 321 = dktL_law_9 := dk_seg dksL_law_8 24 rfl rfl
theorem dksL_law_10 : cL_law.data.toList.drop 345 = dktL_law_10 := dk_seg dksL_law_9 24 rfl rfl
theorem dksL_law_11 : cL_law.data.toList.drop 368 = dktL_law_11 := dk_seg dksL_law_10 23 rfl rfl
theorem dksL_law_12 : cL_law.data.toList.drop 390 = dktL_law_12 := dk_seg dksL_law_11 22 rfl rfl
theorem dksL_law_13 : cL_law.data.toList.drop 412 = dktL_law_13 := dk_seg dksL_law_12 22 rfl rfl
theorem dksL_law_14 : cL_law.data.toList.drop 434 = dktL_law_14 := dk_seg dksL_law_13 22 rfl rfl
theorem dksL_law_15 : cL_law.data.toList.drop 458 = dktL_law_15 := dk_seg dksL_law_14 24 rfl rfl
theorem dksL_law_16 : cL_law.data.toList.drop 480 = dktL_law_16 := dk_seg dksL_law_15 22 rfl rfl
theorem dksL_law_17 : cL_law.data.toList.drop 502 = dktL_law_17 := dk_seg dksL_law_16 22 rfl rfl
theorem dksL_law_18 : cL_law.data.toList.drop 525 = dktL_law_18 := dk_seg dksL_law_17 23 rfl rfl
theorem dksL_law_19 : cL_law.data.toList.drop 549 = dktL_law_19 := dk_seg dksL_law_18 24 rfl rfl
theorem dksL_law_20 : cL_law.data.toList.drop 572 = dktL_law_20 := dk_seg dksL_law_19 23 rfl rfl
theorem dksL_law_21 : cL_law.data.toList.drop 596 = dktL_law_21 := dk_seg dksL_law_20 24 rfl rfl
theorem dksL_law_22 : cL_law.data.toList.drop 618 = dktL_law_22 := dk_seg dksL_law_21 22 rfl rfl
theorem dksL_law_23 : cL_law.data.toList.drop 640 = dktL_law_23 := dk_seg dksL_law_22 22 rfl rfl
theorem dksL_law_24 : cL_law.data.toList.drop 662 = dktL_law_24 := dk_seg dksL_law_23 22 rfl rfl
theorem dksL_law_25 : cL_law.data.toList.drop 684 = dktL_law_25 := dk_seg dksL_law_24 22 rfl rfl
theorem dksL_law_26 : cL_law.data.toList.drop 706 = dktL_law_26 := dk_seg dksL_law_25 22 rfl rfl
theorem dksL_law_27 : cL_law.data.toList.drop 728 = dktL_law_27 := dk_seg dksL_law_26 22 rfl rfl
theorem dksL_law_28 : cL_law.data.toList.drop 751 = dktL_law_28 := dk_seg dksL_law_27 23 rfl rfl
theorem dksL_law_29 : cL_law.data.toList.drop 775 = dktL_law_29 := dk_seg dksL_law_28 24 rfl rfl
theorem dksL_law_30 : cL_law.data.toList.drop 798 = dktL_law_30 := dk_seg dksL_law_29 23 rfl rfl
theorem dksL_law_31 : cL_law.data.toList.drop 821 = dktL_law_31 := dk_seg dksL_law_30 23 rfl rfl
theorem dksL_law_32 : cL_law.data.toList.drop 845 = dktL_law_32 := dk_seg dksL_law_31 24 rfl rfl
theorem dksL_law_33 : cL_law.data.toList.drop 869 = dktL_law_33 := dk_seg dksL_law_32 24 rfl rfl
theorem dksL_law_34 : cL_law.data.toList.drop 893 = dktL_law_34 := dk_seg dksL_law_33 24 rfl rfl
theorem dksL_law_35 : cL_law.data.toList.drop 915 = dktL_law_35 := dk_seg dksL_law_34 22 rfl rfl
theorem dksL_law_36 : cL_law.data.toList.drop 937 = dktL_law_36 := dk_seg dksL_law_35 22 rfl rfl
theorem dksL_law_37 : cL_law.data.toList.drop 960 = dktL_law_37 := dk_seg dksL_law_36 23 rfl rfl
theorem dksL_law_38 : cL_law.data.toList.drop 984 = dktL_law_38 := dk_seg dksL_law_37 24 rfl rfl
theorem dksL_law_39 : cL_law.data.toList.drop 1006 = dktL_law_39 := dk_seg dksL_law_38 22 rfl rfl
theorem dksL_law_40 : cL_law.data.toList.drop 1029 = dktL_law_40 := dk_seg dksL_law_39 23 rfl rfl
theorem dksL_law_41 : cL_law.data.toList.drop 1053 = dktL_law_41 := dk_seg dksL_law_40 24 rfl rfl
theorem dksL_law_42 : cL_law.data.toList.drop 1077 = dktL_law_42 := dk_seg dksL_law_41 24 rfl rfl
theorem dksL_law_43 : cL_law.data.toList.drop 1101 = dktL_law_43 := dk_seg dksL_law_42 24 rfl rfl
theorem dksL_law_44 : cL_law.data.toList.drop 1123 = dktL_law_44 := dk_seg dksL_law_43 22 rfl rfl
theorem dksL_law_45 : cL_law.data.toList.drop 1146 = dktL_law_45 := dk_seg dksL_law_44 23 rfl rfl
theorem dksL_law_46 : cL_law.data.toList.drop 1170 = dktL_law_46 := dk_seg dksL_law_45 24 rfl rfl
theorem dksL_law_47 : cL_law.data.toList.drop 1194 = dktL_law_47 := dk_seg dksL_law_46 24 rfl rfl
theorem dksL_law_48 : cL_law.data.toList.drop 1218 = dktL_law_48 := dk_seg dksL_law_47 24 rfl rfl
theorem dksL_law_49 : cL_law.data.toList.drop 1242 = dktL_law_49 := dk_seg dksL_law_48 24 rfl rfl
theorem dksL_law_50 : cL_law.data.toList.drop 1265 = dktL_law_50 := dk_seg dksL_law_49 23 rfl rfl
theorem dksL_law_51 : cL_law.data.toList.drop 1289 = dktL_law_51 := dk_seg dksL_law_50 24 rfl rfl
theorem dksL_law_52 : cL_law.data.toList.drop 1312 = dktL_law_52 := dk_seg dksL_law_51 23 rfl rfl
theorem dksL_law_53 : cL_law.data.toList.drop 1336 = dktL_law_53 := dk_seg dksL_law_52 24 rfl rfl
theorem dksL_law_54 : cL_law.data.toList.drop 1360 = dktL_law_54 := dk_seg dksL_law_53 24 rfl rfl
theorem dL_law_0 : decode cL_law 0 = .ok (.new 8, 3) := dk_187 0 8 (dk_at dksL_law_0 0 rfl rfl)
theorem dL_law_3 : decode cL_law 3 = .ok (.dup, 1) := dk_89 (dk_at dksL_law_0 3 rfl rfl)
theorem dL_law_4 : decode cL_law 4 = .ok (.invokespecial 82, 3) := dk_183 0 82 (dk_at dksL_law_0 4 rfl rfl)
theorem dL_law_7 : decode cL_law 7 = .ok (.astore_n 1, 1) := dk_76 (dk_at dksL_law_0 7 rfl rfl)
theorem dL_law_8 : decode cL_law 8 = .ok (.new 83, 3) := dk_187 0 83 (dk_at dksL_law_0 8 rfl rfl)
theorem dL_law_11 : decode cL_law 11 = .ok (.dup, 1) := dk_89 (dk_at dksL_law_0 11 rfl rfl)
theorem dL_law_12 : decode cL_law 12 = .ok (.invokespecial 85, 3) := dk_183 0 85 (dk_at dksL_law_0 12 rfl rfl)
theorem dL_law_15 : decode cL_law 15 = .ok (.astore_n 2, 1) := dk_77 (dk_at dksL_law_0 15 rfl rfl)
theorem dL_law_16 : decode cL_law 16 = .ok (.iconst 1, 1) := dk_4 (dk_at dksL_law_0 16 rfl rfl)
theorem dL_law_17 : decode cL_law 17 = .ok (.newarray .long, 2) := dk_188_11 (dk_at dksL_law_0 17 rfl rfl)
theorem dL_law_19 : decode cL_law 19 = .ok (.astore_n 3, 1) := dk_78 (dk_at dksL_law_0 19 rfl rfl)
theorem dL_law_20 : decode cL_law 20 = .ok (.iconst 0, 1) := dk_3 (dk_at dksL_law_0 20 rfl rfl)
theorem dL_law_21 : decode cL_law 21 = .ok (.istore 4, 2) := dk_54 4 (dk_at dksL_law_0 21 rfl rfl)
theorem dL_law_23 : decode cL_law 23 = .ok (.iload 4, 2) := dk_21 4 (dk_at dksL_law_1 0 rfl rfl)
theorem dL_law_25 : decode cL_law 25 = .ok (.aload_n 0, 1) := dk_42 (dk_at dksL_law_1 2 rfl rfl)
theorem dL_law_26 : decode cL_law 26 = .ok (.arraylength, 1) := dk_190 (dk_at dksL_law_1 3 rfl rfl)
theorem dL_law_27 : decode cL_law 27 = .ok (.iconst 3, 1) := dk_6 (dk_at dksL_law_1 4 rfl rfl)
theorem dL_law_28 : decode cL_law 28 = .ok (.isub, 1) := dk_100 (dk_at dksL_law_1 5 rfl rfl)
theorem dL_law_29 : decode cL_law 29 = .ok (.if_icmp .gt 1352, 3) := dk_163 5 72 (dk_at dksL_law_1 6 rfl rfl)
theorem dL_law_32 : decode cL_law 32 = .ok (.aload_n 0, 1) := dk_42 (dk_at dksL_law_1 9 rfl rfl)
theorem dL_law_33 : decode cL_law 33 = .ok (.iload 4, 2) := dk_21 4 (dk_at dksL_law_1 10 rfl rfl)
theorem dL_law_35 : decode cL_law 35 = .ok (.iaload, 1) := dk_46 (dk_at dksL_law_1 12 rfl rfl)
theorem dL_law_36 : decode cL_law 36 = .ok (.bipush 31, 2) := dk_16 31 (dk_at dksL_law_1 13 rfl rfl)
theorem dL_law_38 : decode cL_law 38 = .ok (.iand, 1) := dk_126 (dk_at dksL_law_1 15 rfl rfl)
theorem dL_law_39 : decode cL_law 39 = .ok (.tableswitch 1336 0 31 #[141, 199, 267, 337, 381, 449, 462, 475, 531, 587, 631, 675, 688, 701, 757, 815, 828, 884, 897, 910, 966, 979, 1023, 1036, 1092, 1106, 1119, 1177, 1221, 1265, 1309, 1322], 141) := by decide +kernel
theorem dL_law_180 : decode cL_law 180 = .ok (.aload_n 1, 1) := dk_43 (dk_at dksL_law_3 0 rfl rfl)
theorem dL_law_181 : decode cL_law 181 = .ok (.aload_n 0, 1) := dk_42 (dk_at dksL_law_3 1 rfl rfl)
theorem dL_law_182 : decode cL_law 182 = .ok (.iload 4, 2) := dk_21 4 (dk_at dksL_law_3 2 rfl rfl)
theorem dL_law_184 : decode cL_law 184 = .ok (.iconst 1, 1) := dk_4 (dk_at dksL_law_3 4 rfl rfl)
theorem dL_law_185 : decode cL_law 185 = .ok (.iadd, 1) := dk_96 (dk_at dksL_law_3 5 rfl rfl)
theorem dL_law_186 : decode cL_law 186 = .ok (.iaload, 1) := dk_46 (dk_at dksL_law_3 6 rfl rfl)
theorem dL_law_187 : decode cL_law 187 = .ok (.i2c, 1) := dk_146 (dk_at dksL_law_3 7 rfl rfl)
theorem dL_law_188 : decode cL_law 188 = .ok (.aload_n 3, 1) := dk_45 (dk_at dksL_law_3 8 rfl rfl)
theorem dL_law_189 : decode cL_law 189 = .ok (.invokestatic 86, 3) := dk_184 0 86 (dk_at dksL_law_3 9 rfl rfl)
theorem dL_law_192 : decode cL_law 192 = .ok (.istore 5, 2) := dk_54 5 (dk_at dksL_law_3 12 rfl rfl)
theorem dL_law_194 : decode cL_law 194 = .ok (.aload_n 2, 1) := dk_44 (dk_at dksL_law_3 14 rfl rfl)
theorem dL_law_195 : decode cL_law 195 = .ok (.aload_n 0, 1) := dk_42 (dk_at dksL_law_3 15 rfl rfl)
theorem dL_law_196 : decode cL_law 196 = .ok (.iload 4, 2) := dk_21 4 (dk_at dksL_law_3 16 rfl rfl)
theorem dL_law_198 : decode cL_law 198 = .ok (.iconst 1, 1) := dk_4 (dk_at dksL_law_3 18 rfl rfl)
theorem dL_law_199 : decode cL_law 199 = .ok (.iadd, 1) := dk_96 (dk_at dksL_law_3 19 rfl rfl)
theorem dL_law_200 : decode cL_law 200 = .ok (.iaload, 1) := dk_46 (dk_at dksL_law_3 20 rfl rfl)
theorem dL_law_201 : decode cL_law 201 = .ok (.i2c, 1) := dk_146 (dk_at dksL_law_3 21 rfl rfl)
theorem dL_law_202 : decode cL_law 202 = .ok (.invokevirtual 91, 3) := dk_182 0 91 (dk_at dksL_law_4 0 rfl rfl)
theorem dL_law_205 : decode cL_law 205 = .ok (.istore 6, 2) := dk_54 6 (dk_at dksL_law_4 3 rfl rfl)
theorem dL_law_207 : decode cL_law 207 = .ok (.aload_n 2, 1) := dk_44 (dk_at dksL_law_4 5 rfl rfl)
theorem dL_law_208 : decode cL_law 208 = .ok (.invokevirtual 92, 3) := dk_182 0 92 (dk_at dksL_law_4 6 rfl rfl)
theorem dL_law_211 : decode cL_law 211 = .ok (.iload 5, 2) := dk_21 5 (dk_at dksL_law_4 9 rfl rfl)
theorem dL_law_213 : decode cL_law 213 = .ok (.if_icmp .eq 5, 3) := dk_159 0 5 (dk_at dksL_law_4 11 rfl rfl)
theorem dL_law_216 : decode cL_law 216 = .ok (.iconst 0, 1) := dk_3 (dk_at dksL_law_4 14 rfl rfl)
theorem dL_law_217 : decode cL_law 217 = .ok (.ireturn, 1) := dk_172 (dk_at dksL_law_4 15 rfl rfl)
theorem dL_law_218 : decode cL_law 218 = .ok (.iload 5, 2) := dk_21 5 (dk_at dksL_law_4 16 rfl rfl)
theorem dL_law_220 : decode cL_law 220 = .ok (.ifCond .ne 15, 3) := dk_154 0 15 (dk_at dksL_law_4 18 rfl rfl)
theorem dL_law_223 : decode cL_law 223 = .ok (.aload_n 3, 1) := dk_45 (dk_at dksL_law_4 21 rfl rfl)
theorem dL_law_224 : decode cL_law 224 = .ok (.iconst 0, 1) := dk_3 (dk_at dksL_law_4 22 rfl rfl)
theorem dL_law_225 : decode cL_law 225 = .ok (.laload, 1) := dk_47 (dk_at dksL_law_4 23 rfl rfl)
theorem dL_law_226 : decode cL_law 226 = .ok (.iload 6, 2) := dk_21 6 (dk_at dksL_law_5 0 rfl rfl)
theorem dL_law_228 : decode cL_law 228 = .ok (.i2l, 1) := dk_133 (dk_at dksL_law_5 2 rfl rfl)
theorem dL_law_229 : decode cL_law 229 = .ok (.lcmp, 1) := dk_148 (dk_at dksL_law_5 3 rfl rfl)
theorem dL_law_230 : decode cL_law 230 = .ok (.ifCond .eq 5, 3) := dk_153 0 5 (dk_at dksL_law_5 4 rfl rfl)
theorem dL_law_233 : decode cL_law 233 = .ok (.iconst 0, 1) := dk_3 (dk_at dksL_law_5 7 rfl rfl)
theorem dL_law_234 : decode cL_law 234 = .ok (.ireturn, 1) := dk_172 (dk_at dksL_law_5 8 rfl rfl)
theorem dL_law_235 : decode cL_law 235 = .ok (.goto 1140, 3) := dk_167 4 116 (dk_at dksL_law_5 9 rfl rfl)
theorem dL_law_238 : decode cL_law 238 = .ok (.aload_n 1, 1) := dk_43 (dk_at dksL_law_5 12 rfl rfl)
theorem dL_law_239 : decode cL_law 239 = .ok (.aload_n 0, 1) := dk_42 (dk_at dksL_law_5 13 rfl rfl)
theorem dL_law_240 : decode cL_law 240 = .ok (.iload 4, 2) := dk_21 4 (dk_at dksL_law_5 14 rfl rfl)
theorem dL_law_242 : decode cL_law 242 = .ok (.iconst 1, 1) := dk_4 (dk_at dksL_law_5 16 rfl rfl)
theorem dL_law_243 : decode cL_law 243 = .ok (.iadd, 1) := dk_96 (dk_at dksL_law_5 17 rfl rfl)
theorem dL_law_244 : decode cL_law 244 = .ok (.iaload, 1) := dk_46 (dk_at dksL_law_5 18 rfl rfl)
theorem dL_law_245 : decode cL_law 245 = .ok (.aload_n 0, 1) := dk_42 (dk_at dksL_law_5 19 rfl rfl)
theorem dL_law_246 : decode cL_law 246 = .ok (.iload 4, 2) := dk_21 4 (dk_at dksL_law_5 20 rfl rfl)
theorem dL_law_248 : decode cL_law 248 = .ok (.iconst 2, 1) := dk_5 (dk_at dksL_law_5 22 rfl rfl)
theorem dL_law_249 : decode cL_law 249 = .ok (.iadd, 1) := dk_96 (dk_at dksL_law_5 23 rfl rfl)
theorem dL_law_250 : decode cL_law 250 = .ok (.iaload, 1) := dk_46 (dk_at dksL_law_6 0 rfl rfl)
theorem dL_law_251 : decode cL_law 251 = .ok (.aload_n 3, 1) := dk_45 (dk_at dksL_law_6 1 rfl rfl)
theorem dL_law_252 : decode cL_law 252 = .ok (.invokestatic 95, 3) := dk_184 0 95 (dk_at dksL_law_6 2 rfl rfl)
theorem dL_law_255 : decode cL_law 255 = .ok (.istore 5, 2) := dk_54 5 (dk_at dksL_law_6 5 rfl rfl)
theorem dL_law_257 : decode cL_law 257 = .ok (.aload_n 2, 1) := dk_44 (dk_at dksL_law_6 7 rfl rfl)
theorem dL_law_258 : decode cL_law 258 = .ok (.aload_n 0, 1) := dk_42 (dk_at dksL_law_6 8 rfl rfl)
theorem dL_law_259 : decode cL_law 259 = .ok (.iload 4, 2) := dk_21 4 (dk_at dksL_law_6 9 rfl rfl)
theorem dL_law_261 : decode cL_law 261 = .ok (.iconst 1, 1) := dk_4 (dk_at dksL_law_6 11 rfl rfl)
theorem dL_law_262 : decode cL_law 262 = .ok (.iadd, 1) := dk_96 (dk_at dksL_law_6 12 rfl rfl)
theorem dL_law_263 : decode cL_law 263 = .ok (.iaload, 1) := dk_46 (dk_at dksL_law_6 13 rfl rfl)
theorem dL_law_264 : decode cL_law 264 = .ok (.aload_n 0, 1) := dk_42 (dk_at dksL_law_6 14 rfl rfl)
theorem dL_law_265 : decode cL_law 265 = .ok (.iload 4, 2) := dk_21 4 (dk_at dksL_law_6 15 rfl rfl)
theorem dL_law_267 : decode cL_law 267 = .ok (.iconst 2, 1) := dk_5 (dk_at dksL_law_6 17 rfl rfl)
theorem dL_law_268 : decode cL_law 268 = .ok (.iadd, 1) := dk_96 (dk_at dksL_law_6 18 rfl rfl)
theorem dL_law_269 : decode cL_law 269 = .ok (.iaload, 1) := dk_46 (dk_at dksL_law_6 19 rfl rfl)
theorem dL_law_270 : decode cL_law 270 = .ok (.invokevirtual 98, 3) := dk_182 0 98 (dk_at dksL_law_6 20 rfl rfl)
theorem dL_law_273 : decode cL_law 273 = .ok (.istore 6, 2) := dk_54 6 (dk_at dksL_law_7 0 rfl rfl)
theorem dL_law_275 : decode cL_law 275 = .ok (.aload_n 2, 1) := dk_44 (dk_at dksL_law_7 2 rfl rfl)
theorem dL_law_276 : decode cL_law 276 = .ok (.invokevirtual 92, 3) := dk_182 0 92 (dk_at dksL_law_7 3 rfl rfl)
theorem dL_law_279 : decode cL_law 279 = .ok (.iload 5, 2) := dk_21 5 (dk_at dksL_law_7 6 rfl rfl)
theorem dL_law_281 : decode cL_law 281 = .ok (.if_icmp .eq 5, 3) := dk_159 0 5 (dk_at dksL_law_7 8 rfl rfl)
theorem dL_law_284 : decode cL_law 284 = .ok (.iconst 0, 1) := dk_3 (dk_at dksL_law_7 11 rfl rfl)
theorem dL_law_285 : decode cL_law 285 = .ok (.ireturn, 1) := dk_172 (dk_at dksL_law_7 12 rfl rfl)
theorem dL_law_286 : decode cL_law 286 = .ok (.iload 5, 2) := dk_21 5 (dk_at dksL_law_7 13 rfl rfl)
theorem dL_law_288 : decode cL_law 288 = .ok (.ifCond .ne 15, 3) := dk_154 0 15 (dk_at dksL_law_7 15 rfl rfl)
theorem dL_law_291 : decode cL_law 291 = .ok (.aload_n 3, 1) := dk_45 (dk_at dksL_law_7 18 rfl rfl)
theorem dL_law_292 : decode cL_law 292 = .ok (.iconst 0, 1) := dk_3 (dk_at dksL_law_7 19 rfl rfl)
theorem dL_law_293 : decode cL_law 293 = .ok (.laload, 1) := dk_47 (dk_at dksL_law_7 20 rfl rfl)
theorem dL_law_294 : decode cL_law 294 = .ok (.iload 6, 2) := dk_21 6 (dk_at dksL_law_7 21 rfl rfl)
theorem dL_law_296 : decode cL_law 296 = .ok (.i2l, 1) := dk_133 (dk_at dksL_law_7 23 rfl rfl)
theorem dL_law_297 : decode cL_law 297 = .ok (.lcmp, 1) := dk_148 (dk_at dksL_law_8 0 rfl rfl)
theorem dL_law_298 : decode cL_law 298 = .ok (.ifCond .eq 5, 3) := dk_153 0 5 (dk_at dksL_law_8 1 rfl rfl)
theorem dL_law_301 : decode cL_law 301 = .ok (.iconst 0, 1) := dk_3 (dk_at dksL_law_8 4 rfl rfl)
theorem dL_law_302 : decode cL_law 302 = .ok (.ireturn, 1) := dk_172 (dk_at dksL_law_8 5 rfl rfl)
theorem dL_law_303 : decode cL_law 303 = .ok (.goto 1072, 3) := dk_167 4 48 (dk_at dksL_law_8 6 rfl rfl)
theorem dL_law_306 : decode cL_law 306 = .ok (.aload_n 1, 1) := dk_43 (dk_at dksL_law_8 9 rfl rfl)
theorem dL_law_307 : decode cL_law 307 = .ok (.aload_n 0, 1) := dk_42 (dk_at dksL_law_8 10 rfl rfl)
theorem dL_law_308 : decode cL_law 308 = .ok (.iload 4, 2) := dk_21 4 (dk_at dksL_law_8 11 rfl rfl)
theorem dL_law_310 : decode cL_law 310 = .ok (.iconst 1, 1) := dk_4 (dk_at dksL_law_8 13 rfl rfl)
theorem dL_law_311 : decode cL_law 311 = .ok (.iadd, 1) := dk_96 (dk_at dksL_law_8 14 rfl rfl)
theorem dL_law_312 : decode cL_law 312 = .ok (.iaload, 1) := dk_46 (dk_at dksL_law_8 15 rfl rfl)
theorem dL_law_313 : decode cL_law 313 = .ok (.aload_n 0, 1) := dk_42 (dk_at dksL_law_8 16 rfl rfl)
theorem dL_law_314 : decode cL_law 314 = .ok (.iload 4, 2) := dk_21 4 (dk_at dksL_law_8 17 rfl rfl)
theorem dL_law_316 : decode cL_law 316 = .ok (.iconst 2, 1) := dk_5 (dk_at dksL_law_8 19 rfl rfl)
theorem dL_law_317 : decode cL_law 317 = .ok (.iadd, 1) := dk_96 (dk_at dksL_law_8 20 rfl rfl)
theorem dL_law_318 : decode cL_law 318 = .ok (.iaload, 1) := dk_46 (dk_at dksL_law_8 21 rfl rfl)
theorem dL_law_319 : decode cL_law 319 = .ok (.i2c, 1) := dk_146 (dk_at dksL_law_8 22 rfl rfl)
theorem dL_law_320 : decode cL_law 320 = .ok (.aload_n 3, 1) := dk_45 (dk_at dksL_law_8 23 rfl rfl)
theorem dL_law_321 : decode cL_law 321 = .ok (.invokestatic 99, 3) := dk_184 0 99 (dk_at dksL_law_9 0 rfl rfl)
theorem dL_law_324 : decode cL_law 324 = .ok (.istore 5, 2) := dk_54 5 (dk_at dksL_law_9 3 rfl rfl)
theorem dL_law_326 : decode cL_law 326 = .ok (.aload_n 2, 1) := dk_44 (dk_at dksL_law_9 5 rfl rfl)
theorem dL_law_327 : decode cL_law 327 = .ok (.aload_n 0, 1) := dk_42 (dk_at dksL_law_9 6 rfl rfl)
theorem dL_law_328 : decode cL_law 328 = .ok (.iload 4, 2) := dk_21 4 (dk_at dksL_law_9 7 rfl rfl)
theorem dL_law_330 : decode cL_law 330 = .ok (.iconst 1, 1) := dk_4 (dk_at dksL_law_9 9 rfl rfl)
theorem dL_law_331 : decode cL_law 331 = .ok (.iadd, 1) := dk_96 (dk_at dksL_law_9 10 rfl rfl)
theorem dL_law_332 : decode cL_law 332 = .ok (.iaload, 1) := dk_46 (dk_at dksL_law_9 11 rfl rfl)
theorem dL_law_333 : decode cL_law 333 = .ok (.aload_n 0, 1) := dk_42 (dk_at dksL_law_9 12 rfl rfl)
theorem dL_law_334 : decode cL_law 334 = .ok (.iload 4, 2) := dk_21 4 (dk_at dksL_law_9 13 rfl rfl)
theorem dL_law_336 : decode cL_law 336 = .ok (.iconst 2, 1) := dk_5 (dk_at dksL_law_9 15 rfl rfl)
theorem dL_law_337 : decode cL_law 337 = .ok (.iadd, 1) := dk_96 (dk_at dksL_law_9 16 rfl rfl)
theorem dL_law_338 : decode cL_law 338 = .ok (.iaload, 1) := dk_46 (dk_at dksL_law_9 17 rfl rfl)
theorem dL_law_339 : decode cL_law 339 = .ok (.i2c, 1) := dk_146 (dk_at dksL_law_9 18 rfl rfl)
theorem dL_law_340 : decode cL_law 340 = .ok (.invokevirtual 102, 3) := dk_182 0 102 (dk_at dksL_law_9 19 rfl rfl)
theorem dL_law_343 : decode cL_law 343 = .ok (.istore 6, 2) := dk_54 6 (dk_at dksL_law_9 22 rfl rfl)
theorem dL_law_345 : decode cL_law 345 = .ok (.aload_n 2, 1) := dk_44 (dk_at dksL_law_10 0 rfl rfl)
theorem dL_law_346 : decode cL_law 346 = .ok (.invokevirtual 92, 3) := dk_182 0 92 (dk_at dksL_law_10 1 rfl rfl)
theorem dL_law_349 : decode cL_law 349 = .ok (.iload 5, 2) := dk_21 5 (dk_at dksL_law_10 4 rfl rfl)
theorem dL_law_351 : decode cL_law 351 = .ok (.if_icmp .eq 5, 3) := dk_159 0 5 (dk_at dksL_law_10 6 rfl rfl)
theorem dL_law_354 : decode cL_law 354 = .ok (.iconst 0, 1) := dk_3 (dk_at dksL_law_10 9 rfl rfl)
theorem dL_law_355 : decode cL_law 355 = .ok (.ireturn, 1) := dk_172 (dk_at dksL_law_10 10 rfl rfl)
theorem dL_law_356 : decode cL_law 356 = .ok (.iload 5, 2) := dk_21 5 (dk_at dksL_law_10 11 rfl rfl)
theorem dL_law_358 : decode cL_law 358 = .ok (.ifCond .ne 15, 3) := dk_154 0 15 (dk_at dksL_law_10 13 rfl rfl)
theorem dL_law_361 : decode cL_law 361 = .ok (.aload_n 3, 1) := dk_45 (dk_at dksL_law_10 16 rfl rfl)
theorem dL_law_362 : decode cL_law 362 = .ok (.iconst 0, 1) := dk_3 (dk_at dksL_law_10 17 rfl rfl)
theorem dL_law_363 : decode cL_law 363 = .ok (.laload, 1) := dk_47 (dk_at dksL_law_10 18 rfl rfl)
theorem dL_law_364 : decode cL_law 364 = .ok (.iload 6, 2) := dk_21 6 (dk_at dksL_law_10 19 rfl rfl)
theorem dL_law_366 : decode cL_law 366 = .ok (.i2l, 1) := dk_133 (dk_at dksL_law_10 21 rfl rfl)
theorem dL_law_367 : decode cL_law 367 = .ok (.lcmp, 1) := dk_148 (dk_at dksL_law_10 22 rfl rfl)
theorem dL_law_368 : decode cL_law 368 = .ok (.ifCond .eq 5, 3) := dk_153 0 5 (dk_at dksL_law_11 0 rfl rfl)
theorem dL_law_371 : decode cL_law 371 = .ok (.iconst 0, 1) := dk_3 (dk_at dksL_law_11 3 rfl rfl)
theorem dL_law_372 : decode cL_law 372 = .ok (.ireturn, 1) := dk_172 (dk_at dksL_law_11 4 rfl rfl)
theorem dL_law_373 : decode cL_law 373 = .ok (.goto 1002, 3) := dk_167 3 234 (dk_at dksL_law_11 5 rfl rfl)
theorem dL_law_376 : decode cL_law 376 = .ok (.aload_n 1, 1) := dk_43 (dk_at dksL_law_11 8 rfl rfl)
theorem dL_law_377 : decode cL_law 377 = .ok (.aload_n 3, 1) := dk_45 (dk_at dksL_law_11 9 rfl rfl)
theorem dL_law_378 : decode cL_law 378 = .ok (.invokestatic 103, 3) := dk_184 0 103 (dk_at dksL_law_11 10 rfl rfl)
theorem dL_law_381 : decode cL_law 381 = .ok (.istore 5, 2) := dk_54 5 (dk_at dksL_law_11 13 rfl rfl)
theorem dL_law_383 : decode cL_law 383 = .ok (.aload_n 2, 1) := dk_44 (dk_at dksL_law_11 15 rfl rfl)
theorem dL_law_384 : decode cL_law 384 = .ok (.invokevirtual 106, 3) := dk_182 0 106 (dk_at dksL_law_11 16 rfl rfl)
theorem dL_law_387 : decode cL_law 387 = .ok (.istore 6, 2) := dk_54 6 (dk_at dksL_law_11 19 rfl rfl)
theorem dL_law_389 : decode cL_law 389 = .ok (.aload_n 2, 1) := dk_44 (dk_at dksL_law_11 21 rfl rfl)
theorem dL_law_390 : decode cL_law 390 = .ok (.invokevirtual 92, 3) := dk_182 0 92 (dk_at dksL_law_12 0 rfl rfl)
theorem dL_law_393 : decode cL_law 393 = .ok (.iload 5, 2) := dk_21 5 (dk_at dksL_law_12 3 rfl rfl)
theorem dL_law_395 : decode cL_law 395 = .ok (.if_icmp .eq 5, 3) := dk_159 0 5 (dk_at dksL_law_12 5 rfl rfl)
theorem dL_law_398 : decode cL_law 398 = .ok (.iconst 0, 1) := dk_3 (dk_at dksL_law_12 8 rfl rfl)
theorem dL_law_399 : decode cL_law 399 = .ok (.ireturn, 1) := dk_172 (dk_at dksL_law_12 9 rfl rfl)
theorem dL_law_400 : decode cL_law 400 = .ok (.iload 5, 2) := dk_21 5 (dk_at dksL_law_12 10 rfl rfl)
theorem dL_law_402 : decode cL_law 402 = .ok (.ifCond .ne 15, 3) := dk_154 0 15 (dk_at dksL_law_12 12 rfl rfl)
theorem dL_law_405 : decode cL_law 405 = .ok (.aload_n 3, 1) := dk_45 (dk_at dksL_law_12 15 rfl rfl)
theorem dL_law_406 : decode cL_law 406 = .ok (.iconst 0, 1) := dk_3 (dk_at dksL_law_12 16 rfl rfl)
theorem dL_law_407 : decode cL_law 407 = .ok (.laload, 1) := dk_47 (dk_at dksL_law_12 17 rfl rfl)
theorem dL_law_408 : decode cL_law 408 = .ok (.iload 6, 2) := dk_21 6 (dk_at dksL_law_12 18 rfl rfl)
theorem dL_law_410 : decode cL_law 410 = .ok (.i2l, 1) := dk_133 (dk_at dksL_law_12 20 rfl rfl)
theorem dL_law_411 : decode cL_law 411 = .ok (.lcmp, 1) := dk_148 (dk_at dksL_law_12 21 rfl rfl)
theorem dL_law_412 : decode cL_law 412 = .ok (.ifCond .eq 5, 3) := dk_153 0 5 (dk_at dksL_law_13 0 rfl rfl)
theorem dL_law_415 : decode cL_law 415 = .ok (.iconst 0, 1) := dk_3 (dk_at dksL_law_13 3 rfl rfl)
theorem dL_law_416 : decode cL_law 416 = .ok (.ireturn, 1) := dk_172 (dk_at dksL_law_13 4 rfl rfl)
theorem dL_law_417 : decode cL_law 417 = .ok (.goto 958, 3) := dk_167 3 190 (dk_at dksL_law_13 5 rfl rfl)
theorem dL_law_420 : decode cL_law 420 = .ok (.aload_n 1, 1) := dk_43 (dk_at dksL_law_13 8 rfl rfl)
theorem dL_law_421 : decode cL_law 421 = .ok (.aload_n 0, 1) := dk_42 (dk_at dksL_law_13 9 rfl rfl)
theorem dL_law_422 : decode cL_law 422 = .ok (.iload 4, 2) := dk_21 4 (dk_at dksL_law_13 10 rfl rfl)
theorem dL_law_424 : decode cL_law 424 = .ok (.iconst 1, 1) := dk_4 (dk_at dksL_law_13 12 rfl rfl)
theorem dL_law_425 : decode cL_law 425 = .ok (.iadd, 1) := dk_96 (dk_at dksL_law_13 13 rfl rfl)
theorem dL_law_426 : decode cL_law 426 = .ok (.iaload, 1) := dk_46 (dk_at dksL_law_13 14 rfl rfl)
theorem dL_law_427 : decode cL_law 427 = .ok (.aload_n 0, 1) := dk_42 (dk_at dksL_law_13 15 rfl rfl)
theorem dL_law_428 : decode cL_law 428 = .ok (.iload 4, 2) := dk_21 4 (dk_at dksL_law_13 16 rfl rfl)
theorem dL_law_430 : decode cL_law 430 = .ok (.iconst 2, 1) := dk_5 (dk_at dksL_law_13 18 rfl rfl)
theorem dL_law_431 : decode cL_law 431 = .ok (.iadd, 1) := dk_96 (dk_at dksL_law_13 19 rfl rfl)
theorem dL_law_432 : decode cL_law 432 = .ok (.iaload, 1) := dk_46 (dk_at dksL_law_13 20 rfl rfl)
theorem dL_law_433 : decode cL_law 433 = .ok (.aload_n 3, 1) := dk_45 (dk_at dksL_law_13 21 rfl rfl)
theorem dL_law_434 : decode cL_law 434 = .ok (.invokestatic 107, 3) := dk_184 0 107 (dk_at dksL_law_14 0 rfl rfl)
theorem dL_law_437 : decode cL_law 437 = .ok (.istore 5, 2) := dk_54 5 (dk_at dksL_law_14 3 rfl rfl)
theorem dL_law_439 : decode cL_law 439 = .ok (.aload_n 2, 1) := dk_44 (dk_at dksL_law_14 5 rfl rfl)
theorem dL_law_440 : decode cL_law 440 = .ok (.aload_n 0, 1) := dk_42 (dk_at dksL_law_14 6 rfl rfl)
theorem dL_law_441 : decode cL_law 441 = .ok (.iload 4, 2) := dk_21 4 (dk_at dksL_law_14 7 rfl rfl)
theorem dL_law_443 : decode cL_law 443 = .ok (.iconst 1, 1) := dk_4 (dk_at dksL_law_14 9 rfl rfl)
theorem dL_law_444 : decode cL_law 444 = .ok (.iadd, 1) := dk_96 (dk_at dksL_law_14 10 rfl rfl)
theorem dL_law_445 : decode cL_law 445 = .ok (.iaload, 1) := dk_46 (dk_at dksL_law_14 11 rfl rfl)
theorem dL_law_446 : decode cL_law 446 = .ok (.aload_n 0, 1) := dk_42 (dk_at dksL_law_14 12 rfl rfl)
theorem dL_law_447 : decode cL_law 447 = .ok (.iload 4, 2) := dk_21 4 (dk_at dksL_law_14 13 rfl rfl)
theorem dL_law_449 : decode cL_law 449 = .ok (.iconst 2, 1) := dk_5 (dk_at dksL_law_14 15 rfl rfl)
theorem dL_law_450 : decode cL_law 450 = .ok (.iadd, 1) := dk_96 (dk_at dksL_law_14 16 rfl rfl)
theorem dL_law_451 : decode cL_law 451 = .ok (.iaload, 1) := dk_46 (dk_at dksL_law_14 17 rfl rfl)
theorem dL_law_452 : decode cL_law 452 = .ok (.invokevirtual 109, 3) := dk_182 0 109 (dk_at dksL_law_14 18 rfl rfl)
theorem dL_law_455 : decode cL_law 455 = .ok (.istore 6, 2) := dk_54 6 (dk_at dksL_law_14 21 rfl rfl)
theorem dL_law_457 : decode cL_law 457 = .ok (.aload_n 2, 1) := dk_44 (dk_at dksL_law_14 23 rfl rfl)
theorem dL_law_458 : decode cL_law 458 = .ok (.invokevirtual 92, 3) := dk_182 0 92 (dk_at dksL_law_15 0 rfl rfl)
theorem dL_law_461 : decode cL_law 461 = .ok (.iload 5, 2) := dk_21 5 (dk_at dksL_law_15 3 rfl rfl)
theorem dL_law_463 : decode cL_law 463 = .ok (.if_icmp .eq 5, 3) := dk_159 0 5 (dk_at dksL_law_15 5 rfl rfl)
theorem dL_law_466 : decode cL_law 466 = .ok (.iconst 0, 1) := dk_3 (dk_at dksL_law_15 8 rfl rfl)
theorem dL_law_467 : decode cL_law 467 = .ok (.ireturn, 1) := dk_172 (dk_at dksL_law_15 9 rfl rfl)
theorem dL_law_468 : decode cL_law 468 = .ok (.iload 5, 2) := dk_21 5 (dk_at dksL_law_15 10 rfl rfl)
theorem dL_law_470 : decode cL_law 470 = .ok (.ifCond .ne 15, 3) := dk_154 0 15 (dk_at dksL_law_15 12 rfl rfl)
theorem dL_law_473 : decode cL_law 473 = .ok (.aload_n 3, 1) := dk_45 (dk_at dksL_law_15 15 rfl rfl)
theorem dL_law_474 : decode cL_law 474 = .ok (.iconst 0, 1) := dk_3 (dk_at dksL_law_15 16 rfl rfl)
theorem dL_law_475 : decode cL_law 475 = .ok (.laload, 1) := dk_47 (dk_at dksL_law_15 17 rfl rfl)
theorem dL_law_476 : decode cL_law 476 = .ok (.iload 6, 2) := dk_21 6 (dk_at dksL_law_15 18 rfl rfl)
theorem dL_law_478 : decode cL_law 478 = .ok (.i2l, 1) := dk_133 (dk_at dksL_law_15 20 rfl rfl)
theorem dL_law_479 : decode cL_law 479 = .ok (.lcmp, 1) := dk_148 (dk_at dksL_law_15 21 rfl rfl)
theorem dL_law_480 : decode cL_law 480 = .ok (.ifCond .eq 5, 3) := dk_153 0 5 (dk_at dksL_law_16 0 rfl rfl)
theorem dL_law_483 : decode cL_law 483 = .ok (.iconst 0, 1) := dk_3 (dk_at dksL_law_16 3 rfl rfl)
theorem dL_law_484 : decode cL_law 484 = .ok (.ireturn, 1) := dk_172 (dk_at dksL_law_16 4 rfl rfl)
theorem dL_law_485 : decode cL_law 485 = .ok (.goto 890, 3) := dk_167 3 122 (dk_at dksL_law_16 5 rfl rfl)
theorem dL_law_488 : decode cL_law 488 = .ok (.aload_n 1, 1) := dk_43 (dk_at dksL_law_16 8 rfl rfl)
theorem dL_law_489 : decode cL_law 489 = .ok (.invokevirtual 110, 3) := dk_182 0 110 (dk_at dksL_law_16 9 rfl rfl)
theorem dL_law_492 : decode cL_law 492 = .ok (.aload_n 2, 1) := dk_44 (dk_at dksL_law_16 12 rfl rfl)
theorem dL_law_493 : decode cL_law 493 = .ok (.invokevirtual 113, 3) := dk_182 0 113 (dk_at dksL_law_16 13 rfl rfl)
theorem dL_law_496 : decode cL_law 496 = .ok (.if_icmp .eq 879, 3) := dk_159 3 111 (dk_at dksL_law_16 16 rfl rfl)
theorem dL_law_499 : decode cL_law 499 = .ok (.iconst 0, 1) := dk_3 (dk_at dksL_law_16 19 rfl rfl)
theorem dL_law_500 : decode cL_law 500 = .ok (.ireturn, 1) := dk_172 (dk_at dksL_law_16 20 rfl rfl)
theorem dL_law_501 : decode cL_law 501 = .ok (.aload_n 1, 1) := dk_43 (dk_at dksL_law_16 21 rfl rfl)
theorem dL_law_502 : decode cL_law 502 = .ok (.invokevirtual 114, 3) := dk_182 0 114 (dk_at dksL_law_17 0 rfl rfl)
theorem dL_law_505 : decode cL_law 505 = .ok (.aload_n 2, 1) := dk_44 (dk_at dksL_law_17 3 rfl rfl)
theorem dL_law_506 : decode cL_law 506 = .ok (.invokevirtual 118, 3) := dk_182 0 118 (dk_at dksL_law_17 4 rfl rfl)
theorem dL_law_509 : decode cL_law 509 = .ok (.if_icmp .eq 866, 3) := dk_159 3 98 (dk_at dksL_law_17 7 rfl rfl)
theorem dL_law_512 : decode cL_law 512 = .ok (.iconst 0, 1) := dk_3 (dk_at dksL_law_17 10 rfl rfl)
theorem dL_law_513 : decode cL_law 513 = .ok (.ireturn, 1) := dk_172 (dk_at dksL_law_17 11 rfl rfl)
theorem dL_law_514 : decode cL_law 514 = .ok (.aload_n 1, 1) := dk_43 (dk_at dksL_law_17 12 rfl rfl)
theorem dL_law_515 : decode cL_law 515 = .ok (.aload_n 0, 1) := dk_42 (dk_at dksL_law_17 13 rfl rfl)
theorem dL_law_516 : decode cL_law 516 = .ok (.iload 4, 2) := dk_21 4 (dk_at dksL_law_17 14 rfl rfl)
theorem dL_law_518 : decode cL_law 518 = .ok (.iconst 1, 1) := dk_4 (dk_at dksL_law_17 16 rfl rfl)
theorem dL_law_519 : decode cL_law 519 = .ok (.iadd, 1) := dk_96 (dk_at dksL_law_17 17 rfl rfl)
theorem dL_law_520 : decode cL_law 520 = .ok (.iaload, 1) := dk_46 (dk_at dksL_law_17 18 rfl rfl)
theorem dL_law_521 : decode cL_law 521 = .ok (.aload_n 3, 1) := dk_45 (dk_at dksL_law_17 19 rfl rfl)
theorem dL_law_522 : decode cL_law 522 = .ok (.invokestatic 119, 3) := dk_184 0 119 (dk_at dksL_law_17 20 rfl rfl)
theorem dL_law_525 : decode cL_law 525 = .ok (.istore 5, 2) := dk_54 5 (dk_at dksL_law_18 0 rfl rfl)
theorem dL_law_527 : decode cL_law 527 = .ok (.aload_n 2, 1) := dk_44 (dk_at dksL_law_18 2 rfl rfl)
theorem dL_law_528 : decode cL_law 528 = .ok (.aload_n 0, 1) := dk_42 (dk_at dksL_law_18 3 rfl rfl)
theorem dL_law_529 : decode cL_law 529 = .ok (.iload 4, 2) := dk_21 4 (dk_at dksL_law_18 4 rfl rfl)
theorem dL_law_531 : decode cL_law 531 = .ok (.iconst 1, 1) := dk_4 (dk_at dksL_law_18 6 rfl rfl)
theorem dL_law_532 : decode cL_law 532 = .ok (.iadd, 1) := dk_96 (dk_at dksL_law_18 7 rfl rfl)
theorem dL_law_533 : decode cL_law 533 = .ok (.iaload, 1) := dk_46 (dk_at dksL_law_18 8 rfl rfl)
theorem dL_law_534 : decode cL_law 534 = .ok (.invokevirtual 122, 3) := dk_182 0 122 (dk_at dksL_law_18 9 rfl rfl)
theorem dL_law_537 : decode cL_law 537 = .ok (.istore 6, 2) := dk_54 6 (dk_at dksL_law_18 12 rfl rfl)
theorem dL_law_539 : decode cL_law 539 = .ok (.aload_n 2, 1) := dk_44 (dk_at dksL_law_18 14 rfl rfl)
theorem dL_law_540 : decode cL_law 540 = .ok (.invokevirtual 92, 3) := dk_182 0 92 (dk_at dksL_law_18 15 rfl rfl)
theorem dL_law_543 : decode cL_law 543 = .ok (.iload 5, 2) := dk_21 5 (dk_at dksL_law_18 18 rfl rfl)
theorem dL_law_545 : decode cL_law 545 = .ok (.if_icmp .eq 5, 3) := dk_159 0 5 (dk_at dksL_law_18 20 rfl rfl)
theorem dL_law_548 : decode cL_law 548 = .ok (.iconst 0, 1) := dk_3 (dk_at dksL_law_18 23 rfl rfl)
theorem dL_law_549 : decode cL_law 549 = .ok (.ireturn, 1) := dk_172 (dk_at dksL_law_19 0 rfl rfl)
theorem dL_law_550 : decode cL_law 550 = .ok (.iload 5, 2) := dk_21 5 (dk_at dksL_law_19 1 rfl rfl)
theorem dL_law_552 : decode cL_law 552 = .ok (.ifCond .ne 15, 3) := dk_154 0 15 (dk_at dksL_law_19 3 rfl rfl)
theorem dL_law_555 : decode cL_law 555 = .ok (.aload_n 3, 1) := dk_45 (dk_at dksL_law_19 6 rfl rfl)
theorem dL_law_556 : decode cL_law 556 = .ok (.iconst 0, 1) := dk_3 (dk_at dksL_law_19 7 rfl rfl)
theorem dL_law_557 : decode cL_law 557 = .ok (.laload, 1) := dk_47 (dk_at dksL_law_19 8 rfl rfl)
theorem dL_law_558 : decode cL_law 558 = .ok (.iload 6, 2) := dk_21 6 (dk_at dksL_law_19 9 rfl rfl)
theorem dL_law_560 : decode cL_law 560 = .ok (.i2l, 1) := dk_133 (dk_at dksL_law_19 11 rfl rfl)
theorem dL_law_561 : decode cL_law 561 = .ok (.lcmp, 1) := dk_148 (dk_at dksL_law_19 12 rfl rfl)
theorem dL_law_562 : decode cL_law 562 = .ok (.ifCond .eq 5, 3) := dk_153 0 5 (dk_at dksL_law_19 13 rfl rfl)
theorem dL_law_565 : decode cL_law 565 = .ok (.iconst 0, 1) := dk_3 (dk_at dksL_law_19 16 rfl rfl)
theorem dL_law_566 : decode cL_law 566 = .ok (.ireturn, 1) := dk_172 (dk_at dksL_law_19 17 rfl rfl)
theorem dL_law_567 : decode cL_law 567 = .ok (.goto 808, 3) := dk_167 3 40 (dk_at dksL_law_19 18 rfl rfl)
theorem dL_law_570 : decode cL_law 570 = .ok (.aload_n 1, 1) := dk_43 (dk_at dksL_law_19 21 rfl rfl)
theorem dL_law_571 : decode cL_law 571 = .ok (.aload_n 0, 1) := dk_42 (dk_at dksL_law_19 22 rfl rfl)
theorem dL_law_572 : decode cL_law 572 = .ok (.iload 4, 2) := dk_21 4 (dk_at dksL_law_20 0 rfl rfl)
theorem dL_law_574 : decode cL_law 574 = .ok (.iconst 1, 1) := dk_4 (dk_at dksL_law_20 2 rfl rfl)
theorem dL_law_575 : decode cL_law 575 = .ok (.iadd, 1) := dk_96 (dk_at dksL_law_20 3 rfl rfl)
theorem dL_law_576 : decode cL_law 576 = .ok (.iaload, 1) := dk_46 (dk_at dksL_law_20 4 rfl rfl)
theorem dL_law_577 : decode cL_law 577 = .ok (.aload_n 3, 1) := dk_45 (dk_at dksL_law_20 5 rfl rfl)
theorem dL_law_578 : decode cL_law 578 = .ok (.invokestatic 123, 3) := dk_184 0 123 (dk_at dksL_law_20 6 rfl rfl)
theorem dL_law_581 : decode cL_law 581 = .ok (.istore 5, 2) := dk_54 5 (dk_at dksL_law_20 9 rfl rfl)
theorem dL_law_583 : decode cL_law 583 = .ok (.aload_n 2, 1) := dk_44 (dk_at dksL_law_20 11 rfl rfl)
theorem dL_law_584 : decode cL_law 584 = .ok (.aload_n 0, 1) := dk_42 (dk_at dksL_law_20 12 rfl rfl)
theorem dL_law_585 : decode cL_law 585 = .ok (.iload 4, 2) := dk_21 4 (dk_at dksL_law_20 13 rfl rfl)
theorem dL_law_587 : decode cL_law 587 = .ok (.iconst 1, 1) := dk_4 (dk_at dksL_law_20 15 rfl rfl)
theorem dL_law_588 : decode cL_law 588 = .ok (.iadd, 1) := dk_96 (dk_at dksL_law_20 16 rfl rfl)
theorem dL_law_589 : decode cL_law 589 = .ok (.iaload, 1) := dk_46 (dk_at dksL_law_20 17 rfl rfl)
theorem dL_law_590 : decode cL_law 590 = .ok (.invokevirtual 125, 3) := dk_182 0 125 (dk_at dksL_law_20 18 rfl rfl)
theorem dL_law_593 : decode cL_law 593 = .ok (.istore 6, 2) := dk_54 6 (dk_at dksL_law_20 21 rfl rfl)
theorem dL_law_595 : decode cL_law 595 = .ok (.aload_n 2, 1) := dk_44 (dk_at dksL_law_20 23 rfl rfl)
theorem dL_law_596 : decode cL_law 596 = .ok (.invokevirtual 92, 3) := dk_182 0 92 (dk_at dksL_law_21 0 rfl rfl)
theorem dL_law_599 : decode cL_law 599 = .ok (.iload 5, 2) := dk_21 5 (dk_at dksL_law_21 3 rfl rfl)
theorem dL_law_601 : decode cL_law 601 = .ok (.if_icmp .eq 5, 3) := dk_159 0 5 (dk_at dksL_law_21 5 rfl rfl)
theorem dL_law_604 : decode cL_law 604 = .ok (.iconst 0, 1) := dk_3 (dk_at dksL_law_21 8 rfl rfl)
theorem dL_law_605 : decode cL_law 605 = .ok (.ireturn, 1) := dk_172 (dk_at dksL_law_21 9 rfl rfl)
theorem dL_law_606 : decode cL_law 606 = .ok (.iload 5, 2) := dk_21 5 (dk_at dksL_law_21 10 rfl rfl)
theorem dL_law_608 : decode cL_law 608 = .ok (.ifCond .ne 15, 3) := dk_154 0 15 (dk_at dksL_law_21 12 rfl rfl)
theorem dL_law_611 : decode cL_law 611 = .ok (.aload_n 3, 1) := dk_45 (dk_at dksL_law_21 15 rfl rfl)
theorem dL_law_612 : decode cL_law 612 = .ok (.iconst 0, 1) := dk_3 (dk_at dksL_law_21 16 rfl rfl)
theorem dL_law_613 : decode cL_law 613 = .ok (.laload, 1) := dk_47 (dk_at dksL_law_21 17 rfl rfl)
theorem dL_law_614 : decode cL_law 614 = .ok (.iload 6, 2) := dk_21 6 (dk_at dksL_law_21 18 rfl rfl)
theorem dL_law_616 : decode cL_law 616 = .ok (.i2l, 1) := dk_133 (dk_at dksL_law_21 20 rfl rfl)
theorem dL_law_617 : decode cL_law 617 = .ok (.lcmp, 1) := dk_148 (dk_at dksL_law_21 21 rfl rfl)
theorem dL_law_618 : decode cL_law 618 = .ok (.ifCond .eq 5, 3) := dk_153 0 5 (dk_at dksL_law_22 0 rfl rfl)
theorem dL_law_621 : decode cL_law 621 = .ok (.iconst 0, 1) := dk_3 (dk_at dksL_law_22 3 rfl rfl)
theorem dL_law_622 : decode cL_law 622 = .ok (.ireturn, 1) := dk_172 (dk_at dksL_law_22 4 rfl rfl)
theorem dL_law_623 : decode cL_law 623 = .ok (.goto 752, 3) := dk_167 2 240 (dk_at dksL_law_22 5 rfl rfl)
theorem dL_law_626 : decode cL_law 626 = .ok (.aload_n 1, 1) := dk_43 (dk_at dksL_law_22 8 rfl rfl)
theorem dL_law_627 : decode cL_law 627 = .ok (.aload_n 3, 1) := dk_45 (dk_at dksL_law_22 9 rfl rfl)
theorem dL_law_628 : decode cL_law 628 = .ok (.invokestatic 126, 3) := dk_184 0 126 (dk_at dksL_law_22 10 rfl rfl)
theorem dL_law_631 : decode cL_law 631 = .ok (.istore 5, 2) := dk_54 5 (dk_at dksL_law_22 13 rfl rfl)
theorem dL_law_633 : decode cL_law 633 = .ok (.aload_n 2, 1) := dk_44 (dk_at dksL_law_22 15 rfl rfl)
theorem dL_law_634 : decode cL_law 634 = .ok (.invokevirtual 128, 3) := dk_182 0 128 (dk_at dksL_law_22 16 rfl rfl)
theorem dL_law_637 : decode cL_law 637 = .ok (.istore 6, 2) := dk_54 6 (dk_at dksL_law_22 19 rfl rfl)
theorem dL_law_639 : decode cL_law 639 = .ok (.aload_n 2, 1) := dk_44 (dk_at dksL_law_22 21 rfl rfl)
theorem dL_law_640 : decode cL_law 640 = .ok (.invokevirtual 92, 3) := dk_182 0 92 (dk_at dksL_law_23 0 rfl rfl)
theorem dL_law_643 : decode cL_law 643 = .ok (.iload 5, 2) := dk_21 5 (dk_at dksL_law_23 3 rfl rfl)
theorem dL_law_645 : decode cL_law 645 = .ok (.if_icmp .eq 5, 3) := dk_159 0 5 (dk_at dksL_law_23 5 rfl rfl)
theorem dL_law_648 : decode cL_law 648 = .ok (.iconst 0, 1) := dk_3 (dk_at dksL_law_23 8 rfl rfl)
theorem dL_law_649 : decode cL_law 649 = .ok (.ireturn, 1) := dk_172 (dk_at dksL_law_23 9 rfl rfl)
theorem dL_law_650 : decode cL_law 650 = .ok (.iload 5, 2) := dk_21 5 (dk_at dksL_law_23 10 rfl rfl)
theorem dL_law_652 : decode cL_law 652 = .ok (.ifCond .ne 15, 3) := dk_154 0 15 (dk_at dksL_law_23 12 rfl rfl)
theorem dL_law_655 : decode cL_law 655 = .ok (.aload_n 3, 1) := dk_45 (dk_at dksL_law_23 15 rfl rfl)
theorem dL_law_656 : decode cL_law 656 = .ok (.iconst 0, 1) := dk_3 (dk_at dksL_law_23 16 rfl rfl)
theorem dL_law_657 : decode cL_law 657 = .ok (.laload, 1) := dk_47 (dk_at dksL_law_23 17 rfl rfl)
theorem dL_law_658 : decode cL_law 658 = .ok (.iload 6, 2) := dk_21 6 (dk_at dksL_law_23 18 rfl rfl)
theorem dL_law_660 : decode cL_law 660 = .ok (.i2l, 1) := dk_133 (dk_at dksL_law_23 20 rfl rfl)
theorem dL_law_661 : decode cL_law 661 = .ok (.lcmp, 1) := dk_148 (dk_at dksL_law_23 21 rfl rfl)
theorem dL_law_662 : decode cL_law 662 = .ok (.ifCond .eq 5, 3) := dk_153 0 5 (dk_at dksL_law_24 0 rfl rfl)
theorem dL_law_665 : decode cL_law 665 = .ok (.iconst 0, 1) := dk_3 (dk_at dksL_law_24 3 rfl rfl)
theorem dL_law_666 : decode cL_law 666 = .ok (.ireturn, 1) := dk_172 (dk_at dksL_law_24 4 rfl rfl)
theorem dL_law_667 : decode cL_law 667 = .ok (.goto 708, 3) := dk_167 2 196 (dk_at dksL_law_24 5 rfl rfl)
theorem dL_law_670 : decode cL_law 670 = .ok (.aload_n 1, 1) := dk_43 (dk_at dksL_law_24 8 rfl rfl)
theorem dL_law_671 : decode cL_law 671 = .ok (.aload_n 3, 1) := dk_45 (dk_at dksL_law_24 9 rfl rfl)
theorem dL_law_672 : decode cL_law 672 = .ok (.invokestatic 129, 3) := dk_184 0 129 (dk_at dksL_law_24 10 rfl rfl)
theorem dL_law_675 : decode cL_law 675 = .ok (.istore 5, 2) := dk_54 5 (dk_at dksL_law_24 13 rfl rfl)
theorem dL_law_677 : decode cL_law 677 = .ok (.aload_n 2, 1) := dk_44 (dk_at dksL_law_24 15 rfl rfl)
theorem dL_law_678 : decode cL_law 678 = .ok (.invokevirtual 131, 3) := dk_182 0 131 (dk_at dksL_law_24 16 rfl rfl)
theorem dL_law_681 : decode cL_law 681 = .ok (.istore 6, 2) := dk_54 6 (dk_at dksL_law_24 19 rfl rfl)
theorem dL_law_683 : decode cL_law 683 = .ok (.aload_n 2, 1) := dk_44 (dk_at dksL_law_24 21 rfl rfl)
theorem dL_law_684 : decode cL_law 684 = .ok (.invokevirtual 92, 3) := dk_182 0 92 (dk_at dksL_law_25 0 rfl rfl)
theorem dL_law_687 : decode cL_law 687 = .ok (.iload 5, 2) := dk_21 5 (dk_at dksL_law_25 3 rfl rfl)
theorem dL_law_689 : decode cL_law 689 = .ok (.if_icmp .eq 5, 3) := dk_159 0 5 (dk_at dksL_law_25 5 rfl rfl)
theorem dL_law_692 : decode cL_law 692 = .ok (.iconst 0, 1) := dk_3 (dk_at dksL_law_25 8 rfl rfl)
theorem dL_law_693 : decode cL_law 693 = .ok (.ireturn, 1) := dk_172 (dk_at dksL_law_25 9 rfl rfl)
theorem dL_law_694 : decode cL_law 694 = .ok (.iload 5, 2) := dk_21 5 (dk_at dksL_law_25 10 rfl rfl)
theorem dL_law_696 : decode cL_law 696 = .ok (.ifCond .ne 15, 3) := dk_154 0 15 (dk_at dksL_law_25 12 rfl rfl)
theorem dL_law_699 : decode cL_law 699 = .ok (.aload_n 3, 1) := dk_45 (dk_at dksL_law_25 15 rfl rfl)
theorem dL_law_700 : decode cL_law 700 = .ok (.iconst 0, 1) := dk_3 (dk_at dksL_law_25 16 rfl rfl)
theorem dL_law_701 : decode cL_law 701 = .ok (.laload, 1) := dk_47 (dk_at dksL_law_25 17 rfl rfl)
theorem dL_law_702 : decode cL_law 702 = .ok (.iload 6, 2) := dk_21 6 (dk_at dksL_law_25 18 rfl rfl)
theorem dL_law_704 : decode cL_law 704 = .ok (.i2l, 1) := dk_133 (dk_at dksL_law_25 20 rfl rfl)
theorem dL_law_705 : decode cL_law 705 = .ok (.lcmp, 1) := dk_148 (dk_at dksL_law_25 21 rfl rfl)
theorem dL_law_706 : decode cL_law 706 = .ok (.ifCond .eq 5, 3) := dk_153 0 5 (dk_at dksL_law_26 0 rfl rfl)
theorem dL_law_709 : decode cL_law 709 = .ok (.iconst 0, 1) := dk_3 (dk_at dksL_law_26 3 rfl rfl)
theorem dL_law_710 : decode cL_law 710 = .ok (.ireturn, 1) := dk_172 (dk_at dksL_law_26 4 rfl rfl)
theorem dL_law_711 : decode cL_law 711 = .ok (.goto 664, 3) := dk_167 2 152 (dk_at dksL_law_26 5 rfl rfl)
theorem dL_law_714 : decode cL_law 714 = .ok (.aload_n 1, 1) := dk_43 (dk_at dksL_law_26 8 rfl rfl)
theorem dL_law_715 : decode cL_law 715 = .ok (.invokevirtual 132, 3) := dk_182 0 132 (dk_at dksL_law_26 9 rfl rfl)
theorem dL_law_718 : decode cL_law 718 = .ok (.aload_n 2, 1) := dk_44 (dk_at dksL_law_26 12 rfl rfl)
theorem dL_law_719 : decode cL_law 719 = .ok (.invokevirtual 135, 3) := dk_182 0 135 (dk_at dksL_law_26 13 rfl rfl)
theorem dL_law_722 : decode cL_law 722 = .ok (.if_icmp .eq 653, 3) := dk_159 2 141 (dk_at dksL_law_26 16 rfl rfl)
theorem dL_law_725 : decode cL_law 725 = .ok (.iconst 0, 1) := dk_3 (dk_at dksL_law_26 19 rfl rfl)
theorem dL_law_726 : decode cL_law 726 = .ok (.ireturn, 1) := dk_172 (dk_at dksL_law_26 20 rfl rfl)
theorem dL_law_727 : decode cL_law 727 = .ok (.aload_n 1, 1) := dk_43 (dk_at dksL_law_26 21 rfl rfl)
theorem dL_law_728 : decode cL_law 728 = .ok (.invokevirtual 136, 3) := dk_182 0 136 (dk_at dksL_law_27 0 rfl rfl)
theorem dL_law_731 : decode cL_law 731 = .ok (.aload_n 2, 1) := dk_44 (dk_at dksL_law_27 3 rfl rfl)
theorem dL_law_732 : decode cL_law 732 = .ok (.invokevirtual 139, 3) := dk_182 0 139 (dk_at dksL_law_27 4 rfl rfl)
theorem dL_law_735 : decode cL_law 735 = .ok (.if_icmp .eq 640, 3) := dk_159 2 128 (dk_at dksL_law_27 7 rfl rfl)
theorem dL_law_738 : decode cL_law 738 = .ok (.iconst 0, 1) := dk_3 (dk_at dksL_law_27 10 rfl rfl)
theorem dL_law_739 : decode cL_law 739 = .ok (.ireturn, 1) := dk_172 (dk_at dksL_law_27 11 rfl rfl)
theorem dL_law_740 : decode cL_law 740 = .ok (.aload_n 1, 1) := dk_43 (dk_at dksL_law_27 12 rfl rfl)
theorem dL_law_741 : decode cL_law 741 = .ok (.aload_n 0, 1) := dk_42 (dk_at dksL_law_27 13 rfl rfl)
theorem dL_law_742 : decode cL_law 742 = .ok (.iload 4, 2) := dk_21 4 (dk_at dksL_law_27 14 rfl rfl)
theorem dL_law_744 : decode cL_law 744 = .ok (.iconst 1, 1) := dk_4 (dk_at dksL_law_27 16 rfl rfl)
theorem dL_law_745 : decode cL_law 745 = .ok (.iadd, 1) := dk_96 (dk_at dksL_law_27 17 rfl rfl)
theorem dL_law_746 : decode cL_law 746 = .ok (.iaload, 1) := dk_46 (dk_at dksL_law_27 18 rfl rfl)
theorem dL_law_747 : decode cL_law 747 = .ok (.aload_n 3, 1) := dk_45 (dk_at dksL_law_27 19 rfl rfl)
theorem dL_law_748 : decode cL_law 748 = .ok (.invokestatic 140, 3) := dk_184 0 140 (dk_at dksL_law_27 20 rfl rfl)
theorem dL_law_751 : decode cL_law 751 = .ok (.istore 5, 2) := dk_54 5 (dk_at dksL_law_28 0 rfl rfl)
theorem dL_law_753 : decode cL_law 753 = .ok (.aload_n 2, 1) := dk_44 (dk_at dksL_law_28 2 rfl rfl)
theorem dL_law_754 : decode cL_law 754 = .ok (.aload_n 0, 1) := dk_42 (dk_at dksL_law_28 3 rfl rfl)
theorem dL_law_755 : decode cL_law 755 = .ok (.iload 4, 2) := dk_21 4 (dk_at dksL_law_28 4 rfl rfl)
theorem dL_law_757 : decode cL_law 757 = .ok (.iconst 1, 1) := dk_4 (dk_at dksL_law_28 6 rfl rfl)
theorem dL_law_758 : decode cL_law 758 = .ok (.iadd, 1) := dk_96 (dk_at dksL_law_28 7 rfl rfl)
theorem dL_law_759 : decode cL_law 759 = .ok (.iaload, 1) := dk_46 (dk_at dksL_law_28 8 rfl rfl)
theorem dL_law_760 : decode cL_law 760 = .ok (.invokevirtual 142, 3) := dk_182 0 142 (dk_at dksL_law_28 9 rfl rfl)
theorem dL_law_763 : decode cL_law 763 = .ok (.istore 6, 2) := dk_54 6 (dk_at dksL_law_28 12 rfl rfl)
theorem dL_law_765 : decode cL_law 765 = .ok (.aload_n 2, 1) := dk_44 (dk_at dksL_law_28 14 rfl rfl)
theorem dL_law_766 : decode cL_law 766 = .ok (.invokevirtual 92, 3) := dk_182 0 92 (dk_at dksL_law_28 15 rfl rfl)
theorem dL_law_769 : decode cL_law 769 = .ok (.iload 5, 2) := dk_21 5 (dk_at dksL_law_28 18 rfl rfl)
theorem dL_law_771 : decode cL_law 771 = .ok (.if_icmp .eq 5, 3) := dk_159 0 5 (dk_at dksL_law_28 20 rfl rfl)
theorem dL_law_774 : decode cL_law 774 = .ok (.iconst 0, 1) := dk_3 (dk_at dksL_law_28 23 rfl rfl)
theorem dL_law_775 : decode cL_law 775 = .ok (.ireturn, 1) := dk_172 (dk_at dksL_law_29 0 rfl rfl)
theorem dL_law_776 : decode cL_law 776 = .ok (.iload 5, 2) := dk_21 5 (dk_at dksL_law_29 1 rfl rfl)
theorem dL_law_778 : decode cL_law 778 = .ok (.ifCond .ne 15, 3) := dk_154 0 15 (dk_at dksL_law_29 3 rfl rfl)
theorem dL_law_781 : decode cL_law 781 = .ok (.aload_n 3, 1) := dk_45 (dk_at dksL_law_29 6 rfl rfl)
theorem dL_law_782 : decode cL_law 782 = .ok (.iconst 0, 1) := dk_3 (dk_at dksL_law_29 7 rfl rfl)
theorem dL_law_783 : decode cL_law 783 = .ok (.laload, 1) := dk_47 (dk_at dksL_law_29 8 rfl rfl)
theorem dL_law_784 : decode cL_law 784 = .ok (.iload 6, 2) := dk_21 6 (dk_at dksL_law_29 9 rfl rfl)
theorem dL_law_786 : decode cL_law 786 = .ok (.i2l, 1) := dk_133 (dk_at dksL_law_29 11 rfl rfl)
theorem dL_law_787 : decode cL_law 787 = .ok (.lcmp, 1) := dk_148 (dk_at dksL_law_29 12 rfl rfl)
theorem dL_law_788 : decode cL_law 788 = .ok (.ifCond .eq 5, 3) := dk_153 0 5 (dk_at dksL_law_29 13 rfl rfl)
theorem dL_law_791 : decode cL_law 791 = .ok (.iconst 0, 1) := dk_3 (dk_at dksL_law_29 16 rfl rfl)
theorem dL_law_792 : decode cL_law 792 = .ok (.ireturn, 1) := dk_172 (dk_at dksL_law_29 17 rfl rfl)
theorem dL_law_793 : decode cL_law 793 = .ok (.goto 582, 3) := dk_167 2 70 (dk_at dksL_law_29 18 rfl rfl)
theorem dL_law_796 : decode cL_law 796 = .ok (.aload_n 1, 1) := dk_43 (dk_at dksL_law_29 21 rfl rfl)
theorem dL_law_797 : decode cL_law 797 = .ok (.aload_n 0, 1) := dk_42 (dk_at dksL_law_29 22 rfl rfl)
theorem dL_law_798 : decode cL_law 798 = .ok (.iload 4, 2) := dk_21 4 (dk_at dksL_law_30 0 rfl rfl)
theorem dL_law_800 : decode cL_law 800 = .ok (.iconst 1, 1) := dk_4 (dk_at dksL_law_30 2 rfl rfl)
theorem dL_law_801 : decode cL_law 801 = .ok (.iadd, 1) := dk_96 (dk_at dksL_law_30 3 rfl rfl)
theorem dL_law_802 : decode cL_law 802 = .ok (.iaload, 1) := dk_46 (dk_at dksL_law_30 4 rfl rfl)
theorem dL_law_803 : decode cL_law 803 = .ok (.i2c, 1) := dk_146 (dk_at dksL_law_30 5 rfl rfl)
theorem dL_law_804 : decode cL_law 804 = .ok (.aload_n 3, 1) := dk_45 (dk_at dksL_law_30 6 rfl rfl)
theorem dL_law_805 : decode cL_law 805 = .ok (.invokestatic 143, 3) := dk_184 0 143 (dk_at dksL_law_30 7 rfl rfl)
theorem dL_law_808 : decode cL_law 808 = .ok (.istore 5, 2) := dk_54 5 (dk_at dksL_law_30 10 rfl rfl)
theorem dL_law_810 : decode cL_law 810 = .ok (.aload_n 2, 1) := dk_44 (dk_at dksL_law_30 12 rfl rfl)
theorem dL_law_811 : decode cL_law 811 = .ok (.aload_n 0, 1) := dk_42 (dk_at dksL_law_30 13 rfl rfl)
theorem dL_law_812 : decode cL_law 812 = .ok (.iload 4, 2) := dk_21 4 (dk_at dksL_law_30 14 rfl rfl)
theorem dL_law_814 : decode cL_law 814 = .ok (.iconst 1, 1) := dk_4 (dk_at dksL_law_30 16 rfl rfl)
theorem dL_law_815 : decode cL_law 815 = .ok (.iadd, 1) := dk_96 (dk_at dksL_law_30 17 rfl rfl)
theorem dL_law_816 : decode cL_law 816 = .ok (.iaload, 1) := dk_46 (dk_at dksL_law_30 18 rfl rfl)
theorem dL_law_817 : decode cL_law 817 = .ok (.i2c, 1) := dk_146 (dk_at dksL_law_30 19 rfl rfl)
theorem dL_law_818 : decode cL_law 818 = .ok (.invokevirtual 145, 3) := dk_182 0 145 (dk_at dksL_law_30 20 rfl rfl)
theorem dL_law_821 : decode cL_law 821 = .ok (.istore 6, 2) := dk_54 6 (dk_at dksL_law_31 0 rfl rfl)
theorem dL_law_823 : decode cL_law 823 = .ok (.aload_n 2, 1) := dk_44 (dk_at dksL_law_31 2 rfl rfl)
theorem dL_law_824 : decode cL_law 824 = .ok (.invokevirtual 92, 3) := dk_182 0 92 (dk_at dksL_law_31 3 rfl rfl)
theorem dL_law_827 : decode cL_law 827 = .ok (.iload 5, 2) := dk_21 5 (dk_at dksL_law_31 6 rfl rfl)
theorem dL_law_829 : decode cL_law 829 = .ok (.if_icmp .eq 5, 3) := dk_159 0 5 (dk_at dksL_law_31 8 rfl rfl)
theorem dL_law_832 : decode cL_law 832 = .ok (.iconst 0, 1) := dk_3 (dk_at dksL_law_31 11 rfl rfl)
theorem dL_law_833 : decode cL_law 833 = .ok (.ireturn, 1) := dk_172 (dk_at dksL_law_31 12 rfl rfl)
theorem dL_law_834 : decode cL_law 834 = .ok (.iload 5, 2) := dk_21 5 (dk_at dksL_law_31 13 rfl rfl)
theorem dL_law_836 : decode cL_law 836 = .ok (.ifCond .ne 15, 3) := dk_154 0 15 (dk_at dksL_law_31 15 rfl rfl)
theorem dL_law_839 : decode cL_law 839 = .ok (.aload_n 3, 1) := dk_45 (dk_at dksL_law_31 18 rfl rfl)
theorem dL_law_840 : decode cL_law 840 = .ok (.iconst 0, 1) := dk_3 (dk_at dksL_law_31 19 rfl rfl)
theorem dL_law_841 : decode cL_law 841 = .ok (.laload, 1) := dk_47 (dk_at dksL_law_31 20 rfl rfl)
theorem dL_law_842 : decode cL_law 842 = .ok (.iload 6, 2) := dk_21 6 (dk_at dksL_law_31 21 rfl rfl)
theorem dL_law_844 : decode cL_law 844 = .ok (.i2l, 1) := dk_133 (dk_at dksL_law_31 23 rfl rfl)
theorem dL_law_845 : decode cL_law 845 = .ok (.lcmp, 1) := dk_148 (dk_at dksL_law_32 0 rfl rfl)
theorem dL_law_846 : decode cL_law 846 = .ok (.ifCond .eq 5, 3) := dk_153 0 5 (dk_at dksL_law_32 1 rfl rfl)
theorem dL_law_849 : decode cL_law 849 = .ok (.iconst 0, 1) := dk_3 (dk_at dksL_law_32 4 rfl rfl)
theorem dL_law_850 : decode cL_law 850 = .ok (.ireturn, 1) := dk_172 (dk_at dksL_law_32 5 rfl rfl)
theorem dL_law_851 : decode cL_law 851 = .ok (.goto 524, 3) := dk_167 2 12 (dk_at dksL_law_32 6 rfl rfl)
theorem dL_law_854 : decode cL_law 854 = .ok (.aload_n 1, 1) := dk_43 (dk_at dksL_law_32 9 rfl rfl)
theorem dL_law_855 : decode cL_law 855 = .ok (.invokevirtual 146, 3) := dk_182 0 146 (dk_at dksL_law_32 10 rfl rfl)
theorem dL_law_858 : decode cL_law 858 = .ok (.aload_n 2, 1) := dk_44 (dk_at dksL_law_32 13 rfl rfl)
theorem dL_law_859 : decode cL_law 859 = .ok (.invokevirtual 149, 3) := dk_182 0 149 (dk_at dksL_law_32 14 rfl rfl)
theorem dL_law_862 : decode cL_law 862 = .ok (.if_icmp .eq 513, 3) := dk_159 2 1 (dk_at dksL_law_32 17 rfl rfl)
theorem dL_law_865 : decode cL_law 865 = .ok (.iconst 0, 1) := dk_3 (dk_at dksL_law_32 20 rfl rfl)
theorem dL_law_866 : decode cL_law 866 = .ok (.ireturn, 1) := dk_172 (dk_at dksL_law_32 21 rfl rfl)
theorem dL_law_867 : decode cL_law 867 = .ok (.aload_n 1, 1) := dk_43 (dk_at dksL_law_32 22 rfl rfl)
theorem dL_law_868 : decode cL_law 868 = .ok (.aload_n 0, 1) := dk_42 (dk_at dksL_law_32 23 rfl rfl)
theorem dL_law_869 : decode cL_law 869 = .ok (.iload 4, 2) := dk_21 4 (dk_at dksL_law_33 0 rfl rfl)
theorem dL_law_871 : decode cL_law 871 = .ok (.iconst 1, 1) := dk_4 (dk_at dksL_law_33 2 rfl rfl)
theorem dL_law_872 : decode cL_law 872 = .ok (.iadd, 1) := dk_96 (dk_at dksL_law_33 3 rfl rfl)
theorem dL_law_873 : decode cL_law 873 = .ok (.iaload, 1) := dk_46 (dk_at dksL_law_33 4 rfl rfl)
theorem dL_law_874 : decode cL_law 874 = .ok (.aload_n 3, 1) := dk_45 (dk_at dksL_law_33 5 rfl rfl)
theorem dL_law_875 : decode cL_law 875 = .ok (.invokestatic 150, 3) := dk_184 0 150 (dk_at dksL_law_33 6 rfl rfl)
theorem dL_law_878 : decode cL_law 878 = .ok (.istore 5, 2) := dk_54 5 (dk_at dksL_law_33 9 rfl rfl)
theorem dL_law_880 : decode cL_law 880 = .ok (.aload_n 2, 1) := dk_44 (dk_at dksL_law_33 11 rfl rfl)
theorem dL_law_881 : decode cL_law 881 = .ok (.aload_n 0, 1) := dk_42 (dk_at dksL_law_33 12 rfl rfl)
theorem dL_law_882 : decode cL_law 882 = .ok (.iload 4, 2) := dk_21 4 (dk_at dksL_law_33 13 rfl rfl)
theorem dL_law_884 : decode cL_law 884 = .ok (.iconst 1, 1) := dk_4 (dk_at dksL_law_33 15 rfl rfl)
theorem dL_law_885 : decode cL_law 885 = .ok (.iadd, 1) := dk_96 (dk_at dksL_law_33 16 rfl rfl)
theorem dL_law_886 : decode cL_law 886 = .ok (.iaload, 1) := dk_46 (dk_at dksL_law_33 17 rfl rfl)
theorem dL_law_887 : decode cL_law 887 = .ok (.invokevirtual 152, 3) := dk_182 0 152 (dk_at dksL_law_33 18 rfl rfl)
theorem dL_law_890 : decode cL_law 890 = .ok (.istore 6, 2) := dk_54 6 (dk_at dksL_law_33 21 rfl rfl)
theorem dL_law_892 : decode cL_law 892 = .ok (.aload_n 2, 1) := dk_44 (dk_at dksL_law_33 23 rfl rfl)
theorem dL_law_893 : decode cL_law 893 = .ok (.invokevirtual 92, 3) := dk_182 0 92 (dk_at dksL_law_34 0 rfl rfl)
theorem dL_law_896 : decode cL_law 896 = .ok (.iload 5, 2) := dk_21 5 (dk_at dksL_law_34 3 rfl rfl)
theorem dL_law_898 : decode cL_law 898 = .ok (.if_icmp .eq 5, 3) := dk_159 0 5 (dk_at dksL_law_34 5 rfl rfl)
theorem dL_law_901 : decode cL_law 901 = .ok (.iconst 0, 1) := dk_3 (dk_at dksL_law_34 8 rfl rfl)
theorem dL_law_902 : decode cL_law 902 = .ok (.ireturn, 1) := dk_172 (dk_at dksL_law_34 9 rfl rfl)
theorem dL_law_903 : decode cL_law 903 = .ok (.iload 5, 2) := dk_21 5 (dk_at dksL_law_34 10 rfl rfl)
theorem dL_law_905 : decode cL_law 905 = .ok (.ifCond .ne 15, 3) := dk_154 0 15 (dk_at dksL_law_34 12 rfl rfl)
theorem dL_law_908 : decode cL_law 908 = .ok (.aload_n 3, 1) := dk_45 (dk_at dksL_law_34 15 rfl rfl)
theorem dL_law_909 : decode cL_law 909 = .ok (.iconst 0, 1) := dk_3 (dk_at dksL_law_34 16 rfl rfl)
theorem dL_law_910 : decode cL_law 910 = .ok (.laload, 1) := dk_47 (dk_at dksL_law_34 17 rfl rfl)
theorem dL_law_911 : decode cL_law 911 = .ok (.iload 6, 2) := dk_21 6 (dk_at dksL_law_34 18 rfl rfl)
theorem dL_law_913 : decode cL_law 913 = .ok (.i2l, 1) := dk_133 (dk_at dksL_law_34 20 rfl rfl)
theorem dL_law_914 : decode cL_law 914 = .ok (.lcmp, 1) := dk_148 (dk_at dksL_law_34 21 rfl rfl)
theorem dL_law_915 : decode cL_law 915 = .ok (.ifCond .eq 5, 3) := dk_153 0 5 (dk_at dksL_law_35 0 rfl rfl)
theorem dL_law_918 : decode cL_law 918 = .ok (.iconst 0, 1) := dk_3 (dk_at dksL_law_35 3 rfl rfl)
theorem dL_law_919 : decode cL_law 919 = .ok (.ireturn, 1) := dk_172 (dk_at dksL_law_35 4 rfl rfl)
theorem dL_law_920 : decode cL_law 920 = .ok (.goto 455, 3) := dk_167 1 199 (dk_at dksL_law_35 5 rfl rfl)
theorem dL_law_923 : decode cL_law 923 = .ok (.aload_n 1, 1) := dk_43 (dk_at dksL_law_35 8 rfl rfl)
theorem dL_law_924 : decode cL_law 924 = .ok (.invokevirtual 153, 3) := dk_182 0 153 (dk_at dksL_law_35 9 rfl rfl)
theorem dL_law_927 : decode cL_law 927 = .ok (.aload_n 2, 1) := dk_44 (dk_at dksL_law_35 12 rfl rfl)
theorem dL_law_928 : decode cL_law 928 = .ok (.invokevirtual 156, 3) := dk_182 0 156 (dk_at dksL_law_35 13 rfl rfl)
theorem dL_law_931 : decode cL_law 931 = .ok (.if_icmp .eq 444, 3) := dk_159 1 188 (dk_at dksL_law_35 16 rfl rfl)
theorem dL_law_934 : decode cL_law 934 = .ok (.iconst 0, 1) := dk_3 (dk_at dksL_law_35 19 rfl rfl)
theorem dL_law_935 : decode cL_law 935 = .ok (.ireturn, 1) := dk_172 (dk_at dksL_law_35 20 rfl rfl)
theorem dL_law_936 : decode cL_law 936 = .ok (.aload_n 1, 1) := dk_43 (dk_at dksL_law_35 21 rfl rfl)
theorem dL_law_937 : decode cL_law 937 = .ok (.invokevirtual 157, 3) := dk_182 0 157 (dk_at dksL_law_36 0 rfl rfl)
theorem dL_law_940 : decode cL_law 940 = .ok (.aload_n 2, 1) := dk_44 (dk_at dksL_law_36 3 rfl rfl)
theorem dL_law_941 : decode cL_law 941 = .ok (.invokevirtual 160, 3) := dk_182 0 160 (dk_at dksL_law_36 4 rfl rfl)
theorem dL_law_944 : decode cL_law 944 = .ok (.if_icmp .eq 431, 3) := dk_159 1 175 (dk_at dksL_law_36 7 rfl rfl)
theorem dL_law_947 : decode cL_law 947 = .ok (.iconst 0, 1) := dk_3 (dk_at dksL_law_36 10 rfl rfl)
theorem dL_law_948 : decode cL_law 948 = .ok (.ireturn, 1) := dk_172 (dk_at dksL_law_36 11 rfl rfl)
theorem dL_law_949 : decode cL_law 949 = .ok (.aload_n 1, 1) := dk_43 (dk_at dksL_law_36 12 rfl rfl)
theorem dL_law_950 : decode cL_law 950 = .ok (.aload_n 0, 1) := dk_42 (dk_at dksL_law_36 13 rfl rfl)
theorem dL_law_951 : decode cL_law 951 = .ok (.iload 4, 2) := dk_21 4 (dk_at dksL_law_36 14 rfl rfl)
theorem dL_law_953 : decode cL_law 953 = .ok (.iconst 1, 1) := dk_4 (dk_at dksL_law_36 16 rfl rfl)
theorem dL_law_954 : decode cL_law 954 = .ok (.iadd, 1) := dk_96 (dk_at dksL_law_36 17 rfl rfl)
theorem dL_law_955 : decode cL_law 955 = .ok (.iaload, 1) := dk_46 (dk_at dksL_law_36 18 rfl rfl)
theorem dL_law_956 : decode cL_law 956 = .ok (.aload_n 3, 1) := dk_45 (dk_at dksL_law_36 19 rfl rfl)
theorem dL_law_957 : decode cL_law 957 = .ok (.invokestatic 161, 3) := dk_184 0 161 (dk_at dksL_law_36 20 rfl rfl)
theorem dL_law_960 : decode cL_law 960 = .ok (.istore 5, 2) := dk_54 5 (dk_at dksL_law_37 0 rfl rfl)
theorem dL_law_962 : decode cL_law 962 = .ok (.aload_n 2, 1) := dk_44 (dk_at dksL_law_37 2 rfl rfl)
theorem dL_law_963 : decode cL_law 963 = .ok (.aload_n 0, 1) := dk_42 (dk_at dksL_law_37 3 rfl rfl)
theorem dL_law_964 : decode cL_law 964 = .ok (.iload 4, 2) := dk_21 4 (dk_at dksL_law_37 4 rfl rfl)
theorem dL_law_966 : decode cL_law 966 = .ok (.iconst 1, 1) := dk_4 (dk_at dksL_law_37 6 rfl rfl)
theorem dL_law_967 : decode cL_law 967 = .ok (.iadd, 1) := dk_96 (dk_at dksL_law_37 7 rfl rfl)
theorem dL_law_968 : decode cL_law 968 = .ok (.iaload, 1) := dk_46 (dk_at dksL_law_37 8 rfl rfl)
theorem dL_law_969 : decode cL_law 969 = .ok (.invokevirtual 163, 3) := dk_182 0 163 (dk_at dksL_law_37 9 rfl rfl)
theorem dL_law_972 : decode cL_law 972 = .ok (.istore 6, 2) := dk_54 6 (dk_at dksL_law_37 12 rfl rfl)
theorem dL_law_974 : decode cL_law 974 = .ok (.aload_n 2, 1) := dk_44 (dk_at dksL_law_37 14 rfl rfl)
theorem dL_law_975 : decode cL_law 975 = .ok (.invokevirtual 92, 3) := dk_182 0 92 (dk_at dksL_law_37 15 rfl rfl)
theorem dL_law_978 : decode cL_law 978 = .ok (.iload 5, 2) := dk_21 5 (dk_at dksL_law_37 18 rfl rfl)
theorem dL_law_980 : decode cL_law 980 = .ok (.if_icmp .eq 5, 3) := dk_159 0 5 (dk_at dksL_law_37 20 rfl rfl)
theorem dL_law_983 : decode cL_law 983 = .ok (.iconst 0, 1) := dk_3 (dk_at dksL_law_37 23 rfl rfl)
theorem dL_law_984 : decode cL_law 984 = .ok (.ireturn, 1) := dk_172 (dk_at dksL_law_38 0 rfl rfl)
theorem dL_law_985 : decode cL_law 985 = .ok (.iload 5, 2) := dk_21 5 (dk_at dksL_law_38 1 rfl rfl)
theorem dL_law_987 : decode cL_law 987 = .ok (.ifCond .ne 15, 3) := dk_154 0 15 (dk_at dksL_law_38 3 rfl rfl)
theorem dL_law_990 : decode cL_law 990 = .ok (.aload_n 3, 1) := dk_45 (dk_at dksL_law_38 6 rfl rfl)
theorem dL_law_991 : decode cL_law 991 = .ok (.iconst 0, 1) := dk_3 (dk_at dksL_law_38 7 rfl rfl)
theorem dL_law_992 : decode cL_law 992 = .ok (.laload, 1) := dk_47 (dk_at dksL_law_38 8 rfl rfl)
theorem dL_law_993 : decode cL_law 993 = .ok (.iload 6, 2) := dk_21 6 (dk_at dksL_law_38 9 rfl rfl)
theorem dL_law_995 : decode cL_law 995 = .ok (.i2l, 1) := dk_133 (dk_at dksL_law_38 11 rfl rfl)
theorem dL_law_996 : decode cL_law 996 = .ok (.lcmp, 1) := dk_148 (dk_at dksL_law_38 12 rfl rfl)
theorem dL_law_997 : decode cL_law 997 = .ok (.ifCond .eq 5, 3) := dk_153 0 5 (dk_at dksL_law_38 13 rfl rfl)
theorem dL_law_1000 : decode cL_law 1000 = .ok (.iconst 0, 1) := dk_3 (dk_at dksL_law_38 16 rfl rfl)
theorem dL_law_1001 : decode cL_law 1001 = .ok (.ireturn, 1) := dk_172 (dk_at dksL_law_38 17 rfl rfl)
theorem dL_law_1002 : decode cL_law 1002 = .ok (.goto 373, 3) := dk_167 1 117 (dk_at dksL_law_38 18 rfl rfl)
theorem dL_law_1005 : decode cL_law 1005 = .ok (.aload_n 1, 1) := dk_43 (dk_at dksL_law_38 21 rfl rfl)
theorem dL_law_1006 : decode cL_law 1006 = .ok (.invokevirtual 164, 3) := dk_182 0 164 (dk_at dksL_law_39 0 rfl rfl)
theorem dL_law_1009 : decode cL_law 1009 = .ok (.aload_n 2, 1) := dk_44 (dk_at dksL_law_39 3 rfl rfl)
theorem dL_law_1010 : decode cL_law 1010 = .ok (.invokevirtual 167, 3) := dk_182 0 167 (dk_at dksL_law_39 4 rfl rfl)
theorem dL_law_1013 : decode cL_law 1013 = .ok (.if_icmp .eq 362, 3) := dk_159 1 106 (dk_at dksL_law_39 7 rfl rfl)
theorem dL_law_1016 : decode cL_law 1016 = .ok (.iconst 0, 1) := dk_3 (dk_at dksL_law_39 10 rfl rfl)
theorem dL_law_1017 : decode cL_law 1017 = .ok (.ireturn, 1) := dk_172 (dk_at dksL_law_39 11 rfl rfl)
theorem dL_law_1018 : decode cL_law 1018 = .ok (.aload_n 1, 1) := dk_43 (dk_at dksL_law_39 12 rfl rfl)
theorem dL_law_1019 : decode cL_law 1019 = .ok (.aload_n 3, 1) := dk_45 (dk_at dksL_law_39 13 rfl rfl)
theorem dL_law_1020 : decode cL_law 1020 = .ok (.invokestatic 168, 3) := dk_184 0 168 (dk_at dksL_law_39 14 rfl rfl)
theorem dL_law_1023 : decode cL_law 1023 = .ok (.istore 5, 2) := dk_54 5 (dk_at dksL_law_39 17 rfl rfl)
theorem dL_law_1025 : decode cL_law 1025 = .ok (.aload_n 2, 1) := dk_44 (dk_at dksL_law_39 19 rfl rfl)
theorem dL_law_1026 : decode cL_law 1026 = .ok (.invokevirtual 170, 3) := dk_182 0 170 (dk_at dksL_law_39 20 rfl rfl)
theorem dL_law_1029 : decode cL_law 1029 = .ok (.istore 6, 2) := dk_54 6 (dk_at dksL_law_40 0 rfl rfl)
theorem dL_law_1031 : decode cL_law 1031 = .ok (.aload_n 2, 1) := dk_44 (dk_at dksL_law_40 2 rfl rfl)
theorem dL_law_1032 : decode cL_law 1032 = .ok (.invokevirtual 92, 3) := dk_182 0 92 (dk_at dksL_law_40 3 rfl rfl)
theorem dL_law_1035 : decode cL_law 1035 = .ok (.iload 5, 2) := dk_21 5 (dk_at dksL_law_40 6 rfl rfl)
theorem dL_law_1037 : decode cL_law 1037 = .ok (.if_icmp .eq 5, 3) := dk_159 0 5 (dk_at dksL_law_40 8 rfl rfl)
theorem dL_law_1040 : decode cL_law 1040 = .ok (.iconst 0, 1) := dk_3 (dk_at dksL_law_40 11 rfl rfl)
theorem dL_law_1041 : decode cL_law 1041 = .ok (.ireturn, 1) := dk_172 (dk_at dksL_law_40 12 rfl rfl)
theorem dL_law_1042 : decode cL_law 1042 = .ok (.iload 5, 2) := dk_21 5 (dk_at dksL_law_40 13 rfl rfl)
theorem dL_law_1044 : decode cL_law 1044 = .ok (.ifCond .ne 15, 3) := dk_154 0 15 (dk_at dksL_law_40 15 rfl rfl)
theorem dL_law_1047 : decode cL_law 1047 = .ok (.aload_n 3, 1) := dk_45 (dk_at dksL_law_40 18 rfl rfl)
theorem dL_law_1048 : decode cL_law 1048 = .ok (.iconst 0, 1) := dk_3 (dk_at dksL_law_40 19 rfl rfl)
theorem dL_law_1049 : decode cL_law 1049 = .ok (.laload, 1) := dk_47 (dk_at dksL_law_40 20 rfl rfl)
theorem dL_law_1050 : decode cL_law 1050 = .ok (.iload 6, 2) := dk_21 6 (dk_at dksL_law_40 21 rfl rfl)
theorem dL_law_1052 : decode cL_law 1052 = .ok (.i2l, 1) := dk_133 (dk_at dksL_law_40 23 rfl rfl)
theorem dL_law_1053 : decode cL_law 1053 = .ok (.lcmp, 1) := dk_148 (dk_at dksL_law_41 0 rfl rfl)
theorem dL_law_1054 : decode cL_law 1054 = .ok (.ifCond .eq 5, 3) := dk_153 0 5 (dk_at dksL_law_41 1 rfl rfl)
theorem dL_law_1057 : decode cL_law 1057 = .ok (.iconst 0, 1) := dk_3 (dk_at dksL_law_41 4 rfl rfl)
theorem dL_law_1058 : decode cL_law 1058 = .ok (.ireturn, 1) := dk_172 (dk_at dksL_law_41 5 rfl rfl)
theorem dL_law_1059 : decode cL_law 1059 = .ok (.goto 316, 3) := dk_167 1 60 (dk_at dksL_law_41 6 rfl rfl)
theorem dL_law_1062 : decode cL_law 1062 = .ok (.aload_n 1, 1) := dk_43 (dk_at dksL_law_41 9 rfl rfl)
theorem dL_law_1063 : decode cL_law 1063 = .ok (.invokevirtual 171, 3) := dk_182 0 171 (dk_at dksL_law_41 10 rfl rfl)
theorem dL_law_1066 : decode cL_law 1066 = .ok (.aload_n 2, 1) := dk_44 (dk_at dksL_law_41 13 rfl rfl)
theorem dL_law_1067 : decode cL_law 1067 = .ok (.invokevirtual 174, 3) := dk_182 0 174 (dk_at dksL_law_41 14 rfl rfl)
theorem dL_law_1070 : decode cL_law 1070 = .ok (.if_icmp .eq 305, 3) := dk_159 1 49 (dk_at dksL_law_41 17 rfl rfl)
theorem dL_law_1073 : decode cL_law 1073 = .ok (.iconst 0, 1) := dk_3 (dk_at dksL_law_41 20 rfl rfl)
theorem dL_law_1074 : decode cL_law 1074 = .ok (.ireturn, 1) := dk_172 (dk_at dksL_law_41 21 rfl rfl)
theorem dL_law_1075 : decode cL_law 1075 = .ok (.aload_n 1, 1) := dk_43 (dk_at dksL_law_41 22 rfl rfl)
theorem dL_law_1076 : decode cL_law 1076 = .ok (.aload_n 0, 1) := dk_42 (dk_at dksL_law_41 23 rfl rfl)
theorem dL_law_1077 : decode cL_law 1077 = .ok (.iload 4, 2) := dk_21 4 (dk_at dksL_law_42 0 rfl rfl)
theorem dL_law_1079 : decode cL_law 1079 = .ok (.iconst 1, 1) := dk_4 (dk_at dksL_law_42 2 rfl rfl)
theorem dL_law_1080 : decode cL_law 1080 = .ok (.iadd, 1) := dk_96 (dk_at dksL_law_42 3 rfl rfl)
theorem dL_law_1081 : decode cL_law 1081 = .ok (.iaload, 1) := dk_46 (dk_at dksL_law_42 4 rfl rfl)
theorem dL_law_1082 : decode cL_law 1082 = .ok (.aload_n 3, 1) := dk_45 (dk_at dksL_law_42 5 rfl rfl)
theorem dL_law_1083 : decode cL_law 1083 = .ok (.invokestatic 175, 3) := dk_184 0 175 (dk_at dksL_law_42 6 rfl rfl)
theorem dL_law_1086 : decode cL_law 1086 = .ok (.istore 5, 2) := dk_54 5 (dk_at dksL_law_42 9 rfl rfl)
theorem dL_law_1088 : decode cL_law 1088 = .ok (.aload_n 2, 1) := dk_44 (dk_at dksL_law_42 11 rfl rfl)
theorem dL_law_1089 : decode cL_law 1089 = .ok (.aload_n 0, 1) := dk_42 (dk_at dksL_law_42 12 rfl rfl)
theorem dL_law_1090 : decode cL_law 1090 = .ok (.iload 4, 2) := dk_21 4 (dk_at dksL_law_42 13 rfl rfl)
theorem dL_law_1092 : decode cL_law 1092 = .ok (.iconst 1, 1) := dk_4 (dk_at dksL_law_42 15 rfl rfl)
theorem dL_law_1093 : decode cL_law 1093 = .ok (.iadd, 1) := dk_96 (dk_at dksL_law_42 16 rfl rfl)
theorem dL_law_1094 : decode cL_law 1094 = .ok (.iaload, 1) := dk_46 (dk_at dksL_law_42 17 rfl rfl)
theorem dL_law_1095 : decode cL_law 1095 = .ok (.invokevirtual 177, 3) := dk_182 0 177 (dk_at dksL_law_42 18 rfl rfl)
theorem dL_law_1098 : decode cL_law 1098 = .ok (.istore 6, 2) := dk_54 6 (dk_at dksL_law_42 21 rfl rfl)
theorem dL_law_1100 : decode cL_law 1100 = .ok (.aload_n 2, 1) := dk_44 (dk_at dksL_law_42 23 rfl rfl)
theorem dL_law_1101 : decode cL_law 1101 = .ok (.invokevirtual 92, 3) := dk_182 0 92 (dk_at dksL_law_43 0 rfl rfl)
theorem dL_law_1104 : decode cL_law 1104 = .ok (.iload 5, 2) := dk_21 5 (dk_at dksL_law_43 3 rfl rfl)
theorem dL_law_1106 : decode cL_law 1106 = .ok (.if_icmp .eq 5, 3) := dk_159 0 5 (dk_at dksL_law_43 5 rfl rfl)
theorem dL_law_1109 : decode cL_law 1109 = .ok (.iconst 0, 1) := dk_3 (dk_at dksL_law_43 8 rfl rfl)
theorem dL_law_1110 : decode cL_law 1110 = .ok (.ireturn, 1) := dk_172 (dk_at dksL_law_43 9 rfl rfl)
theorem dL_law_1111 : decode cL_law 1111 = .ok (.iload 5, 2) := dk_21 5 (dk_at dksL_law_43 10 rfl rfl)
theorem dL_law_1113 : decode cL_law 1113 = .ok (.ifCond .ne 15, 3) := dk_154 0 15 (dk_at dksL_law_43 12 rfl rfl)
theorem dL_law_1116 : decode cL_law 1116 = .ok (.aload_n 3, 1) := dk_45 (dk_at dksL_law_43 15 rfl rfl)
theorem dL_law_1117 : decode cL_law 1117 = .ok (.iconst 0, 1) := dk_3 (dk_at dksL_law_43 16 rfl rfl)
theorem dL_law_1118 : decode cL_law 1118 = .ok (.laload, 1) := dk_47 (dk_at dksL_law_43 17 rfl rfl)
theorem dL_law_1119 : decode cL_law 1119 = .ok (.iload 6, 2) := dk_21 6 (dk_at dksL_law_43 18 rfl rfl)
theorem dL_law_1121 : decode cL_law 1121 = .ok (.i2l, 1) := dk_133 (dk_at dksL_law_43 20 rfl rfl)
theorem dL_law_1122 : decode cL_law 1122 = .ok (.lcmp, 1) := dk_148 (dk_at dksL_law_43 21 rfl rfl)
theorem dL_law_1123 : decode cL_law 1123 = .ok (.ifCond .eq 5, 3) := dk_153 0 5 (dk_at dksL_law_44 0 rfl rfl)
theorem dL_law_1126 : decode cL_law 1126 = .ok (.iconst 0, 1) := dk_3 (dk_at dksL_law_44 3 rfl rfl)
theorem dL_law_1127 : decode cL_law 1127 = .ok (.ireturn, 1) := dk_172 (dk_at dksL_law_44 4 rfl rfl)
theorem dL_law_1128 : decode cL_law 1128 = .ok (.goto 247, 3) := dk_167 0 247 (dk_at dksL_law_44 5 rfl rfl)
theorem dL_law_1131 : decode cL_law 1131 = .ok (.aload_n 1, 1) := dk_43 (dk_at dksL_law_44 8 rfl rfl)
theorem dL_law_1132 : decode cL_law 1132 = .ok (.invokevirtual 178, 3) := dk_182 0 178 (dk_at dksL_law_44 9 rfl rfl)
theorem dL_law_1135 : decode cL_law 1135 = .ok (.aload_n 2, 1) := dk_44 (dk_at dksL_law_44 12 rfl rfl)
theorem dL_law_1136 : decode cL_law 1136 = .ok (.invokevirtual 182, 3) := dk_182 0 182 (dk_at dksL_law_44 13 rfl rfl)
theorem dL_law_1139 : decode cL_law 1139 = .ok (.lcmp, 1) := dk_148 (dk_at dksL_law_44 16 rfl rfl)
theorem dL_law_1140 : decode cL_law 1140 = .ok (.ifCond .eq 235, 3) := dk_153 0 235 (dk_at dksL_law_44 17 rfl rfl)
theorem dL_law_1143 : decode cL_law 1143 = .ok (.iconst 0, 1) := dk_3 (dk_at dksL_law_44 20 rfl rfl)
theorem dL_law_1144 : decode cL_law 1144 = .ok (.ireturn, 1) := dk_172 (dk_at dksL_law_44 21 rfl rfl)
theorem dL_law_1145 : decode cL_law 1145 = .ok (.aload_n 1, 1) := dk_43 (dk_at dksL_law_44 22 rfl rfl)
theorem dL_law_1146 : decode cL_law 1146 = .ok (.invokevirtual 183, 3) := dk_182 0 183 (dk_at dksL_law_45 0 rfl rfl)
theorem dL_law_1149 : decode cL_law 1149 = .ok (.aload_n 2, 1) := dk_44 (dk_at dksL_law_45 3 rfl rfl)
theorem dL_law_1150 : decode cL_law 1150 = .ok (.invokevirtual 186, 3) := dk_182 0 186 (dk_at dksL_law_45 4 rfl rfl)
theorem dL_law_1153 : decode cL_law 1153 = .ok (.if_icmp .eq 222, 3) := dk_159 0 222 (dk_at dksL_law_45 7 rfl rfl)
theorem dL_law_1156 : decode cL_law 1156 = .ok (.iconst 0, 1) := dk_3 (dk_at dksL_law_45 10 rfl rfl)
theorem dL_law_1157 : decode cL_law 1157 = .ok (.ireturn, 1) := dk_172 (dk_at dksL_law_45 11 rfl rfl)
theorem dL_law_1158 : decode cL_law 1158 = .ok (.aload_n 1, 1) := dk_43 (dk_at dksL_law_45 12 rfl rfl)
theorem dL_law_1159 : decode cL_law 1159 = .ok (.aload_n 0, 1) := dk_42 (dk_at dksL_law_45 13 rfl rfl)
theorem dL_law_1160 : decode cL_law 1160 = .ok (.iload 4, 2) := dk_21 4 (dk_at dksL_law_45 14 rfl rfl)
theorem dL_law_1162 : decode cL_law 1162 = .ok (.iconst 1, 1) := dk_4 (dk_at dksL_law_45 16 rfl rfl)
theorem dL_law_1163 : decode cL_law 1163 = .ok (.iadd, 1) := dk_96 (dk_at dksL_law_45 17 rfl rfl)
theorem dL_law_1164 : decode cL_law 1164 = .ok (.iaload, 1) := dk_46 (dk_at dksL_law_45 18 rfl rfl)
theorem dL_law_1165 : decode cL_law 1165 = .ok (.i2c, 1) := dk_146 (dk_at dksL_law_45 19 rfl rfl)
theorem dL_law_1166 : decode cL_law 1166 = .ok (.aload_n 3, 1) := dk_45 (dk_at dksL_law_45 20 rfl rfl)
theorem dL_law_1167 : decode cL_law 1167 = .ok (.invokestatic 187, 3) := dk_184 0 187 (dk_at dksL_law_45 21 rfl rfl)
theorem dL_law_1170 : decode cL_law 1170 = .ok (.istore 5, 2) := dk_54 5 (dk_at dksL_law_46 0 rfl rfl)
theorem dL_law_1172 : decode cL_law 1172 = .ok (.aload_n 2, 1) := dk_44 (dk_at dksL_law_46 2 rfl rfl)
theorem dL_law_1173 : decode cL_law 1173 = .ok (.aload_n 0, 1) := dk_42 (dk_at dksL_law_46 3 rfl rfl)
theorem dL_law_1174 : decode cL_law 1174 = .ok (.iload 4, 2) := dk_21 4 (dk_at dksL_law_46 4 rfl rfl)
theorem dL_law_1176 : decode cL_law 1176 = .ok (.iconst 1, 1) := dk_4 (dk_at dksL_law_46 6 rfl rfl)
theorem dL_law_1177 : decode cL_law 1177 = .ok (.iadd, 1) := dk_96 (dk_at dksL_law_46 7 rfl rfl)
theorem dL_law_1178 : decode cL_law 1178 = .ok (.iaload, 1) := dk_46 (dk_at dksL_law_46 8 rfl rfl)
theorem dL_law_1179 : decode cL_law 1179 = .ok (.i2c, 1) := dk_146 (dk_at dksL_law_46 9 rfl rfl)
theorem dL_law_1180 : decode cL_law 1180 = .ok (.invokevirtual 189, 3) := dk_182 0 189 (dk_at dksL_law_46 10 rfl rfl)
theorem dL_law_1183 : decode cL_law 1183 = .ok (.istore 6, 2) := dk_54 6 (dk_at dksL_law_46 13 rfl rfl)
theorem dL_law_1185 : decode cL_law 1185 = .ok (.aload_n 2, 1) := dk_44 (dk_at dksL_law_46 15 rfl rfl)
theorem dL_law_1186 : decode cL_law 1186 = .ok (.invokevirtual 92, 3) := dk_182 0 92 (dk_at dksL_law_46 16 rfl rfl)
theorem dL_law_1189 : decode cL_law 1189 = .ok (.iload 5, 2) := dk_21 5 (dk_at dksL_law_46 19 rfl rfl)
theorem dL_law_1191 : decode cL_law 1191 = .ok (.if_icmp .eq 5, 3) := dk_159 0 5 (dk_at dksL_law_46 21 rfl rfl)
theorem dL_law_1194 : decode cL_law 1194 = .ok (.iconst 0, 1) := dk_3 (dk_at dksL_law_47 0 rfl rfl)
theorem dL_law_1195 : decode cL_law 1195 = .ok (.ireturn, 1) := dk_172 (dk_at dksL_law_47 1 rfl rfl)
theorem dL_law_1196 : decode cL_law 1196 = .ok (.iload 5, 2) := dk_21 5 (dk_at dksL_law_47 2 rfl rfl)
theorem dL_law_1198 : decode cL_law 1198 = .ok (.ifCond .ne 15, 3) := dk_154 0 15 (dk_at dksL_law_47 4 rfl rfl)
theorem dL_law_1201 : decode cL_law 1201 = .ok (.aload_n 3, 1) := dk_45 (dk_at dksL_law_47 7 rfl rfl)
theorem dL_law_1202 : decode cL_law 1202 = .ok (.iconst 0, 1) := dk_3 (dk_at dksL_law_47 8 rfl rfl)
theorem dL_law_1203 : decode cL_law 1203 = .ok (.laload, 1) := dk_47 (dk_at dksL_law_47 9 rfl rfl)
theorem dL_law_1204 : decode cL_law 1204 = .ok (.iload 6, 2) := dk_21 6 (dk_at dksL_law_47 10 rfl rfl)
theorem dL_law_1206 : decode cL_law 1206 = .ok (.i2l, 1) := dk_133 (dk_at dksL_law_47 12 rfl rfl)
theorem dL_law_1207 : decode cL_law 1207 = .ok (.lcmp, 1) := dk_148 (dk_at dksL_law_47 13 rfl rfl)
theorem dL_law_1208 : decode cL_law 1208 = .ok (.ifCond .eq 5, 3) := dk_153 0 5 (dk_at dksL_law_47 14 rfl rfl)
theorem dL_law_1211 : decode cL_law 1211 = .ok (.iconst 0, 1) := dk_3 (dk_at dksL_law_47 17 rfl rfl)
theorem dL_law_1212 : decode cL_law 1212 = .ok (.ireturn, 1) := dk_172 (dk_at dksL_law_47 18 rfl rfl)
theorem dL_law_1213 : decode cL_law 1213 = .ok (.goto 162, 3) := dk_167 0 162 (dk_at dksL_law_47 19 rfl rfl)
theorem dL_law_1216 : decode cL_law 1216 = .ok (.aload_n 1, 1) := dk_43 (dk_at dksL_law_47 22 rfl rfl)
theorem dL_law_1217 : decode cL_law 1217 = .ok (.aload_n 3, 1) := dk_45 (dk_at dksL_law_47 23 rfl rfl)
theorem dL_law_1218 : decode cL_law 1218 = .ok (.invokestatic 190, 3) := dk_184 0 190 (dk_at dksL_law_48 0 rfl rfl)
theorem dL_law_1221 : decode cL_law 1221 = .ok (.istore 5, 2) := dk_54 5 (dk_at dksL_law_48 3 rfl rfl)
theorem dL_law_1223 : decode cL_law 1223 = .ok (.aload_n 2, 1) := dk_44 (dk_at dksL_law_48 5 rfl rfl)
theorem dL_law_1224 : decode cL_law 1224 = .ok (.invokevirtual 192, 3) := dk_182 0 192 (dk_at dksL_law_48 6 rfl rfl)
theorem dL_law_1227 : decode cL_law 1227 = .ok (.istore 6, 2) := dk_54 6 (dk_at dksL_law_48 9 rfl rfl)
theorem dL_law_1229 : decode cL_law 1229 = .ok (.aload_n 2, 1) := dk_44 (dk_at dksL_law_48 11 rfl rfl)
theorem dL_law_1230 : decode cL_law 1230 = .ok (.invokevirtual 92, 3) := dk_182 0 92 (dk_at dksL_law_48 12 rfl rfl)
theorem dL_law_1233 : decode cL_law 1233 = .ok (.iload 5, 2) := dk_21 5 (dk_at dksL_law_48 15 rfl rfl)
theorem dL_law_1235 : decode cL_law 1235 = .ok (.if_icmp .eq 5, 3) := dk_159 0 5 (dk_at dksL_law_48 17 rfl rfl)
theorem dL_law_1238 : decode cL_law 1238 = .ok (.iconst 0, 1) := dk_3 (dk_at dksL_law_48 20 rfl rfl)
theorem dL_law_1239 : decode cL_law 1239 = .ok (.ireturn, 1) := dk_172 (dk_at dksL_law_48 21 rfl rfl)
theorem dL_law_1240 : decode cL_law 1240 = .ok (.iload 5, 2) := dk_21 5 (dk_at dksL_law_48 22 rfl rfl)
theorem dL_law_1242 : decode cL_law 1242 = .ok (.ifCond .ne 15, 3) := dk_154 0 15 (dk_at dksL_law_49 0 rfl rfl)
theorem dL_law_1245 : decode cL_law 1245 = .ok (.aload_n 3, 1) := dk_45 (dk_at dksL_law_49 3 rfl rfl)
theorem dL_law_1246 : decode cL_law 1246 = .ok (.iconst 0, 1) := dk_3 (dk_at dksL_law_49 4 rfl rfl)
theorem dL_law_1247 : decode cL_law 1247 = .ok (.laload, 1) := dk_47 (dk_at dksL_law_49 5 rfl rfl)
theorem dL_law_1248 : decode cL_law 1248 = .ok (.iload 6, 2) := dk_21 6 (dk_at dksL_law_49 6 rfl rfl)
theorem dL_law_1250 : decode cL_law 1250 = .ok (.i2l, 1) := dk_133 (dk_at dksL_law_49 8 rfl rfl)
theorem dL_law_1251 : decode cL_law 1251 = .ok (.lcmp, 1) := dk_148 (dk_at dksL_law_49 9 rfl rfl)
theorem dL_law_1252 : decode cL_law 1252 = .ok (.ifCond .eq 5, 3) := dk_153 0 5 (dk_at dksL_law_49 10 rfl rfl)
theorem dL_law_1255 : decode cL_law 1255 = .ok (.iconst 0, 1) := dk_3 (dk_at dksL_law_49 13 rfl rfl)
theorem dL_law_1256 : decode cL_law 1256 = .ok (.ireturn, 1) := dk_172 (dk_at dksL_law_49 14 rfl rfl)
theorem dL_law_1257 : decode cL_law 1257 = .ok (.goto 118, 3) := dk_167 0 118 (dk_at dksL_law_49 15 rfl rfl)
theorem dL_law_1260 : decode cL_law 1260 = .ok (.aload_n 1, 1) := dk_43 (dk_at dksL_law_49 18 rfl rfl)
theorem dL_law_1261 : decode cL_law 1261 = .ok (.aload_n 3, 1) := dk_45 (dk_at dksL_law_49 19 rfl rfl)
theorem dL_law_1262 : decode cL_law 1262 = .ok (.invokestatic 193, 3) := dk_184 0 193 (dk_at dksL_law_49 20 rfl rfl)
theorem dL_law_1265 : decode cL_law 1265 = .ok (.istore 5, 2) := dk_54 5 (dk_at dksL_law_50 0 rfl rfl)
theorem dL_law_1267 : decode cL_law 1267 = .ok (.aload_n 2, 1) := dk_44 (dk_at dksL_law_50 2 rfl rfl)
theorem dL_law_1268 : decode cL_law 1268 = .ok (.invokevirtual 195, 3) := dk_182 0 195 (dk_at dksL_law_50 3 rfl rfl)
theorem dL_law_1271 : decode cL_law 1271 = .ok (.istore 6, 2) := dk_54 6 (dk_at dksL_law_50 6 rfl rfl)
theorem dL_law_1273 : decode cL_law 1273 = .ok (.aload_n 2, 1) := dk_44 (dk_at dksL_law_50 8 rfl rfl)
theorem dL_law_1274 : decode cL_law 1274 = .ok (.invokevirtual 92, 3) := dk_182 0 92 (dk_at dksL_law_50 9 rfl rfl)
theorem dL_law_1277 : decode cL_law 1277 = .ok (.iload 5, 2) := dk_21 5 (dk_at dksL_law_50 12 rfl rfl)
theorem dL_law_1279 : decode cL_law 1279 = .ok (.if_icmp .eq 5, 3) := dk_159 0 5 (dk_at dksL_law_50 14 rfl rfl)
theorem dL_law_1282 : decode cL_law 1282 = .ok (.iconst 0, 1) := dk_3 (dk_at dksL_law_50 17 rfl rfl)
theorem dL_law_1283 : decode cL_law 1283 = .ok (.ireturn, 1) := dk_172 (dk_at dksL_law_50 18 rfl rfl)
theorem dL_law_1284 : decode cL_law 1284 = .ok (.iload 5, 2) := dk_21 5 (dk_at dksL_law_50 19 rfl rfl)
theorem dL_law_1286 : decode cL_law 1286 = .ok (.ifCond .ne 15, 3) := dk_154 0 15 (dk_at dksL_law_50 21 rfl rfl)
theorem dL_law_1289 : decode cL_law 1289 = .ok (.aload_n 3, 1) := dk_45 (dk_at dksL_law_51 0 rfl rfl)
theorem dL_law_1290 : decode cL_law 1290 = .ok (.iconst 0, 1) := dk_3 (dk_at dksL_law_51 1 rfl rfl)
theorem dL_law_1291 : decode cL_law 1291 = .ok (.laload, 1) := dk_47 (dk_at dksL_law_51 2 rfl rfl)
theorem dL_law_1292 : decode cL_law 1292 = .ok (.iload 6, 2) := dk_21 6 (dk_at dksL_law_51 3 rfl rfl)
theorem dL_law_1294 : decode cL_law 1294 = .ok (.i2l, 1) := dk_133 (dk_at dksL_law_51 5 rfl rfl)
theorem dL_law_1295 : decode cL_law 1295 = .ok (.lcmp, 1) := dk_148 (dk_at dksL_law_51 6 rfl rfl)
theorem dL_law_1296 : decode cL_law 1296 = .ok (.ifCond .eq 5, 3) := dk_153 0 5 (dk_at dksL_law_51 7 rfl rfl)
theorem dL_law_1299 : decode cL_law 1299 = .ok (.iconst 0, 1) := dk_3 (dk_at dksL_law_51 10 rfl rfl)
theorem dL_law_1300 : decode cL_law 1300 = .ok (.ireturn, 1) := dk_172 (dk_at dksL_law_51 11 rfl rfl)
theorem dL_law_1301 : decode cL_law 1301 = .ok (.goto 74, 3) := dk_167 0 74 (dk_at dksL_law_51 12 rfl rfl)
theorem dL_law_1304 : decode cL_law 1304 = .ok (.aload_n 1, 1) := dk_43 (dk_at dksL_law_51 15 rfl rfl)
theorem dL_law_1305 : decode cL_law 1305 = .ok (.aload_n 3, 1) := dk_45 (dk_at dksL_law_51 16 rfl rfl)
theorem dL_law_1306 : decode cL_law 1306 = .ok (.invokestatic 196, 3) := dk_184 0 196 (dk_at dksL_law_51 17 rfl rfl)
theorem dL_law_1309 : decode cL_law 1309 = .ok (.istore 5, 2) := dk_54 5 (dk_at dksL_law_51 20 rfl rfl)
theorem dL_law_1311 : decode cL_law 1311 = .ok (.aload_n 2, 1) := dk_44 (dk_at dksL_law_51 22 rfl rfl)
theorem dL_law_1312 : decode cL_law 1312 = .ok (.invokevirtual 198, 3) := dk_182 0 198 (dk_at dksL_law_52 0 rfl rfl)
theorem dL_law_1315 : decode cL_law 1315 = .ok (.istore 6, 2) := dk_54 6 (dk_at dksL_law_52 3 rfl rfl)
theorem dL_law_1317 : decode cL_law 1317 = .ok (.aload_n 2, 1) := dk_44 (dk_at dksL_law_52 5 rfl rfl)
theorem dL_law_1318 : decode cL_law 1318 = .ok (.invokevirtual 92, 3) := dk_182 0 92 (dk_at dksL_law_52 6 rfl rfl)
theorem dL_law_1321 : decode cL_law 1321 = .ok (.iload 5, 2) := dk_21 5 (dk_at dksL_law_52 9 rfl rfl)
theorem dL_law_1323 : decode cL_law 1323 = .ok (.if_icmp .eq 5, 3) := dk_159 0 5 (dk_at dksL_law_52 11 rfl rfl)
theorem dL_law_1326 : decode cL_law 1326 = .ok (.iconst 0, 1) := dk_3 (dk_at dksL_law_52 14 rfl rfl)
theorem dL_law_1327 : decode cL_law 1327 = .ok (.ireturn, 1) := dk_172 (dk_at dksL_law_52 15 rfl rfl)
theorem dL_law_1328 : decode cL_law 1328 = .ok (.iload 5, 2) := dk_21 5 (dk_at dksL_law_52 16 rfl rfl)
theorem dL_law_1330 : decode cL_law 1330 = .ok (.ifCond .ne 15, 3) := dk_154 0 15 (dk_at dksL_law_52 18 rfl rfl)
theorem dL_law_1333 : decode cL_law 1333 = .ok (.aload_n 3, 1) := dk_45 (dk_at dksL_law_52 21 rfl rfl)
theorem dL_law_1334 : decode cL_law 1334 = .ok (.iconst 0, 1) := dk_3 (dk_at dksL_law_52 22 rfl rfl)
theorem dL_law_1335 : decode cL_law 1335 = .ok (.laload, 1) := dk_47 (dk_at dksL_law_52 23 rfl rfl)
theorem dL_law_1336 : decode cL_law 1336 = .ok (.iload 6, 2) := dk_21 6 (dk_at dksL_law_53 0 rfl rfl)
theorem dL_law_1338 : decode cL_law 1338 = .ok (.i2l, 1) := dk_133 (dk_at dksL_law_53 2 rfl rfl)
theorem dL_law_1339 : decode cL_law 1339 = .ok (.lcmp, 1) := dk_148 (dk_at dksL_law_53 3 rfl rfl)
theorem dL_law_1340 : decode cL_law 1340 = .ok (.ifCond .eq 5, 3) := dk_153 0 5 (dk_at dksL_law_53 4 rfl rfl)
theorem dL_law_1343 : decode cL_law 1343 = .ok (.iconst 0, 1) := dk_3 (dk_at dksL_law_53 7 rfl rfl)
theorem dL_law_1344 : decode cL_law 1344 = .ok (.ireturn, 1) := dk_172 (dk_at dksL_law_53 8 rfl rfl)
theorem dL_law_1345 : decode cL_law 1345 = .ok (.goto 30, 3) := dk_167 0 30 (dk_at dksL_law_53 9 rfl rfl)
theorem dL_law_1348 : decode cL_law 1348 = .ok (.aload_n 1, 1) := dk_43 (dk_at dksL_law_53 12 rfl rfl)
theorem dL_law_1349 : decode cL_law 1349 = .ok (.invokevirtual 199, 3) := dk_182 0 199 (dk_at dksL_law_53 13 rfl rfl)
theorem dL_law_1352 : decode cL_law 1352 = .ok (.aload_n 2, 1) := dk_44 (dk_at dksL_law_53 16 rfl rfl)
theorem dL_law_1353 : decode cL_law 1353 = .ok (.invokevirtual 202, 3) := dk_182 0 202 (dk_at dksL_law_53 17 rfl rfl)
theorem dL_law_1356 : decode cL_law 1356 = .ok (.if_icmp .eq 19, 3) := dk_159 0 19 (dk_at dksL_law_53 20 rfl rfl)
theorem dL_law_1359 : decode cL_law 1359 = .ok (.iconst 0, 1) := dk_3 (dk_at dksL_law_53 23 rfl rfl)
theorem dL_law_1360 : decode cL_law 1360 = .ok (.ireturn, 1) := dk_172 (dk_at dksL_law_54 0 rfl rfl)
theorem dL_law_1361 : decode cL_law 1361 = .ok (.aload_n 1, 1) := dk_43 (dk_at dksL_law_54 1 rfl rfl)
theorem dL_law_1362 : decode cL_law 1362 = .ok (.invokevirtual 203, 3) := dk_182 0 203 (dk_at dksL_law_54 2 rfl rfl)
theorem dL_law_1365 : decode cL_law 1365 = .ok (.aload_n 2, 1) := dk_44 (dk_at dksL_law_54 5 rfl rfl)
theorem dL_law_1366 : decode cL_law 1366 = .ok (.invokevirtual 206, 3) := dk_182 0 206 (dk_at dksL_law_54 6 rfl rfl)
theorem dL_law_1369 : decode cL_law 1369 = .ok (.lcmp, 1) := dk_148 (dk_at dksL_law_54 9 rfl rfl)
theorem dL_law_1370 : decode cL_law 1370 = .ok (.ifCond .eq 5, 3) := dk_153 0 5 (dk_at dksL_law_54 10 rfl rfl)
theorem dL_law_1373 : decode cL_law 1373 = .ok (.iconst 0, 1) := dk_3 (dk_at dksL_law_54 13 rfl rfl)
theorem dL_law_1374 : decode cL_law 1374 = .ok (.ireturn, 1) := dk_172 (dk_at dksL_law_54 14 rfl rfl)
theorem dL_law_1375 : decode cL_law 1375 = .ok (.iinc 4 3, 3) := dk_132 4 3 (dk_at dksL_law_54 15 rfl rfl)
theorem dL_law_1378 : decode cL_law 1378 = .ok (.goto (-1355), 3) := dk_167 250 181 (dk_at dksL_law_54 18 rfl rfl)
theorem dL_law_1381 : decode cL_law 1381 = .ok (.iconst 1, 1) := dk_4 (dk_at dksL_law_54 21 rfl rfl)
theorem dL_law_1382 : decode cL_law 1382 = .ok (.ireturn, 1) := dk_172 (dk_at dksL_law_54 22 rfl rfl)
