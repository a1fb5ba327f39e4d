/-! Stemspan -/
set_option maxRecDepth 100000
def RX1 : String := "Stemspan"
def TX1 : u_T := fun k => match k with
  | 0 => ("Stemspan", "text", "Ljava/lang/StringBuilder;", true)
  | 1 => ("Stemspan", "words", "Ljava/util/TreeMap;", true)
  | _ => ("Stemspan", "codes", "[Ljava/lang/String;", true)
def tyX1 : Nat → FieldType := fun k => match k with
  | 0 => .object "java/lang/StringBuilder"
  | 1 => .object "java/util/TreeMap"
  | _ => .array (.object "java/lang/String")
abbrev wsX10 : List Cond := u_ws RX1 TX1 3
theorem nmX1 : ∀ a, a < 3 → ∀ b, b < 3 → a ≠ b → (TX1 a).2.1 ≠ (TX1 b).2.1 := by decide +kernel
theorem tyX1_ok : ∀ k, k < 3 → parseFieldDescriptor (TX1 k).2.2.1 = some (tyX1 k) := by decide +kernel
abbrev cX1_init : ByteArray := prog_1_method_1_code
def yX1_init : MethodName := ⟨RX1, "<init>", "()V"⟩
def dkwX1_init_2 : List UInt8 := [27, 18, 29, 27, 27, 4, 96, 182, 0, 31, 83, 132, 1, 1, 167, 255, 232, 177]
abbrev dktX1_init_2 : List UInt8 := dkwX1_init_2 ++ []
def dkwX1_init_1 : List UInt8 := [181, 0, 19, 42, 16, 6, 189, 0, 23, 181, 0, 25, 3, 60, 27, 16, 6, 162, 0, 24, 42, 180, 0, 25]
abbrev dktX1_init_1 : List UInt8 := dkwX1_init_1 ++ dktX1_init_2
def dkwX1_init_0 : List UInt8 := [42, 183, 0, 1, 42, 187, 0, 7, 89, 183, 0, 9, 181, 0, 10, 42, 187, 0, 16, 89, 183, 0, 18]
abbrev dktX1_init_0 : List UInt8 := dkwX1_init_0 ++ dktX1_init_1
theorem dksX1_init_0 : cX1_init.data.toList.drop 0 = dktX1_init_0 := by decide +kernel
theorem dksX1_init_1 : cX1_init.data.toList.drop 23 = dktX1_init_1 := dk_seg dksX1_init_0 23 rfl rfl
theorem dksX1_init_2 : cX1_init.data.toList.drop 47 = dktX1_init_2 := dk_seg dksX1_init_1 24 rfl rfl
theorem dX1_init_0 : decode cX1_init 0 = .ok (.aload_n 0, 1) := dk_42 (dk_at dksX1_init_0 0 rfl rfl)
theorem dX1_init_1 : decode cX1_init 1 = .ok (.invokespecial 1, 3) := dk_183 0 1 (dk_at dksX1_init_0 1 rfl rfl)
theorem dX1_init_4 : decode cX1_init 4 = .ok (.aload_n 0, 1) := dk_42 (dk_at dksX1_init_0 4 rfl rfl)
theorem dX1_init_5 : decode cX1_init 5 = .ok (.new 7, 3) := dk_187 0 7 (dk_at dksX1_init_0 5 rfl rfl)
theorem dX1_init_8 : decode cX1_init 8 = .ok (.dup, 1) := dk_89 (dk_at dksX1_init_0 8 rfl rfl)
theorem dX1_init_9 : decode cX1_init 9 = .ok (.invokespecial 9, 3) := dk_183 0 9 (dk_at dksX1_init_0 9 rfl rfl)
theorem dX1_init_12 : decode cX1_init 12 = .ok (.putfield 10, 3) := dk_181 0 10 (dk_at dksX1_init_0 12 rfl rfl)
theorem dX1_init_15 : decode cX1_init 15 = .ok (.aload_n 0, 1) := dk_42 (dk_at dksX1_init_0 15 rfl rfl)
theorem dX1_init_16 : decode cX1_init 16 = .ok (.new 16, 3) := dk_187 0 16 (dk_at dksX1_init_0 16 rfl rfl)
theorem dX1_init_19 : decode cX1_init 19 = .ok (.dup, 1) := dk_89 (dk_at dksX1_init_0 19 rfl rfl)
theorem dX1_init_20 : decode cX1_init 20 = .ok (.invokespecial 18, 3) := dk_183 0 18 (dk_at dksX1_init_0 20 rfl rfl)
theorem dX1_init_23 : decode cX1_init 23 = .ok (.putfield 19, 3) := dk_181 0 19 (dk_at dksX1_init_1 0 rfl rfl)
theorem dX1_init_26 : decode cX1_init 26 = .ok (.aload_n 0, 1) := dk_42 (dk_at dksX1_init_1 3 rfl rfl)
theorem dX1_init_27 : decode cX1_init 27 = .ok (.bipush 6, 2) := dk_16 6 (dk_at dksX1_init_1 4 rfl rfl)
theorem dX1_init_29 : decode cX1_init 29 = .ok (.anewarray 23, 3) := dk_189 0 23 (dk_at dksX1_init_1 6 rfl rfl)
theorem dX1_init_32 : decode cX1_init 32 = .ok (.putfield 25, 3) := dk_181 0 25 (dk_at dksX1_init_1 9 rfl rfl)
theorem dX1_init_35 : decode cX1_init 35 = .ok (.iconst 0, 1) := dk_3 (dk_at dksX1_init_1 12 rfl rfl)
theorem dX1_init_36 : decode cX1_init 36 = .ok (.istore_n 1, 1) := dk_60 (dk_at dksX1_init_1 13 rfl rfl)
theorem dX1_init_37 : decode cX1_init 37 = .ok (.iload_n 1, 1) := dk_27 (dk_at dksX1_init_1 14 rfl rfl)
theorem dX1_init_38 : decode cX1_init 38 = .ok (.bipush 6, 2) := dk_16 6 (dk_at dksX1_init_1 15 rfl rfl)
theorem dX1_init_40 : decode cX1_init 40 = .ok (.if_icmp .ge 24, 3) := dk_162 0 24 (dk_at dksX1_init_1 17 rfl rfl)
theorem dX1_init_43 : decode cX1_init 43 = .ok (.aload_n 0, 1) := dk_42 (dk_at dksX1_init_1 20 rfl rfl)
theorem dX1_init_44 : decode cX1_init 44 = .ok (.getfield 25, 3) := dk_180 0 25 (dk_at dksX1_init_1 21 rfl rfl)
theorem dX1_init_47 : decode cX1_init 47 = .ok (.iload_n 1, 1) := dk_27 (dk_at dksX1_init_2 0 rfl rfl)
theorem dX1_init_48 : decode cX1_init 48 = .ok (.ldc 29, 2) := dk_18 29 (dk_at dksX1_init_2 1 rfl rfl)
theorem dX1_init_50 : decode cX1_init 50 = .ok (.iload_n 1, 1) := dk_27 (dk_at dksX1_init_2 3 rfl rfl)
theorem dX1_init_51 : decode cX1_init 51 = .ok (.iload_n 1, 1) := dk_27 (dk_at dksX1_init_2 4 rfl rfl)
theorem dX1_init_52 : decode cX1_init 52 = .ok (.iconst 1, 1) := dk_4 (dk_at dksX1_init_2 5 rfl rfl)
theorem dX1_init_53 : decode cX1_init 53 = .ok (.iadd, 1) := dk_96 (dk_at dksX1_init_2 6 rfl rfl)
theorem dX1_init_54 : decode cX1_init 54 = .ok (.invokevirtual 31, 3) := dk_182 0 31 (dk_at dksX1_init_2 7 rfl rfl)
theorem dX1_init_57 : decode cX1_init 57 = .ok (.aastore, 1) := dk_83 (dk_at dksX1_init_2 10 rfl rfl)
theorem dX1_init_58 : decode cX1_init 58 = .ok (.iinc 1 1, 3) := dk_132 1 1 (dk_at dksX1_init_2 11 rfl rfl)
theorem dX1_init_61 : decode cX1_init 61 = .ok (.goto (-24), 3) := dk_167 255 232 (dk_at dksX1_init_2 14 rfl rfl)
theorem dX1_init_64 : decode cX1_init 64 = .ok (.return_, 1) := dk_177 (dk_at dksX1_init_2 17 rfl rfl)
abbrev cX1_wipe : ByteArray := prog_1_method_8_code
def yX1_wipe : MethodName := ⟨RX1, "wipe", "()I"⟩
def dkwX1_wipe_0 : List UInt8 := [42, 180, 0, 10, 182, 0, 42, 60, 42, 180, 0, 10, 3, 182, 0, 72, 27, 172]
abbrev dktX1_wipe_0 : List UInt8 := dkwX1_wipe_0 ++ []
theorem dksX1_wipe_0 : cX1_wipe.data.toList.drop 0 = dktX1_wipe_0 := by decide +kernel
theorem dX1_wipe_0 : decode cX1_wipe 0 = .ok (.aload_n 0, 1) := dk_42 (dk_at dksX1_wipe_0 0 rfl rfl)
theorem dX1_wipe_1 : decode cX1_wipe 1 = .ok (.getfield 10, 3) := dk_180 0 10 (dk_at dksX1_wipe_0 1 rfl rfl)
theorem dX1_wipe_4 : decode cX1_wipe 4 = .ok (.invokevirtual 42, 3) := dk_182 0 42 (dk_at dksX1_wipe_0 4 rfl rfl)
theorem dX1_wipe_7 : decode cX1_wipe 7 = .ok (.istore_n 1, 1) := dk_60 (dk_at dksX1_wipe_0 7 rfl rfl)
theorem dX1_wipe_8 : decode cX1_wipe 8 = .ok (.aload_n 0, 1) := dk_42 (dk_at dksX1_wipe_0 8 rfl rfl)
theorem dX1_wipe_9 : decode cX1_wipe 9 = .ok (.getfield 10, 3) := dk_180 0 10 (dk_at dksX1_wipe_0 9 rfl rfl)
theorem dX1_wipe_12 : decode cX1_wipe 12 = .ok (.iconst 0, 1) := dk_3 (dk_at dksX1_wipe_0 12 rfl rfl)
theorem dX1_wipe_13 : decode cX1_wipe 13 = .ok (.invokevirtual 72, 3) := dk_182 0 72 (dk_at dksX1_wipe_0 13 rfl rfl)
theorem dX1_wipe_16 : decode cX1_wipe 16 = .ok (.iload_n 1, 1) := dk_27 (dk_at dksX1_wipe_0 16 rfl rfl)
theorem dX1_wipe_17 : decode cX1_wipe 17 = .ok (.ireturn, 1) := dk_172 (dk_at dksX1_wipe_0 17 rfl rfl)
abbrev cX1_turn : ByteArray := prog_1_method_9_code
def yX1_turn : MethodName := ⟨RX1, "turn", "()Z"⟩
def dkwX1_turn_1 : List UInt8 := [182, 0, 84, 172]
abbrev dktX1_turn_1 : List UInt8 := dkwX1_turn_1 ++ []
def dkwX1_turn_0 : List UInt8 := [42, 180, 0, 10, 182, 0, 76, 76, 42, 180, 0, 10, 182, 0, 80, 87, 43, 42, 180, 0, 10, 182, 0, 76]
abbrev dktX1_turn_0 : List UInt8 := dkwX1_turn_0 ++ dktX1_turn_1
theorem dksX1_turn_0 : cX1_turn.data.toList.drop 0 = dktX1_turn_0 := by decide +kernel
theorem dksX1_turn_1 : cX1_turn.data.toList.drop 24 = dktX1_turn_1 := dk_seg dksX1_turn_0 24 rfl rfl
theorem dX1_turn_0 : decode cX1_turn 0 = .ok (.aload_n 0, 1) := dk_42 (dk_at dksX1_turn_0 0 rfl rfl)
theorem dX1_turn_1 : decode cX1_turn 1 = .ok (.getfield 10, 3) := dk_180 0 10 (dk_at dksX1_turn_0 1 rfl rfl)
theorem dX1_turn_4 : decode cX1_turn 4 = .ok (.invokevirtual 76, 3) := dk_182 0 76 (dk_at dksX1_turn_0 4 rfl rfl)
theorem dX1_turn_7 : decode cX1_turn 7 = .ok (.astore_n 1, 1) := dk_76 (dk_at dksX1_turn_0 7 rfl rfl)
theorem dX1_turn_8 : decode cX1_turn 8 = .ok (.aload_n 0, 1) := dk_42 (dk_at dksX1_turn_0 8 rfl rfl)
theorem dX1_turn_9 : decode cX1_turn 9 = .ok (.getfield 10, 3) := dk_180 0 10 (dk_at dksX1_turn_0 9 rfl rfl)
theorem dX1_turn_12 : decode cX1_turn 12 = .ok (.invokevirtual 80, 3) := dk_182 0 80 (dk_at dksX1_turn_0 12 rfl rfl)
theorem dX1_turn_15 : decode cX1_turn 15 = .ok (.pop, 1) := dk_87 (dk_at dksX1_turn_0 15 rfl rfl)
theorem dX1_turn_16 : decode cX1_turn 16 = .ok (.aload_n 1, 1) := dk_43 (dk_at dksX1_turn_0 16 rfl rfl)
theorem dX1_turn_17 : decode cX1_turn 17 = .ok (.aload_n 0, 1) := dk_42 (dk_at dksX1_turn_0 17 rfl rfl)
theorem dX1_turn_18 : decode cX1_turn 18 = .ok (.getfield 10, 3) := dk_180 0 10 (dk_at dksX1_turn_0 18 rfl rfl)
theorem dX1_turn_21 : decode cX1_turn 21 = .ok (.invokevirtual 76, 3) := dk_182 0 76 (dk_at dksX1_turn_0 21 rfl rfl)
theorem dX1_turn_24 : decode cX1_turn 24 = .ok (.invokevirtual 84, 3) := dk_182 0 84 (dk_at dksX1_turn_1 0 rfl rfl)
theorem dX1_turn_27 : decode cX1_turn 27 = .ok (.ireturn, 1) := dk_172 (dk_at dksX1_turn_1 3 rfl rfl)
abbrev cX1_words : ByteArray := prog_1_method_15_code
def yX1_words : MethodName := ⟨RX1, "words", "()I"⟩
def dkwX1_words_0 : List UInt8 := [42, 180, 0, 19, 182, 0, 98, 172]
abbrev dktX1_words_0 : List UInt8 := dkwX1_words_0 ++ []
theorem dksX1_words_0 : cX1_words.data.toList.drop 0 = dktX1_words_0 := by decide +kernel
theorem dX1_words_0 : decode cX1_words 0 = .ok (.aload_n 0, 1) := dk_42 (dk_at dksX1_words_0 0 rfl rfl)
theorem dX1_words_1 : decode cX1_words 1 = .ok (.getfield 19, 3) := dk_180 0 19 (dk_at dksX1_words_0 1 rfl rfl)
theorem dX1_words_4 : decode cX1_words 4 = .ok (.invokevirtual 98, 3) := dk_182 0 98 (dk_at dksX1_words_0 4 rfl rfl)
theorem dX1_words_7 : decode cX1_words 7 = .ok (.ireturn, 1) := dk_172 (dk_at dksX1_words_0 7 rfl rfl)
abbrev cX1_rank : ByteArray := prog_1_method_16_code
def yX1_rank : MethodName := ⟨RX1, "rank", "()I"⟩
def dkwX1_rank_0 : List UInt8 := [42, 180, 0, 19, 42, 180, 0, 10, 182, 0, 76, 182, 0, 124, 185, 0, 128, 1, 0, 172]
abbrev dktX1_rank_0 : List UInt8 := dkwX1_rank_0 ++ []
theorem dksX1_rank_0 : cX1_rank.data.toList.drop 0 = dktX1_rank_0 := by decide +kernel
theorem dX1_rank_0 : decode cX1_rank 0 = .ok (.aload_n 0, 1) := dk_42 (dk_at dksX1_rank_0 0 rfl rfl)
theorem dX1_rank_1 : decode cX1_rank 1 = .ok (.getfield 19, 3) := dk_180 0 19 (dk_at dksX1_rank_0 1 rfl rfl)
theorem dX1_rank_4 : decode cX1_rank 4 = .ok (.aload_n 0, 1) := dk_42 (dk_at dksX1_rank_0 4 rfl rfl)
theorem dX1_rank_5 : decode cX1_rank 5 = .ok (.getfield 10, 3) := dk_180 0 10 (dk_at dksX1_rank_0 5 rfl rfl)
theorem dX1_rank_8 : decode cX1_rank 8 = .ok (.invokevirtual 76, 3) := dk_182 0 76 (dk_at dksX1_rank_0 8 rfl rfl)
theorem dX1_rank_11 : decode cX1_rank 11 = .ok (.invokevirtual 124, 3) := dk_182 0 124 (dk_at dksX1_rank_0 11 rfl rfl)
theorem dX1_rank_14 : decode cX1_rank 14 = .ok (.invokeinterface 128 1, 5) := by decide +kernel
theorem dX1_rank_19 : decode cX1_rank 19 = .ok (.ireturn, 1) := dk_172 (dk_at dksX1_rank_0 19 rfl rfl)
abbrev cX1_begun : ByteArray := prog_1_method_21_code
def yX1_begun : MethodName := ⟨RX1, "begun", "()I"⟩
def dkwX1_begun_0 : List UInt8 := [42, 42, 180, 0, 10, 182, 0, 76, 182, 0, 172, 172]
abbrev dktX1_begun_0 : List UInt8 := dkwX1_begun_0 ++ []
theorem dksX1_begun_0 : cX1_begun.data.toList.drop 0 = dktX1_begun_0 := by decide +kernel
theorem dX1_begun_0 : decode cX1_begun 0 = .ok (.aload_n 0, 1) := dk_42 (dk_at dksX1_begun_0 0 rfl rfl)
theorem dX1_begun_1 : decode cX1_begun 1 = .ok (.aload_n 0, 1) := dk_42 (dk_at dksX1_begun_0 1 rfl rfl)
theorem dX1_begun_2 : decode cX1_begun 2 = .ok (.getfield 10, 3) := dk_180 0 10 (dk_at dksX1_begun_0 2 rfl rfl)
theorem dX1_begun_5 : decode cX1_begun 5 = .ok (.invokevirtual 76, 3) := dk_182 0 76 (dk_at dksX1_begun_0 5 rfl rfl)
theorem dX1_begun_8 : decode cX1_begun 8 = .ok (.invokevirtual 172, 3) := dk_182 0 172 (dk_at dksX1_begun_0 8 rfl rfl)
theorem dX1_begun_11 : decode cX1_begun 11 = .ok (.ireturn, 1) := dk_172 (dk_at dksX1_begun_0 11 rfl rfl)
abbrev cX1_span : ByteArray := prog_1_method_20_code
def yX1_span : MethodName := ⟨RX1, "span", "(Ljava/lang/String;)I"⟩
def dkwX1_span_0 : List UInt8 := [42, 180, 0, 19, 43, 43, 184, 0, 164, 182, 0, 168, 185, 0, 128, 1, 0, 172]
abbrev dktX1_span_0 : List UInt8 := dkwX1_span_0 ++ []
theorem dksX1_span_0 : cX1_span.data.toList.drop 0 = dktX1_span_0 := by decide +kernel
theorem dX1_span_0 : decode cX1_span 0 = .ok (.aload_n 0, 1) := dk_42 (dk_at dksX1_span_0 0 rfl rfl)
theorem dX1_span_1 : decode cX1_span 1 = .ok (.getfield 19, 3) := dk_180 0 19 (dk_at dksX1_span_0 1 rfl rfl)
theorem dX1_span_4 : decode cX1_span 4 = .ok (.aload_n 1, 1) := dk_43 (dk_at dksX1_span_0 4 rfl rfl)
theorem dX1_span_5 : decode cX1_span 5 = .ok (.aload_n 1, 1) := dk_43 (dk_at dksX1_span_0 5 rfl rfl)
theorem dX1_span_6 : decode cX1_span 6 = .ok (.invokestatic 164, 3) := dk_184 0 164 (dk_at dksX1_span_0 6 rfl rfl)
theorem dX1_span_9 : decode cX1_span 9 = .ok (.invokevirtual 168, 3) := dk_182 0 168 (dk_at dksX1_span_0 9 rfl rfl)
theorem dX1_span_12 : decode cX1_span 12 = .ok (.invokeinterface 128 1, 5) := by decide +kernel
theorem dX1_span_17 : decode cX1_span 17 = .ok (.ireturn, 1) := dk_172 (dk_at dksX1_span_0 17 rfl rfl)
abbrev cX1_behind : ByteArray := prog_1_method_19_code
def yX1_behind : MethodName := ⟨RX1, "behind", "(Ljava/lang/String;)Ljava/lang/String;"⟩
def dkwX1_behind_1 : List UInt8 := [182, 0, 76, 176]
abbrev dktX1_behind_1 : List UInt8 := dkwX1_behind_1 ++ []
def dkwX1_behind_0 : List UInt8 := [187, 0, 7, 89, 183, 0, 9, 76, 43, 42, 182, 0, 92, 87, 43, 16, 103, 182, 0, 49, 87, 43]
abbrev dktX1_behind_0 : List UInt8 := dkwX1_behind_0 ++ dktX1_behind_1
theorem dksX1_behind_0 : cX1_behind.data.toList.drop 0 = dktX1_behind_0 := by decide +kernel
theorem dksX1_behind_1 : cX1_behind.data.toList.drop 22 = dktX1_behind_1 := dk_seg dksX1_behind_0 22 rfl rfl
theorem dX1_behind_0 : decode cX1_behind 0 = .ok (.new 7, 3) := dk_187 0 7 (dk_at dksX1_behind_0 0 rfl rfl)
theorem dX1_behind_3 : decode cX1_behind 3 = .ok (.dup, 1) := dk_89 (dk_at dksX1_behind_0 3 rfl rfl)
theorem dX1_behind_4 : decode cX1_behind 4 = .ok (.invokespecial 9, 3) := dk_183 0 9 (dk_at dksX1_behind_0 4 rfl rfl)
theorem dX1_behind_7 : decode cX1_behind 7 = .ok (.astore_n 1, 1) := dk_76 (dk_at dksX1_behind_0 7 rfl rfl)
theorem dX1_behind_8 : decode cX1_behind 8 = .ok (.aload_n 1, 1) := dk_43 (dk_at dksX1_behind_0 8 rfl rfl)
theorem dX1_behind_9 : decode cX1_behind 9 = .ok (.aload_n 0, 1) := dk_42 (dk_at dksX1_behind_0 9 rfl rfl)
theorem dX1_behind_10 : decode cX1_behind 10 = .ok (.invokevirtual 92, 3) := dk_182 0 92 (dk_at dksX1_behind_0 10 rfl rfl)
theorem dX1_behind_13 : decode cX1_behind 13 = .ok (.pop, 1) := dk_87 (dk_at dksX1_behind_0 13 rfl rfl)
theorem dX1_behind_14 : decode cX1_behind 14 = .ok (.aload_n 1, 1) := dk_43 (dk_at dksX1_behind_0 14 rfl rfl)
theorem dX1_behind_15 : decode cX1_behind 15 = .ok (.bipush 103, 2) := dk_16 103 (dk_at dksX1_behind_0 15 rfl rfl)
theorem dX1_behind_17 : decode cX1_behind 17 = .ok (.invokevirtual 49, 3) := dk_182 0 49 (dk_at dksX1_behind_0 17 rfl rfl)
theorem dX1_behind_20 : decode cX1_behind 20 = .ok (.pop, 1) := dk_87 (dk_at dksX1_behind_0 20 rfl rfl)
theorem dX1_behind_21 : decode cX1_behind 21 = .ok (.aload_n 1, 1) := dk_43 (dk_at dksX1_behind_0 21 rfl rfl)
theorem dX1_behind_22 : decode cX1_behind 22 = .ok (.invokevirtual 76, 3) := dk_182 0 76 (dk_at dksX1_behind_1 0 rfl rfl)
theorem dX1_behind_25 : decode cX1_behind 25 = .ok (.areturn, 1) := dk_176 (dk_at dksX1_behind_1 3 rfl rfl)
abbrev cX1_sum : ByteArray := prog_1_method_23_code
def yX1_sum : MethodName := ⟨RX1, "sum", "()I"⟩
def dkwX1_sum_2 : List UInt8 := [185, 0, 141, 1, 0, 192, 0, 105, 182, 0, 114, 54, 4, 28, 21, 4, 96, 61, 167, 255, 228, 28, 172]
abbrev dktX1_sum_2 : List UInt8 := dkwX1_sum_2 ++ []
def dkwX1_sum_1 : List UInt8 := [185, 0, 191, 1, 0, 185, 0, 195, 1, 0, 78, 45, 185, 0, 198, 1, 0, 153, 0, 25, 45]
abbrev dktX1_sum_1 : List UInt8 := dkwX1_sum_1 ++ dktX1_sum_2
def dkwX1_sum_0 : List UInt8 := [42, 180, 0, 10, 182, 0, 76, 76, 3, 61, 42, 180, 0, 19, 43, 43, 184, 0, 164, 182, 0, 168]
abbrev dktX1_sum_0 : List UInt8 := dkwX1_sum_0 ++ dktX1_sum_1
theorem dksX1_sum_0 : cX1_sum.data.toList.drop 0 = dktX1_sum_0 := by decide +kernel
theorem dksX1_sum_1 : cX1_sum.data.toList.drop 22 = dktX1_sum_1 := dk_seg dksX1_sum_0 22 rfl rfl
theorem dksX1_sum_2 : cX1_sum.data.toList.drop 43 = dktX1_sum_2 := dk_seg dksX1_sum_1 21 rfl rfl
theorem dX1_sum_0 : decode cX1_sum 0 = .ok (.aload_n 0, 1) := dk_42 (dk_at dksX1_sum_0 0 rfl rfl)
theorem dX1_sum_1 : decode cX1_sum 1 = .ok (.getfield 10, 3) := dk_180 0 10 (dk_at dksX1_sum_0 1 rfl rfl)
theorem dX1_sum_4 : decode cX1_sum 4 = .ok (.invokevirtual 76, 3) := dk_182 0 76 (dk_at dksX1_sum_0 4 rfl rfl)
theorem dX1_sum_7 : decode cX1_sum 7 = .ok (.astore_n 1, 1) := dk_76 (dk_at dksX1_sum_0 7 rfl rfl)
theorem dX1_sum_8 : decode cX1_sum 8 = .ok (.iconst 0, 1) := dk_3 (dk_at dksX1_sum_0 8 rfl rfl)
theorem dX1_sum_9 : decode cX1_sum 9 = .ok (.istore_n 2, 1) := dk_61 (dk_at dksX1_sum_0 9 rfl rfl)
theorem dX1_sum_10 : decode cX1_sum 10 = .ok (.aload_n 0, 1) := dk_42 (dk_at dksX1_sum_0 10 rfl rfl)
theorem dX1_sum_11 : decode cX1_sum 11 = .ok (.getfield 19, 3) := dk_180 0 19 (dk_at dksX1_sum_0 11 rfl rfl)
theorem dX1_sum_14 : decode cX1_sum 14 = .ok (.aload_n 1, 1) := dk_43 (dk_at dksX1_sum_0 14 rfl rfl)
theorem dX1_sum_15 : decode cX1_sum 15 = .ok (.aload_n 1, 1) := dk_43 (dk_at dksX1_sum_0 15 rfl rfl)
theorem dX1_sum_16 : decode cX1_sum 16 = .ok (.invokestatic 164, 3) := dk_184 0 164 (dk_at dksX1_sum_0 16 rfl rfl)
theorem dX1_sum_19 : decode cX1_sum 19 = .ok (.invokevirtual 168, 3) := dk_182 0 168 (dk_at dksX1_sum_0 19 rfl rfl)
theorem dX1_sum_22 : decode cX1_sum 22 = .ok (.invokeinterface 191 1, 5) := by decide +kernel
theorem dX1_sum_27 : decode cX1_sum 27 = .ok (.invokeinterface 195 1, 5) := by decide +kernel
theorem dX1_sum_32 : decode cX1_sum 32 = .ok (.astore_n 3, 1) := dk_78 (dk_at dksX1_sum_1 10 rfl rfl)
theorem dX1_sum_33 : decode cX1_sum 33 = .ok (.aload_n 3, 1) := dk_45 (dk_at dksX1_sum_1 11 rfl rfl)
theorem dX1_sum_34 : decode cX1_sum 34 = .ok (.invokeinterface 198 1, 5) := by decide +kernel
theorem dX1_sum_39 : decode cX1_sum 39 = .ok (.ifCond .eq 25, 3) := dk_153 0 25 (dk_at dksX1_sum_1 17 rfl rfl)
theorem dX1_sum_42 : decode cX1_sum 42 = .ok (.aload_n 3, 1) := dk_45 (dk_at dksX1_sum_1 20 rfl rfl)
theorem dX1_sum_43 : decode cX1_sum 43 = .ok (.invokeinterface 141 1, 5) := by decide +kernel
theorem dX1_sum_48 : decode cX1_sum 48 = .ok (.checkcast 105, 3) := dk_192 0 105 (dk_at dksX1_sum_2 5 rfl rfl)
theorem dX1_sum_51 : decode cX1_sum 51 = .ok (.invokevirtual 114, 3) := dk_182 0 114 (dk_at dksX1_sum_2 8 rfl rfl)
theorem dX1_sum_54 : decode cX1_sum 54 = .ok (.istore 4, 2) := dk_54 4 (dk_at dksX1_sum_2 11 rfl rfl)
theorem dX1_sum_56 : decode cX1_sum 56 = .ok (.iload_n 2, 1) := dk_28 (dk_at dksX1_sum_2 13 rfl rfl)
theorem dX1_sum_57 : decode cX1_sum 57 = .ok (.iload 4, 2) := dk_21 4 (dk_at dksX1_sum_2 14 rfl rfl)
theorem dX1_sum_59 : decode cX1_sum 59 = .ok (.iadd, 1) := dk_96 (dk_at dksX1_sum_2 16 rfl rfl)
theorem dX1_sum_60 : decode cX1_sum 60 = .ok (.istore_n 2, 1) := dk_61 (dk_at dksX1_sum_2 17 rfl rfl)
theorem dX1_sum_61 : decode cX1_sum 61 = .ok (.goto (-28), 3) := dk_167 255 228 (dk_at dksX1_sum_2 18 rfl rfl)
theorem dX1_sum_64 : decode cX1_sum 64 = .ok (.iload_n 2, 1) := dk_28 (dk_at dksX1_sum_2 21 rfl rfl)
theorem dX1_sum_65 : decode cX1_sum 65 = .ok (.ireturn, 1) := dk_172 (dk_at dksX1_sum_2 22 rfl rfl)
abbrev cX1_gone : ByteArray := prog_1_method_24_code
def yX1_gone : MethodName := ⟨RX1, "gone", "()I"⟩
def dkwX1_gone_1 : List UInt8 := [184, 0, 164, 182, 0, 168, 185, 0, 202, 1, 0, 27, 42, 180, 0, 19, 182, 0, 98, 100, 172]
abbrev dktX1_gone_1 : List UInt8 := dkwX1_gone_1 ++ []
def dkwX1_gone_0 : List UInt8 := [42, 180, 0, 19, 182, 0, 98, 60, 42, 180, 0, 10, 182, 0, 76, 77, 42, 180, 0, 19, 44, 44]
abbrev dktX1_gone_0 : List UInt8 := dkwX1_gone_0 ++ dktX1_gone_1
theorem dksX1_gone_0 : cX1_gone.data.toList.drop 0 = dktX1_gone_0 := by decide +kernel
theorem dksX1_gone_1 : cX1_gone.data.toList.drop 22 = dktX1_gone_1 := dk_seg dksX1_gone_0 22 rfl rfl
theorem dX1_gone_0 : decode cX1_gone 0 = .ok (.aload_n 0, 1) := dk_42 (dk_at dksX1_gone_0 0 rfl rfl)
theorem dX1_gone_1 : decode cX1_gone 1 = .ok (.getfield 19, 3) := dk_180 0 19 (dk_at dksX1_gone_0 1 rfl rfl)
theorem dX1_gone_4 : decode cX1_gone 4 = .ok (.invokevirtual 98, 3) := dk_182 0 98 (dk_at dksX1_gone_0 4 rfl rfl)
theorem dX1_gone_7 : decode cX1_gone 7 = .ok (.istore_n 1, 1) := dk_60 (dk_at dksX1_gone_0 7 rfl rfl)
theorem dX1_gone_8 : decode cX1_gone 8 = .ok (.aload_n 0, 1) := dk_42 (dk_at dksX1_gone_0 8 rfl rfl)
theorem dX1_gone_9 : decode cX1_gone 9 = .ok (.getfield 10, 3) := dk_180 0 10 (dk_at dksX1_gone_0 9 rfl rfl)
theorem dX1_gone_12 : decode cX1_gone 12 = .ok (.invokevirtual 76, 3) := dk_182 0 76 (dk_at dksX1_gone_0 12 rfl rfl)
theorem dX1_gone_15 : decode cX1_gone 15 = .ok (.astore_n 2, 1) := dk_77 (dk_at dksX1_gone_0 15 rfl rfl)
theorem dX1_gone_16 : decode cX1_gone 16 = .ok (.aload_n 0, 1) := dk_42 (dk_at dksX1_gone_0 16 rfl rfl)
theorem dX1_gone_17 : decode cX1_gone 17 = .ok (.getfield 19, 3) := dk_180 0 19 (dk_at dksX1_gone_0 17 rfl rfl)
theorem dX1_gone_20 : decode cX1_gone 20 = .ok (.aload_n 2, 1) := dk_44 (dk_at dksX1_gone_0 20 rfl rfl)
theorem dX1_gone_21 : decode cX1_gone 21 = .ok (.aload_n 2, 1) := dk_44 (dk_at dksX1_gone_0 21 rfl rfl)
theorem dX1_gone_22 : decode cX1_gone 22 = .ok (.invokestatic 164, 3) := dk_184 0 164 (dk_at dksX1_gone_1 0 rfl rfl)
theorem dX1_gone_25 : decode cX1_gone 25 = .ok (.invokevirtual 168, 3) := dk_182 0 168 (dk_at dksX1_gone_1 3 rfl rfl)
theorem dX1_gone_28 : decode cX1_gone 28 = .ok (.invokeinterface 202 1, 5) := by decide +kernel
theorem dX1_gone_33 : decode cX1_gone 33 = .ok (.iload_n 1, 1) := dk_27 (dk_at dksX1_gone_1 11 rfl rfl)
theorem dX1_gone_34 : decode cX1_gone 34 = .ok (.aload_n 0, 1) := dk_42 (dk_at dksX1_gone_1 12 rfl rfl)
theorem dX1_gone_35 : decode cX1_gone 35 = .ok (.getfield 19, 3) := dk_180 0 19 (dk_at dksX1_gone_1 13 rfl rfl)
theorem dX1_gone_38 : decode cX1_gone 38 = .ok (.invokevirtual 98, 3) := dk_182 0 98 (dk_at dksX1_gone_1 16 rfl rfl)
theorem dX1_gone_41 : decode cX1_gone 41 = .ok (.isub, 1) := dk_100 (dk_at dksX1_gone_1 19 rfl rfl)
theorem dX1_gone_42 : decode cX1_gone 42 = .ok (.ireturn, 1) := dk_172 (dk_at dksX1_gone_1 20 rfl rfl)
abbrev cX1_shared : ByteArray := prog_1_method_28_code
def yX1_shared : MethodName := ⟨RX1, "shared", "()I"⟩
def dkwX1_shared_3 : List UInt8 := [167, 0, 5, 21, 5, 172]
abbrev dktX1_shared_3 : List UInt8 := dkwX1_shared_3 ++ []
def dkwX1_shared_2 : List UInt8 := [199, 0, 7, 3, 167, 0, 8, 45, 43, 184, 0, 209, 54, 5, 21, 4, 21, 5, 164, 0, 8, 21, 4]
abbrev dktX1_shared_2 : List UInt8 := dkwX1_shared_2 ++ dktX1_shared_3
def dkwX1_shared_1 : List UInt8 := [43, 182, 0, 155, 192, 0, 23, 78, 44, 199, 0, 7, 3, 167, 0, 8, 44, 43, 184, 0, 209, 54, 4, 45]
abbrev dktX1_shared_1 : List UInt8 := dkwX1_shared_1 ++ dktX1_shared_2
def dkwX1_shared_0 : List UInt8 := [42, 180, 0, 10, 182, 0, 76, 76, 42, 180, 0, 19, 43, 182, 0, 152, 192, 0, 23, 77, 42, 180, 0, 19]
abbrev dktX1_shared_0 : List UInt8 := dkwX1_shared_0 ++ dktX1_shared_1
theorem dksX1_shared_0 : cX1_shared.data.toList.drop 0 = dktX1_shared_0 := by decide +kernel
theorem dksX1_shared_1 : cX1_shared.data.toList.drop 24 = dktX1_shared_1 := dk_seg dksX1_shared_0 24 rfl rfl
theorem dksX1_shared_2 : cX1_shared.data.toList.drop 48 = dktX1_shared_2 := dk_seg dksX1_shared_1 24 rfl rfl
theorem dksX1_shared_3 : cX1_shared.data.toList.drop 71 = dktX1_shared_3 := dk_seg dksX1_shared_2 23 rfl rfl
theorem dX1_shared_0 : decode cX1_shared 0 = .ok (.aload_n 0, 1) := dk_42 (dk_at dksX1_shared_0 0 rfl rfl)
theorem dX1_shared_1 : decode cX1_shared 1 = .ok (.getfield 10, 3) := dk_180 0 10 (dk_at dksX1_shared_0 1 rfl rfl)
theorem dX1_shared_4 : decode cX1_shared 4 = .ok (.invokevirtual 76, 3) := dk_182 0 76 (dk_at dksX1_shared_0 4 rfl rfl)
theorem dX1_shared_7 : decode cX1_shared 7 = .ok (.astore_n 1, 1) := dk_76 (dk_at dksX1_shared_0 7 rfl rfl)
theorem dX1_shared_8 : decode cX1_shared 8 = .ok (.aload_n 0, 1) := dk_42 (dk_at dksX1_shared_0 8 rfl rfl)
theorem dX1_shared_9 : decode cX1_shared 9 = .ok (.getfield 19, 3) := dk_180 0 19 (dk_at dksX1_shared_0 9 rfl rfl)
theorem dX1_shared_12 : decode cX1_shared 12 = .ok (.aload_n 1, 1) := dk_43 (dk_at dksX1_shared_0 12 rfl rfl)
theorem dX1_shared_13 : decode cX1_shared 13 = .ok (.invokevirtual 152, 3) := dk_182 0 152 (dk_at dksX1_shared_0 13 rfl rfl)
theorem dX1_shared_16 : decode cX1_shared 16 = .ok (.checkcast 23, 3) := dk_192 0 23 (dk_at dksX1_shared_0 16 rfl rfl)
theorem dX1_shared_19 : decode cX1_shared 19 = .ok (.astore_n 2, 1) := dk_77 (dk_at dksX1_shared_0 19 rfl rfl)
theorem dX1_shared_20 : decode cX1_shared 20 = .ok (.aload_n 0, 1) := dk_42 (dk_at dksX1_shared_0 20 rfl rfl)
theorem dX1_shared_21 : decode cX1_shared 21 = .ok (.getfield 19, 3) := dk_180 0 19 (dk_at dksX1_shared_0 21 rfl rfl)
theorem dX1_shared_24 : decode cX1_shared 24 = .ok (.aload_n 1, 1) := dk_43 (dk_at dksX1_shared_1 0 rfl rfl)
theorem dX1_shared_25 : decode cX1_shared 25 = .ok (.invokevirtual 155, 3) := dk_182 0 155 (dk_at dksX1_shared_1 1 rfl rfl)
theorem dX1_shared_28 : decode cX1_shared 28 = .ok (.checkcast 23, 3) := dk_192 0 23 (dk_at dksX1_shared_1 4 rfl rfl)
theorem dX1_shared_31 : decode cX1_shared 31 = .ok (.astore_n 3, 1) := dk_78 (dk_at dksX1_shared_1 7 rfl rfl)
theorem dX1_shared_32 : decode cX1_shared 32 = .ok (.aload_n 2, 1) := dk_44 (dk_at dksX1_shared_1 8 rfl rfl)
theorem dX1_shared_33 : decode cX1_shared 33 = .ok (.ifnonnull 7, 3) := dk_199 0 7 (dk_at dksX1_shared_1 9 rfl rfl)
theorem dX1_shared_36 : decode cX1_shared 36 = .ok (.iconst 0, 1) := dk_3 (dk_at dksX1_shared_1 12 rfl rfl)
theorem dX1_shared_37 : decode cX1_shared 37 = .ok (.goto 8, 3) := dk_167 0 8 (dk_at dksX1_shared_1 13 rfl rfl)
theorem dX1_shared_40 : decode cX1_shared 40 = .ok (.aload_n 2, 1) := dk_44 (dk_at dksX1_shared_1 16 rfl rfl)
theorem dX1_shared_41 : decode cX1_shared 41 = .ok (.aload_n 1, 1) := dk_43 (dk_at dksX1_shared_1 17 rfl rfl)
theorem dX1_shared_42 : decode cX1_shared 42 = .ok (.invokestatic 209, 3) := dk_184 0 209 (dk_at dksX1_shared_1 18 rfl rfl)
theorem dX1_shared_45 : decode cX1_shared 45 = .ok (.istore 4, 2) := dk_54 4 (dk_at dksX1_shared_1 21 rfl rfl)
theorem dX1_shared_47 : decode cX1_shared 47 = .ok (.aload_n 3, 1) := dk_45 (dk_at dksX1_shared_1 23 rfl rfl)
theorem dX1_shared_48 : decode cX1_shared 48 = .ok (.ifnonnull 7, 3) := dk_199 0 7 (dk_at dksX1_shared_2 0 rfl rfl)
theorem dX1_shared_51 : decode cX1_shared 51 = .ok (.iconst 0, 1) := dk_3 (dk_at dksX1_shared_2 3 rfl rfl)
theorem dX1_shared_52 : decode cX1_shared 52 = .ok (.goto 8, 3) := dk_167 0 8 (dk_at dksX1_shared_2 4 rfl rfl)
theorem dX1_shared_55 : decode cX1_shared 55 = .ok (.aload_n 3, 1) := dk_45 (dk_at dksX1_shared_2 7 rfl rfl)
theorem dX1_shared_56 : decode cX1_shared 56 = .ok (.aload_n 1, 1) := dk_43 (dk_at dksX1_shared_2 8 rfl rfl)
theorem dX1_shared_57 : decode cX1_shared 57 = .ok (.invokestatic 209, 3) := dk_184 0 209 (dk_at dksX1_shared_2 9 rfl rfl)
theorem dX1_shared_60 : decode cX1_shared 60 = .ok (.istore 5, 2) := dk_54 5 (dk_at dksX1_shared_2 12 rfl rfl)
theorem dX1_shared_62 : decode cX1_shared 62 = .ok (.iload 4, 2) := dk_21 4 (dk_at dksX1_shared_2 14 rfl rfl)
theorem dX1_shared_64 : decode cX1_shared 64 = .ok (.iload 5, 2) := dk_21 5 (dk_at dksX1_shared_2 16 rfl rfl)
theorem dX1_shared_66 : decode cX1_shared 66 = .ok (.if_icmp .le 8, 3) := dk_164 0 8 (dk_at dksX1_shared_2 18 rfl rfl)
theorem dX1_shared_69 : decode cX1_shared 69 = .ok (.iload 4, 2) := dk_21 4 (dk_at dksX1_shared_2 21 rfl rfl)
theorem dX1_shared_71 : decode cX1_shared 71 = .ok (.goto 5, 3) := dk_167 0 5 (dk_at dksX1_shared_3 0 rfl rfl)
theorem dX1_shared_74 : decode cX1_shared 74 = .ok (.iload 5, 2) := dk_21 5 (dk_at dksX1_shared_3 3 rfl rfl)
theorem dX1_shared_76 : decode cX1_shared 76 = .ok (.ireturn, 1) := dk_172 (dk_at dksX1_shared_3 5 rfl rfl)
abbrev cX1_common : ByteArray := prog_1_method_25_code
def yX1_common : MethodName := ⟨RX1, "common", "(Ljava/lang/String;Ljava/lang/String;)I"⟩
def dkwX1_common_1 : List UInt8 := [28, 182, 0, 205, 160, 0, 9, 132, 2, 1, 167, 255, 224, 28, 172]
abbrev dktX1_common_1 : List UInt8 := dkwX1_common_1 ++ []
def dkwX1_common_0 : List UInt8 := [3, 61, 28, 42, 182, 0, 151, 162, 0, 30, 28, 43, 182, 0, 151, 162, 0, 22, 42, 28, 182, 0, 205, 43]
abbrev dktX1_common_0 : List UInt8 := dkwX1_common_0 ++ dktX1_common_1
theorem dksX1_common_0 : cX1_common.data.toList.drop 0 = dktX1_common_0 := by decide +kernel
theorem dksX1_common_1 : cX1_common.data.toList.drop 24 = dktX1_common_1 := dk_seg dksX1_common_0 24 rfl rfl
theorem dX1_common_0 : decode cX1_common 0 = .ok (.iconst 0, 1) := dk_3 (dk_at dksX1_common_0 0 rfl rfl)
theorem dX1_common_1 : decode cX1_common 1 = .ok (.istore_n 2, 1) := dk_61 (dk_at dksX1_common_0 1 rfl rfl)
theorem dX1_common_2 : decode cX1_common 2 = .ok (.iload_n 2, 1) := dk_28 (dk_at dksX1_common_0 2 rfl rfl)
theorem dX1_common_3 : decode cX1_common 3 = .ok (.aload_n 0, 1) := dk_42 (dk_at dksX1_common_0 3 rfl rfl)
theorem dX1_common_4 : decode cX1_common 4 = .ok (.invokevirtual 151, 3) := dk_182 0 151 (dk_at dksX1_common_0 4 rfl rfl)
theorem dX1_common_7 : decode cX1_common 7 = .ok (.if_icmp .ge 30, 3) := dk_162 0 30 (dk_at dksX1_common_0 7 rfl rfl)
theorem dX1_common_10 : decode cX1_common 10 = .ok (.iload_n 2, 1) := dk_28 (dk_at dksX1_common_0 10 rfl rfl)
theorem dX1_common_11 : decode cX1_common 11 = .ok (.aload_n 1, 1) := dk_43 (dk_at dksX1_common_0 11 rfl rfl)
theorem dX1_common_12 : decode cX1_common 12 = .ok (.invokevirtual 151, 3) := dk_182 0 151 (dk_at dksX1_common_0 12 rfl rfl)
theorem dX1_common_15 : decode cX1_common 15 = .ok (.if_icmp .ge 22, 3) := dk_162 0 22 (dk_at dksX1_common_0 15 rfl rfl)
theorem dX1_common_18 : decode cX1_common 18 = .ok (.aload_n 0, 1) := dk_42 (dk_at dksX1_common_0 18 rfl rfl)
theorem dX1_common_19 : decode cX1_common 19 = .ok (.iload_n 2, 1) := dk_28 (dk_at dksX1_common_0 19 rfl rfl)
theorem dX1_common_20 : decode cX1_common 20 = .ok (.invokevirtual 205, 3) := dk_182 0 205 (dk_at dksX1_common_0 20 rfl rfl)
theorem dX1_common_23 : decode cX1_common 23 = .ok (.aload_n 1, 1) := dk_43 (dk_at dksX1_common_0 23 rfl rfl)
theorem dX1_common_24 : decode cX1_common 24 = .ok (.iload_n 2, 1) := dk_28 (dk_at dksX1_common_1 0 rfl rfl)
theorem dX1_common_25 : decode cX1_common 25 = .ok (.invokevirtual 205, 3) := dk_182 0 205 (dk_at dksX1_common_1 1 rfl rfl)
theorem dX1_common_28 : decode cX1_common 28 = .ok (.if_icmp .ne 9, 3) := dk_160 0 9 (dk_at dksX1_common_1 4 rfl rfl)
theorem dX1_common_31 : decode cX1_common 31 = .ok (.iinc 2 1, 3) := dk_132 2 1 (dk_at dksX1_common_1 7 rfl rfl)
theorem dX1_common_34 : decode cX1_common 34 = .ok (.goto (-32), 3) := dk_167 255 224 (dk_at dksX1_common_1 10 rfl rfl)
theorem dX1_common_37 : decode cX1_common 37 = .ok (.iload_n 2, 1) := dk_28 (dk_at dksX1_common_1 13 rfl rfl)
theorem dX1_common_38 : decode cX1_common 38 = .ok (.ireturn, 1) := dk_172 (dk_at dksX1_common_1 14 rfl rfl)
abbrev cX1_pieces : ByteArray := prog_1_method_30_code
def yX1_pieces : MethodName := ⟨RX1, "pieces", "()I"⟩
def dkwX1_pieces_2 : List UInt8 := [167, 255, 214, 27, 172]
abbrev dktX1_pieces_2 : List UInt8 := dkwX1_pieces_2 ++ []
def dkwX1_pieces_1 : List UInt8 := [182, 0, 213, 184, 0, 216, 62, 29, 154, 0, 7, 2, 28, 100, 172, 28, 29, 96, 61, 132, 1, 1]
abbrev dktX1_pieces_1 : List UInt8 := dkwX1_pieces_1 ++ dktX1_pieces_2
def dkwX1_pieces_0 : List UInt8 := [3, 60, 3, 61, 28, 42, 180, 0, 10, 182, 0, 42, 162, 0, 37, 42, 180, 0, 19, 42, 180, 0, 10, 28]
abbrev dktX1_pieces_0 : List UInt8 := dkwX1_pieces_0 ++ dktX1_pieces_1
theorem dksX1_pieces_0 : cX1_pieces.data.toList.drop 0 = dktX1_pieces_0 := by decide +kernel
theorem dksX1_pieces_1 : cX1_pieces.data.toList.drop 24 = dktX1_pieces_1 := dk_seg dksX1_pieces_0 24 rfl rfl
theorem dksX1_pieces_2 : cX1_pieces.data.toList.drop 46 = dktX1_pieces_2 := dk_seg dksX1_pieces_1 22 rfl rfl
theorem dX1_pieces_0 : decode cX1_pieces 0 = .ok (.iconst 0, 1) := dk_3 (dk_at dksX1_pieces_0 0 rfl rfl)
theorem dX1_pieces_1 : decode cX1_pieces 1 = .ok (.istore_n 1, 1) := dk_60 (dk_at dksX1_pieces_0 1 rfl rfl)
theorem dX1_pieces_2 : decode cX1_pieces 2 = .ok (.iconst 0, 1) := dk_3 (dk_at dksX1_pieces_0 2 rfl rfl)
theorem dX1_pieces_3 : decode cX1_pieces 3 = .ok (.istore_n 2, 1) := dk_61 (dk_at dksX1_pieces_0 3 rfl rfl)
theorem dX1_pieces_4 : decode cX1_pieces 4 = .ok (.iload_n 2, 1) := dk_28 (dk_at dksX1_pieces_0 4 rfl rfl)
theorem dX1_pieces_5 : decode cX1_pieces 5 = .ok (.aload_n 0, 1) := dk_42 (dk_at dksX1_pieces_0 5 rfl rfl)
theorem dX1_pieces_6 : decode cX1_pieces 6 = .ok (.getfield 10, 3) := dk_180 0 10 (dk_at dksX1_pieces_0 6 rfl rfl)
theorem dX1_pieces_9 : decode cX1_pieces 9 = .ok (.invokevirtual 42, 3) := dk_182 0 42 (dk_at dksX1_pieces_0 9 rfl rfl)
theorem dX1_pieces_12 : decode cX1_pieces 12 = .ok (.if_icmp .ge 37, 3) := dk_162 0 37 (dk_at dksX1_pieces_0 12 rfl rfl)
theorem dX1_pieces_15 : decode cX1_pieces 15 = .ok (.aload_n 0, 1) := dk_42 (dk_at dksX1_pieces_0 15 rfl rfl)
theorem dX1_pieces_16 : decode cX1_pieces 16 = .ok (.getfield 19, 3) := dk_180 0 19 (dk_at dksX1_pieces_0 16 rfl rfl)
theorem dX1_pieces_19 : decode cX1_pieces 19 = .ok (.aload_n 0, 1) := dk_42 (dk_at dksX1_pieces_0 19 rfl rfl)
theorem dX1_pieces_20 : decode cX1_pieces 20 = .ok (.getfield 10, 3) := dk_180 0 10 (dk_at dksX1_pieces_0 20 rfl rfl)
theorem dX1_pieces_23 : decode cX1_pieces 23 = .ok (.iload_n 2, 1) := dk_28 (dk_at dksX1_pieces_0 23 rfl rfl)
theorem dX1_pieces_24 : decode cX1_pieces 24 = .ok (.invokevirtual 213, 3) := dk_182 0 213 (dk_at dksX1_pieces_1 0 rfl rfl)
theorem dX1_pieces_27 : decode cX1_pieces 27 = .ok (.invokestatic 216, 3) := dk_184 0 216 (dk_at dksX1_pieces_1 3 rfl rfl)
theorem dX1_pieces_30 : decode cX1_pieces 30 = .ok (.istore_n 3, 1) := dk_62 (dk_at dksX1_pieces_1 6 rfl rfl)
theorem dX1_pieces_31 : decode cX1_pieces 31 = .ok (.iload_n 3, 1) := dk_29 (dk_at dksX1_pieces_1 7 rfl rfl)
theorem dX1_pieces_32 : decode cX1_pieces 32 = .ok (.ifCond .ne 7, 3) := dk_154 0 7 (dk_at dksX1_pieces_1 8 rfl rfl)
theorem dX1_pieces_35 : decode cX1_pieces 35 = .ok (.iconst (-1), 1) := dk_2 (dk_at dksX1_pieces_1 11 rfl rfl)
theorem dX1_pieces_36 : decode cX1_pieces 36 = .ok (.iload_n 2, 1) := dk_28 (dk_at dksX1_pieces_1 12 rfl rfl)
theorem dX1_pieces_37 : decode cX1_pieces 37 = .ok (.isub, 1) := dk_100 (dk_at dksX1_pieces_1 13 rfl rfl)
theorem dX1_pieces_38 : decode cX1_pieces 38 = .ok (.ireturn, 1) := dk_172 (dk_at dksX1_pieces_1 14 rfl rfl)
theorem dX1_pieces_39 : decode cX1_pieces 39 = .ok (.iload_n 2, 1) := dk_28 (dk_at dksX1_pieces_1 15 rfl rfl)
theorem dX1_pieces_40 : decode cX1_pieces 40 = .ok (.iload_n 3, 1) := dk_29 (dk_at dksX1_pieces_1 16 rfl rfl)
theorem dX1_pieces_41 : decode cX1_pieces 41 = .ok (.iadd, 1) := dk_96 (dk_at dksX1_pieces_1 17 rfl rfl)
theorem dX1_pieces_42 : decode cX1_pieces 42 = .ok (.istore_n 2, 1) := dk_61 (dk_at dksX1_pieces_1 18 rfl rfl)
theorem dX1_pieces_43 : decode cX1_pieces 43 = .ok (.iinc 1 1, 3) := dk_132 1 1 (dk_at dksX1_pieces_1 19 rfl rfl)
theorem dX1_pieces_46 : decode cX1_pieces 46 = .ok (.goto (-42), 3) := dk_167 255 214 (dk_at dksX1_pieces_2 0 rfl rfl)
theorem dX1_pieces_49 : decode cX1_pieces 49 = .ok (.iload_n 1, 1) := dk_27 (dk_at dksX1_pieces_2 3 rfl rfl)
theorem dX1_pieces_50 : decode cX1_pieces 50 = .ok (.ireturn, 1) := dk_172 (dk_at dksX1_pieces_2 4 rfl rfl)
abbrev cX1_longest : ByteArray := prog_1_method_26_code
def yX1_longest : MethodName := ⟨RX1, "longest", "(Ljava/util/TreeMap;Ljava/lang/String;)I"⟩
def dkwX1_longest_2 : List UInt8 := [182, 0, 31, 77, 167, 255, 207, 3, 172]
abbrev dktX1_longest_2 : List UInt8 := dkwX1_longest_2 ++ []
def dkwX1_longest_1 : List UInt8 := [45, 44, 184, 0, 209, 54, 4, 21, 4, 45, 182, 0, 151, 160, 0, 6, 21, 4, 172, 44, 3, 21, 4]
abbrev dktX1_longest_1 : List UInt8 := dkwX1_longest_1 ++ dktX1_longest_2
def dkwX1_longest_0 : List UInt8 := [43, 77, 44, 182, 0, 206, 154, 0, 48, 42, 44, 182, 0, 152, 192, 0, 23, 78, 45, 199, 0, 5, 3, 172]
abbrev dktX1_longest_0 : List UInt8 := dkwX1_longest_0 ++ dktX1_longest_1
theorem dksX1_longest_0 : cX1_longest.data.toList.drop 0 = dktX1_longest_0 := by decide +kernel
theorem dksX1_longest_1 : cX1_longest.data.toList.drop 24 = dktX1_longest_1 := dk_seg dksX1_longest_0 24 rfl rfl
theorem dksX1_longest_2 : cX1_longest.data.toList.drop 47 = dktX1_longest_2 := dk_seg dksX1_longest_1 23 rfl rfl
theorem dX1_longest_0 : decode cX1_longest 0 = .ok (.aload_n 1, 1) := dk_43 (dk_at dksX1_longest_0 0 rfl rfl)
theorem dX1_longest_1 : decode cX1_longest 1 = .ok (.astore_n 2, 1) := dk_77 (dk_at dksX1_longest_0 1 rfl rfl)
theorem dX1_longest_2 : decode cX1_longest 2 = .ok (.aload_n 2, 1) := dk_44 (dk_at dksX1_longest_0 2 rfl rfl)
theorem dX1_longest_3 : decode cX1_longest 3 = .ok (.invokevirtual 206, 3) := dk_182 0 206 (dk_at dksX1_longest_0 3 rfl rfl)
theorem dX1_longest_6 : decode cX1_longest 6 = .ok (.ifCond .ne 48, 3) := dk_154 0 48 (dk_at dksX1_longest_0 6 rfl rfl)
theorem dX1_longest_9 : decode cX1_longest 9 = .ok (.aload_n 0, 1) := dk_42 (dk_at dksX1_longest_0 9 rfl rfl)
theorem dX1_longest_10 : decode cX1_longest 10 = .ok (.aload_n 2, 1) := dk_44 (dk_at dksX1_longest_0 10 rfl rfl)
theorem dX1_longest_11 : decode cX1_longest 11 = .ok (.invokevirtual 152, 3) := dk_182 0 152 (dk_at dksX1_longest_0 11 rfl rfl)
theorem dX1_longest_14 : decode cX1_longest 14 = .ok (.checkcast 23, 3) := dk_192 0 23 (dk_at dksX1_longest_0 14 rfl rfl)
theorem dX1_longest_17 : decode cX1_longest 17 = .ok (.astore_n 3, 1) := dk_78 (dk_at dksX1_longest_0 17 rfl rfl)
theorem dX1_longest_18 : decode cX1_longest 18 = .ok (.aload_n 3, 1) := dk_45 (dk_at dksX1_longest_0 18 rfl rfl)
theorem dX1_longest_19 : decode cX1_longest 19 = .ok (.ifnonnull 5, 3) := dk_199 0 5 (dk_at dksX1_longest_0 19 rfl rfl)
theorem dX1_longest_22 : decode cX1_longest 22 = .ok (.iconst 0, 1) := dk_3 (dk_at dksX1_longest_0 22 rfl rfl)
theorem dX1_longest_23 : decode cX1_longest 23 = .ok (.ireturn, 1) := dk_172 (dk_at dksX1_longest_0 23 rfl rfl)
theorem dX1_longest_24 : decode cX1_longest 24 = .ok (.aload_n 3, 1) := dk_45 (dk_at dksX1_longest_1 0 rfl rfl)
theorem dX1_longest_25 : decode cX1_longest 25 = .ok (.aload_n 2, 1) := dk_44 (dk_at dksX1_longest_1 1 rfl rfl)
theorem dX1_longest_26 : decode cX1_longest 26 = .ok (.invokestatic 209, 3) := dk_184 0 209 (dk_at dksX1_longest_1 2 rfl rfl)
theorem dX1_longest_29 : decode cX1_longest 29 = .ok (.istore 4, 2) := dk_54 4 (dk_at dksX1_longest_1 5 rfl rfl)
theorem dX1_longest_31 : decode cX1_longest 31 = .ok (.iload 4, 2) := dk_21 4 (dk_at dksX1_longest_1 7 rfl rfl)
theorem dX1_longest_33 : decode cX1_longest 33 = .ok (.aload_n 3, 1) := dk_45 (dk_at dksX1_longest_1 9 rfl rfl)
theorem dX1_longest_34 : decode cX1_longest 34 = .ok (.invokevirtual 151, 3) := dk_182 0 151 (dk_at dksX1_longest_1 10 rfl rfl)
theorem dX1_longest_37 : decode cX1_longest 37 = .ok (.if_icmp .ne 6, 3) := dk_160 0 6 (dk_at dksX1_longest_1 13 rfl rfl)
theorem dX1_longest_40 : decode cX1_longest 40 = .ok (.iload 4, 2) := dk_21 4 (dk_at dksX1_longest_1 16 rfl rfl)
theorem dX1_longest_42 : decode cX1_longest 42 = .ok (.ireturn, 1) := dk_172 (dk_at dksX1_longest_1 18 rfl rfl)
theorem dX1_longest_43 : decode cX1_longest 43 = .ok (.aload_n 2, 1) := dk_44 (dk_at dksX1_longest_1 19 rfl rfl)
theorem dX1_longest_44 : decode cX1_longest 44 = .ok (.iconst 0, 1) := dk_3 (dk_at dksX1_longest_1 20 rfl rfl)
theorem dX1_longest_45 : decode cX1_longest 45 = .ok (.iload 4, 2) := dk_21 4 (dk_at dksX1_longest_1 21 rfl rfl)
theorem dX1_longest_47 : decode cX1_longest 47 = .ok (.invokevirtual 31, 3) := dk_182 0 31 (dk_at dksX1_longest_2 0 rfl rfl)
theorem dX1_longest_50 : decode cX1_longest 50 = .ok (.astore_n 2, 1) := dk_77 (dk_at dksX1_longest_2 3 rfl rfl)
theorem dX1_longest_51 : decode cX1_longest 51 = .ok (.goto (-49), 3) := dk_167 255 207 (dk_at dksX1_longest_2 4 rfl rfl)
theorem dX1_longest_54 : decode cX1_longest 54 = .ok (.iconst 0, 1) := dk_3 (dk_at dksX1_longest_2 7 rfl rfl)
theorem dX1_longest_55 : decode cX1_longest 55 = .ok (.ireturn, 1) := dk_172 (dk_at dksX1_longest_2 8 rfl rfl)
abbrev cX1_cuts : ByteArray := prog_1_method_32_code
def yX1_cuts : MethodName := ⟨RX1, "cuts", "()J"⟩
def dkwX1_cuts_4 : List UInt8 := [47, 97, 80, 132, 3, 1, 167, 255, 198, 132, 2, 255, 167, 255, 184, 43, 3, 47, 173]
abbrev dktX1_cuts_4 : List UInt8 := dkwX1_cuts_4 ++ []
def dkwX1_cuts_3 : List UInt8 := [180, 0, 19, 42, 180, 0, 10, 28, 29, 182, 0, 222, 182, 0, 101, 153, 0, 12, 43, 28, 92, 47, 43, 29]
abbrev dktX1_cuts_3 : List UInt8 := dkwX1_cuts_3 ++ dktX1_cuts_4
def dkwX1_cuts_2 : List UInt8 := [182, 0, 42, 163, 0, 53, 29, 28, 16, 10, 96, 163, 0, 45, 43, 29, 47, 9, 148, 158, 0, 31, 42]
abbrev dktX1_cuts_2 : List UInt8 := dkwX1_cuts_2 ++ dktX1_cuts_3
def dkwX1_cuts_1 : List UInt8 := [180, 0, 10, 182, 0, 42, 4, 100, 61, 28, 155, 0, 74, 28, 4, 96, 62, 29, 42, 180, 0, 10]
abbrev dktX1_cuts_1 : List UInt8 := dkwX1_cuts_1 ++ dktX1_cuts_2
def dkwX1_cuts_0 : List UInt8 := [42, 180, 0, 10, 182, 0, 42, 4, 96, 188, 11, 76, 43, 42, 180, 0, 10, 182, 0, 42, 10, 80, 42]
abbrev dktX1_cuts_0 : List UInt8 := dkwX1_cuts_0 ++ dktX1_cuts_1
theorem dksX1_cuts_0 : cX1_cuts.data.toList.drop 0 = dktX1_cuts_0 := by decide +kernel
theorem dksX1_cuts_1 : cX1_cuts.data.toList.drop 23 = dktX1_cuts_1 := dk_seg dksX1_cuts_0 23 rfl rfl
theorem dksX1_cuts_2 : cX1_cuts.data.toList.drop 45 = dktX1_cuts_2 := dk_seg dksX1_cuts_1 22 rfl rfl
theorem dksX1_cuts_3 : cX1_cuts.data.toList.drop 68 = dktX1_cuts_3 := dk_seg dksX1_cuts_2 23 rfl rfl
theorem dksX1_cuts_4 : cX1_cuts.data.toList.drop 92 = dktX1_cuts_4 := dk_seg dksX1_cuts_3 24 rfl rfl
theorem dX1_cuts_0 : decode cX1_cuts 0 = .ok (.aload_n 0, 1) := dk_42 (dk_at dksX1_cuts_0 0 rfl rfl)
theorem dX1_cuts_1 : decode cX1_cuts 1 = .ok (.getfield 10, 3) := dk_180 0 10 (dk_at dksX1_cuts_0 1 rfl rfl)
theorem dX1_cuts_4 : decode cX1_cuts 4 = .ok (.invokevirtual 42, 3) := dk_182 0 42 (dk_at dksX1_cuts_0 4 rfl rfl)
theorem dX1_cuts_7 : decode cX1_cuts 7 = .ok (.iconst 1, 1) := dk_4 (dk_at dksX1_cuts_0 7 rfl rfl)
theorem dX1_cuts_8 : decode cX1_cuts 8 = .ok (.iadd, 1) := dk_96 (dk_at dksX1_cuts_0 8 rfl rfl)
theorem dX1_cuts_9 : decode cX1_cuts 9 = .ok (.newarray .long, 2) := dk_188_11 (dk_at dksX1_cuts_0 9 rfl rfl)
theorem dX1_cuts_11 : decode cX1_cuts 11 = .ok (.astore_n 1, 1) := dk_76 (dk_at dksX1_cuts_0 11 rfl rfl)
theorem dX1_cuts_12 : decode cX1_cuts 12 = .ok (.aload_n 1, 1) := dk_43 (dk_at dksX1_cuts_0 12 rfl rfl)
theorem dX1_cuts_13 : decode cX1_cuts 13 = .ok (.aload_n 0, 1) := dk_42 (dk_at dksX1_cuts_0 13 rfl rfl)
theorem dX1_cuts_14 : decode cX1_cuts 14 = .ok (.getfield 10, 3) := dk_180 0 10 (dk_at dksX1_cuts_0 14 rfl rfl)
theorem dX1_cuts_17 : decode cX1_cuts 17 = .ok (.invokevirtual 42, 3) := dk_182 0 42 (dk_at dksX1_cuts_0 17 rfl rfl)
theorem dX1_cuts_20 : decode cX1_cuts 20 = .ok (.lconst 1, 1) := dk_10 (dk_at dksX1_cuts_0 20 rfl rfl)
theorem dX1_cuts_21 : decode cX1_cuts 21 = .ok (.lastore, 1) := dk_80 (dk_at dksX1_cuts_0 21 rfl rfl)
theorem dX1_cuts_22 : decode cX1_cuts 22 = .ok (.aload_n 0, 1) := dk_42 (dk_at dksX1_cuts_0 22 rfl rfl)
theorem dX1_cuts_23 : decode cX1_cuts 23 = .ok (.getfield 10, 3) := dk_180 0 10 (dk_at dksX1_cuts_1 0 rfl rfl)
theorem dX1_cuts_26 : decode cX1_cuts 26 = .ok (.invokevirtual 42, 3) := dk_182 0 42 (dk_at dksX1_cuts_1 3 rfl rfl)
theorem dX1_cuts_29 : decode cX1_cuts 29 = .ok (.iconst 1, 1) := dk_4 (dk_at dksX1_cuts_1 6 rfl rfl)
theorem dX1_cuts_30 : decode cX1_cuts 30 = .ok (.isub, 1) := dk_100 (dk_at dksX1_cuts_1 7 rfl rfl)
theorem dX1_cuts_31 : decode cX1_cuts 31 = .ok (.istore_n 2, 1) := dk_61 (dk_at dksX1_cuts_1 8 rfl rfl)
theorem dX1_cuts_32 : decode cX1_cuts 32 = .ok (.iload_n 2, 1) := dk_28 (dk_at dksX1_cuts_1 9 rfl rfl)
theorem dX1_cuts_33 : decode cX1_cuts 33 = .ok (.ifCond .lt 74, 3) := dk_155 0 74 (dk_at dksX1_cuts_1 10 rfl rfl)
theorem dX1_cuts_36 : decode cX1_cuts 36 = .ok (.iload_n 2, 1) := dk_28 (dk_at dksX1_cuts_1 13 rfl rfl)
theorem dX1_cuts_37 : decode cX1_cuts 37 = .ok (.iconst 1, 1) := dk_4 (dk_at dksX1_cuts_1 14 rfl rfl)
theorem dX1_cuts_38 : decode cX1_cuts 38 = .ok (.iadd, 1) := dk_96 (dk_at dksX1_cuts_1 15 rfl rfl)
theorem dX1_cuts_39 : decode cX1_cuts 39 = .ok (.istore_n 3, 1) := dk_62 (dk_at dksX1_cuts_1 16 rfl rfl)
theorem dX1_cuts_40 : decode cX1_cuts 40 = .ok (.iload_n 3, 1) := dk_29 (dk_at dksX1_cuts_1 17 rfl rfl)
theorem dX1_cuts_41 : decode cX1_cuts 41 = .ok (.aload_n 0, 1) := dk_42 (dk_at dksX1_cuts_1 18 rfl rfl)
theorem dX1_cuts_42 : decode cX1_cuts 42 = .ok (.getfield 10, 3) := dk_180 0 10 (dk_at dksX1_cuts_1 19 rfl rfl)
theorem dX1_cuts_45 : decode cX1_cuts 45 = .ok (.invokevirtual 42, 3) := dk_182 0 42 (dk_at dksX1_cuts_2 0 rfl rfl)
theorem dX1_cuts_48 : decode cX1_cuts 48 = .ok (.if_icmp .gt 53, 3) := dk_163 0 53 (dk_at dksX1_cuts_2 3 rfl rfl)
theorem dX1_cuts_51 : decode cX1_cuts 51 = .ok (.iload_n 3, 1) := dk_29 (dk_at dksX1_cuts_2 6 rfl rfl)
theorem dX1_cuts_52 : decode cX1_cuts 52 = .ok (.iload_n 2, 1) := dk_28 (dk_at dksX1_cuts_2 7 rfl rfl)
theorem dX1_cuts_53 : decode cX1_cuts 53 = .ok (.bipush 10, 2) := dk_16 10 (dk_at dksX1_cuts_2 8 rfl rfl)
theorem dX1_cuts_55 : decode cX1_cuts 55 = .ok (.iadd, 1) := dk_96 (dk_at dksX1_cuts_2 10 rfl rfl)
theorem dX1_cuts_56 : decode cX1_cuts 56 = .ok (.if_icmp .gt 45, 3) := dk_163 0 45 (dk_at dksX1_cuts_2 11 rfl rfl)
theorem dX1_cuts_59 : decode cX1_cuts 59 = .ok (.aload_n 1, 1) := dk_43 (dk_at dksX1_cuts_2 14 rfl rfl)
theorem dX1_cuts_60 : decode cX1_cuts 60 = .ok (.iload_n 3, 1) := dk_29 (dk_at dksX1_cuts_2 15 rfl rfl)
theorem dX1_cuts_61 : decode cX1_cuts 61 = .ok (.laload, 1) := dk_47 (dk_at dksX1_cuts_2 16 rfl rfl)
theorem dX1_cuts_62 : decode cX1_cuts 62 = .ok (.lconst 0, 1) := dk_9 (dk_at dksX1_cuts_2 17 rfl rfl)
theorem dX1_cuts_63 : decode cX1_cuts 63 = .ok (.lcmp, 1) := dk_148 (dk_at dksX1_cuts_2 18 rfl rfl)
theorem dX1_cuts_64 : decode cX1_cuts 64 = .ok (.ifCond .le 31, 3) := dk_158 0 31 (dk_at dksX1_cuts_2 19 rfl rfl)
theorem dX1_cuts_67 : decode cX1_cuts 67 = .ok (.aload_n 0, 1) := dk_42 (dk_at dksX1_cuts_2 22 rfl rfl)
theorem dX1_cuts_68 : decode cX1_cuts 68 = .ok (.getfield 19, 3) := dk_180 0 19 (dk_at dksX1_cuts_3 0 rfl rfl)
theorem dX1_cuts_71 : decode cX1_cuts 71 = .ok (.aload_n 0, 1) := dk_42 (dk_at dksX1_cuts_3 3 rfl rfl)
theorem dX1_cuts_72 : decode cX1_cuts 72 = .ok (.getfield 10, 3) := dk_180 0 10 (dk_at dksX1_cuts_3 4 rfl rfl)
theorem dX1_cuts_75 : decode cX1_cuts 75 = .ok (.iload_n 2, 1) := dk_28 (dk_at dksX1_cuts_3 7 rfl rfl)
theorem dX1_cuts_76 : decode cX1_cuts 76 = .ok (.iload_n 3, 1) := dk_29 (dk_at dksX1_cuts_3 8 rfl rfl)
theorem dX1_cuts_77 : decode cX1_cuts 77 = .ok (.invokevirtual 222, 3) := dk_182 0 222 (dk_at dksX1_cuts_3 9 rfl rfl)
theorem dX1_cuts_80 : decode cX1_cuts 80 = .ok (.invokevirtual 101, 3) := dk_182 0 101 (dk_at dksX1_cuts_3 12 rfl rfl)
theorem dX1_cuts_83 : decode cX1_cuts 83 = .ok (.ifCond .eq 12, 3) := dk_153 0 12 (dk_at dksX1_cuts_3 15 rfl rfl)
theorem dX1_cuts_86 : decode cX1_cuts 86 = .ok (.aload_n 1, 1) := dk_43 (dk_at dksX1_cuts_3 18 rfl rfl)
theorem dX1_cuts_87 : decode cX1_cuts 87 = .ok (.iload_n 2, 1) := dk_28 (dk_at dksX1_cuts_3 19 rfl rfl)
theorem dX1_cuts_88 : decode cX1_cuts 88 = .ok (.dup2, 1) := dk_92 (dk_at dksX1_cuts_3 20 rfl rfl)
theorem dX1_cuts_89 : decode cX1_cuts 89 = .ok (.laload, 1) := dk_47 (dk_at dksX1_cuts_3 21 rfl rfl)
theorem dX1_cuts_90 : decode cX1_cuts 90 = .ok (.aload_n 1, 1) := dk_43 (dk_at dksX1_cuts_3 22 rfl rfl)
theorem dX1_cuts_91 : decode cX1_cuts 91 = .ok (.iload_n 3, 1) := dk_29 (dk_at dksX1_cuts_3 23 rfl rfl)
theorem dX1_cuts_92 : decode cX1_cuts 92 = .ok (.laload, 1) := dk_47 (dk_at dksX1_cuts_4 0 rfl rfl)
theorem dX1_cuts_93 : decode cX1_cuts 93 = .ok (.ladd, 1) := dk_97 (dk_at dksX1_cuts_4 1 rfl rfl)
theorem dX1_cuts_94 : decode cX1_cuts 94 = .ok (.lastore, 1) := dk_80 (dk_at dksX1_cuts_4 2 rfl rfl)
theorem dX1_cuts_95 : decode cX1_cuts 95 = .ok (.iinc 3 1, 3) := dk_132 3 1 (dk_at dksX1_cuts_4 3 rfl rfl)
theorem dX1_cuts_98 : decode cX1_cuts 98 = .ok (.goto (-58), 3) := dk_167 255 198 (dk_at dksX1_cuts_4 6 rfl rfl)
theorem dX1_cuts_101 : decode cX1_cuts 101 = .ok (.iinc 2 (-1), 3) := dk_132 2 255 (dk_at dksX1_cuts_4 9 rfl rfl)
theorem dX1_cuts_104 : decode cX1_cuts 104 = .ok (.goto (-72), 3) := dk_167 255 184 (dk_at dksX1_cuts_4 12 rfl rfl)
theorem dX1_cuts_107 : decode cX1_cuts 107 = .ok (.aload_n 1, 1) := dk_43 (dk_at dksX1_cuts_4 15 rfl rfl)
theorem dX1_cuts_108 : decode cX1_cuts 108 = .ok (.iconst 0, 1) := dk_3 (dk_at dksX1_cuts_4 16 rfl rfl)
theorem dX1_cuts_109 : decode cX1_cuts 109 = .ok (.laload, 1) := dk_47 (dk_at dksX1_cuts_4 17 rfl rfl)
theorem dX1_cuts_110 : decode cX1_cuts 110 = .ok (.lreturn, 1) := dk_173 (dk_at dksX1_cuts_4 18 rfl rfl)
abbrev cX1_fewest : ByteArray := prog_1_method_33_code
def yX1_fewest : MethodName := ⟨RX1, "fewest", "()I"⟩
def dkwX1_fewest_5 : List UInt8 := [43, 3, 46, 172]
abbrev dktX1_fewest_5 : List UInt8 := dkwX1_fewest_5 ++ []
def dkwX1_fewest_4 : List UInt8 := [132, 3, 1, 167, 255, 196, 132, 2, 255, 167, 255, 177, 43, 3, 46, 16, 99, 160, 0, 7, 2, 167, 0, 6]
abbrev dktX1_fewest_4 : List UInt8 := dkwX1_fewest_4 ++ dktX1_fewest_5
def dkwX1_fewest_3 : List UInt8 := [180, 0, 10, 28, 29, 182, 0, 222, 182, 0, 101, 153, 0, 11, 43, 28, 43, 29, 46, 4, 96, 79]
abbrev dktX1_fewest_3 : List UInt8 := dkwX1_fewest_3 ++ dktX1_fewest_4
def dkwX1_fewest_2 : List UInt8 := [28, 16, 10, 96, 163, 0, 47, 43, 29, 46, 4, 96, 43, 28, 46, 162, 0, 30, 42, 180, 0, 19, 42]
abbrev dktX1_fewest_2 : List UInt8 := dkwX1_fewest_2 ++ dktX1_fewest_3
def dkwX1_fewest_1 : List UInt8 := [155, 0, 81, 43, 28, 16, 99, 79, 28, 4, 96, 62, 29, 42, 180, 0, 10, 182, 0, 42, 163, 0, 55, 29]
abbrev dktX1_fewest_1 : List UInt8 := dkwX1_fewest_1 ++ dktX1_fewest_2
def dkwX1_fewest_0 : List UInt8 := [42, 180, 0, 10, 182, 0, 42, 4, 96, 188, 10, 76, 42, 180, 0, 10, 182, 0, 42, 4, 100, 61, 28]
abbrev dktX1_fewest_0 : List UInt8 := dkwX1_fewest_0 ++ dktX1_fewest_1
theorem dksX1_fewest_0 : cX1_fewest.data.toList.drop 0 = dktX1_fewest_0 := by decide +kernel
theorem dksX1_fewest_1 : cX1_fewest.data.toList.drop 23 = dktX1_fewest_1 := dk_seg dksX1_fewest_0 23 rfl rfl
theorem dksX1_fewest_2 : cX1_fewest.data.toList.drop 47 = dktX1_fewest_2 := dk_seg dksX1_fewest_1 24 rfl rfl
theorem dksX1_fewest_3 : cX1_fewest.data.toList.drop 70 = dktX1_fewest_3 := dk_seg dksX1_fewest_2 23 rfl rfl
theorem dksX1_fewest_4 : cX1_fewest.data.toList.drop 92 = dktX1_fewest_4 := dk_seg dksX1_fewest_3 22 rfl rfl
theorem dksX1_fewest_5 : cX1_fewest.data.toList.drop 116 = dktX1_fewest_5 := dk_seg dksX1_fewest_4 24 rfl rfl
theorem dX1_fewest_0 : decode cX1_fewest 0 = .ok (.aload_n 0, 1) := dk_42 (dk_at dksX1_fewest_0 0 rfl rfl)
theorem dX1_fewest_1 : decode cX1_fewest 1 = .ok (.getfield 10, 3) := dk_180 0 10 (dk_at dksX1_fewest_0 1 rfl rfl)
theorem dX1_fewest_4 : decode cX1_fewest 4 = .ok (.invokevirtual 42, 3) := dk_182 0 42 (dk_at dksX1_fewest_0 4 rfl rfl)
theorem dX1_fewest_7 : decode cX1_fewest 7 = .ok (.iconst 1, 1) := dk_4 (dk_at dksX1_fewest_0 7 rfl rfl)
theorem dX1_fewest_8 : decode cX1_fewest 8 = .ok (.iadd, 1) := dk_96 (dk_at dksX1_fewest_0 8 rfl rfl)
theorem dX1_fewest_9 : decode cX1_fewest 9 = .ok (.newarray .int, 2) := dk_188_10 (dk_at dksX1_fewest_0 9 rfl rfl)
theorem dX1_fewest_11 : decode cX1_fewest 11 = .ok (.astore_n 1, 1) := dk_76 (dk_at dksX1_fewest_0 11 rfl rfl)
theorem dX1_fewest_12 : decode cX1_fewest 12 = .ok (.aload_n 0, 1) := dk_42 (dk_at dksX1_fewest_0 12 rfl rfl)
theorem dX1_fewest_13 : decode cX1_fewest 13 = .ok (.getfield 10, 3) := dk_180 0 10 (dk_at dksX1_fewest_0 13 rfl rfl)
theorem dX1_fewest_16 : decode cX1_fewest 16 = .ok (.invokevirtual 42, 3) := dk_182 0 42 (dk_at dksX1_fewest_0 16 rfl rfl)
theorem dX1_fewest_19 : decode cX1_fewest 19 = .ok (.iconst 1, 1) := dk_4 (dk_at dksX1_fewest_0 19 rfl rfl)
theorem dX1_fewest_20 : decode cX1_fewest 20 = .ok (.isub, 1) := dk_100 (dk_at dksX1_fewest_0 20 rfl rfl)
theorem dX1_fewest_21 : decode cX1_fewest 21 = .ok (.istore_n 2, 1) := dk_61 (dk_at dksX1_fewest_0 21 rfl rfl)
theorem dX1_fewest_22 : decode cX1_fewest 22 = .ok (.iload_n 2, 1) := dk_28 (dk_at dksX1_fewest_0 22 rfl rfl)
theorem dX1_fewest_23 : decode cX1_fewest 23 = .ok (.ifCond .lt 81, 3) := dk_155 0 81 (dk_at dksX1_fewest_1 0 rfl rfl)
theorem dX1_fewest_26 : decode cX1_fewest 26 = .ok (.aload_n 1, 1) := dk_43 (dk_at dksX1_fewest_1 3 rfl rfl)
theorem dX1_fewest_27 : decode cX1_fewest 27 = .ok (.iload_n 2, 1) := dk_28 (dk_at dksX1_fewest_1 4 rfl rfl)
theorem dX1_fewest_28 : decode cX1_fewest 28 = .ok (.bipush 99, 2) := dk_16 99 (dk_at dksX1_fewest_1 5 rfl rfl)
theorem dX1_fewest_30 : decode cX1_fewest 30 = .ok (.iastore, 1) := dk_79 (dk_at dksX1_fewest_1 7 rfl rfl)
theorem dX1_fewest_31 : decode cX1_fewest 31 = .ok (.iload_n 2, 1) := dk_28 (dk_at dksX1_fewest_1 8 rfl rfl)
theorem dX1_fewest_32 : decode cX1_fewest 32 = .ok (.iconst 1, 1) := dk_4 (dk_at dksX1_fewest_1 9 rfl rfl)
theorem dX1_fewest_33 : decode cX1_fewest 33 = .ok (.iadd, 1) := dk_96 (dk_at dksX1_fewest_1 10 rfl rfl)
theorem dX1_fewest_34 : decode cX1_fewest 34 = .ok (.istore_n 3, 1) := dk_62 (dk_at dksX1_fewest_1 11 rfl rfl)
theorem dX1_fewest_35 : decode cX1_fewest 35 = .ok (.iload_n 3, 1) := dk_29 (dk_at dksX1_fewest_1 12 rfl rfl)
theorem dX1_fewest_36 : decode cX1_fewest 36 = .ok (.aload_n 0, 1) := dk_42 (dk_at dksX1_fewest_1 13 rfl rfl)
theorem dX1_fewest_37 : decode cX1_fewest 37 = .ok (.getfield 10, 3) := dk_180 0 10 (dk_at dksX1_fewest_1 14 rfl rfl)
theorem dX1_fewest_40 : decode cX1_fewest 40 = .ok (.invokevirtual 42, 3) := dk_182 0 42 (dk_at dksX1_fewest_1 17 rfl rfl)
theorem dX1_fewest_43 : decode cX1_fewest 43 = .ok (.if_icmp .gt 55, 3) := dk_163 0 55 (dk_at dksX1_fewest_1 20 rfl rfl)
theorem dX1_fewest_46 : decode cX1_fewest 46 = .ok (.iload_n 3, 1) := dk_29 (dk_at dksX1_fewest_1 23 rfl rfl)
theorem dX1_fewest_47 : decode cX1_fewest 47 = .ok (.iload_n 2, 1) := dk_28 (dk_at dksX1_fewest_2 0 rfl rfl)
theorem dX1_fewest_48 : decode cX1_fewest 48 = .ok (.bipush 10, 2) := dk_16 10 (dk_at dksX1_fewest_2 1 rfl rfl)
theorem dX1_fewest_50 : decode cX1_fewest 50 = .ok (.iadd, 1) := dk_96 (dk_at dksX1_fewest_2 3 rfl rfl)
theorem dX1_fewest_51 : decode cX1_fewest 51 = .ok (.if_icmp .gt 47, 3) := dk_163 0 47 (dk_at dksX1_fewest_2 4 rfl rfl)
theorem dX1_fewest_54 : decode cX1_fewest 54 = .ok (.aload_n 1, 1) := dk_43 (dk_at dksX1_fewest_2 7 rfl rfl)
theorem dX1_fewest_55 : decode cX1_fewest 55 = .ok (.iload_n 3, 1) := dk_29 (dk_at dksX1_fewest_2 8 rfl rfl)
theorem dX1_fewest_56 : decode cX1_fewest 56 = .ok (.iaload, 1) := dk_46 (dk_at dksX1_fewest_2 9 rfl rfl)
theorem dX1_fewest_57 : decode cX1_fewest 57 = .ok (.iconst 1, 1) := dk_4 (dk_at dksX1_fewest_2 10 rfl rfl)
theorem dX1_fewest_58 : decode cX1_fewest 58 = .ok (.iadd, 1) := dk_96 (dk_at dksX1_fewest_2 11 rfl rfl)
theorem dX1_fewest_59 : decode cX1_fewest 59 = .ok (.aload_n 1, 1) := dk_43 (dk_at dksX1_fewest_2 12 rfl rfl)
theorem dX1_fewest_60 : decode cX1_fewest 60 = .ok (.iload_n 2, 1) := dk_28 (dk_at dksX1_fewest_2 13 rfl rfl)
theorem dX1_fewest_61 : decode cX1_fewest 61 = .ok (.iaload, 1) := dk_46 (dk_at dksX1_fewest_2 14 rfl rfl)
theorem dX1_fewest_62 : decode cX1_fewest 62 = .ok (.if_icmp .ge 30, 3) := dk_162 0 30 (dk_at dksX1_fewest_2 15 rfl rfl)
theorem dX1_fewest_65 : decode cX1_fewest 65 = .ok (.aload_n 0, 1) := dk_42 (dk_at dksX1_fewest_2 18 rfl rfl)
theorem dX1_fewest_66 : decode cX1_fewest 66 = .ok (.getfield 19, 3) := dk_180 0 19 (dk_at dksX1_fewest_2 19 rfl rfl)
theorem dX1_fewest_69 : decode cX1_fewest 69 = .ok (.aload_n 0, 1) := dk_42 (dk_at dksX1_fewest_2 22 rfl rfl)
theorem dX1_fewest_70 : decode cX1_fewest 70 = .ok (.getfield 10, 3) := dk_180 0 10 (dk_at dksX1_fewest_3 0 rfl rfl)
theorem dX1_fewest_73 : decode cX1_fewest 73 = .ok (.iload_n 2, 1) := dk_28 (dk_at dksX1_fewest_3 3 rfl rfl)
theorem dX1_fewest_74 : decode cX1_fewest 74 = .ok (.iload_n 3, 1) := dk_29 (dk_at dksX1_fewest_3 4 rfl rfl)
theorem dX1_fewest_75 : decode cX1_fewest 75 = .ok (.invokevirtual 222, 3) := dk_182 0 222 (dk_at dksX1_fewest_3 5 rfl rfl)
theorem dX1_fewest_78 : decode cX1_fewest 78 = .ok (.invokevirtual 101, 3) := dk_182 0 101 (dk_at dksX1_fewest_3 8 rfl rfl)
theorem dX1_fewest_81 : decode cX1_fewest 81 = .ok (.ifCond .eq 11, 3) := dk_153 0 11 (dk_at dksX1_fewest_3 11 rfl rfl)
theorem dX1_fewest_84 : decode cX1_fewest 84 = .ok (.aload_n 1, 1) := dk_43 (dk_at dksX1_fewest_3 14 rfl rfl)
theorem dX1_fewest_85 : decode cX1_fewest 85 = .ok (.iload_n 2, 1) := dk_28 (dk_at dksX1_fewest_3 15 rfl rfl)
theorem dX1_fewest_86 : decode cX1_fewest 86 = .ok (.aload_n 1, 1) := dk_43 (dk_at dksX1_fewest_3 16 rfl rfl)
theorem dX1_fewest_87 : decode cX1_fewest 87 = .ok (.iload_n 3, 1) := dk_29 (dk_at dksX1_fewest_3 17 rfl rfl)
theorem dX1_fewest_88 : decode cX1_fewest 88 = .ok (.iaload, 1) := dk_46 (dk_at dksX1_fewest_3 18 rfl rfl)
theorem dX1_fewest_89 : decode cX1_fewest 89 = .ok (.iconst 1, 1) := dk_4 (dk_at dksX1_fewest_3 19 rfl rfl)
theorem dX1_fewest_90 : decode cX1_fewest 90 = .ok (.iadd, 1) := dk_96 (dk_at dksX1_fewest_3 20 rfl rfl)
theorem dX1_fewest_91 : decode cX1_fewest 91 = .ok (.iastore, 1) := dk_79 (dk_at dksX1_fewest_3 21 rfl rfl)
theorem dX1_fewest_92 : decode cX1_fewest 92 = .ok (.iinc 3 1, 3) := dk_132 3 1 (dk_at dksX1_fewest_4 0 rfl rfl)
theorem dX1_fewest_95 : decode cX1_fewest 95 = .ok (.goto (-60), 3) := dk_167 255 196 (dk_at dksX1_fewest_4 3 rfl rfl)
theorem dX1_fewest_98 : decode cX1_fewest 98 = .ok (.iinc 2 (-1), 3) := dk_132 2 255 (dk_at dksX1_fewest_4 6 rfl rfl)
theorem dX1_fewest_101 : decode cX1_fewest 101 = .ok (.goto (-79), 3) := dk_167 255 177 (dk_at dksX1_fewest_4 9 rfl rfl)
theorem dX1_fewest_104 : decode cX1_fewest 104 = .ok (.aload_n 1, 1) := dk_43 (dk_at dksX1_fewest_4 12 rfl rfl)
theorem dX1_fewest_105 : decode cX1_fewest 105 = .ok (.iconst 0, 1) := dk_3 (dk_at dksX1_fewest_4 13 rfl rfl)
theorem dX1_fewest_106 : decode cX1_fewest 106 = .ok (.iaload, 1) := dk_46 (dk_at dksX1_fewest_4 14 rfl rfl)
theorem dX1_fewest_107 : decode cX1_fewest 107 = .ok (.bipush 99, 2) := dk_16 99 (dk_at dksX1_fewest_4 15 rfl rfl)
theorem dX1_fewest_109 : decode cX1_fewest 109 = .ok (.if_icmp .ne 7, 3) := dk_160 0 7 (dk_at dksX1_fewest_4 17 rfl rfl)
theorem dX1_fewest_112 : decode cX1_fewest 112 = .ok (.iconst (-1), 1) := dk_2 (dk_at dksX1_fewest_4 20 rfl rfl)
theorem dX1_fewest_113 : decode cX1_fewest 113 = .ok (.goto 6, 3) := dk_167 0 6 (dk_at dksX1_fewest_4 21 rfl rfl)
theorem dX1_fewest_116 : decode cX1_fewest 116 = .ok (.aload_n 1, 1) := dk_43 (dk_at dksX1_fewest_5 0 rfl rfl)
theorem dX1_fewest_117 : decode cX1_fewest 117 = .ok (.iconst 0, 1) := dk_3 (dk_at dksX1_fewest_5 1 rfl rfl)
theorem dX1_fewest_118 : decode cX1_fewest 118 = .ok (.iaload, 1) := dk_46 (dk_at dksX1_fewest_5 2 rfl rfl)
theorem dX1_fewest_119 : decode cX1_fewest 119 = .ok (.ireturn, 1) := dk_172 (dk_at dksX1_fewest_5 3 rfl rfl)
abbrev cX1_isTrue : ByteArray := prog_1_method_46_code
def yX1_isTrue : MethodName := ⟨RX1, "isTrue", "()Z"⟩
def dkwX1_isTrue_7 : List UInt8 := [4, 167, 0, 4, 3, 172]
abbrev dktX1_isTrue_7 : List UInt8 := dkwX1_isTrue_7 ++ []
def dkwX1_isTrue_6 : List UInt8 := [182, 1, 13, 153, 0, 25, 29, 155, 0, 17, 21, 4, 29, 159, 0, 11, 42, 43, 182, 1, 17, 154, 0, 7]
abbrev dktX1_isTrue_6 : List UInt8 := dkwX1_isTrue_6 ++ dktX1_isTrue_7
def dkwX1_isTrue_5 : List UInt8 := [160, 0, 18, 21, 4, 155, 0, 15, 29, 155, 0, 9, 29, 21, 4, 164, 0, 5, 3, 172, 42, 43]
abbrev dktX1_isTrue_5 : List UInt8 := dkwX1_isTrue_5 ++ dktX1_isTrue_6
def dkwX1_isTrue_4 : List UInt8 := [156, 0, 7, 4, 167, 0, 4, 3, 42, 182, 1, 9, 9, 148, 154, 0, 7, 4, 167, 0, 4, 3]
abbrev dktX1_isTrue_4 : List UInt8 := dkwX1_isTrue_4 ++ dktX1_isTrue_5
def dkwX1_isTrue_3 : List UInt8 := [154, 0, 5, 3, 172, 132, 3, 1, 167, 255, 230, 42, 182, 1, 3, 62, 42, 182, 1, 6, 54, 4, 29]
abbrev dktX1_isTrue_3 : List UInt8 := dkwX1_isTrue_3 ++ dktX1_isTrue_4
def dkwX1_isTrue_2 : List UInt8 := [167, 255, 223, 3, 62, 29, 44, 182, 0, 151, 163, 0, 24, 42, 43, 44, 29, 182, 0, 247, 182, 1, 0]
abbrev dktX1_isTrue_2 : List UInt8 := dkwX1_isTrue_2 ++ dktX1_isTrue_3
def dkwX1_isTrue_1 : List UInt8 := [16, 10, 163, 0, 25, 42, 43, 44, 3, 29, 182, 0, 31, 182, 0, 252, 154, 0, 5, 3, 172, 132, 3, 1]
abbrev dktX1_isTrue_1 : List UInt8 := dkwX1_isTrue_1 ++ dktX1_isTrue_2
def dkwX1_isTrue_0 : List UInt8 := [42, 182, 0, 248, 76, 42, 180, 0, 10, 182, 0, 76, 77, 3, 62, 29, 44, 182, 0, 151, 163, 0, 31, 29]
abbrev dktX1_isTrue_0 : List UInt8 := dkwX1_isTrue_0 ++ dktX1_isTrue_1
theorem dksX1_isTrue_0 : cX1_isTrue.data.toList.drop 0 = dktX1_isTrue_0 := by decide +kernel
theorem dksX1_isTrue_1 : cX1_isTrue.data.toList.drop 24 = dktX1_isTrue_1 := dk_seg dksX1_isTrue_0 24 rfl rfl
theorem dksX1_isTrue_2 : cX1_isTrue.data.toList.drop 48 = dktX1_isTrue_2 := dk_seg dksX1_isTrue_1 24 rfl rfl
theorem dksX1_isTrue_3 : cX1_isTrue.data.toList.drop 71 = dktX1_isTrue_3 := dk_seg dksX1_isTrue_2 23 rfl rfl
theorem dksX1_isTrue_4 : cX1_isTrue.data.toList.drop 94 = dktX1_isTrue_4 := dk_seg dksX1_isTrue_3 23 rfl rfl
theorem dksX1_isTrue_5 : cX1_isTrue.data.toList.drop 116 = dktX1_isTrue_5 := dk_seg dksX1_isTrue_4 22 rfl rfl
theorem dksX1_isTrue_6 : cX1_isTrue.data.toList.drop 138 = dktX1_isTrue_6 := dk_seg dksX1_isTrue_5 22 rfl rfl
theorem dksX1_isTrue_7 : cX1_isTrue.data.toList.drop 162 = dktX1_isTrue_7 := dk_seg dksX1_isTrue_6 24 rfl rfl
theorem dX1_isTrue_0 : decode cX1_isTrue 0 = .ok (.aload_n 0, 1) := dk_42 (dk_at dksX1_isTrue_0 0 rfl rfl)
theorem dX1_isTrue_1 : decode cX1_isTrue 1 = .ok (.invokevirtual 248, 3) := dk_182 0 248 (dk_at dksX1_isTrue_0 1 rfl rfl)
theorem dX1_isTrue_4 : decode cX1_isTrue 4 = .ok (.astore_n 1, 1) := dk_76 (dk_at dksX1_isTrue_0 4 rfl rfl)
theorem dX1_isTrue_5 : decode cX1_isTrue 5 = .ok (.aload_n 0, 1) := dk_42 (dk_at dksX1_isTrue_0 5 rfl rfl)
theorem dX1_isTrue_6 : decode cX1_isTrue 6 = .ok (.getfield 10, 3) := dk_180 0 10 (dk_at dksX1_isTrue_0 6 rfl rfl)
theorem dX1_isTrue_9 : decode cX1_isTrue 9 = .ok (.invokevirtual 76, 3) := dk_182 0 76 (dk_at dksX1_isTrue_0 9 rfl rfl)
theorem dX1_isTrue_12 : decode cX1_isTrue 12 = .ok (.astore_n 2, 1) := dk_77 (dk_at dksX1_isTrue_0 12 rfl rfl)
theorem dX1_isTrue_13 : decode cX1_isTrue 13 = .ok (.iconst 0, 1) := dk_3 (dk_at dksX1_isTrue_0 13 rfl rfl)
theorem dX1_isTrue_14 : decode cX1_isTrue 14 = .ok (.istore_n 3, 1) := dk_62 (dk_at dksX1_isTrue_0 14 rfl rfl)
theorem dX1_isTrue_15 : decode cX1_isTrue 15 = .ok (.iload_n 3, 1) := dk_29 (dk_at dksX1_isTrue_0 15 rfl rfl)
theorem dX1_isTrue_16 : decode cX1_isTrue 16 = .ok (.aload_n 2, 1) := dk_44 (dk_at dksX1_isTrue_0 16 rfl rfl)
theorem dX1_isTrue_17 : decode cX1_isTrue 17 = .ok (.invokevirtual 151, 3) := dk_182 0 151 (dk_at dksX1_isTrue_0 17 rfl rfl)
theorem dX1_isTrue_20 : decode cX1_isTrue 20 = .ok (.if_icmp .gt 31, 3) := dk_163 0 31 (dk_at dksX1_isTrue_0 20 rfl rfl)
theorem dX1_isTrue_23 : decode cX1_isTrue 23 = .ok (.iload_n 3, 1) := dk_29 (dk_at dksX1_isTrue_0 23 rfl rfl)
theorem dX1_isTrue_24 : decode cX1_isTrue 24 = .ok (.bipush 10, 2) := dk_16 10 (dk_at dksX1_isTrue_1 0 rfl rfl)
theorem dX1_isTrue_26 : decode cX1_isTrue 26 = .ok (.if_icmp .gt 25, 3) := dk_163 0 25 (dk_at dksX1_isTrue_1 2 rfl rfl)
theorem dX1_isTrue_29 : decode cX1_isTrue 29 = .ok (.aload_n 0, 1) := dk_42 (dk_at dksX1_isTrue_1 5 rfl rfl)
theorem dX1_isTrue_30 : decode cX1_isTrue 30 = .ok (.aload_n 1, 1) := dk_43 (dk_at dksX1_isTrue_1 6 rfl rfl)
theorem dX1_isTrue_31 : decode cX1_isTrue 31 = .ok (.aload_n 2, 1) := dk_44 (dk_at dksX1_isTrue_1 7 rfl rfl)
theorem dX1_isTrue_32 : decode cX1_isTrue 32 = .ok (.iconst 0, 1) := dk_3 (dk_at dksX1_isTrue_1 8 rfl rfl)
theorem dX1_isTrue_33 : decode cX1_isTrue 33 = .ok (.iload_n 3, 1) := dk_29 (dk_at dksX1_isTrue_1 9 rfl rfl)
theorem dX1_isTrue_34 : decode cX1_isTrue 34 = .ok (.invokevirtual 31, 3) := dk_182 0 31 (dk_at dksX1_isTrue_1 10 rfl rfl)
theorem dX1_isTrue_37 : decode cX1_isTrue 37 = .ok (.invokevirtual 252, 3) := dk_182 0 252 (dk_at dksX1_isTrue_1 13 rfl rfl)
theorem dX1_isTrue_40 : decode cX1_isTrue 40 = .ok (.ifCond .ne 5, 3) := dk_154 0 5 (dk_at dksX1_isTrue_1 16 rfl rfl)
theorem dX1_isTrue_43 : decode cX1_isTrue 43 = .ok (.iconst 0, 1) := dk_3 (dk_at dksX1_isTrue_1 19 rfl rfl)
theorem dX1_isTrue_44 : decode cX1_isTrue 44 = .ok (.ireturn, 1) := dk_172 (dk_at dksX1_isTrue_1 20 rfl rfl)
theorem dX1_isTrue_45 : decode cX1_isTrue 45 = .ok (.iinc 3 1, 3) := dk_132 3 1 (dk_at dksX1_isTrue_1 21 rfl rfl)
theorem dX1_isTrue_48 : decode cX1_isTrue 48 = .ok (.goto (-33), 3) := dk_167 255 223 (dk_at dksX1_isTrue_2 0 rfl rfl)
theorem dX1_isTrue_51 : decode cX1_isTrue 51 = .ok (.iconst 0, 1) := dk_3 (dk_at dksX1_isTrue_2 3 rfl rfl)
theorem dX1_isTrue_52 : decode cX1_isTrue 52 = .ok (.istore_n 3, 1) := dk_62 (dk_at dksX1_isTrue_2 4 rfl rfl)
theorem dX1_isTrue_53 : decode cX1_isTrue 53 = .ok (.iload_n 3, 1) := dk_29 (dk_at dksX1_isTrue_2 5 rfl rfl)
theorem dX1_isTrue_54 : decode cX1_isTrue 54 = .ok (.aload_n 2, 1) := dk_44 (dk_at dksX1_isTrue_2 6 rfl rfl)
theorem dX1_isTrue_55 : decode cX1_isTrue 55 = .ok (.invokevirtual 151, 3) := dk_182 0 151 (dk_at dksX1_isTrue_2 7 rfl rfl)
theorem dX1_isTrue_58 : decode cX1_isTrue 58 = .ok (.if_icmp .gt 24, 3) := dk_163 0 24 (dk_at dksX1_isTrue_2 10 rfl rfl)
theorem dX1_isTrue_61 : decode cX1_isTrue 61 = .ok (.aload_n 0, 1) := dk_42 (dk_at dksX1_isTrue_2 13 rfl rfl)
theorem dX1_isTrue_62 : decode cX1_isTrue 62 = .ok (.aload_n 1, 1) := dk_43 (dk_at dksX1_isTrue_2 14 rfl rfl)
theorem dX1_isTrue_63 : decode cX1_isTrue 63 = .ok (.aload_n 2, 1) := dk_44 (dk_at dksX1_isTrue_2 15 rfl rfl)
theorem dX1_isTrue_64 : decode cX1_isTrue 64 = .ok (.iload_n 3, 1) := dk_29 (dk_at dksX1_isTrue_2 16 rfl rfl)
theorem dX1_isTrue_65 : decode cX1_isTrue 65 = .ok (.invokevirtual 247, 3) := dk_182 0 247 (dk_at dksX1_isTrue_2 17 rfl rfl)
theorem dX1_isTrue_68 : decode cX1_isTrue 68 = .ok (.invokevirtual 256, 3) := dk_182 1 0 (dk_at dksX1_isTrue_2 20 rfl rfl)
theorem dX1_isTrue_71 : decode cX1_isTrue 71 = .ok (.ifCond .ne 5, 3) := dk_154 0 5 (dk_at dksX1_isTrue_3 0 rfl rfl)
theorem dX1_isTrue_74 : decode cX1_isTrue 74 = .ok (.iconst 0, 1) := dk_3 (dk_at dksX1_isTrue_3 3 rfl rfl)
theorem dX1_isTrue_75 : decode cX1_isTrue 75 = .ok (.ireturn, 1) := dk_172 (dk_at dksX1_isTrue_3 4 rfl rfl)
theorem dX1_isTrue_76 : decode cX1_isTrue 76 = .ok (.iinc 3 1, 3) := dk_132 3 1 (dk_at dksX1_isTrue_3 5 rfl rfl)
theorem dX1_isTrue_79 : decode cX1_isTrue 79 = .ok (.goto (-26), 3) := dk_167 255 230 (dk_at dksX1_isTrue_3 8 rfl rfl)
theorem dX1_isTrue_82 : decode cX1_isTrue 82 = .ok (.aload_n 0, 1) := dk_42 (dk_at dksX1_isTrue_3 11 rfl rfl)
theorem dX1_isTrue_83 : decode cX1_isTrue 83 = .ok (.invokevirtual 259, 3) := dk_182 1 3 (dk_at dksX1_isTrue_3 12 rfl rfl)
theorem dX1_isTrue_86 : decode cX1_isTrue 86 = .ok (.istore_n 3, 1) := dk_62 (dk_at dksX1_isTrue_3 15 rfl rfl)
theorem dX1_isTrue_87 : decode cX1_isTrue 87 = .ok (.aload_n 0, 1) := dk_42 (dk_at dksX1_isTrue_3 16 rfl rfl)
theorem dX1_isTrue_88 : decode cX1_isTrue 88 = .ok (.invokevirtual 262, 3) := dk_182 1 6 (dk_at dksX1_isTrue_3 17 rfl rfl)
theorem dX1_isTrue_91 : decode cX1_isTrue 91 = .ok (.istore 4, 2) := dk_54 4 (dk_at dksX1_isTrue_3 20 rfl rfl)
theorem dX1_isTrue_93 : decode cX1_isTrue 93 = .ok (.iload_n 3, 1) := dk_29 (dk_at dksX1_isTrue_3 22 rfl rfl)
theorem dX1_isTrue_94 : decode cX1_isTrue 94 = .ok (.ifCond .ge 7, 3) := dk_156 0 7 (dk_at dksX1_isTrue_4 0 rfl rfl)
theorem dX1_isTrue_97 : decode cX1_isTrue 97 = .ok (.iconst 1, 1) := dk_4 (dk_at dksX1_isTrue_4 3 rfl rfl)
theorem dX1_isTrue_98 : decode cX1_isTrue 98 = .ok (.goto 4, 3) := dk_167 0 4 (dk_at dksX1_isTrue_4 4 rfl rfl)
theorem dX1_isTrue_101 : decode cX1_isTrue 101 = .ok (.iconst 0, 1) := dk_3 (dk_at dksX1_isTrue_4 7 rfl rfl)
theorem dX1_isTrue_102 : decode cX1_isTrue 102 = .ok (.aload_n 0, 1) := dk_42 (dk_at dksX1_isTrue_4 8 rfl rfl)
theorem dX1_isTrue_103 : decode cX1_isTrue 103 = .ok (.invokevirtual 265, 3) := dk_182 1 9 (dk_at dksX1_isTrue_4 9 rfl rfl)
theorem dX1_isTrue_106 : decode cX1_isTrue 106 = .ok (.lconst 0, 1) := dk_9 (dk_at dksX1_isTrue_4 12 rfl rfl)
theorem dX1_isTrue_107 : decode cX1_isTrue 107 = .ok (.lcmp, 1) := dk_148 (dk_at dksX1_isTrue_4 13 rfl rfl)
theorem dX1_isTrue_108 : decode cX1_isTrue 108 = .ok (.ifCond .ne 7, 3) := dk_154 0 7 (dk_at dksX1_isTrue_4 14 rfl rfl)
theorem dX1_isTrue_111 : decode cX1_isTrue 111 = .ok (.iconst 1, 1) := dk_4 (dk_at dksX1_isTrue_4 17 rfl rfl)
theorem dX1_isTrue_112 : decode cX1_isTrue 112 = .ok (.goto 4, 3) := dk_167 0 4 (dk_at dksX1_isTrue_4 18 rfl rfl)
theorem dX1_isTrue_115 : decode cX1_isTrue 115 = .ok (.iconst 0, 1) := dk_3 (dk_at dksX1_isTrue_4 21 rfl rfl)
theorem dX1_isTrue_116 : decode cX1_isTrue 116 = .ok (.if_icmp .ne 18, 3) := dk_160 0 18 (dk_at dksX1_isTrue_5 0 rfl rfl)
theorem dX1_isTrue_119 : decode cX1_isTrue 119 = .ok (.iload 4, 2) := dk_21 4 (dk_at dksX1_isTrue_5 3 rfl rfl)
theorem dX1_isTrue_121 : decode cX1_isTrue 121 = .ok (.ifCond .lt 15, 3) := dk_155 0 15 (dk_at dksX1_isTrue_5 5 rfl rfl)
theorem dX1_isTrue_124 : decode cX1_isTrue 124 = .ok (.iload_n 3, 1) := dk_29 (dk_at dksX1_isTrue_5 8 rfl rfl)
theorem dX1_isTrue_125 : decode cX1_isTrue 125 = .ok (.ifCond .lt 9, 3) := dk_155 0 9 (dk_at dksX1_isTrue_5 9 rfl rfl)
theorem dX1_isTrue_128 : decode cX1_isTrue 128 = .ok (.iload_n 3, 1) := dk_29 (dk_at dksX1_isTrue_5 12 rfl rfl)
theorem dX1_isTrue_129 : decode cX1_isTrue 129 = .ok (.iload 4, 2) := dk_21 4 (dk_at dksX1_isTrue_5 13 rfl rfl)
theorem dX1_isTrue_131 : decode cX1_isTrue 131 = .ok (.if_icmp .le 5, 3) := dk_164 0 5 (dk_at dksX1_isTrue_5 15 rfl rfl)
theorem dX1_isTrue_134 : decode cX1_isTrue 134 = .ok (.iconst 0, 1) := dk_3 (dk_at dksX1_isTrue_5 18 rfl rfl)
theorem dX1_isTrue_135 : decode cX1_isTrue 135 = .ok (.ireturn, 1) := dk_172 (dk_at dksX1_isTrue_5 19 rfl rfl)
theorem dX1_isTrue_136 : decode cX1_isTrue 136 = .ok (.aload_n 0, 1) := dk_42 (dk_at dksX1_isTrue_5 20 rfl rfl)
theorem dX1_isTrue_137 : decode cX1_isTrue 137 = .ok (.aload_n 1, 1) := dk_43 (dk_at dksX1_isTrue_5 21 rfl rfl)
theorem dX1_isTrue_138 : decode cX1_isTrue 138 = .ok (.invokevirtual 269, 3) := dk_182 1 13 (dk_at dksX1_isTrue_6 0 rfl rfl)
theorem dX1_isTrue_141 : decode cX1_isTrue 141 = .ok (.ifCond .eq 25, 3) := dk_153 0 25 (dk_at dksX1_isTrue_6 3 rfl rfl)
theorem dX1_isTrue_144 : decode cX1_isTrue 144 = .ok (.iload_n 3, 1) := dk_29 (dk_at dksX1_isTrue_6 6 rfl rfl)
theorem dX1_isTrue_145 : decode cX1_isTrue 145 = .ok (.ifCond .lt 17, 3) := dk_155 0 17 (dk_at dksX1_isTrue_6 7 rfl rfl)
theorem dX1_isTrue_148 : decode cX1_isTrue 148 = .ok (.iload 4, 2) := dk_21 4 (dk_at dksX1_isTrue_6 10 rfl rfl)
theorem dX1_isTrue_150 : decode cX1_isTrue 150 = .ok (.iload_n 3, 1) := dk_29 (dk_at dksX1_isTrue_6 12 rfl rfl)
theorem dX1_isTrue_151 : decode cX1_isTrue 151 = .ok (.if_icmp .eq 11, 3) := dk_159 0 11 (dk_at dksX1_isTrue_6 13 rfl rfl)
theorem dX1_isTrue_154 : decode cX1_isTrue 154 = .ok (.aload_n 0, 1) := dk_42 (dk_at dksX1_isTrue_6 16 rfl rfl)
theorem dX1_isTrue_155 : decode cX1_isTrue 155 = .ok (.aload_n 1, 1) := dk_43 (dk_at dksX1_isTrue_6 17 rfl rfl)
theorem dX1_isTrue_156 : decode cX1_isTrue 156 = .ok (.invokevirtual 273, 3) := dk_182 1 17 (dk_at dksX1_isTrue_6 18 rfl rfl)
theorem dX1_isTrue_159 : decode cX1_isTrue 159 = .ok (.ifCond .ne 7, 3) := dk_154 0 7 (dk_at dksX1_isTrue_6 21 rfl rfl)
theorem dX1_isTrue_162 : decode cX1_isTrue 162 = .ok (.iconst 1, 1) := dk_4 (dk_at dksX1_isTrue_7 0 rfl rfl)
theorem dX1_isTrue_163 : decode cX1_isTrue 163 = .ok (.goto 4, 3) := dk_167 0 4 (dk_at dksX1_isTrue_7 1 rfl rfl)
theorem dX1_isTrue_166 : decode cX1_isTrue 166 = .ok (.iconst 0, 1) := dk_3 (dk_at dksX1_isTrue_7 4 rfl rfl)
theorem dX1_isTrue_167 : decode cX1_isTrue 167 = .ok (.ireturn, 1) := dk_172 (dk_at dksX1_isTrue_7 5 rfl rfl)
abbrev cX1_all : ByteArray := prog_1_method_40_code
def yX1_all : MethodName := ⟨RX1, "all", "()[Ljava/lang/String;"⟩
def dkwX1_all_2 : List UInt8 := [58, 4, 43, 28, 25, 4, 83, 132, 2, 1, 167, 255, 228, 43, 176]
abbrev dktX1_all_2 : List UInt8 := dkwX1_all_2 ++ []
def dkwX1_all_1 : List UInt8 := [185, 0, 135, 1, 0, 78, 45, 185, 0, 198, 1, 0, 153, 0, 25, 45, 185, 0, 141, 1, 0, 192, 0, 23]
abbrev dktX1_all_1 : List UInt8 := dkwX1_all_1 ++ dktX1_all_2
def dkwX1_all_0 : List UInt8 := [42, 180, 0, 19, 182, 0, 98, 189, 0, 23, 76, 3, 61, 42, 180, 0, 19, 182, 0, 131]
abbrev dktX1_all_0 : List UInt8 := dkwX1_all_0 ++ dktX1_all_1
theorem dksX1_all_0 : cX1_all.data.toList.drop 0 = dktX1_all_0 := by decide +kernel
theorem dksX1_all_1 : cX1_all.data.toList.drop 20 = dktX1_all_1 := dk_seg dksX1_all_0 20 rfl rfl
theorem dksX1_all_2 : cX1_all.data.toList.drop 44 = dktX1_all_2 := dk_seg dksX1_all_1 24 rfl rfl
theorem dX1_all_0 : decode cX1_all 0 = .ok (.aload_n 0, 1) := dk_42 (dk_at dksX1_all_0 0 rfl rfl)
theorem dX1_all_1 : decode cX1_all 1 = .ok (.getfield 19, 3) := dk_180 0 19 (dk_at dksX1_all_0 1 rfl rfl)
theorem dX1_all_4 : decode cX1_all 4 = .ok (.invokevirtual 98, 3) := dk_182 0 98 (dk_at dksX1_all_0 4 rfl rfl)
theorem dX1_all_7 : decode cX1_all 7 = .ok (.anewarray 23, 3) := dk_189 0 23 (dk_at dksX1_all_0 7 rfl rfl)
theorem dX1_all_10 : decode cX1_all 10 = .ok (.astore_n 1, 1) := dk_76 (dk_at dksX1_all_0 10 rfl rfl)
theorem dX1_all_11 : decode cX1_all 11 = .ok (.iconst 0, 1) := dk_3 (dk_at dksX1_all_0 11 rfl rfl)
theorem dX1_all_12 : decode cX1_all 12 = .ok (.istore_n 2, 1) := dk_61 (dk_at dksX1_all_0 12 rfl rfl)
theorem dX1_all_13 : decode cX1_all 13 = .ok (.aload_n 0, 1) := dk_42 (dk_at dksX1_all_0 13 rfl rfl)
theorem dX1_all_14 : decode cX1_all 14 = .ok (.getfield 19, 3) := dk_180 0 19 (dk_at dksX1_all_0 14 rfl rfl)
theorem dX1_all_17 : decode cX1_all 17 = .ok (.invokevirtual 131, 3) := dk_182 0 131 (dk_at dksX1_all_0 17 rfl rfl)
theorem dX1_all_20 : decode cX1_all 20 = .ok (.invokeinterface 135 1, 5) := by decide +kernel
theorem dX1_all_25 : decode cX1_all 25 = .ok (.astore_n 3, 1) := dk_78 (dk_at dksX1_all_1 5 rfl rfl)
theorem dX1_all_26 : decode cX1_all 26 = .ok (.aload_n 3, 1) := dk_45 (dk_at dksX1_all_1 6 rfl rfl)
theorem dX1_all_27 : decode cX1_all 27 = .ok (.invokeinterface 198 1, 5) := by decide +kernel
theorem dX1_all_32 : decode cX1_all 32 = .ok (.ifCond .eq 25, 3) := dk_153 0 25 (dk_at dksX1_all_1 12 rfl rfl)
theorem dX1_all_35 : decode cX1_all 35 = .ok (.aload_n 3, 1) := dk_45 (dk_at dksX1_all_1 15 rfl rfl)
theorem dX1_all_36 : decode cX1_all 36 = .ok (.invokeinterface 141 1, 5) := by decide +kernel
theorem dX1_all_41 : decode cX1_all 41 = .ok (.checkcast 23, 3) := dk_192 0 23 (dk_at dksX1_all_1 21 rfl rfl)
theorem dX1_all_44 : decode cX1_all 44 = .ok (.astore 4, 2) := dk_58 4 (dk_at dksX1_all_2 0 rfl rfl)
theorem dX1_all_46 : decode cX1_all 46 = .ok (.aload_n 1, 1) := dk_43 (dk_at dksX1_all_2 2 rfl rfl)
theorem dX1_all_47 : decode cX1_all 47 = .ok (.iload_n 2, 1) := dk_28 (dk_at dksX1_all_2 3 rfl rfl)
theorem dX1_all_48 : decode cX1_all 48 = .ok (.aload 4, 2) := dk_25 4 (dk_at dksX1_all_2 4 rfl rfl)
theorem dX1_all_50 : decode cX1_all 50 = .ok (.aastore, 1) := dk_83 (dk_at dksX1_all_2 6 rfl rfl)
theorem dX1_all_51 : decode cX1_all 51 = .ok (.iinc 2 1, 3) := dk_132 2 1 (dk_at dksX1_all_2 7 rfl rfl)
theorem dX1_all_54 : decode cX1_all 54 = .ok (.goto (-28), 3) := dk_167 255 228 (dk_at dksX1_all_2 10 rfl rfl)
theorem dX1_all_57 : decode cX1_all 57 = .ok (.aload_n 1, 1) := dk_43 (dk_at dksX1_all_2 13 rfl rfl)
theorem dX1_all_58 : decode cX1_all 58 = .ok (.areturn, 1) := dk_176 (dk_at dksX1_all_2 14 rfl rfl)
abbrev cX1_isSpan : ByteArray := prog_1_method_42_code
def yX1_isSpan : MethodName := ⟨RX1, "isSpan", "([Ljava/lang/String;Ljava/lang/String;)Z"⟩
def dkwX1_isSpan_2 : List UInt8 := [21, 4, 96, 162, 0, 7, 4, 167, 0, 4, 3, 159, 0, 5, 3, 172, 132, 5, 1, 167, 255, 213, 4, 172]
abbrev dktX1_isSpan_2 : List UInt8 := dkwX1_isSpan_2 ++ []
def dkwX1_isSpan_1 : List UInt8 := [21, 5, 43, 190, 162, 0, 42, 43, 21, 5, 50, 44, 184, 0, 240, 21, 5, 29, 161, 0, 16, 21, 5, 29]
abbrev dktX1_isSpan_1 : List UInt8 := dkwX1_isSpan_1 ++ dktX1_isSpan_2
def dkwX1_isSpan_0 : List UInt8 := [42, 180, 0, 19, 44, 182, 0, 124, 185, 0, 128, 1, 0, 62, 42, 44, 182, 0, 172, 54, 4, 3, 54, 5]
abbrev dktX1_isSpan_0 : List UInt8 := dkwX1_isSpan_0 ++ dktX1_isSpan_1
theorem dksX1_isSpan_0 : cX1_isSpan.data.toList.drop 0 = dktX1_isSpan_0 := by decide +kernel
theorem dksX1_isSpan_1 : cX1_isSpan.data.toList.drop 24 = dktX1_isSpan_1 := dk_seg dksX1_isSpan_0 24 rfl rfl
theorem dksX1_isSpan_2 : cX1_isSpan.data.toList.drop 48 = dktX1_isSpan_2 := dk_seg dksX1_isSpan_1 24 rfl rfl
theorem dX1_isSpan_0 : decode cX1_isSpan 0 = .ok (.aload_n 0, 1) := dk_42 (dk_at dksX1_isSpan_0 0 rfl rfl)
theorem dX1_isSpan_1 : decode cX1_isSpan 1 = .ok (.getfield 19, 3) := dk_180 0 19 (dk_at dksX1_isSpan_0 1 rfl rfl)
theorem dX1_isSpan_4 : decode cX1_isSpan 4 = .ok (.aload_n 2, 1) := dk_44 (dk_at dksX1_isSpan_0 4 rfl rfl)
theorem dX1_isSpan_5 : decode cX1_isSpan 5 = .ok (.invokevirtual 124, 3) := dk_182 0 124 (dk_at dksX1_isSpan_0 5 rfl rfl)
theorem dX1_isSpan_8 : decode cX1_isSpan 8 = .ok (.invokeinterface 128 1, 5) := by decide +kernel
theorem dX1_isSpan_13 : decode cX1_isSpan 13 = .ok (.istore_n 3, 1) := dk_62 (dk_at dksX1_isSpan_0 13 rfl rfl)
theorem dX1_isSpan_14 : decode cX1_isSpan 14 = .ok (.aload_n 0, 1) := dk_42 (dk_at dksX1_isSpan_0 14 rfl rfl)
theorem dX1_isSpan_15 : decode cX1_isSpan 15 = .ok (.aload_n 2, 1) := dk_44 (dk_at dksX1_isSpan_0 15 rfl rfl)
theorem dX1_isSpan_16 : decode cX1_isSpan 16 = .ok (.invokevirtual 172, 3) := dk_182 0 172 (dk_at dksX1_isSpan_0 16 rfl rfl)
theorem dX1_isSpan_19 : decode cX1_isSpan 19 = .ok (.istore 4, 2) := dk_54 4 (dk_at dksX1_isSpan_0 19 rfl rfl)
theorem dX1_isSpan_21 : decode cX1_isSpan 21 = .ok (.iconst 0, 1) := dk_3 (dk_at dksX1_isSpan_0 21 rfl rfl)
theorem dX1_isSpan_22 : decode cX1_isSpan 22 = .ok (.istore 5, 2) := dk_54 5 (dk_at dksX1_isSpan_0 22 rfl rfl)
theorem dX1_isSpan_24 : decode cX1_isSpan 24 = .ok (.iload 5, 2) := dk_21 5 (dk_at dksX1_isSpan_1 0 rfl rfl)
theorem dX1_isSpan_26 : decode cX1_isSpan 26 = .ok (.aload_n 1, 1) := dk_43 (dk_at dksX1_isSpan_1 2 rfl rfl)
theorem dX1_isSpan_27 : decode cX1_isSpan 27 = .ok (.arraylength, 1) := dk_190 (dk_at dksX1_isSpan_1 3 rfl rfl)
theorem dX1_isSpan_28 : decode cX1_isSpan 28 = .ok (.if_icmp .ge 42, 3) := dk_162 0 42 (dk_at dksX1_isSpan_1 4 rfl rfl)
theorem dX1_isSpan_31 : decode cX1_isSpan 31 = .ok (.aload_n 1, 1) := dk_43 (dk_at dksX1_isSpan_1 7 rfl rfl)
theorem dX1_isSpan_32 : decode cX1_isSpan 32 = .ok (.iload 5, 2) := dk_21 5 (dk_at dksX1_isSpan_1 8 rfl rfl)
theorem dX1_isSpan_34 : decode cX1_isSpan 34 = .ok (.aaload, 1) := dk_50 (dk_at dksX1_isSpan_1 10 rfl rfl)
theorem dX1_isSpan_35 : decode cX1_isSpan 35 = .ok (.aload_n 2, 1) := dk_44 (dk_at dksX1_isSpan_1 11 rfl rfl)
theorem dX1_isSpan_36 : decode cX1_isSpan 36 = .ok (.invokestatic 240, 3) := dk_184 0 240 (dk_at dksX1_isSpan_1 12 rfl rfl)
theorem dX1_isSpan_39 : decode cX1_isSpan 39 = .ok (.iload 5, 2) := dk_21 5 (dk_at dksX1_isSpan_1 15 rfl rfl)
theorem dX1_isSpan_41 : decode cX1_isSpan 41 = .ok (.iload_n 3, 1) := dk_29 (dk_at dksX1_isSpan_1 17 rfl rfl)
theorem dX1_isSpan_42 : decode cX1_isSpan 42 = .ok (.if_icmp .lt 16, 3) := dk_161 0 16 (dk_at dksX1_isSpan_1 18 rfl rfl)
theorem dX1_isSpan_45 : decode cX1_isSpan 45 = .ok (.iload 5, 2) := dk_21 5 (dk_at dksX1_isSpan_1 21 rfl rfl)
theorem dX1_isSpan_47 : decode cX1_isSpan 47 = .ok (.iload_n 3, 1) := dk_29 (dk_at dksX1_isSpan_1 23 rfl rfl)
theorem dX1_isSpan_48 : decode cX1_isSpan 48 = .ok (.iload 4, 2) := dk_21 4 (dk_at dksX1_isSpan_2 0 rfl rfl)
theorem dX1_isSpan_50 : decode cX1_isSpan 50 = .ok (.iadd, 1) := dk_96 (dk_at dksX1_isSpan_2 2 rfl rfl)
theorem dX1_isSpan_51 : decode cX1_isSpan 51 = .ok (.if_icmp .ge 7, 3) := dk_162 0 7 (dk_at dksX1_isSpan_2 3 rfl rfl)
theorem dX1_isSpan_54 : decode cX1_isSpan 54 = .ok (.iconst 1, 1) := dk_4 (dk_at dksX1_isSpan_2 6 rfl rfl)
theorem dX1_isSpan_55 : decode cX1_isSpan 55 = .ok (.goto 4, 3) := dk_167 0 4 (dk_at dksX1_isSpan_2 7 rfl rfl)
theorem dX1_isSpan_58 : decode cX1_isSpan 58 = .ok (.iconst 0, 1) := dk_3 (dk_at dksX1_isSpan_2 10 rfl rfl)
theorem dX1_isSpan_59 : decode cX1_isSpan 59 = .ok (.if_icmp .eq 5, 3) := dk_159 0 5 (dk_at dksX1_isSpan_2 11 rfl rfl)
theorem dX1_isSpan_62 : decode cX1_isSpan 62 = .ok (.iconst 0, 1) := dk_3 (dk_at dksX1_isSpan_2 14 rfl rfl)
theorem dX1_isSpan_63 : decode cX1_isSpan 63 = .ok (.ireturn, 1) := dk_172 (dk_at dksX1_isSpan_2 15 rfl rfl)
theorem dX1_isSpan_64 : decode cX1_isSpan 64 = .ok (.iinc 5 1, 3) := dk_132 5 1 (dk_at dksX1_isSpan_2 16 rfl rfl)
theorem dX1_isSpan_67 : decode cX1_isSpan 67 = .ok (.goto (-43), 3) := dk_167 255 213 (dk_at dksX1_isSpan_2 19 rfl rfl)
theorem dX1_isSpan_70 : decode cX1_isSpan 70 = .ok (.iconst 1, 1) := dk_4 (dk_at dksX1_isSpan_2 22 rfl rfl)
theorem dX1_isSpan_71 : decode cX1_isSpan 71 = .ok (.ireturn, 1) := dk_172 (dk_at dksX1_isSpan_2 23 rfl rfl)
abbrev cX1_begins : ByteArray := prog_1_method_41_code
def yX1_begins : MethodName := ⟨RX1, "begins", "(Ljava/lang/String;Ljava/lang/String;)Z"⟩
def dkwX1_begins_0 : List UInt8 := [42, 43, 184, 0, 209, 43, 182, 0, 151, 160, 0, 7, 4, 167, 0, 4, 3, 172]
abbrev dktX1_begins_0 : List UInt8 := dkwX1_begins_0 ++ []
theorem dksX1_begins_0 : cX1_begins.data.toList.drop 0 = dktX1_begins_0 := by decide +kernel
theorem dX1_begins_0 : decode cX1_begins 0 = .ok (.aload_n 0, 1) := dk_42 (dk_at dksX1_begins_0 0 rfl rfl)
theorem dX1_begins_1 : decode cX1_begins 1 = .ok (.aload_n 1, 1) := dk_43 (dk_at dksX1_begins_0 1 rfl rfl)
theorem dX1_begins_2 : decode cX1_begins 2 = .ok (.invokestatic 209, 3) := dk_184 0 209 (dk_at dksX1_begins_0 2 rfl rfl)
theorem dX1_begins_5 : decode cX1_begins 5 = .ok (.aload_n 1, 1) := dk_43 (dk_at dksX1_begins_0 5 rfl rfl)
theorem dX1_begins_6 : decode cX1_begins 6 = .ok (.invokevirtual 151, 3) := dk_182 0 151 (dk_at dksX1_begins_0 6 rfl rfl)
theorem dX1_begins_9 : decode cX1_begins 9 = .ok (.if_icmp .ne 7, 3) := dk_160 0 7 (dk_at dksX1_begins_0 9 rfl rfl)
theorem dX1_begins_12 : decode cX1_begins 12 = .ok (.iconst 1, 1) := dk_4 (dk_at dksX1_begins_0 12 rfl rfl)
theorem dX1_begins_13 : decode cX1_begins 13 = .ok (.goto 4, 3) := dk_167 0 4 (dk_at dksX1_begins_0 13 rfl rfl)
theorem dX1_begins_16 : decode cX1_begins 16 = .ok (.iconst 0, 1) := dk_3 (dk_at dksX1_begins_0 16 rfl rfl)
theorem dX1_begins_17 : decode cX1_begins 17 = .ok (.ireturn, 1) := dk_172 (dk_at dksX1_begins_0 17 rfl rfl)
abbrev cX1_isNear : ByteArray := prog_1_method_43_code
def yX1_isNear : MethodName := ⟨RX1, "isNear", "([Ljava/lang/String;Ljava/lang/String;)Z"⟩
def dkwX1_isNear_7 : List UInt8 := [21, 7, 167, 0, 5, 21, 8, 160, 0, 7, 4, 167, 0, 4, 3, 172]
abbrev dktX1_isNear_7 : List UInt8 := dkwX1_isNear_7 ++ []
def dkwX1_isNear_6 : List UInt8 := [54, 8, 42, 180, 0, 19, 44, 184, 0, 216, 29, 160, 0, 26, 21, 4, 21, 7, 21, 8, 164, 0, 8]
abbrev dktX1_isNear_6 : List UInt8 := dkwX1_isNear_6 ++ dktX1_isNear_7
def dkwX1_isNear_5 : List UInt8 := [25, 5, 44, 184, 0, 209, 54, 7, 25, 6, 199, 0, 7, 3, 167, 0, 9, 25, 6, 44, 184, 0, 209]
abbrev dktX1_isNear_5 : List UInt8 := dkwX1_isNear_5 ++ dktX1_isNear_6
def dkwX1_isNear_4 : List UInt8 := [58, 5, 42, 180, 0, 19, 44, 182, 0, 155, 192, 0, 23, 58, 6, 25, 5, 199, 0, 7, 3, 167, 0, 9]
abbrev dktX1_isNear_4 : List UInt8 := dkwX1_isNear_4 ++ dktX1_isNear_5
def dkwX1_isNear_3 : List UInt8 := [21, 9, 167, 0, 4, 29, 62, 132, 7, 1, 167, 255, 192, 42, 180, 0, 19, 44, 182, 0, 152, 192, 0, 23]
abbrev dktX1_isNear_3 : List UInt8 := dkwX1_isNear_3 ++ dktX1_isNear_4
def dkwX1_isNear_2 : List UInt8 := [167, 0, 5, 21, 4, 54, 4, 21, 9, 25, 8, 182, 0, 151, 160, 0, 14, 21, 9, 29, 164, 0, 8]
abbrev dktX1_isNear_2 : List UInt8 := dkwX1_isNear_2 ++ dktX1_isNear_3
def dkwX1_isNear_1 : List UInt8 := [25, 5, 21, 7, 50, 58, 8, 25, 8, 44, 184, 0, 209, 54, 9, 21, 9, 21, 4, 164, 0, 8, 21, 9]
abbrev dktX1_isNear_1 : List UInt8 := dkwX1_isNear_1 ++ dktX1_isNear_2
def dkwX1_isNear_0 : List UInt8 := [3, 62, 3, 54, 4, 43, 58, 5, 25, 5, 190, 54, 6, 3, 54, 7, 21, 7, 21, 6, 162, 0, 63]
abbrev dktX1_isNear_0 : List UInt8 := dkwX1_isNear_0 ++ dktX1_isNear_1
theorem dksX1_isNear_0 : cX1_isNear.data.toList.drop 0 = dktX1_isNear_0 := by decide +kernel
theorem dksX1_isNear_1 : cX1_isNear.data.toList.drop 23 = dktX1_isNear_1 := dk_seg dksX1_isNear_0 23 rfl rfl
theorem dksX1_isNear_2 : cX1_isNear.data.toList.drop 47 = dktX1_isNear_2 := dk_seg dksX1_isNear_1 24 rfl rfl
theorem dksX1_isNear_3 : cX1_isNear.data.toList.drop 70 = dktX1_isNear_3 := dk_seg dksX1_isNear_2 23 rfl rfl
theorem dksX1_isNear_4 : cX1_isNear.data.toList.drop 94 = dktX1_isNear_4 := dk_seg dksX1_isNear_3 24 rfl rfl
theorem dksX1_isNear_5 : cX1_isNear.data.toList.drop 118 = dktX1_isNear_5 := dk_seg dksX1_isNear_4 24 rfl rfl
theorem dksX1_isNear_6 : cX1_isNear.data.toList.drop 141 = dktX1_isNear_6 := dk_seg dksX1_isNear_5 23 rfl rfl
theorem dksX1_isNear_7 : cX1_isNear.data.toList.drop 164 = dktX1_isNear_7 := dk_seg dksX1_isNear_6 23 rfl rfl
theorem dX1_isNear_0 : decode cX1_isNear 0 = .ok (.iconst 0, 1) := dk_3 (dk_at dksX1_isNear_0 0 rfl rfl)
theorem dX1_isNear_1 : decode cX1_isNear 1 = .ok (.istore_n 3, 1) := dk_62 (dk_at dksX1_isNear_0 1 rfl rfl)
theorem dX1_isNear_2 : decode cX1_isNear 2 = .ok (.iconst 0, 1) := dk_3 (dk_at dksX1_isNear_0 2 rfl rfl)
theorem dX1_isNear_3 : decode cX1_isNear 3 = .ok (.istore 4, 2) := dk_54 4 (dk_at dksX1_isNear_0 3 rfl rfl)
theorem dX1_isNear_5 : decode cX1_isNear 5 = .ok (.aload_n 1, 1) := dk_43 (dk_at dksX1_isNear_0 5 rfl rfl)
theorem dX1_isNear_6 : decode cX1_isNear 6 = .ok (.astore 5, 2) := dk_58 5 (dk_at dksX1_isNear_0 6 rfl rfl)
theorem dX1_isNear_8 : decode cX1_isNear 8 = .ok (.aload 5, 2) := dk_25 5 (dk_at dksX1_isNear_0 8 rfl rfl)
theorem dX1_isNear_10 : decode cX1_isNear 10 = .ok (.arraylength, 1) := dk_190 (dk_at dksX1_isNear_0 10 rfl rfl)
theorem dX1_isNear_11 : decode cX1_isNear 11 = .ok (.istore 6, 2) := dk_54 6 (dk_at dksX1_isNear_0 11 rfl rfl)
theorem dX1_isNear_13 : decode cX1_isNear 13 = .ok (.iconst 0, 1) := dk_3 (dk_at dksX1_isNear_0 13 rfl rfl)
theorem dX1_isNear_14 : decode cX1_isNear 14 = .ok (.istore 7, 2) := dk_54 7 (dk_at dksX1_isNear_0 14 rfl rfl)
theorem dX1_isNear_16 : decode cX1_isNear 16 = .ok (.iload 7, 2) := dk_21 7 (dk_at dksX1_isNear_0 16 rfl rfl)
theorem dX1_isNear_18 : decode cX1_isNear 18 = .ok (.iload 6, 2) := dk_21 6 (dk_at dksX1_isNear_0 18 rfl rfl)
theorem dX1_isNear_20 : decode cX1_isNear 20 = .ok (.if_icmp .ge 63, 3) := dk_162 0 63 (dk_at dksX1_isNear_0 20 rfl rfl)
theorem dX1_isNear_23 : decode cX1_isNear 23 = .ok (.aload 5, 2) := dk_25 5 (dk_at dksX1_isNear_1 0 rfl rfl)
theorem dX1_isNear_25 : decode cX1_isNear 25 = .ok (.iload 7, 2) := dk_21 7 (dk_at dksX1_isNear_1 2 rfl rfl)
theorem dX1_isNear_27 : decode cX1_isNear 27 = .ok (.aaload, 1) := dk_50 (dk_at dksX1_isNear_1 4 rfl rfl)
theorem dX1_isNear_28 : decode cX1_isNear 28 = .ok (.astore 8, 2) := dk_58 8 (dk_at dksX1_isNear_1 5 rfl rfl)
theorem dX1_isNear_30 : decode cX1_isNear 30 = .ok (.aload 8, 2) := dk_25 8 (dk_at dksX1_isNear_1 7 rfl rfl)
theorem dX1_isNear_32 : decode cX1_isNear 32 = .ok (.aload_n 2, 1) := dk_44 (dk_at dksX1_isNear_1 9 rfl rfl)
theorem dX1_isNear_33 : decode cX1_isNear 33 = .ok (.invokestatic 209, 3) := dk_184 0 209 (dk_at dksX1_isNear_1 10 rfl rfl)
theorem dX1_isNear_36 : decode cX1_isNear 36 = .ok (.istore 9, 2) := dk_54 9 (dk_at dksX1_isNear_1 13 rfl rfl)
theorem dX1_isNear_38 : decode cX1_isNear 38 = .ok (.iload 9, 2) := dk_21 9 (dk_at dksX1_isNear_1 15 rfl rfl)
theorem dX1_isNear_40 : decode cX1_isNear 40 = .ok (.iload 4, 2) := dk_21 4 (dk_at dksX1_isNear_1 17 rfl rfl)
theorem dX1_isNear_42 : decode cX1_isNear 42 = .ok (.if_icmp .le 8, 3) := dk_164 0 8 (dk_at dksX1_isNear_1 19 rfl rfl)
theorem dX1_isNear_45 : decode cX1_isNear 45 = .ok (.iload 9, 2) := dk_21 9 (dk_at dksX1_isNear_1 22 rfl rfl)
theorem dX1_isNear_47 : decode cX1_isNear 47 = .ok (.goto 5, 3) := dk_167 0 5 (dk_at dksX1_isNear_2 0 rfl rfl)
theorem dX1_isNear_50 : decode cX1_isNear 50 = .ok (.iload 4, 2) := dk_21 4 (dk_at dksX1_isNear_2 3 rfl rfl)
theorem dX1_isNear_52 : decode cX1_isNear 52 = .ok (.istore 4, 2) := dk_54 4 (dk_at dksX1_isNear_2 5 rfl rfl)
theorem dX1_isNear_54 : decode cX1_isNear 54 = .ok (.iload 9, 2) := dk_21 9 (dk_at dksX1_isNear_2 7 rfl rfl)
theorem dX1_isNear_56 : decode cX1_isNear 56 = .ok (.aload 8, 2) := dk_25 8 (dk_at dksX1_isNear_2 9 rfl rfl)
theorem dX1_isNear_58 : decode cX1_isNear 58 = .ok (.invokevirtual 151, 3) := dk_182 0 151 (dk_at dksX1_isNear_2 11 rfl rfl)
theorem dX1_isNear_61 : decode cX1_isNear 61 = .ok (.if_icmp .ne 14, 3) := dk_160 0 14 (dk_at dksX1_isNear_2 14 rfl rfl)
theorem dX1_isNear_64 : decode cX1_isNear 64 = .ok (.iload 9, 2) := dk_21 9 (dk_at dksX1_isNear_2 17 rfl rfl)
theorem dX1_isNear_66 : decode cX1_isNear 66 = .ok (.iload_n 3, 1) := dk_29 (dk_at dksX1_isNear_2 19 rfl rfl)
theorem dX1_isNear_67 : decode cX1_isNear 67 = .ok (.if_icmp .le 8, 3) := dk_164 0 8 (dk_at dksX1_isNear_2 20 rfl rfl)
theorem dX1_isNear_70 : decode cX1_isNear 70 = .ok (.iload 9, 2) := dk_21 9 (dk_at dksX1_isNear_3 0 rfl rfl)
theorem dX1_isNear_72 : decode cX1_isNear 72 = .ok (.goto 4, 3) := dk_167 0 4 (dk_at dksX1_isNear_3 2 rfl rfl)
theorem dX1_isNear_75 : decode cX1_isNear 75 = .ok (.iload_n 3, 1) := dk_29 (dk_at dksX1_isNear_3 5 rfl rfl)
theorem dX1_isNear_76 : decode cX1_isNear 76 = .ok (.istore_n 3, 1) := dk_62 (dk_at dksX1_isNear_3 6 rfl rfl)
theorem dX1_isNear_77 : decode cX1_isNear 77 = .ok (.iinc 7 1, 3) := dk_132 7 1 (dk_at dksX1_isNear_3 7 rfl rfl)
theorem dX1_isNear_80 : decode cX1_isNear 80 = .ok (.goto (-64), 3) := dk_167 255 192 (dk_at dksX1_isNear_3 10 rfl rfl)
theorem dX1_isNear_83 : decode cX1_isNear 83 = .ok (.aload_n 0, 1) := dk_42 (dk_at dksX1_isNear_3 13 rfl rfl)
theorem dX1_isNear_84 : decode cX1_isNear 84 = .ok (.getfield 19, 3) := dk_180 0 19 (dk_at dksX1_isNear_3 14 rfl rfl)
theorem dX1_isNear_87 : decode cX1_isNear 87 = .ok (.aload_n 2, 1) := dk_44 (dk_at dksX1_isNear_3 17 rfl rfl)
theorem dX1_isNear_88 : decode cX1_isNear 88 = .ok (.invokevirtual 152, 3) := dk_182 0 152 (dk_at dksX1_isNear_3 18 rfl rfl)
theorem dX1_isNear_91 : decode cX1_isNear 91 = .ok (.checkcast 23, 3) := dk_192 0 23 (dk_at dksX1_isNear_3 21 rfl rfl)
theorem dX1_isNear_94 : decode cX1_isNear 94 = .ok (.astore 5, 2) := dk_58 5 (dk_at dksX1_isNear_4 0 rfl rfl)
theorem dX1_isNear_96 : decode cX1_isNear 96 = .ok (.aload_n 0, 1) := dk_42 (dk_at dksX1_isNear_4 2 rfl rfl)
theorem dX1_isNear_97 : decode cX1_isNear 97 = .ok (.getfield 19, 3) := dk_180 0 19 (dk_at dksX1_isNear_4 3 rfl rfl)
theorem dX1_isNear_100 : decode cX1_isNear 100 = .ok (.aload_n 2, 1) := dk_44 (dk_at dksX1_isNear_4 6 rfl rfl)
theorem dX1_isNear_101 : decode cX1_isNear 101 = .ok (.invokevirtual 155, 3) := dk_182 0 155 (dk_at dksX1_isNear_4 7 rfl rfl)
theorem dX1_isNear_104 : decode cX1_isNear 104 = .ok (.checkcast 23, 3) := dk_192 0 23 (dk_at dksX1_isNear_4 10 rfl rfl)
theorem dX1_isNear_107 : decode cX1_isNear 107 = .ok (.astore 6, 2) := dk_58 6 (dk_at dksX1_isNear_4 13 rfl rfl)
theorem dX1_isNear_109 : decode cX1_isNear 109 = .ok (.aload 5, 2) := dk_25 5 (dk_at dksX1_isNear_4 15 rfl rfl)
theorem dX1_isNear_111 : decode cX1_isNear 111 = .ok (.ifnonnull 7, 3) := dk_199 0 7 (dk_at dksX1_isNear_4 17 rfl rfl)
theorem dX1_isNear_114 : decode cX1_isNear 114 = .ok (.iconst 0, 1) := dk_3 (dk_at dksX1_isNear_4 20 rfl rfl)
theorem dX1_isNear_115 : decode cX1_isNear 115 = .ok (.goto 9, 3) := dk_167 0 9 (dk_at dksX1_isNear_4 21 rfl rfl)
theorem dX1_isNear_118 : decode cX1_isNear 118 = .ok (.aload 5, 2) := dk_25 5 (dk_at dksX1_isNear_5 0 rfl rfl)
theorem dX1_isNear_120 : decode cX1_isNear 120 = .ok (.aload_n 2, 1) := dk_44 (dk_at dksX1_isNear_5 2 rfl rfl)
theorem dX1_isNear_121 : decode cX1_isNear 121 = .ok (.invokestatic 209, 3) := dk_184 0 209 (dk_at dksX1_isNear_5 3 rfl rfl)
theorem dX1_isNear_124 : decode cX1_isNear 124 = .ok (.istore 7, 2) := dk_54 7 (dk_at dksX1_isNear_5 6 rfl rfl)
theorem dX1_isNear_126 : decode cX1_isNear 126 = .ok (.aload 6, 2) := dk_25 6 (dk_at dksX1_isNear_5 8 rfl rfl)
theorem dX1_isNear_128 : decode cX1_isNear 128 = .ok (.ifnonnull 7, 3) := dk_199 0 7 (dk_at dksX1_isNear_5 10 rfl rfl)
theorem dX1_isNear_131 : decode cX1_isNear 131 = .ok (.iconst 0, 1) := dk_3 (dk_at dksX1_isNear_5 13 rfl rfl)
theorem dX1_isNear_132 : decode cX1_isNear 132 = .ok (.goto 9, 3) := dk_167 0 9 (dk_at dksX1_isNear_5 14 rfl rfl)
theorem dX1_isNear_135 : decode cX1_isNear 135 = .ok (.aload 6, 2) := dk_25 6 (dk_at dksX1_isNear_5 17 rfl rfl)
theorem dX1_isNear_137 : decode cX1_isNear 137 = .ok (.aload_n 2, 1) := dk_44 (dk_at dksX1_isNear_5 19 rfl rfl)
theorem dX1_isNear_138 : decode cX1_isNear 138 = .ok (.invokestatic 209, 3) := dk_184 0 209 (dk_at dksX1_isNear_5 20 rfl rfl)
theorem dX1_isNear_141 : decode cX1_isNear 141 = .ok (.istore 8, 2) := dk_54 8 (dk_at dksX1_isNear_6 0 rfl rfl)
theorem dX1_isNear_143 : decode cX1_isNear 143 = .ok (.aload_n 0, 1) := dk_42 (dk_at dksX1_isNear_6 2 rfl rfl)
theorem dX1_isNear_144 : decode cX1_isNear 144 = .ok (.getfield 19, 3) := dk_180 0 19 (dk_at dksX1_isNear_6 3 rfl rfl)
theorem dX1_isNear_147 : decode cX1_isNear 147 = .ok (.aload_n 2, 1) := dk_44 (dk_at dksX1_isNear_6 6 rfl rfl)
theorem dX1_isNear_148 : decode cX1_isNear 148 = .ok (.invokestatic 216, 3) := dk_184 0 216 (dk_at dksX1_isNear_6 7 rfl rfl)
theorem dX1_isNear_151 : decode cX1_isNear 151 = .ok (.iload_n 3, 1) := dk_29 (dk_at dksX1_isNear_6 10 rfl rfl)
theorem dX1_isNear_152 : decode cX1_isNear 152 = .ok (.if_icmp .ne 26, 3) := dk_160 0 26 (dk_at dksX1_isNear_6 11 rfl rfl)
theorem dX1_isNear_155 : decode cX1_isNear 155 = .ok (.iload 4, 2) := dk_21 4 (dk_at dksX1_isNear_6 14 rfl rfl)
theorem dX1_isNear_157 : decode cX1_isNear 157 = .ok (.iload 7, 2) := dk_21 7 (dk_at dksX1_isNear_6 16 rfl rfl)
theorem dX1_isNear_159 : decode cX1_isNear 159 = .ok (.iload 8, 2) := dk_21 8 (dk_at dksX1_isNear_6 18 rfl rfl)
theorem dX1_isNear_161 : decode cX1_isNear 161 = .ok (.if_icmp .le 8, 3) := dk_164 0 8 (dk_at dksX1_isNear_6 20 rfl rfl)
theorem dX1_isNear_164 : decode cX1_isNear 164 = .ok (.iload 7, 2) := dk_21 7 (dk_at dksX1_isNear_7 0 rfl rfl)
theorem dX1_isNear_166 : decode cX1_isNear 166 = .ok (.goto 5, 3) := dk_167 0 5 (dk_at dksX1_isNear_7 2 rfl rfl)
theorem dX1_isNear_169 : decode cX1_isNear 169 = .ok (.iload 8, 2) := dk_21 8 (dk_at dksX1_isNear_7 5 rfl rfl)
theorem dX1_isNear_171 : decode cX1_isNear 171 = .ok (.if_icmp .ne 7, 3) := dk_160 0 7 (dk_at dksX1_isNear_7 7 rfl rfl)
theorem dX1_isNear_174 : decode cX1_isNear 174 = .ok (.iconst 1, 1) := dk_4 (dk_at dksX1_isNear_7 10 rfl rfl)
theorem dX1_isNear_175 : decode cX1_isNear 175 = .ok (.goto 4, 3) := dk_167 0 4 (dk_at dksX1_isNear_7 11 rfl rfl)
theorem dX1_isNear_178 : decode cX1_isNear 178 = .ok (.iconst 0, 1) := dk_3 (dk_at dksX1_isNear_7 14 rfl rfl)
theorem dX1_isNear_179 : decode cX1_isNear 179 = .ok (.ireturn, 1) := dk_172 (dk_at dksX1_isNear_7 15 rfl rfl)
abbrev cX1_arePairs : ByteArray := prog_1_method_44_code
def yX1_arePairs : MethodName := ⟨RX1, "arePairs", "([Ljava/lang/String;)Z"⟩
def dkwX1_arePairs_9 : List UInt8 := [190, 5, 161, 0, 11, 42, 182, 0, 244, 29, 160, 0, 7, 4, 167, 0, 4, 3, 172]
abbrev dktX1_arePairs_9 : List UInt8 := dkwX1_arePairs_9 ++ []
def dkwX1_arePairs_8 : List UInt8 := [153, 0, 5, 3, 172, 132, 7, 1, 167, 255, 134, 132, 6, 1, 167, 255, 115, 29, 21, 4, 160, 0, 21, 43]
abbrev dktX1_arePairs_8 : List UInt8 := dkwX1_arePairs_8 ++ dktX1_arePairs_9
def dkwX1_arePairs_7 : List UInt8 := [21, 6, 50, 184, 0, 240, 160, 0, 19, 25, 5, 21, 6, 50, 25, 5, 21, 7, 50, 184, 0, 240]
abbrev dktX1_arePairs_7 : List UInt8 := dkwX1_arePairs_7 ++ dktX1_arePairs_8
def dkwX1_arePairs_6 : List UInt8 := [182, 0, 223, 156, 0, 46, 25, 5, 21, 7, 50, 25, 5, 21, 6, 50, 184, 0, 240, 43, 21, 7, 50, 43]
abbrev dktX1_arePairs_6 : List UInt8 := dkwX1_arePairs_6 ++ dktX1_arePairs_7
def dkwX1_arePairs_5 : List UInt8 := [164, 0, 8, 21, 8, 167, 0, 5, 21, 4, 54, 4, 25, 5, 21, 6, 50, 25, 5, 21, 7, 50]
abbrev dktX1_arePairs_5 : List UInt8 := dkwX1_arePairs_5 ++ dktX1_arePairs_6
def dkwX1_arePairs_4 : List UInt8 := [29, 164, 0, 8, 21, 8, 167, 0, 4, 29, 62, 21, 7, 21, 6, 4, 96, 160, 0, 15, 21, 8, 21, 4]
abbrev dktX1_arePairs_4 : List UInt8 := dkwX1_arePairs_4 ++ dktX1_arePairs_5
def dkwX1_arePairs_3 : List UInt8 := [54, 7, 21, 7, 43, 190, 162, 0, 121, 43, 21, 6, 50, 43, 21, 7, 50, 184, 0, 209, 54, 8, 21, 8]
abbrev dktX1_arePairs_3 : List UInt8 := dkwX1_arePairs_3 ++ dktX1_arePairs_4
def dkwX1_arePairs_2 : List UInt8 := [21, 6, 50, 83, 132, 6, 1, 167, 255, 222, 3, 54, 6, 21, 6, 43, 190, 162, 0, 140, 21, 6, 4, 96]
abbrev dktX1_arePairs_2 : List UInt8 := dkwX1_arePairs_2 ++ dktX1_arePairs_3
def dkwX1_arePairs_1 : List UInt8 := [162, 0, 33, 25, 5, 21, 6, 28, 153, 0, 14, 42, 43, 21, 6, 50, 182, 0, 226, 167, 0, 7, 43]
abbrev dktX1_arePairs_1 : List UInt8 := dkwX1_arePairs_1 ++ dktX1_arePairs_2
def dkwX1_arePairs_0 : List UInt8 := [42, 182, 0, 229, 61, 3, 62, 3, 54, 4, 43, 190, 189, 0, 23, 58, 5, 3, 54, 6, 21, 6, 43, 190]
abbrev dktX1_arePairs_0 : List UInt8 := dkwX1_arePairs_0 ++ dktX1_arePairs_1
theorem dksX1_arePairs_0 : cX1_arePairs.data.toList.drop 0 = dktX1_arePairs_0 := by decide +kernel
theorem dksX1_arePairs_1 : cX1_arePairs.data.toList.drop 24 = dktX1_arePairs_1 := dk_seg dksX1_arePairs_0 24 rfl rfl
theorem dksX1_arePairs_2 : cX1_arePairs.data.toList.drop 47 = dktX1_arePairs_2 := dk_seg dksX1_arePairs_1 23 rfl rfl
theorem dksX1_arePairs_3 : cX1_arePairs.data.toList.drop 71 = dktX1_arePairs_3 := dk_seg dksX1_arePairs_2 24 rfl rfl
theorem dksX1_arePairs_4 : cX1_arePairs.data.toList.drop 95 = dktX1_arePairs_4 := dk_seg dksX1_arePairs_3 24 rfl rfl
theorem dksX1_arePairs_5 : cX1_arePairs.data.toList.drop 119 = dktX1_arePairs_5 := dk_seg dksX1_arePairs_4 24 rfl rfl
theorem dksX1_arePairs_6 : cX1_arePairs.data.toList.drop 141 = dktX1_arePairs_6 := dk_seg dksX1_arePairs_5 22 rfl rfl
theorem dksX1_arePairs_7 : cX1_arePairs.data.toList.drop 165 = dktX1_arePairs_7 := dk_seg dksX1_arePairs_6 24 rfl rfl
theorem dksX1_arePairs_8 : cX1_arePairs.data.toList.drop 187 = dktX1_arePairs_8 := dk_seg dksX1_arePairs_7 22 rfl rfl
theorem dksX1_arePairs_9 : cX1_arePairs.data.toList.drop 211 = dktX1_arePairs_9 := dk_seg dksX1_arePairs_8 24 rfl rfl
theorem dX1_arePairs_0 : decode cX1_arePairs 0 = .ok (.aload_n 0, 1) := dk_42 (dk_at dksX1_arePairs_0 0 rfl rfl)
theorem dX1_arePairs_1 : decode cX1_arePairs 1 = .ok (.invokevirtual 229, 3) := dk_182 0 229 (dk_at dksX1_arePairs_0 1 rfl rfl)
theorem dX1_arePairs_4 : decode cX1_arePairs 4 = .ok (.istore_n 2, 1) := dk_61 (dk_at dksX1_arePairs_0 4 rfl rfl)
theorem dX1_arePairs_5 : decode cX1_arePairs 5 = .ok (.iconst 0, 1) := dk_3 (dk_at dksX1_arePairs_0 5 rfl rfl)
theorem dX1_arePairs_6 : decode cX1_arePairs 6 = .ok (.istore_n 3, 1) := dk_62 (dk_at dksX1_arePairs_0 6 rfl rfl)
theorem dX1_arePairs_7 : decode cX1_arePairs 7 = .ok (.iconst 0, 1) := dk_3 (dk_at dksX1_arePairs_0 7 rfl rfl)
theorem dX1_arePairs_8 : decode cX1_arePairs 8 = .ok (.istore 4, 2) := dk_54 4 (dk_at dksX1_arePairs_0 8 rfl rfl)
theorem dX1_arePairs_10 : decode cX1_arePairs 10 = .ok (.aload_n 1, 1) := dk_43 (dk_at dksX1_arePairs_0 10 rfl rfl)
theorem dX1_arePairs_11 : decode cX1_arePairs 11 = .ok (.arraylength, 1) := dk_190 (dk_at dksX1_arePairs_0 11 rfl rfl)
theorem dX1_arePairs_12 : decode cX1_arePairs 12 = .ok (.anewarray 23, 3) := dk_189 0 23 (dk_at dksX1_arePairs_0 12 rfl rfl)
theorem dX1_arePairs_15 : decode cX1_arePairs 15 = .ok (.astore 5, 2) := dk_58 5 (dk_at dksX1_arePairs_0 15 rfl rfl)
theorem dX1_arePairs_17 : decode cX1_arePairs 17 = .ok (.iconst 0, 1) := dk_3 (dk_at dksX1_arePairs_0 17 rfl rfl)
theorem dX1_arePairs_18 : decode cX1_arePairs 18 = .ok (.istore 6, 2) := dk_54 6 (dk_at dksX1_arePairs_0 18 rfl rfl)
theorem dX1_arePairs_20 : decode cX1_arePairs 20 = .ok (.iload 6, 2) := dk_21 6 (dk_at dksX1_arePairs_0 20 rfl rfl)
theorem dX1_arePairs_22 : decode cX1_arePairs 22 = .ok (.aload_n 1, 1) := dk_43 (dk_at dksX1_arePairs_0 22 rfl rfl)
theorem dX1_arePairs_23 : decode cX1_arePairs 23 = .ok (.arraylength, 1) := dk_190 (dk_at dksX1_arePairs_0 23 rfl rfl)
theorem dX1_arePairs_24 : decode cX1_arePairs 24 = .ok (.if_icmp .ge 33, 3) := dk_162 0 33 (dk_at dksX1_arePairs_1 0 rfl rfl)
theorem dX1_arePairs_27 : decode cX1_arePairs 27 = .ok (.aload 5, 2) := dk_25 5 (dk_at dksX1_arePairs_1 3 rfl rfl)
theorem dX1_arePairs_29 : decode cX1_arePairs 29 = .ok (.iload 6, 2) := dk_21 6 (dk_at dksX1_arePairs_1 5 rfl rfl)
theorem dX1_arePairs_31 : decode cX1_arePairs 31 = .ok (.iload_n 2, 1) := dk_28 (dk_at dksX1_arePairs_1 7 rfl rfl)
theorem dX1_arePairs_32 : decode cX1_arePairs 32 = .ok (.ifCond .eq 14, 3) := dk_153 0 14 (dk_at dksX1_arePairs_1 8 rfl rfl)
theorem dX1_arePairs_35 : decode cX1_arePairs 35 = .ok (.aload_n 0, 1) := dk_42 (dk_at dksX1_arePairs_1 11 rfl rfl)
theorem dX1_arePairs_36 : decode cX1_arePairs 36 = .ok (.aload_n 1, 1) := dk_43 (dk_at dksX1_arePairs_1 12 rfl rfl)
theorem dX1_arePairs_37 : decode cX1_arePairs 37 = .ok (.iload 6, 2) := dk_21 6 (dk_at dksX1_arePairs_1 13 rfl rfl)
theorem dX1_arePairs_39 : decode cX1_arePairs 39 = .ok (.aaload, 1) := dk_50 (dk_at dksX1_arePairs_1 15 rfl rfl)
theorem dX1_arePairs_40 : decode cX1_arePairs 40 = .ok (.invokevirtual 226, 3) := dk_182 0 226 (dk_at dksX1_arePairs_1 16 rfl rfl)
theorem dX1_arePairs_43 : decode cX1_arePairs 43 = .ok (.goto 7, 3) := dk_167 0 7 (dk_at dksX1_arePairs_1 19 rfl rfl)
theorem dX1_arePairs_46 : decode cX1_arePairs 46 = .ok (.aload_n 1, 1) := dk_43 (dk_at dksX1_arePairs_1 22 rfl rfl)
theorem dX1_arePairs_47 : decode cX1_arePairs 47 = .ok (.iload 6, 2) := dk_21 6 (dk_at dksX1_arePairs_2 0 rfl rfl)
theorem dX1_arePairs_49 : decode cX1_arePairs 49 = .ok (.aaload, 1) := dk_50 (dk_at dksX1_arePairs_2 2 rfl rfl)
theorem dX1_arePairs_50 : decode cX1_arePairs 50 = .ok (.aastore, 1) := dk_83 (dk_at dksX1_arePairs_2 3 rfl rfl)
theorem dX1_arePairs_51 : decode cX1_arePairs 51 = .ok (.iinc 6 1, 3) := dk_132 6 1 (dk_at dksX1_arePairs_2 4 rfl rfl)
theorem dX1_arePairs_54 : decode cX1_arePairs 54 = .ok (.goto (-34), 3) := dk_167 255 222 (dk_at dksX1_arePairs_2 7 rfl rfl)
theorem dX1_arePairs_57 : decode cX1_arePairs 57 = .ok (.iconst 0, 1) := dk_3 (dk_at dksX1_arePairs_2 10 rfl rfl)
theorem dX1_arePairs_58 : decode cX1_arePairs 58 = .ok (.istore 6, 2) := dk_54 6 (dk_at dksX1_arePairs_2 11 rfl rfl)
theorem dX1_arePairs_60 : decode cX1_arePairs 60 = .ok (.iload 6, 2) := dk_21 6 (dk_at dksX1_arePairs_2 13 rfl rfl)
theorem dX1_arePairs_62 : decode cX1_arePairs 62 = .ok (.aload_n 1, 1) := dk_43 (dk_at dksX1_arePairs_2 15 rfl rfl)
theorem dX1_arePairs_63 : decode cX1_arePairs 63 = .ok (.arraylength, 1) := dk_190 (dk_at dksX1_arePairs_2 16 rfl rfl)
theorem dX1_arePairs_64 : decode cX1_arePairs 64 = .ok (.if_icmp .ge 140, 3) := dk_162 0 140 (dk_at dksX1_arePairs_2 17 rfl rfl)
theorem dX1_arePairs_67 : decode cX1_arePairs 67 = .ok (.iload 6, 2) := dk_21 6 (dk_at dksX1_arePairs_2 20 rfl rfl)
theorem dX1_arePairs_69 : decode cX1_arePairs 69 = .ok (.iconst 1, 1) := dk_4 (dk_at dksX1_arePairs_2 22 rfl rfl)
theorem dX1_arePairs_70 : decode cX1_arePairs 70 = .ok (.iadd, 1) := dk_96 (dk_at dksX1_arePairs_2 23 rfl rfl)
theorem dX1_arePairs_71 : decode cX1_arePairs 71 = .ok (.istore 7, 2) := dk_54 7 (dk_at dksX1_arePairs_3 0 rfl rfl)
theorem dX1_arePairs_73 : decode cX1_arePairs 73 = .ok (.iload 7, 2) := dk_21 7 (dk_at dksX1_arePairs_3 2 rfl rfl)
theorem dX1_arePairs_75 : decode cX1_arePairs 75 = .ok (.aload_n 1, 1) := dk_43 (dk_at dksX1_arePairs_3 4 rfl rfl)
theorem dX1_arePairs_76 : decode cX1_arePairs 76 = .ok (.arraylength, 1) := dk_190 (dk_at dksX1_arePairs_3 5 rfl rfl)
theorem dX1_arePairs_77 : decode cX1_arePairs 77 = .ok (.if_icmp .ge 121, 3) := dk_162 0 121 (dk_at dksX1_arePairs_3 6 rfl rfl)
theorem dX1_arePairs_80 : decode cX1_arePairs 80 = .ok (.aload_n 1, 1) := dk_43 (dk_at dksX1_arePairs_3 9 rfl rfl)
theorem dX1_arePairs_81 : decode cX1_arePairs 81 = .ok (.iload 6, 2) := dk_21 6 (dk_at dksX1_arePairs_3 10 rfl rfl)
theorem dX1_arePairs_83 : decode cX1_arePairs 83 = .ok (.aaload, 1) := dk_50 (dk_at dksX1_arePairs_3 12 rfl rfl)
theorem dX1_arePairs_84 : decode cX1_arePairs 84 = .ok (.aload_n 1, 1) := dk_43 (dk_at dksX1_arePairs_3 13 rfl rfl)
theorem dX1_arePairs_85 : decode cX1_arePairs 85 = .ok (.iload 7, 2) := dk_21 7 (dk_at dksX1_arePairs_3 14 rfl rfl)
theorem dX1_arePairs_87 : decode cX1_arePairs 87 = .ok (.aaload, 1) := dk_50 (dk_at dksX1_arePairs_3 16 rfl rfl)
theorem dX1_arePairs_88 : decode cX1_arePairs 88 = .ok (.invokestatic 209, 3) := dk_184 0 209 (dk_at dksX1_arePairs_3 17 rfl rfl)
theorem dX1_arePairs_91 : decode cX1_arePairs 91 = .ok (.istore 8, 2) := dk_54 8 (dk_at dksX1_arePairs_3 20 rfl rfl)
theorem dX1_arePairs_93 : decode cX1_arePairs 93 = .ok (.iload 8, 2) := dk_21 8 (dk_at dksX1_arePairs_3 22 rfl rfl)
theorem dX1_arePairs_95 : decode cX1_arePairs 95 = .ok (.iload_n 3, 1) := dk_29 (dk_at dksX1_arePairs_4 0 rfl rfl)
theorem dX1_arePairs_96 : decode cX1_arePairs 96 = .ok (.if_icmp .le 8, 3) := dk_164 0 8 (dk_at dksX1_arePairs_4 1 rfl rfl)
theorem dX1_arePairs_99 : decode cX1_arePairs 99 = .ok (.iload 8, 2) := dk_21 8 (dk_at dksX1_arePairs_4 4 rfl rfl)
theorem dX1_arePairs_101 : decode cX1_arePairs 101 = .ok (.goto 4, 3) := dk_167 0 4 (dk_at dksX1_arePairs_4 6 rfl rfl)
theorem dX1_arePairs_104 : decode cX1_arePairs 104 = .ok (.iload_n 3, 1) := dk_29 (dk_at dksX1_arePairs_4 9 rfl rfl)
theorem dX1_arePairs_105 : decode cX1_arePairs 105 = .ok (.istore_n 3, 1) := dk_62 (dk_at dksX1_arePairs_4 10 rfl rfl)
theorem dX1_arePairs_106 : decode cX1_arePairs 106 = .ok (.iload 7, 2) := dk_21 7 (dk_at dksX1_arePairs_4 11 rfl rfl)
theorem dX1_arePairs_108 : decode cX1_arePairs 108 = .ok (.iload 6, 2) := dk_21 6 (dk_at dksX1_arePairs_4 13 rfl rfl)
theorem dX1_arePairs_110 : decode cX1_arePairs 110 = .ok (.iconst 1, 1) := dk_4 (dk_at dksX1_arePairs_4 15 rfl rfl)
theorem dX1_arePairs_111 : decode cX1_arePairs 111 = .ok (.iadd, 1) := dk_96 (dk_at dksX1_arePairs_4 16 rfl rfl)
theorem dX1_arePairs_112 : decode cX1_arePairs 112 = .ok (.if_icmp .ne 15, 3) := dk_160 0 15 (dk_at dksX1_arePairs_4 17 rfl rfl)
theorem dX1_arePairs_115 : decode cX1_arePairs 115 = .ok (.iload 8, 2) := dk_21 8 (dk_at dksX1_arePairs_4 20 rfl rfl)
theorem dX1_arePairs_117 : decode cX1_arePairs 117 = .ok (.iload 4, 2) := dk_21 4 (dk_at dksX1_arePairs_4 22 rfl rfl)
theorem dX1_arePairs_119 : decode cX1_arePairs 119 = .ok (.if_icmp .le 8, 3) := dk_164 0 8 (dk_at dksX1_arePairs_5 0 rfl rfl)
theorem dX1_arePairs_122 : decode cX1_arePairs 122 = .ok (.iload 8, 2) := dk_21 8 (dk_at dksX1_arePairs_5 3 rfl rfl)
theorem dX1_arePairs_124 : decode cX1_arePairs 124 = .ok (.goto 5, 3) := dk_167 0 5 (dk_at dksX1_arePairs_5 5 rfl rfl)
theorem dX1_arePairs_127 : decode cX1_arePairs 127 = .ok (.iload 4, 2) := dk_21 4 (dk_at dksX1_arePairs_5 8 rfl rfl)
theorem dX1_arePairs_129 : decode cX1_arePairs 129 = .ok (.istore 4, 2) := dk_54 4 (dk_at dksX1_arePairs_5 10 rfl rfl)
theorem dX1_arePairs_131 : decode cX1_arePairs 131 = .ok (.aload 5, 2) := dk_25 5 (dk_at dksX1_arePairs_5 12 rfl rfl)
theorem dX1_arePairs_133 : decode cX1_arePairs 133 = .ok (.iload 6, 2) := dk_21 6 (dk_at dksX1_arePairs_5 14 rfl rfl)
theorem dX1_arePairs_135 : decode cX1_arePairs 135 = .ok (.aaload, 1) := dk_50 (dk_at dksX1_arePairs_5 16 rfl rfl)
theorem dX1_arePairs_136 : decode cX1_arePairs 136 = .ok (.aload 5, 2) := dk_25 5 (dk_at dksX1_arePairs_5 17 rfl rfl)
theorem dX1_arePairs_138 : decode cX1_arePairs 138 = .ok (.iload 7, 2) := dk_21 7 (dk_at dksX1_arePairs_5 19 rfl rfl)
theorem dX1_arePairs_140 : decode cX1_arePairs 140 = .ok (.aaload, 1) := dk_50 (dk_at dksX1_arePairs_5 21 rfl rfl)
theorem dX1_arePairs_141 : decode cX1_arePairs 141 = .ok (.invokevirtual 223, 3) := dk_182 0 223 (dk_at dksX1_arePairs_6 0 rfl rfl)
theorem dX1_arePairs_144 : decode cX1_arePairs 144 = .ok (.ifCond .ge 46, 3) := dk_156 0 46 (dk_at dksX1_arePairs_6 3 rfl rfl)
theorem dX1_arePairs_147 : decode cX1_arePairs 147 = .ok (.aload 5, 2) := dk_25 5 (dk_at dksX1_arePairs_6 6 rfl rfl)
theorem dX1_arePairs_149 : decode cX1_arePairs 149 = .ok (.iload 7, 2) := dk_21 7 (dk_at dksX1_arePairs_6 8 rfl rfl)
theorem dX1_arePairs_151 : decode cX1_arePairs 151 = .ok (.aaload, 1) := dk_50 (dk_at dksX1_arePairs_6 10 rfl rfl)
theorem dX1_arePairs_152 : decode cX1_arePairs 152 = .ok (.aload 5, 2) := dk_25 5 (dk_at dksX1_arePairs_6 11 rfl rfl)
theorem dX1_arePairs_154 : decode cX1_arePairs 154 = .ok (.iload 6, 2) := dk_21 6 (dk_at dksX1_arePairs_6 13 rfl rfl)
theorem dX1_arePairs_156 : decode cX1_arePairs 156 = .ok (.aaload, 1) := dk_50 (dk_at dksX1_arePairs_6 15 rfl rfl)
theorem dX1_arePairs_157 : decode cX1_arePairs 157 = .ok (.invokestatic 240, 3) := dk_184 0 240 (dk_at dksX1_arePairs_6 16 rfl rfl)
theorem dX1_arePairs_160 : decode cX1_arePairs 160 = .ok (.aload_n 1, 1) := dk_43 (dk_at dksX1_arePairs_6 19 rfl rfl)
theorem dX1_arePairs_161 : decode cX1_arePairs 161 = .ok (.iload 7, 2) := dk_21 7 (dk_at dksX1_arePairs_6 20 rfl rfl)
theorem dX1_arePairs_163 : decode cX1_arePairs 163 = .ok (.aaload, 1) := dk_50 (dk_at dksX1_arePairs_6 22 rfl rfl)
theorem dX1_arePairs_164 : decode cX1_arePairs 164 = .ok (.aload_n 1, 1) := dk_43 (dk_at dksX1_arePairs_6 23 rfl rfl)
theorem dX1_arePairs_165 : decode cX1_arePairs 165 = .ok (.iload 6, 2) := dk_21 6 (dk_at dksX1_arePairs_7 0 rfl rfl)
theorem dX1_arePairs_167 : decode cX1_arePairs 167 = .ok (.aaload, 1) := dk_50 (dk_at dksX1_arePairs_7 2 rfl rfl)
theorem dX1_arePairs_168 : decode cX1_arePairs 168 = .ok (.invokestatic 240, 3) := dk_184 0 240 (dk_at dksX1_arePairs_7 3 rfl rfl)
theorem dX1_arePairs_171 : decode cX1_arePairs 171 = .ok (.if_icmp .ne 19, 3) := dk_160 0 19 (dk_at dksX1_arePairs_7 6 rfl rfl)
theorem dX1_arePairs_174 : decode cX1_arePairs 174 = .ok (.aload 5, 2) := dk_25 5 (dk_at dksX1_arePairs_7 9 rfl rfl)
theorem dX1_arePairs_176 : decode cX1_arePairs 176 = .ok (.iload 6, 2) := dk_21 6 (dk_at dksX1_arePairs_7 11 rfl rfl)
theorem dX1_arePairs_178 : decode cX1_arePairs 178 = .ok (.aaload, 1) := dk_50 (dk_at dksX1_arePairs_7 13 rfl rfl)
theorem dX1_arePairs_179 : decode cX1_arePairs 179 = .ok (.aload 5, 2) := dk_25 5 (dk_at dksX1_arePairs_7 14 rfl rfl)
theorem dX1_arePairs_181 : decode cX1_arePairs 181 = .ok (.iload 7, 2) := dk_21 7 (dk_at dksX1_arePairs_7 16 rfl rfl)
theorem dX1_arePairs_183 : decode cX1_arePairs 183 = .ok (.aaload, 1) := dk_50 (dk_at dksX1_arePairs_7 18 rfl rfl)
theorem dX1_arePairs_184 : decode cX1_arePairs 184 = .ok (.invokestatic 240, 3) := dk_184 0 240 (dk_at dksX1_arePairs_7 19 rfl rfl)
theorem dX1_arePairs_187 : decode cX1_arePairs 187 = .ok (.ifCond .eq 5, 3) := dk_153 0 5 (dk_at dksX1_arePairs_8 0 rfl rfl)
theorem dX1_arePairs_190 : decode cX1_arePairs 190 = .ok (.iconst 0, 1) := dk_3 (dk_at dksX1_arePairs_8 3 rfl rfl)
theorem dX1_arePairs_191 : decode cX1_arePairs 191 = .ok (.ireturn, 1) := dk_172 (dk_at dksX1_arePairs_8 4 rfl rfl)
theorem dX1_arePairs_192 : decode cX1_arePairs 192 = .ok (.iinc 7 1, 3) := dk_132 7 1 (dk_at dksX1_arePairs_8 5 rfl rfl)
theorem dX1_arePairs_195 : decode cX1_arePairs 195 = .ok (.goto (-122), 3) := dk_167 255 134 (dk_at dksX1_arePairs_8 8 rfl rfl)
theorem dX1_arePairs_198 : decode cX1_arePairs 198 = .ok (.iinc 6 1, 3) := dk_132 6 1 (dk_at dksX1_arePairs_8 11 rfl rfl)
theorem dX1_arePairs_201 : decode cX1_arePairs 201 = .ok (.goto (-141), 3) := dk_167 255 115 (dk_at dksX1_arePairs_8 14 rfl rfl)
theorem dX1_arePairs_204 : decode cX1_arePairs 204 = .ok (.iload_n 3, 1) := dk_29 (dk_at dksX1_arePairs_8 17 rfl rfl)
theorem dX1_arePairs_205 : decode cX1_arePairs 205 = .ok (.iload 4, 2) := dk_21 4 (dk_at dksX1_arePairs_8 18 rfl rfl)
theorem dX1_arePairs_207 : decode cX1_arePairs 207 = .ok (.if_icmp .ne 21, 3) := dk_160 0 21 (dk_at dksX1_arePairs_8 20 rfl rfl)
theorem dX1_arePairs_210 : decode cX1_arePairs 210 = .ok (.aload_n 1, 1) := dk_43 (dk_at dksX1_arePairs_8 23 rfl rfl)
theorem dX1_arePairs_211 : decode cX1_arePairs 211 = .ok (.arraylength, 1) := dk_190 (dk_at dksX1_arePairs_9 0 rfl rfl)
theorem dX1_arePairs_212 : decode cX1_arePairs 212 = .ok (.iconst 2, 1) := dk_5 (dk_at dksX1_arePairs_9 1 rfl rfl)
theorem dX1_arePairs_213 : decode cX1_arePairs 213 = .ok (.if_icmp .lt 11, 3) := dk_161 0 11 (dk_at dksX1_arePairs_9 2 rfl rfl)
theorem dX1_arePairs_216 : decode cX1_arePairs 216 = .ok (.aload_n 0, 1) := dk_42 (dk_at dksX1_arePairs_9 5 rfl rfl)
theorem dX1_arePairs_217 : decode cX1_arePairs 217 = .ok (.invokevirtual 244, 3) := dk_182 0 244 (dk_at dksX1_arePairs_9 6 rfl rfl)
theorem dX1_arePairs_220 : decode cX1_arePairs 220 = .ok (.iload_n 3, 1) := dk_29 (dk_at dksX1_arePairs_9 9 rfl rfl)
theorem dX1_arePairs_221 : decode cX1_arePairs 221 = .ok (.if_icmp .ne 7, 3) := dk_160 0 7 (dk_at dksX1_arePairs_9 10 rfl rfl)
theorem dX1_arePairs_224 : decode cX1_arePairs 224 = .ok (.iconst 1, 1) := dk_4 (dk_at dksX1_arePairs_9 13 rfl rfl)
theorem dX1_arePairs_225 : decode cX1_arePairs 225 = .ok (.goto 4, 3) := dk_167 0 4 (dk_at dksX1_arePairs_9 14 rfl rfl)
theorem dX1_arePairs_228 : decode cX1_arePairs 228 = .ok (.iconst 0, 1) := dk_3 (dk_at dksX1_arePairs_9 17 rfl rfl)
theorem dX1_arePairs_229 : decode cX1_arePairs 229 = .ok (.ireturn, 1) := dk_172 (dk_at dksX1_arePairs_9 18 rfl rfl)
abbrev cX1_isOrderly : ByteArray := prog_1_method_35_code
def yX1_isOrderly : MethodName := ⟨RX1, "isOrderly", "()Z"⟩
def dkwX1_isOrderly_2 : List UInt8 := [180, 0, 25, 27, 4, 100, 50, 182, 0, 151, 160, 0, 5, 3, 172, 132, 1, 1, 167, 255, 194, 4, 172]
abbrev dktX1_isOrderly_2 : List UInt8 := dkwX1_isOrderly_2 ++ []
def dkwX1_isOrderly_1 : List UInt8 := [182, 0, 223, 156, 0, 34, 42, 180, 0, 25, 27, 4, 100, 50, 42, 180, 0, 25, 27, 50, 184, 0, 209, 42]
abbrev dktX1_isOrderly_1 : List UInt8 := dkwX1_isOrderly_1 ++ dktX1_isOrderly_2
def dkwX1_isOrderly_0 : List UInt8 := [4, 60, 27, 16, 6, 162, 0, 62, 42, 180, 0, 25, 27, 4, 100, 50, 42, 180, 0, 25, 27, 50]
abbrev dktX1_isOrderly_0 : List UInt8 := dkwX1_isOrderly_0 ++ dktX1_isOrderly_1
theorem dksX1_isOrderly_0 : cX1_isOrderly.data.toList.drop 0 = dktX1_isOrderly_0 := by decide +kernel
theorem dksX1_isOrderly_1 : cX1_isOrderly.data.toList.drop 22 = dktX1_isOrderly_1 := dk_seg dksX1_isOrderly_0 22 rfl rfl
theorem dksX1_isOrderly_2 : cX1_isOrderly.data.toList.drop 46 = dktX1_isOrderly_2 := dk_seg dksX1_isOrderly_1 24 rfl rfl
theorem dX1_isOrderly_0 : decode cX1_isOrderly 0 = .ok (.iconst 1, 1) := dk_4 (dk_at dksX1_isOrderly_0 0 rfl rfl)
theorem dX1_isOrderly_1 : decode cX1_isOrderly 1 = .ok (.istore_n 1, 1) := dk_60 (dk_at dksX1_isOrderly_0 1 rfl rfl)
theorem dX1_isOrderly_2 : decode cX1_isOrderly 2 = .ok (.iload_n 1, 1) := dk_27 (dk_at dksX1_isOrderly_0 2 rfl rfl)
theorem dX1_isOrderly_3 : decode cX1_isOrderly 3 = .ok (.bipush 6, 2) := dk_16 6 (dk_at dksX1_isOrderly_0 3 rfl rfl)
theorem dX1_isOrderly_5 : decode cX1_isOrderly 5 = .ok (.if_icmp .ge 62, 3) := dk_162 0 62 (dk_at dksX1_isOrderly_0 5 rfl rfl)
theorem dX1_isOrderly_8 : decode cX1_isOrderly 8 = .ok (.aload_n 0, 1) := dk_42 (dk_at dksX1_isOrderly_0 8 rfl rfl)
theorem dX1_isOrderly_9 : decode cX1_isOrderly 9 = .ok (.getfield 25, 3) := dk_180 0 25 (dk_at dksX1_isOrderly_0 9 rfl rfl)
theorem dX1_isOrderly_12 : decode cX1_isOrderly 12 = .ok (.iload_n 1, 1) := dk_27 (dk_at dksX1_isOrderly_0 12 rfl rfl)
theorem dX1_isOrderly_13 : decode cX1_isOrderly 13 = .ok (.iconst 1, 1) := dk_4 (dk_at dksX1_isOrderly_0 13 rfl rfl)
theorem dX1_isOrderly_14 : decode cX1_isOrderly 14 = .ok (.isub, 1) := dk_100 (dk_at dksX1_isOrderly_0 14 rfl rfl)
theorem dX1_isOrderly_15 : decode cX1_isOrderly 15 = .ok (.aaload, 1) := dk_50 (dk_at dksX1_isOrderly_0 15 rfl rfl)
theorem dX1_isOrderly_16 : decode cX1_isOrderly 16 = .ok (.aload_n 0, 1) := dk_42 (dk_at dksX1_isOrderly_0 16 rfl rfl)
theorem dX1_isOrderly_17 : decode cX1_isOrderly 17 = .ok (.getfield 25, 3) := dk_180 0 25 (dk_at dksX1_isOrderly_0 17 rfl rfl)
theorem dX1_isOrderly_20 : decode cX1_isOrderly 20 = .ok (.iload_n 1, 1) := dk_27 (dk_at dksX1_isOrderly_0 20 rfl rfl)
theorem dX1_isOrderly_21 : decode cX1_isOrderly 21 = .ok (.aaload, 1) := dk_50 (dk_at dksX1_isOrderly_0 21 rfl rfl)
theorem dX1_isOrderly_22 : decode cX1_isOrderly 22 = .ok (.invokevirtual 223, 3) := dk_182 0 223 (dk_at dksX1_isOrderly_1 0 rfl rfl)
theorem dX1_isOrderly_25 : decode cX1_isOrderly 25 = .ok (.ifCond .ge 34, 3) := dk_156 0 34 (dk_at dksX1_isOrderly_1 3 rfl rfl)
theorem dX1_isOrderly_28 : decode cX1_isOrderly 28 = .ok (.aload_n 0, 1) := dk_42 (dk_at dksX1_isOrderly_1 6 rfl rfl)
theorem dX1_isOrderly_29 : decode cX1_isOrderly 29 = .ok (.getfield 25, 3) := dk_180 0 25 (dk_at dksX1_isOrderly_1 7 rfl rfl)
theorem dX1_isOrderly_32 : decode cX1_isOrderly 32 = .ok (.iload_n 1, 1) := dk_27 (dk_at dksX1_isOrderly_1 10 rfl rfl)
theorem dX1_isOrderly_33 : decode cX1_isOrderly 33 = .ok (.iconst 1, 1) := dk_4 (dk_at dksX1_isOrderly_1 11 rfl rfl)
theorem dX1_isOrderly_34 : decode cX1_isOrderly 34 = .ok (.isub, 1) := dk_100 (dk_at dksX1_isOrderly_1 12 rfl rfl)
theorem dX1_isOrderly_35 : decode cX1_isOrderly 35 = .ok (.aaload, 1) := dk_50 (dk_at dksX1_isOrderly_1 13 rfl rfl)
theorem dX1_isOrderly_36 : decode cX1_isOrderly 36 = .ok (.aload_n 0, 1) := dk_42 (dk_at dksX1_isOrderly_1 14 rfl rfl)
theorem dX1_isOrderly_37 : decode cX1_isOrderly 37 = .ok (.getfield 25, 3) := dk_180 0 25 (dk_at dksX1_isOrderly_1 15 rfl rfl)
theorem dX1_isOrderly_40 : decode cX1_isOrderly 40 = .ok (.iload_n 1, 1) := dk_27 (dk_at dksX1_isOrderly_1 18 rfl rfl)
theorem dX1_isOrderly_41 : decode cX1_isOrderly 41 = .ok (.aaload, 1) := dk_50 (dk_at dksX1_isOrderly_1 19 rfl rfl)
theorem dX1_isOrderly_42 : decode cX1_isOrderly 42 = .ok (.invokestatic 209, 3) := dk_184 0 209 (dk_at dksX1_isOrderly_1 20 rfl rfl)
theorem dX1_isOrderly_45 : decode cX1_isOrderly 45 = .ok (.aload_n 0, 1) := dk_42 (dk_at dksX1_isOrderly_1 23 rfl rfl)
theorem dX1_isOrderly_46 : decode cX1_isOrderly 46 = .ok (.getfield 25, 3) := dk_180 0 25 (dk_at dksX1_isOrderly_2 0 rfl rfl)
theorem dX1_isOrderly_49 : decode cX1_isOrderly 49 = .ok (.iload_n 1, 1) := dk_27 (dk_at dksX1_isOrderly_2 3 rfl rfl)
theorem dX1_isOrderly_50 : decode cX1_isOrderly 50 = .ok (.iconst 1, 1) := dk_4 (dk_at dksX1_isOrderly_2 4 rfl rfl)
theorem dX1_isOrderly_51 : decode cX1_isOrderly 51 = .ok (.isub, 1) := dk_100 (dk_at dksX1_isOrderly_2 5 rfl rfl)
theorem dX1_isOrderly_52 : decode cX1_isOrderly 52 = .ok (.aaload, 1) := dk_50 (dk_at dksX1_isOrderly_2 6 rfl rfl)
theorem dX1_isOrderly_53 : decode cX1_isOrderly 53 = .ok (.invokevirtual 151, 3) := dk_182 0 151 (dk_at dksX1_isOrderly_2 7 rfl rfl)
theorem dX1_isOrderly_56 : decode cX1_isOrderly 56 = .ok (.if_icmp .ne 5, 3) := dk_160 0 5 (dk_at dksX1_isOrderly_2 10 rfl rfl)
theorem dX1_isOrderly_59 : decode cX1_isOrderly 59 = .ok (.iconst 0, 1) := dk_3 (dk_at dksX1_isOrderly_2 13 rfl rfl)
theorem dX1_isOrderly_60 : decode cX1_isOrderly 60 = .ok (.ireturn, 1) := dk_172 (dk_at dksX1_isOrderly_2 14 rfl rfl)
theorem dX1_isOrderly_61 : decode cX1_isOrderly 61 = .ok (.iinc 1 1, 3) := dk_132 1 1 (dk_at dksX1_isOrderly_2 15 rfl rfl)
theorem dX1_isOrderly_64 : decode cX1_isOrderly 64 = .ok (.goto (-62), 3) := dk_167 255 194 (dk_at dksX1_isOrderly_2 18 rfl rfl)
theorem dX1_isOrderly_67 : decode cX1_isOrderly 67 = .ok (.iconst 1, 1) := dk_4 (dk_at dksX1_isOrderly_2 21 rfl rfl)
theorem dX1_isOrderly_68 : decode cX1_isOrderly 68 = .ok (.ireturn, 1) := dk_172 (dk_at dksX1_isOrderly_2 22 rfl rfl)
abbrev cX1_written : ByteArray := prog_1_method_36_code
def yX1_written : MethodName := ⟨RX1, "written", "(Ljava/lang/String;)Ljava/lang/String;"⟩
def dkwX1_written_1 : List UInt8 := [29, 182, 0, 205, 16, 97, 100, 50, 182, 0, 92, 87, 132, 3, 1, 167, 255, 227, 44, 182, 0, 76, 176]
abbrev dktX1_written_1 : List UInt8 := dkwX1_written_1 ++ []
def dkwX1_written_0 : List UInt8 := [187, 0, 7, 89, 183, 0, 9, 77, 3, 62, 29, 43, 182, 0, 151, 162, 0, 27, 44, 42, 180, 0, 25, 43]
abbrev dktX1_written_0 : List UInt8 := dkwX1_written_0 ++ dktX1_written_1
theorem dksX1_written_0 : cX1_written.data.toList.drop 0 = dktX1_written_0 := by decide +kernel
theorem dksX1_written_1 : cX1_written.data.toList.drop 24 = dktX1_written_1 := dk_seg dksX1_written_0 24 rfl rfl
theorem dX1_written_0 : decode cX1_written 0 = .ok (.new 7, 3) := dk_187 0 7 (dk_at dksX1_written_0 0 rfl rfl)
theorem dX1_written_3 : decode cX1_written 3 = .ok (.dup, 1) := dk_89 (dk_at dksX1_written_0 3 rfl rfl)
theorem dX1_written_4 : decode cX1_written 4 = .ok (.invokespecial 9, 3) := dk_183 0 9 (dk_at dksX1_written_0 4 rfl rfl)
theorem dX1_written_7 : decode cX1_written 7 = .ok (.astore_n 2, 1) := dk_77 (dk_at dksX1_written_0 7 rfl rfl)
theorem dX1_written_8 : decode cX1_written 8 = .ok (.iconst 0, 1) := dk_3 (dk_at dksX1_written_0 8 rfl rfl)
theorem dX1_written_9 : decode cX1_written 9 = .ok (.istore_n 3, 1) := dk_62 (dk_at dksX1_written_0 9 rfl rfl)
theorem dX1_written_10 : decode cX1_written 10 = .ok (.iload_n 3, 1) := dk_29 (dk_at dksX1_written_0 10 rfl rfl)
theorem dX1_written_11 : decode cX1_written 11 = .ok (.aload_n 1, 1) := dk_43 (dk_at dksX1_written_0 11 rfl rfl)
theorem dX1_written_12 : decode cX1_written 12 = .ok (.invokevirtual 151, 3) := dk_182 0 151 (dk_at dksX1_written_0 12 rfl rfl)
theorem dX1_written_15 : decode cX1_written 15 = .ok (.if_icmp .ge 27, 3) := dk_162 0 27 (dk_at dksX1_written_0 15 rfl rfl)
theorem dX1_written_18 : decode cX1_written 18 = .ok (.aload_n 2, 1) := dk_44 (dk_at dksX1_written_0 18 rfl rfl)
theorem dX1_written_19 : decode cX1_written 19 = .ok (.aload_n 0, 1) := dk_42 (dk_at dksX1_written_0 19 rfl rfl)
theorem dX1_written_20 : decode cX1_written 20 = .ok (.getfield 25, 3) := dk_180 0 25 (dk_at dksX1_written_0 20 rfl rfl)
theorem dX1_written_23 : decode cX1_written 23 = .ok (.aload_n 1, 1) := dk_43 (dk_at dksX1_written_0 23 rfl rfl)
theorem dX1_written_24 : decode cX1_written 24 = .ok (.iload_n 3, 1) := dk_29 (dk_at dksX1_written_1 0 rfl rfl)
theorem dX1_written_25 : decode cX1_written 25 = .ok (.invokevirtual 205, 3) := dk_182 0 205 (dk_at dksX1_written_1 1 rfl rfl)
theorem dX1_written_28 : decode cX1_written 28 = .ok (.bipush 97, 2) := dk_16 97 (dk_at dksX1_written_1 4 rfl rfl)
theorem dX1_written_30 : decode cX1_written 30 = .ok (.isub, 1) := dk_100 (dk_at dksX1_written_1 6 rfl rfl)
theorem dX1_written_31 : decode cX1_written 31 = .ok (.aaload, 1) := dk_50 (dk_at dksX1_written_1 7 rfl rfl)
theorem dX1_written_32 : decode cX1_written 32 = .ok (.invokevirtual 92, 3) := dk_182 0 92 (dk_at dksX1_written_1 8 rfl rfl)
theorem dX1_written_35 : decode cX1_written 35 = .ok (.pop, 1) := dk_87 (dk_at dksX1_written_1 11 rfl rfl)
theorem dX1_written_36 : decode cX1_written 36 = .ok (.iinc 3 1, 3) := dk_132 3 1 (dk_at dksX1_written_1 12 rfl rfl)
theorem dX1_written_39 : decode cX1_written 39 = .ok (.goto (-29), 3) := dk_167 255 227 (dk_at dksX1_written_1 15 rfl rfl)
theorem dX1_written_42 : decode cX1_written 42 = .ok (.aload_n 2, 1) := dk_44 (dk_at dksX1_written_1 18 rfl rfl)
theorem dX1_written_43 : decode cX1_written 43 = .ok (.invokevirtual 76, 3) := dk_182 0 76 (dk_at dksX1_written_1 19 rfl rfl)
theorem dX1_written_46 : decode cX1_written 46 = .ok (.areturn, 1) := dk_176 (dk_at dksX1_written_1 22 rfl rfl)
abbrev cX1_twin : ByteArray := prog_1_method_29_code
def yX1_twin : MethodName := ⟨RX1, "twin", "()I"⟩
def dkwX1_twin_3 : List UInt8 := [21, 5, 167, 0, 4, 27, 60, 25, 4, 77, 167, 255, 212, 27, 172]
abbrev dktX1_twin_3 : List UInt8 := dkwX1_twin_3 ++ []
def dkwX1_twin_2 : List UInt8 := [185, 0, 141, 1, 0, 192, 0, 23, 58, 4, 44, 25, 4, 184, 0, 209, 54, 5, 21, 5, 27, 164, 0, 8]
abbrev dktX1_twin_2 : List UInt8 := dkwX1_twin_2 ++ dktX1_twin_3
def dkwX1_twin_1 : List UInt8 := [42, 180, 0, 19, 182, 0, 131, 185, 0, 135, 1, 0, 78, 45, 185, 0, 198, 1, 0, 153, 0, 41, 45]
abbrev dktX1_twin_1 : List UInt8 := dkwX1_twin_1 ++ dktX1_twin_2
def dkwX1_twin_0 : List UInt8 := [42, 180, 0, 19, 182, 0, 98, 5, 162, 0, 11, 187, 0, 61, 89, 183, 0, 63, 191, 3, 60, 18, 220, 77]
abbrev dktX1_twin_0 : List UInt8 := dkwX1_twin_0 ++ dktX1_twin_1
theorem dksX1_twin_0 : cX1_twin.data.toList.drop 0 = dktX1_twin_0 := by decide +kernel
theorem dksX1_twin_1 : cX1_twin.data.toList.drop 24 = dktX1_twin_1 := dk_seg dksX1_twin_0 24 rfl rfl
theorem dksX1_twin_2 : cX1_twin.data.toList.drop 47 = dktX1_twin_2 := dk_seg dksX1_twin_1 23 rfl rfl
theorem dksX1_twin_3 : cX1_twin.data.toList.drop 71 = dktX1_twin_3 := dk_seg dksX1_twin_2 24 rfl rfl
theorem dX1_twin_0 : decode cX1_twin 0 = .ok (.aload_n 0, 1) := dk_42 (dk_at dksX1_twin_0 0 rfl rfl)
theorem dX1_twin_1 : decode cX1_twin 1 = .ok (.getfield 19, 3) := dk_180 0 19 (dk_at dksX1_twin_0 1 rfl rfl)
theorem dX1_twin_4 : decode cX1_twin 4 = .ok (.invokevirtual 98, 3) := dk_182 0 98 (dk_at dksX1_twin_0 4 rfl rfl)
theorem dX1_twin_7 : decode cX1_twin 7 = .ok (.iconst 2, 1) := dk_5 (dk_at dksX1_twin_0 7 rfl rfl)
theorem dX1_twin_8 : decode cX1_twin 8 = .ok (.if_icmp .ge 11, 3) := dk_162 0 11 (dk_at dksX1_twin_0 8 rfl rfl)
theorem dX1_twin_11 : decode cX1_twin 11 = .ok (.new 61, 3) := dk_187 0 61 (dk_at dksX1_twin_0 11 rfl rfl)
theorem dX1_twin_14 : decode cX1_twin 14 = .ok (.dup, 1) := dk_89 (dk_at dksX1_twin_0 14 rfl rfl)
theorem dX1_twin_15 : decode cX1_twin 15 = .ok (.invokespecial 63, 3) := dk_183 0 63 (dk_at dksX1_twin_0 15 rfl rfl)
theorem dX1_twin_18 : decode cX1_twin 18 = .ok (.athrow, 1) := dk_191 (dk_at dksX1_twin_0 18 rfl rfl)
theorem dX1_twin_19 : decode cX1_twin 19 = .ok (.iconst 0, 1) := dk_3 (dk_at dksX1_twin_0 19 rfl rfl)
theorem dX1_twin_20 : decode cX1_twin 20 = .ok (.istore_n 1, 1) := dk_60 (dk_at dksX1_twin_0 20 rfl rfl)
theorem dX1_twin_21 : decode cX1_twin 21 = .ok (.ldc 220, 2) := dk_18 220 (dk_at dksX1_twin_0 21 rfl rfl)
theorem dX1_twin_23 : decode cX1_twin 23 = .ok (.astore_n 2, 1) := dk_77 (dk_at dksX1_twin_0 23 rfl rfl)
theorem dX1_twin_24 : decode cX1_twin 24 = .ok (.aload_n 0, 1) := dk_42 (dk_at dksX1_twin_1 0 rfl rfl)
theorem dX1_twin_25 : decode cX1_twin 25 = .ok (.getfield 19, 3) := dk_180 0 19 (dk_at dksX1_twin_1 1 rfl rfl)
theorem dX1_twin_28 : decode cX1_twin 28 = .ok (.invokevirtual 131, 3) := dk_182 0 131 (dk_at dksX1_twin_1 4 rfl rfl)
theorem dX1_twin_31 : decode cX1_twin 31 = .ok (.invokeinterface 135 1, 5) := by decide +kernel
theorem dX1_twin_36 : decode cX1_twin 36 = .ok (.astore_n 3, 1) := dk_78 (dk_at dksX1_twin_1 12 rfl rfl)
theorem dX1_twin_37 : decode cX1_twin 37 = .ok (.aload_n 3, 1) := dk_45 (dk_at dksX1_twin_1 13 rfl rfl)
theorem dX1_twin_38 : decode cX1_twin 38 = .ok (.invokeinterface 198 1, 5) := by decide +kernel
theorem dX1_twin_43 : decode cX1_twin 43 = .ok (.ifCond .eq 41, 3) := dk_153 0 41 (dk_at dksX1_twin_1 19 rfl rfl)
theorem dX1_twin_46 : decode cX1_twin 46 = .ok (.aload_n 3, 1) := dk_45 (dk_at dksX1_twin_1 22 rfl rfl)
theorem dX1_twin_47 : decode cX1_twin 47 = .ok (.invokeinterface 141 1, 5) := by decide +kernel
theorem dX1_twin_52 : decode cX1_twin 52 = .ok (.checkcast 23, 3) := dk_192 0 23 (dk_at dksX1_twin_2 5 rfl rfl)
theorem dX1_twin_55 : decode cX1_twin 55 = .ok (.astore 4, 2) := dk_58 4 (dk_at dksX1_twin_2 8 rfl rfl)
theorem dX1_twin_57 : decode cX1_twin 57 = .ok (.aload_n 2, 1) := dk_44 (dk_at dksX1_twin_2 10 rfl rfl)
theorem dX1_twin_58 : decode cX1_twin 58 = .ok (.aload 4, 2) := dk_25 4 (dk_at dksX1_twin_2 11 rfl rfl)
theorem dX1_twin_60 : decode cX1_twin 60 = .ok (.invokestatic 209, 3) := dk_184 0 209 (dk_at dksX1_twin_2 13 rfl rfl)
theorem dX1_twin_63 : decode cX1_twin 63 = .ok (.istore 5, 2) := dk_54 5 (dk_at dksX1_twin_2 16 rfl rfl)
theorem dX1_twin_65 : decode cX1_twin 65 = .ok (.iload 5, 2) := dk_21 5 (dk_at dksX1_twin_2 18 rfl rfl)
theorem dX1_twin_67 : decode cX1_twin 67 = .ok (.iload_n 1, 1) := dk_27 (dk_at dksX1_twin_2 20 rfl rfl)
theorem dX1_twin_68 : decode cX1_twin 68 = .ok (.if_icmp .le 8, 3) := dk_164 0 8 (dk_at dksX1_twin_2 21 rfl rfl)
theorem dX1_twin_71 : decode cX1_twin 71 = .ok (.iload 5, 2) := dk_21 5 (dk_at dksX1_twin_3 0 rfl rfl)
theorem dX1_twin_73 : decode cX1_twin 73 = .ok (.goto 4, 3) := dk_167 0 4 (dk_at dksX1_twin_3 2 rfl rfl)
theorem dX1_twin_76 : decode cX1_twin 76 = .ok (.iload_n 1, 1) := dk_27 (dk_at dksX1_twin_3 5 rfl rfl)
theorem dX1_twin_77 : decode cX1_twin 77 = .ok (.istore_n 1, 1) := dk_60 (dk_at dksX1_twin_3 6 rfl rfl)
theorem dX1_twin_78 : decode cX1_twin 78 = .ok (.aload 4, 2) := dk_25 4 (dk_at dksX1_twin_3 7 rfl rfl)
theorem dX1_twin_80 : decode cX1_twin 80 = .ok (.astore_n 2, 1) := dk_77 (dk_at dksX1_twin_3 9 rfl rfl)
theorem dX1_twin_81 : decode cX1_twin 81 = .ok (.goto (-44), 3) := dk_167 255 212 (dk_at dksX1_twin_3 10 rfl rfl)
theorem dX1_twin_84 : decode cX1_twin 84 = .ok (.iload_n 1, 1) := dk_27 (dk_at dksX1_twin_3 13 rfl rfl)
theorem dX1_twin_85 : decode cX1_twin 85 = .ok (.ireturn, 1) := dk_172 (dk_at dksX1_twin_3 14 rfl rfl)
abbrev cX1_areEnds : ByteArray := prog_1_method_45_code
def yX1_areEnds : MethodName := ⟨RX1, "areEnds", "([Ljava/lang/String;)Z"⟩
def dkwX1_areEnds_2 : List UInt8 := [154, 0, 5, 3, 172, 132, 6, 1, 167, 255, 224, 132, 4, 1, 167, 255, 203, 4, 172]
abbrev dktX1_areEnds_2 : List UInt8 := dkwX1_areEnds_2 ++ []
def dkwX1_areEnds_1 : List UInt8 := [21, 6, 25, 5, 182, 0, 151, 162, 0, 28, 42, 180, 0, 19, 25, 5, 21, 6, 182, 0, 247, 182, 0, 101]
abbrev dktX1_areEnds_1 : List UInt8 := dkwX1_areEnds_1 ++ dktX1_areEnds_2
def dkwX1_areEnds_0 : List UInt8 := [43, 77, 44, 190, 62, 3, 54, 4, 21, 4, 29, 162, 0, 53, 44, 21, 4, 50, 58, 5, 4, 54, 6]
abbrev dktX1_areEnds_0 : List UInt8 := dkwX1_areEnds_0 ++ dktX1_areEnds_1
theorem dksX1_areEnds_0 : cX1_areEnds.data.toList.drop 0 = dktX1_areEnds_0 := by decide +kernel
theorem dksX1_areEnds_1 : cX1_areEnds.data.toList.drop 23 = dktX1_areEnds_1 := dk_seg dksX1_areEnds_0 23 rfl rfl
theorem dksX1_areEnds_2 : cX1_areEnds.data.toList.drop 47 = dktX1_areEnds_2 := dk_seg dksX1_areEnds_1 24 rfl rfl
theorem dX1_areEnds_0 : decode cX1_areEnds 0 = .ok (.aload_n 1, 1) := dk_43 (dk_at dksX1_areEnds_0 0 rfl rfl)
theorem dX1_areEnds_1 : decode cX1_areEnds 1 = .ok (.astore_n 2, 1) := dk_77 (dk_at dksX1_areEnds_0 1 rfl rfl)
theorem dX1_areEnds_2 : decode cX1_areEnds 2 = .ok (.aload_n 2, 1) := dk_44 (dk_at dksX1_areEnds_0 2 rfl rfl)
theorem dX1_areEnds_3 : decode cX1_areEnds 3 = .ok (.arraylength, 1) := dk_190 (dk_at dksX1_areEnds_0 3 rfl rfl)
theorem dX1_areEnds_4 : decode cX1_areEnds 4 = .ok (.istore_n 3, 1) := dk_62 (dk_at dksX1_areEnds_0 4 rfl rfl)
theorem dX1_areEnds_5 : decode cX1_areEnds 5 = .ok (.iconst 0, 1) := dk_3 (dk_at dksX1_areEnds_0 5 rfl rfl)
theorem dX1_areEnds_6 : decode cX1_areEnds 6 = .ok (.istore 4, 2) := dk_54 4 (dk_at dksX1_areEnds_0 6 rfl rfl)
theorem dX1_areEnds_8 : decode cX1_areEnds 8 = .ok (.iload 4, 2) := dk_21 4 (dk_at dksX1_areEnds_0 8 rfl rfl)
theorem dX1_areEnds_10 : decode cX1_areEnds 10 = .ok (.iload_n 3, 1) := dk_29 (dk_at dksX1_areEnds_0 10 rfl rfl)
theorem dX1_areEnds_11 : decode cX1_areEnds 11 = .ok (.if_icmp .ge 53, 3) := dk_162 0 53 (dk_at dksX1_areEnds_0 11 rfl rfl)
theorem dX1_areEnds_14 : decode cX1_areEnds 14 = .ok (.aload_n 2, 1) := dk_44 (dk_at dksX1_areEnds_0 14 rfl rfl)
theorem dX1_areEnds_15 : decode cX1_areEnds 15 = .ok (.iload 4, 2) := dk_21 4 (dk_at dksX1_areEnds_0 15 rfl rfl)
theorem dX1_areEnds_17 : decode cX1_areEnds 17 = .ok (.aaload, 1) := dk_50 (dk_at dksX1_areEnds_0 17 rfl rfl)
theorem dX1_areEnds_18 : decode cX1_areEnds 18 = .ok (.astore 5, 2) := dk_58 5 (dk_at dksX1_areEnds_0 18 rfl rfl)
theorem dX1_areEnds_20 : decode cX1_areEnds 20 = .ok (.iconst 1, 1) := dk_4 (dk_at dksX1_areEnds_0 20 rfl rfl)
theorem dX1_areEnds_21 : decode cX1_areEnds 21 = .ok (.istore 6, 2) := dk_54 6 (dk_at dksX1_areEnds_0 21 rfl rfl)
theorem dX1_areEnds_23 : decode cX1_areEnds 23 = .ok (.iload 6, 2) := dk_21 6 (dk_at dksX1_areEnds_1 0 rfl rfl)
theorem dX1_areEnds_25 : decode cX1_areEnds 25 = .ok (.aload 5, 2) := dk_25 5 (dk_at dksX1_areEnds_1 2 rfl rfl)
theorem dX1_areEnds_27 : decode cX1_areEnds 27 = .ok (.invokevirtual 151, 3) := dk_182 0 151 (dk_at dksX1_areEnds_1 4 rfl rfl)
theorem dX1_areEnds_30 : decode cX1_areEnds 30 = .ok (.if_icmp .ge 28, 3) := dk_162 0 28 (dk_at dksX1_areEnds_1 7 rfl rfl)
theorem dX1_areEnds_33 : decode cX1_areEnds 33 = .ok (.aload_n 0, 1) := dk_42 (dk_at dksX1_areEnds_1 10 rfl rfl)
theorem dX1_areEnds_34 : decode cX1_areEnds 34 = .ok (.getfield 19, 3) := dk_180 0 19 (dk_at dksX1_areEnds_1 11 rfl rfl)
theorem dX1_areEnds_37 : decode cX1_areEnds 37 = .ok (.aload 5, 2) := dk_25 5 (dk_at dksX1_areEnds_1 14 rfl rfl)
theorem dX1_areEnds_39 : decode cX1_areEnds 39 = .ok (.iload 6, 2) := dk_21 6 (dk_at dksX1_areEnds_1 16 rfl rfl)
theorem dX1_areEnds_41 : decode cX1_areEnds 41 = .ok (.invokevirtual 247, 3) := dk_182 0 247 (dk_at dksX1_areEnds_1 18 rfl rfl)
theorem dX1_areEnds_44 : decode cX1_areEnds 44 = .ok (.invokevirtual 101, 3) := dk_182 0 101 (dk_at dksX1_areEnds_1 21 rfl rfl)
theorem dX1_areEnds_47 : decode cX1_areEnds 47 = .ok (.ifCond .ne 5, 3) := dk_154 0 5 (dk_at dksX1_areEnds_2 0 rfl rfl)
theorem dX1_areEnds_50 : decode cX1_areEnds 50 = .ok (.iconst 0, 1) := dk_3 (dk_at dksX1_areEnds_2 3 rfl rfl)
theorem dX1_areEnds_51 : decode cX1_areEnds 51 = .ok (.ireturn, 1) := dk_172 (dk_at dksX1_areEnds_2 4 rfl rfl)
theorem dX1_areEnds_52 : decode cX1_areEnds 52 = .ok (.iinc 6 1, 3) := dk_132 6 1 (dk_at dksX1_areEnds_2 5 rfl rfl)
theorem dX1_areEnds_55 : decode cX1_areEnds 55 = .ok (.goto (-32), 3) := dk_167 255 224 (dk_at dksX1_areEnds_2 8 rfl rfl)
theorem dX1_areEnds_58 : decode cX1_areEnds 58 = .ok (.iinc 4 1, 3) := dk_132 4 1 (dk_at dksX1_areEnds_2 11 rfl rfl)
theorem dX1_areEnds_61 : decode cX1_areEnds 61 = .ok (.goto (-53), 3) := dk_167 255 203 (dk_at dksX1_areEnds_2 14 rfl rfl)
theorem dX1_areEnds_64 : decode cX1_areEnds 64 = .ok (.iconst 1, 1) := dk_4 (dk_at dksX1_areEnds_2 17 rfl rfl)
theorem dX1_areEnds_65 : decode cX1_areEnds 65 = .ok (.ireturn, 1) := dk_172 (dk_at dksX1_areEnds_2 18 rfl rfl)
abbrev cX1_checksum : ByteArray := prog_1_method_47_code
def yX1_checksum : MethodName := ⟨RX1, "checksum", "()J"⟩
def dkwX1_checksum_9 : List UInt8 := [167, 255, 228, 132, 5, 1, 167, 255, 193, 31, 173]
abbrev dktX1_checksum_9 : List UInt8 := dkwX1_checksum_9 ++ []
def dkwX1_checksum_8 : List UInt8 := [182, 0, 151, 162, 0, 24, 20, 1, 22, 31, 105, 25, 6, 21, 7, 182, 0, 205, 133, 97, 64, 132, 7, 1]
abbrev dktX1_checksum_8 : List UInt8 := dkwX1_checksum_8 ++ dktX1_checksum_9
def dkwX1_checksum_7 : List UInt8 := [58, 6, 20, 1, 22, 31, 105, 25, 6, 182, 0, 151, 133, 97, 64, 3, 54, 7, 21, 7, 25, 6]
abbrev dktX1_checksum_7 : List UInt8 := dkwX1_checksum_7 ++ dktX1_checksum_8
def dkwX1_checksum_6 : List UInt8 := [42, 180, 0, 25, 78, 45, 190, 54, 4, 3, 54, 5, 21, 5, 21, 4, 162, 0, 62, 45, 21, 5, 50]
abbrev dktX1_checksum_6 : List UInt8 := dkwX1_checksum_6 ++ dktX1_checksum_7
def dkwX1_checksum_5 : List UInt8 := [20, 1, 22, 31, 105, 25, 4, 185, 0, 188, 1, 0, 192, 0, 105, 182, 0, 114, 133, 97, 64, 167, 255, 169]
abbrev dktX1_checksum_5 : List UInt8 := dkwX1_checksum_5 ++ dktX1_checksum_6
def dkwX1_checksum_4 : List UInt8 := [162, 0, 24, 20, 1, 22, 31, 105, 25, 5, 21, 6, 182, 0, 205, 133, 97, 64, 132, 6, 1, 167, 255, 228]
abbrev dktX1_checksum_4 : List UInt8 := dkwX1_checksum_4 ++ dktX1_checksum_5
def dkwX1_checksum_3 : List UInt8 := [58, 4, 25, 4, 185, 0, 180, 1, 0, 192, 0, 23, 58, 5, 3, 54, 6, 21, 6, 25, 5, 182, 0, 151]
abbrev dktX1_checksum_3 : List UInt8 := dkwX1_checksum_3 ++ dktX1_checksum_4
def dkwX1_checksum_2 : List UInt8 := [185, 0, 135, 1, 0, 78, 45, 185, 0, 198, 1, 0, 153, 0, 84, 45, 185, 0, 141, 1, 0, 192, 0, 181]
abbrev dktX1_checksum_2 : List UInt8 := dkwX1_checksum_2 ++ dktX1_checksum_3
def dkwX1_checksum_1 : List UInt8 := [180, 0, 10, 29, 182, 0, 88, 133, 97, 64, 132, 3, 1, 167, 255, 226, 42, 180, 0, 19, 182, 0, 232]
abbrev dktX1_checksum_1 : List UInt8 := dkwX1_checksum_1 ++ dktX1_checksum_2
def dkwX1_checksum_0 : List UInt8 := [20, 1, 20, 64, 3, 62, 29, 42, 180, 0, 10, 182, 0, 42, 162, 0, 25, 20, 1, 22, 31, 105, 42]
abbrev dktX1_checksum_0 : List UInt8 := dkwX1_checksum_0 ++ dktX1_checksum_1
theorem dksX1_checksum_0 : cX1_checksum.data.toList.drop 0 = dktX1_checksum_0 := by decide +kernel
theorem dksX1_checksum_1 : cX1_checksum.data.toList.drop 23 = dktX1_checksum_1 := dk_seg dksX1_checksum_0 23 rfl rfl
theorem dksX1_checksum_2 : cX1_checksum.data.toList.drop 46 = dktX1_checksum_2 := dk_seg dksX1_checksum_1 23 rfl rfl
theorem dksX1_checksum_3 : cX1_checksum.data.toList.drop 70 = dktX1_checksum_3 := dk_seg dksX1_checksum_2 24 rfl rfl
theorem dksX1_checksum_4 : cX1_checksum.data.toList.drop 94 = dktX1_checksum_4 := dk_seg dksX1_checksum_3 24 rfl rfl
theorem dksX1_checksum_5 : cX1_checksum.data.toList.drop 118 = dktX1_checksum_5 := dk_seg dksX1_checksum_4 24 rfl rfl
theorem dksX1_checksum_6 : cX1_checksum.data.toList.drop 142 = dktX1_checksum_6 := dk_seg dksX1_checksum_5 24 rfl rfl
theorem dksX1_checksum_7 : cX1_checksum.data.toList.drop 165 = dktX1_checksum_7 := dk_seg dksX1_checksum_6 23 rfl rfl
theorem dksX1_checksum_8 : cX1_checksum.data.toList.drop 187 = dktX1_checksum_8 := dk_seg dksX1_checksum_7 22 rfl rfl
theorem dksX1_checksum_9 : cX1_checksum.data.toList.drop 211 = dktX1_checksum_9 := dk_seg dksX1_checksum_8 24 rfl rfl
theorem dX1_checksum_0 : decode cX1_checksum 0 = .ok (.ldc2_w 276, 3) := dk_20 1 20 (dk_at dksX1_checksum_0 0 rfl rfl)
theorem dX1_checksum_3 : decode cX1_checksum 3 = .ok (.lstore_n 1, 1) := dk_64 (dk_at dksX1_checksum_0 3 rfl rfl)
theorem dX1_checksum_4 : decode cX1_checksum 4 = .ok (.iconst 0, 1) := dk_3 (dk_at dksX1_checksum_0 4 rfl rfl)
theorem dX1_checksum_5 : decode cX1_checksum 5 = .ok (.istore_n 3, 1) := dk_62 (dk_at dksX1_checksum_0 5 rfl rfl)
theorem dX1_checksum_6 : decode cX1_checksum 6 = .ok (.iload_n 3, 1) := dk_29 (dk_at dksX1_checksum_0 6 rfl rfl)
theorem dX1_checksum_7 : decode cX1_checksum 7 = .ok (.aload_n 0, 1) := dk_42 (dk_at dksX1_checksum_0 7 rfl rfl)
theorem dX1_checksum_8 : decode cX1_checksum 8 = .ok (.getfield 10, 3) := dk_180 0 10 (dk_at dksX1_checksum_0 8 rfl rfl)
theorem dX1_checksum_11 : decode cX1_checksum 11 = .ok (.invokevirtual 42, 3) := dk_182 0 42 (dk_at dksX1_checksum_0 11 rfl rfl)
theorem dX1_checksum_14 : decode cX1_checksum 14 = .ok (.if_icmp .ge 25, 3) := dk_162 0 25 (dk_at dksX1_checksum_0 14 rfl rfl)
theorem dX1_checksum_17 : decode cX1_checksum 17 = .ok (.ldc2_w 278, 3) := dk_20 1 22 (dk_at dksX1_checksum_0 17 rfl rfl)
theorem dX1_checksum_20 : decode cX1_checksum 20 = .ok (.lload_n 1, 1) := dk_31 (dk_at dksX1_checksum_0 20 rfl rfl)
theorem dX1_checksum_21 : decode cX1_checksum 21 = .ok (.lmul, 1) := dk_105 (dk_at dksX1_checksum_0 21 rfl rfl)
theorem dX1_checksum_22 : decode cX1_checksum 22 = .ok (.aload_n 0, 1) := dk_42 (dk_at dksX1_checksum_0 22 rfl rfl)
theorem dX1_checksum_23 : decode cX1_checksum 23 = .ok (.getfield 10, 3) := dk_180 0 10 (dk_at dksX1_checksum_1 0 rfl rfl)
theorem dX1_checksum_26 : decode cX1_checksum 26 = .ok (.iload_n 3, 1) := dk_29 (dk_at dksX1_checksum_1 3 rfl rfl)
theorem dX1_checksum_27 : decode cX1_checksum 27 = .ok (.invokevirtual 88, 3) := dk_182 0 88 (dk_at dksX1_checksum_1 4 rfl rfl)
theorem dX1_checksum_30 : decode cX1_checksum 30 = .ok (.i2l, 1) := dk_133 (dk_at dksX1_checksum_1 7 rfl rfl)
theorem dX1_checksum_31 : decode cX1_checksum 31 = .ok (.ladd, 1) := dk_97 (dk_at dksX1_checksum_1 8 rfl rfl)
theorem dX1_checksum_32 : decode cX1_checksum 32 = .ok (.lstore_n 1, 1) := dk_64 (dk_at dksX1_checksum_1 9 rfl rfl)
theorem dX1_checksum_33 : decode cX1_checksum 33 = .ok (.iinc 3 1, 3) := dk_132 3 1 (dk_at dksX1_checksum_1 10 rfl rfl)
theorem dX1_checksum_36 : decode cX1_checksum 36 = .ok (.goto (-30), 3) := dk_167 255 226 (dk_at dksX1_checksum_1 13 rfl rfl)
theorem dX1_checksum_39 : decode cX1_checksum 39 = .ok (.aload_n 0, 1) := dk_42 (dk_at dksX1_checksum_1 16 rfl rfl)
theorem dX1_checksum_40 : decode cX1_checksum 40 = .ok (.getfield 19, 3) := dk_180 0 19 (dk_at dksX1_checksum_1 17 rfl rfl)
theorem dX1_checksum_43 : decode cX1_checksum 43 = .ok (.invokevirtual 232, 3) := dk_182 0 232 (dk_at dksX1_checksum_1 20 rfl rfl)
theorem dX1_checksum_46 : decode cX1_checksum 46 = .ok (.invokeinterface 135 1, 5) := by decide +kernel
theorem dX1_checksum_51 : decode cX1_checksum 51 = .ok (.astore_n 3, 1) := dk_78 (dk_at dksX1_checksum_2 5 rfl rfl)
theorem dX1_checksum_52 : decode cX1_checksum 52 = .ok (.aload_n 3, 1) := dk_45 (dk_at dksX1_checksum_2 6 rfl rfl)
theorem dX1_checksum_53 : decode cX1_checksum 53 = .ok (.invokeinterface 198 1, 5) := by decide +kernel
theorem dX1_checksum_58 : decode cX1_checksum 58 = .ok (.ifCond .eq 84, 3) := dk_153 0 84 (dk_at dksX1_checksum_2 12 rfl rfl)
theorem dX1_checksum_61 : decode cX1_checksum 61 = .ok (.aload_n 3, 1) := dk_45 (dk_at dksX1_checksum_2 15 rfl rfl)
theorem dX1_checksum_62 : decode cX1_checksum 62 = .ok (.invokeinterface 141 1, 5) := by decide +kernel
theorem dX1_checksum_67 : decode cX1_checksum 67 = .ok (.checkcast 181, 3) := dk_192 0 181 (dk_at dksX1_checksum_2 21 rfl rfl)
theorem dX1_checksum_70 : decode cX1_checksum 70 = .ok (.astore 4, 2) := dk_58 4 (dk_at dksX1_checksum_3 0 rfl rfl)
theorem dX1_checksum_72 : decode cX1_checksum 72 = .ok (.aload 4, 2) := dk_25 4 (dk_at dksX1_checksum_3 2 rfl rfl)
theorem dX1_checksum_74 : decode cX1_checksum 74 = .ok (.invokeinterface 180 1, 5) := by decide +kernel
theorem dX1_checksum_79 : decode cX1_checksum 79 = .ok (.checkcast 23, 3) := dk_192 0 23 (dk_at dksX1_checksum_3 9 rfl rfl)
theorem dX1_checksum_82 : decode cX1_checksum 82 = .ok (.astore 5, 2) := dk_58 5 (dk_at dksX1_checksum_3 12 rfl rfl)
theorem dX1_checksum_84 : decode cX1_checksum 84 = .ok (.iconst 0, 1) := dk_3 (dk_at dksX1_checksum_3 14 rfl rfl)
theorem dX1_checksum_85 : decode cX1_checksum 85 = .ok (.istore 6, 2) := dk_54 6 (dk_at dksX1_checksum_3 15 rfl rfl)
theorem dX1_checksum_87 : decode cX1_checksum 87 = .ok (.iload 6, 2) := dk_21 6 (dk_at dksX1_checksum_3 17 rfl rfl)
theorem dX1_checksum_89 : decode cX1_checksum 89 = .ok (.aload 5, 2) := dk_25 5 (dk_at dksX1_checksum_3 19 rfl rfl)
theorem dX1_checksum_91 : decode cX1_checksum 91 = .ok (.invokevirtual 151, 3) := dk_182 0 151 (dk_at dksX1_checksum_3 21 rfl rfl)
theorem dX1_checksum_94 : decode cX1_checksum 94 = .ok (.if_icmp .ge 24, 3) := dk_162 0 24 (dk_at dksX1_checksum_4 0 rfl rfl)
theorem dX1_checksum_97 : decode cX1_checksum 97 = .ok (.ldc2_w 278, 3) := dk_20 1 22 (dk_at dksX1_checksum_4 3 rfl rfl)
theorem dX1_checksum_100 : decode cX1_checksum 100 = .ok (.lload_n 1, 1) := dk_31 (dk_at dksX1_checksum_4 6 rfl rfl)
theorem dX1_checksum_101 : decode cX1_checksum 101 = .ok (.lmul, 1) := dk_105 (dk_at dksX1_checksum_4 7 rfl rfl)
theorem dX1_checksum_102 : decode cX1_checksum 102 = .ok (.aload 5, 2) := dk_25 5 (dk_at dksX1_checksum_4 8 rfl rfl)
theorem dX1_checksum_104 : decode cX1_checksum 104 = .ok (.iload 6, 2) := dk_21 6 (dk_at dksX1_checksum_4 10 rfl rfl)
theorem dX1_checksum_106 : decode cX1_checksum 106 = .ok (.invokevirtual 205, 3) := dk_182 0 205 (dk_at dksX1_checksum_4 12 rfl rfl)
theorem dX1_checksum_109 : decode cX1_checksum 109 = .ok (.i2l, 1) := dk_133 (dk_at dksX1_checksum_4 15 rfl rfl)
theorem dX1_checksum_110 : decode cX1_checksum 110 = .ok (.ladd, 1) := dk_97 (dk_at dksX1_checksum_4 16 rfl rfl)
theorem dX1_checksum_111 : decode cX1_checksum 111 = .ok (.lstore_n 1, 1) := dk_64 (dk_at dksX1_checksum_4 17 rfl rfl)
theorem dX1_checksum_112 : decode cX1_checksum 112 = .ok (.iinc 6 1, 3) := dk_132 6 1 (dk_at dksX1_checksum_4 18 rfl rfl)
theorem dX1_checksum_115 : decode cX1_checksum 115 = .ok (.goto (-28), 3) := dk_167 255 228 (dk_at dksX1_checksum_4 21 rfl rfl)
theorem dX1_checksum_118 : decode cX1_checksum 118 = .ok (.ldc2_w 278, 3) := dk_20 1 22 (dk_at dksX1_checksum_5 0 rfl rfl)
theorem dX1_checksum_121 : decode cX1_checksum 121 = .ok (.lload_n 1, 1) := dk_31 (dk_at dksX1_checksum_5 3 rfl rfl)
theorem dX1_checksum_122 : decode cX1_checksum 122 = .ok (.lmul, 1) := dk_105 (dk_at dksX1_checksum_5 4 rfl rfl)
theorem dX1_checksum_123 : decode cX1_checksum 123 = .ok (.aload 4, 2) := dk_25 4 (dk_at dksX1_checksum_5 5 rfl rfl)
theorem dX1_checksum_125 : decode cX1_checksum 125 = .ok (.invokeinterface 188 1, 5) := by decide +kernel
theorem dX1_checksum_130 : decode cX1_checksum 130 = .ok (.checkcast 105, 3) := dk_192 0 105 (dk_at dksX1_checksum_5 12 rfl rfl)
theorem dX1_checksum_133 : decode cX1_checksum 133 = .ok (.invokevirtual 114, 3) := dk_182 0 114 (dk_at dksX1_checksum_5 15 rfl rfl)
theorem dX1_checksum_136 : decode cX1_checksum 136 = .ok (.i2l, 1) := dk_133 (dk_at dksX1_checksum_5 18 rfl rfl)
theorem dX1_checksum_137 : decode cX1_checksum 137 = .ok (.ladd, 1) := dk_97 (dk_at dksX1_checksum_5 19 rfl rfl)
theorem dX1_checksum_138 : decode cX1_checksum 138 = .ok (.lstore_n 1, 1) := dk_64 (dk_at dksX1_checksum_5 20 rfl rfl)
theorem dX1_checksum_139 : decode cX1_checksum 139 = .ok (.goto (-87), 3) := dk_167 255 169 (dk_at dksX1_checksum_5 21 rfl rfl)
theorem dX1_checksum_142 : decode cX1_checksum 142 = .ok (.aload_n 0, 1) := dk_42 (dk_at dksX1_checksum_6 0 rfl rfl)
theorem dX1_checksum_143 : decode cX1_checksum 143 = .ok (.getfield 25, 3) := dk_180 0 25 (dk_at dksX1_checksum_6 1 rfl rfl)
theorem dX1_checksum_146 : decode cX1_checksum 146 = .ok (.astore_n 3, 1) := dk_78 (dk_at dksX1_checksum_6 4 rfl rfl)
theorem dX1_checksum_147 : decode cX1_checksum 147 = .ok (.aload_n 3, 1) := dk_45 (dk_at dksX1_checksum_6 5 rfl rfl)
theorem dX1_checksum_148 : decode cX1_checksum 148 = .ok (.arraylength, 1) := dk_190 (dk_at dksX1_checksum_6 6 rfl rfl)
theorem dX1_checksum_149 : decode cX1_checksum 149 = .ok (.istore 4, 2) := dk_54 4 (dk_at dksX1_checksum_6 7 rfl rfl)
theorem dX1_checksum_151 : decode cX1_checksum 151 = .ok (.iconst 0, 1) := dk_3 (dk_at dksX1_checksum_6 9 rfl rfl)
theorem dX1_checksum_152 : decode cX1_checksum 152 = .ok (.istore 5, 2) := dk_54 5 (dk_at dksX1_checksum_6 10 rfl rfl)
theorem dX1_checksum_154 : decode cX1_checksum 154 = .ok (.iload 5, 2) := dk_21 5 (dk_at dksX1_checksum_6 12 rfl rfl)
theorem dX1_checksum_156 : decode cX1_checksum 156 = .ok (.iload 4, 2) := dk_21 4 (dk_at dksX1_checksum_6 14 rfl rfl)
theorem dX1_checksum_158 : decode cX1_checksum 158 = .ok (.if_icmp .ge 62, 3) := dk_162 0 62 (dk_at dksX1_checksum_6 16 rfl rfl)
theorem dX1_checksum_161 : decode cX1_checksum 161 = .ok (.aload_n 3, 1) := dk_45 (dk_at dksX1_checksum_6 19 rfl rfl)
theorem dX1_checksum_162 : decode cX1_checksum 162 = .ok (.iload 5, 2) := dk_21 5 (dk_at dksX1_checksum_6 20 rfl rfl)
theorem dX1_checksum_164 : decode cX1_checksum 164 = .ok (.aaload, 1) := dk_50 (dk_at dksX1_checksum_6 22 rfl rfl)
theorem dX1_checksum_165 : decode cX1_checksum 165 = .ok (.astore 6, 2) := dk_58 6 (dk_at dksX1_checksum_7 0 rfl rfl)
theorem dX1_checksum_167 : decode cX1_checksum 167 = .ok (.ldc2_w 278, 3) := dk_20 1 22 (dk_at dksX1_checksum_7 2 rfl rfl)
theorem dX1_checksum_170 : decode cX1_checksum 170 = .ok (.lload_n 1, 1) := dk_31 (dk_at dksX1_checksum_7 5 rfl rfl)
theorem dX1_checksum_171 : decode cX1_checksum 171 = .ok (.lmul, 1) := dk_105 (dk_at dksX1_checksum_7 6 rfl rfl)
theorem dX1_checksum_172 : decode cX1_checksum 172 = .ok (.aload 6, 2) := dk_25 6 (dk_at dksX1_checksum_7 7 rfl rfl)
theorem dX1_checksum_174 : decode cX1_checksum 174 = .ok (.invokevirtual 151, 3) := dk_182 0 151 (dk_at dksX1_checksum_7 9 rfl rfl)
theorem dX1_checksum_177 : decode cX1_checksum 177 = .ok (.i2l, 1) := dk_133 (dk_at dksX1_checksum_7 12 rfl rfl)
theorem dX1_checksum_178 : decode cX1_checksum 178 = .ok (.ladd, 1) := dk_97 (dk_at dksX1_checksum_7 13 rfl rfl)
theorem dX1_checksum_179 : decode cX1_checksum 179 = .ok (.lstore_n 1, 1) := dk_64 (dk_at dksX1_checksum_7 14 rfl rfl)
theorem dX1_checksum_180 : decode cX1_checksum 180 = .ok (.iconst 0, 1) := dk_3 (dk_at dksX1_checksum_7 15 rfl rfl)
theorem dX1_checksum_181 : decode cX1_checksum 181 = .ok (.istore 7, 2) := dk_54 7 (dk_at dksX1_checksum_7 16 rfl rfl)
theorem dX1_checksum_183 : decode cX1_checksum 183 = .ok (.iload 7, 2) := dk_21 7 (dk_at dksX1_checksum_7 18 rfl rfl)
theorem dX1_checksum_185 : decode cX1_checksum 185 = .ok (.aload 6, 2) := dk_25 6 (dk_at dksX1_checksum_7 20 rfl rfl)
theorem dX1_checksum_187 : decode cX1_checksum 187 = .ok (.invokevirtual 151, 3) := dk_182 0 151 (dk_at dksX1_checksum_8 0 rfl rfl)
theorem dX1_checksum_190 : decode cX1_checksum 190 = .ok (.if_icmp .ge 24, 3) := dk_162 0 24 (dk_at dksX1_checksum_8 3 rfl rfl)
theorem dX1_checksum_193 : decode cX1_checksum 193 = .ok (.ldc2_w 278, 3) := dk_20 1 22 (dk_at dksX1_checksum_8 6 rfl rfl)
theorem dX1_checksum_196 : decode cX1_checksum 196 = .ok (.lload_n 1, 1) := dk_31 (dk_at dksX1_checksum_8 9 rfl rfl)
theorem dX1_checksum_197 : decode cX1_checksum 197 = .ok (.lmul, 1) := dk_105 (dk_at dksX1_checksum_8 10 rfl rfl)
theorem dX1_checksum_198 : decode cX1_checksum 198 = .ok (.aload 6, 2) := dk_25 6 (dk_at dksX1_checksum_8 11 rfl rfl)
theorem dX1_checksum_200 : decode cX1_checksum 200 = .ok (.iload 7, 2) := dk_21 7 (dk_at dksX1_checksum_8 13 rfl rfl)
theorem dX1_checksum_202 : decode cX1_checksum 202 = .ok (.invokevirtual 205, 3) := dk_182 0 205 (dk_at dksX1_checksum_8 15 rfl rfl)
theorem dX1_checksum_205 : decode cX1_checksum 205 = .ok (.i2l, 1) := dk_133 (dk_at dksX1_checksum_8 18 rfl rfl)
theorem dX1_checksum_206 : decode cX1_checksum 206 = .ok (.ladd, 1) := dk_97 (dk_at dksX1_checksum_8 19 rfl rfl)
theorem dX1_checksum_207 : decode cX1_checksum 207 = .ok (.lstore_n 1, 1) := dk_64 (dk_at dksX1_checksum_8 20 rfl rfl)
theorem dX1_checksum_208 : decode cX1_checksum 208 = .ok (.iinc 7 1, 3) := dk_132 7 1 (dk_at dksX1_checksum_8 21 rfl rfl)
theorem dX1_checksum_211 : decode cX1_checksum 211 = .ok (.goto (-28), 3) := dk_167 255 228 (dk_at dksX1_checksum_9 0 rfl rfl)
theorem dX1_checksum_214 : decode cX1_checksum 214 = .ok (.iinc 5 1, 3) := dk_132 5 1 (dk_at dksX1_checksum_9 3 rfl rfl)
theorem dX1_checksum_217 : decode cX1_checksum 217 = .ok (.goto (-63), 3) := dk_167 255 193 (dk_at dksX1_checksum_9 6 rfl rfl)
theorem dX1_checksum_220 : decode cX1_checksum 220 = .ok (.lload_n 1, 1) := dk_31 (dk_at dksX1_checksum_9 9 rfl rfl)
theorem dX1_checksum_221 : decode cX1_checksum 221 = .ok (.lreturn, 1) := dk_173 (dk_at dksX1_checksum_9 10 rfl rfl)
abbrev cX1_type : ByteArray := prog_1_method_3_code
def yX1_type : MethodName := ⟨RX1, "type", "(C)I"⟩
def dkwX1_type_2 : List UInt8 := [182, 0, 42, 172]
abbrev dktX1_type_2 : List UInt8 := dkwX1_type_2 ++ []
def dkwX1_type_1 : List UInt8 := [160, 0, 11, 187, 0, 46, 89, 183, 0, 48, 191, 42, 180, 0, 10, 27, 182, 0, 49, 87, 42, 180, 0, 10]
abbrev dktX1_type_1 : List UInt8 := dkwX1_type_1 ++ dktX1_type_2
def dkwX1_type_0 : List UInt8 := [27, 184, 0, 35, 154, 0, 11, 187, 0, 39, 89, 183, 0, 41, 191, 42, 180, 0, 10, 182, 0, 42, 16, 24]
abbrev dktX1_type_0 : List UInt8 := dkwX1_type_0 ++ dktX1_type_1
theorem dksX1_type_0 : cX1_type.data.toList.drop 0 = dktX1_type_0 := by decide +kernel
theorem dksX1_type_1 : cX1_type.data.toList.drop 24 = dktX1_type_1 := dk_seg dksX1_type_0 24 rfl rfl
theorem dksX1_type_2 : cX1_type.data.toList.drop 48 = dktX1_type_2 := dk_seg dksX1_type_1 24 rfl rfl
theorem dX1_type_0 : decode cX1_type 0 = .ok (.iload_n 1, 1) := dk_27 (dk_at dksX1_type_0 0 rfl rfl)
theorem dX1_type_1 : decode cX1_type 1 = .ok (.invokestatic 35, 3) := dk_184 0 35 (dk_at dksX1_type_0 1 rfl rfl)
theorem dX1_type_4 : decode cX1_type 4 = .ok (.ifCond .ne 11, 3) := dk_154 0 11 (dk_at dksX1_type_0 4 rfl rfl)
theorem dX1_type_7 : decode cX1_type 7 = .ok (.new 39, 3) := dk_187 0 39 (dk_at dksX1_type_0 7 rfl rfl)
theorem dX1_type_10 : decode cX1_type 10 = .ok (.dup, 1) := dk_89 (dk_at dksX1_type_0 10 rfl rfl)
theorem dX1_type_11 : decode cX1_type 11 = .ok (.invokespecial 41, 3) := dk_183 0 41 (dk_at dksX1_type_0 11 rfl rfl)
theorem dX1_type_14 : decode cX1_type 14 = .ok (.athrow, 1) := dk_191 (dk_at dksX1_type_0 14 rfl rfl)
theorem dX1_type_15 : decode cX1_type 15 = .ok (.aload_n 0, 1) := dk_42 (dk_at dksX1_type_0 15 rfl rfl)
theorem dX1_type_16 : decode cX1_type 16 = .ok (.getfield 10, 3) := dk_180 0 10 (dk_at dksX1_type_0 16 rfl rfl)
theorem dX1_type_19 : decode cX1_type 19 = .ok (.invokevirtual 42, 3) := dk_182 0 42 (dk_at dksX1_type_0 19 rfl rfl)
theorem dX1_type_22 : decode cX1_type 22 = .ok (.bipush 24, 2) := dk_16 24 (dk_at dksX1_type_0 22 rfl rfl)
theorem dX1_type_24 : decode cX1_type 24 = .ok (.if_icmp .ne 11, 3) := dk_160 0 11 (dk_at dksX1_type_1 0 rfl rfl)
theorem dX1_type_27 : decode cX1_type 27 = .ok (.new 46, 3) := dk_187 0 46 (dk_at dksX1_type_1 3 rfl rfl)
theorem dX1_type_30 : decode cX1_type 30 = .ok (.dup, 1) := dk_89 (dk_at dksX1_type_1 6 rfl rfl)
theorem dX1_type_31 : decode cX1_type 31 = .ok (.invokespecial 48, 3) := dk_183 0 48 (dk_at dksX1_type_1 7 rfl rfl)
theorem dX1_type_34 : decode cX1_type 34 = .ok (.athrow, 1) := dk_191 (dk_at dksX1_type_1 10 rfl rfl)
theorem dX1_type_35 : decode cX1_type 35 = .ok (.aload_n 0, 1) := dk_42 (dk_at dksX1_type_1 11 rfl rfl)
theorem dX1_type_36 : decode cX1_type 36 = .ok (.getfield 10, 3) := dk_180 0 10 (dk_at dksX1_type_1 12 rfl rfl)
theorem dX1_type_39 : decode cX1_type 39 = .ok (.iload_n 1, 1) := dk_27 (dk_at dksX1_type_1 15 rfl rfl)
theorem dX1_type_40 : decode cX1_type 40 = .ok (.invokevirtual 49, 3) := dk_182 0 49 (dk_at dksX1_type_1 16 rfl rfl)
theorem dX1_type_43 : decode cX1_type 43 = .ok (.pop, 1) := dk_87 (dk_at dksX1_type_1 19 rfl rfl)
theorem dX1_type_44 : decode cX1_type 44 = .ok (.aload_n 0, 1) := dk_42 (dk_at dksX1_type_1 20 rfl rfl)
theorem dX1_type_45 : decode cX1_type 45 = .ok (.getfield 10, 3) := dk_180 0 10 (dk_at dksX1_type_1 21 rfl rfl)
theorem dX1_type_48 : decode cX1_type 48 = .ok (.invokevirtual 42, 3) := dk_182 0 42 (dk_at dksX1_type_2 0 rfl rfl)
theorem dX1_type_51 : decode cX1_type 51 = .ok (.ireturn, 1) := dk_172 (dk_at dksX1_type_2 3 rfl rfl)
abbrev cX1_isSign : ByteArray := prog_1_method_2_code
def yX1_isSign : MethodName := ⟨RX1, "isSign", "(C)Z"⟩
def dkwX1_isSign_0 : List UInt8 := [26, 16, 97, 161, 0, 13, 26, 16, 103, 162, 0, 7, 4, 167, 0, 4, 3, 172]
abbrev dktX1_isSign_0 : List UInt8 := dkwX1_isSign_0 ++ []
theorem dksX1_isSign_0 : cX1_isSign.data.toList.drop 0 = dktX1_isSign_0 := by decide +kernel
theorem dX1_isSign_0 : decode cX1_isSign 0 = .ok (.iload_n 0, 1) := dk_26 (dk_at dksX1_isSign_0 0 rfl rfl)
theorem dX1_isSign_1 : decode cX1_isSign 1 = .ok (.bipush 97, 2) := dk_16 97 (dk_at dksX1_isSign_0 1 rfl rfl)
theorem dX1_isSign_3 : decode cX1_isSign 3 = .ok (.if_icmp .lt 13, 3) := dk_161 0 13 (dk_at dksX1_isSign_0 3 rfl rfl)
theorem dX1_isSign_6 : decode cX1_isSign 6 = .ok (.iload_n 0, 1) := dk_26 (dk_at dksX1_isSign_0 6 rfl rfl)
theorem dX1_isSign_7 : decode cX1_isSign 7 = .ok (.bipush 103, 2) := dk_16 103 (dk_at dksX1_isSign_0 7 rfl rfl)
theorem dX1_isSign_9 : decode cX1_isSign 9 = .ok (.if_icmp .ge 7, 3) := dk_162 0 7 (dk_at dksX1_isSign_0 9 rfl rfl)
theorem dX1_isSign_12 : decode cX1_isSign 12 = .ok (.iconst 1, 1) := dk_4 (dk_at dksX1_isSign_0 12 rfl rfl)
theorem dX1_isSign_13 : decode cX1_isSign 13 = .ok (.goto 4, 3) := dk_167 0 4 (dk_at dksX1_isSign_0 13 rfl rfl)
theorem dX1_isSign_16 : decode cX1_isSign 16 = .ok (.iconst 0, 1) := dk_3 (dk_at dksX1_isSign_0 16 rfl rfl)
theorem dX1_isSign_17 : decode cX1_isSign 17 = .ok (.ireturn, 1) := dk_172 (dk_at dksX1_isSign_0 17 rfl rfl)
abbrev cX1_typeMore : ByteArray := prog_1_method_4_code
def yX1_typeMore : MethodName := ⟨RX1, "typeMore", "(II)I"⟩
def dkwX1_typeMore_4 : List UInt8 := [182, 0, 42, 172]
abbrev dktX1_typeMore_4 : List UInt8 := dkwX1_typeMore_4 ++ []
def dkwX1_typeMore_3 : List UInt8 := [112, 96, 146, 182, 0, 49, 87, 29, 16, 6, 108, 62, 132, 4, 1, 167, 255, 226, 42, 180, 0, 10]
abbrev dktX1_typeMore_3 : List UInt8 := dkwX1_typeMore_3 ++ dktX1_typeMore_4
def dkwX1_typeMore_2 : List UInt8 := [183, 0, 48, 191, 28, 62, 3, 54, 4, 21, 4, 27, 162, 0, 30, 42, 180, 0, 10, 16, 97, 29, 16, 6]
abbrev dktX1_typeMore_2 : List UInt8 := dkwX1_typeMore_2 ++ dktX1_typeMore_3
def dkwX1_typeMore_1 : List UInt8 := [89, 183, 0, 41, 191, 42, 180, 0, 10, 182, 0, 42, 27, 96, 16, 24, 164, 0, 11, 187, 0, 46, 89]
abbrev dktX1_typeMore_1 : List UInt8 := dkwX1_typeMore_1 ++ dktX1_typeMore_2
def dkwX1_typeMore_0 : List UInt8 := [27, 4, 161, 0, 19, 27, 16, 8, 163, 0, 13, 28, 155, 0, 9, 28, 18, 53, 164, 0, 11, 187, 0, 39]
abbrev dktX1_typeMore_0 : List UInt8 := dkwX1_typeMore_0 ++ dktX1_typeMore_1
theorem dksX1_typeMore_0 : cX1_typeMore.data.toList.drop 0 = dktX1_typeMore_0 := by decide +kernel
theorem dksX1_typeMore_1 : cX1_typeMore.data.toList.drop 24 = dktX1_typeMore_1 := dk_seg dksX1_typeMore_0 24 rfl rfl
theorem dksX1_typeMore_2 : cX1_typeMore.data.toList.drop 47 = dktX1_typeMore_2 := dk_seg dksX1_typeMore_1 23 rfl rfl
theorem dksX1_typeMore_3 : cX1_typeMore.data.toList.drop 71 = dktX1_typeMore_3 := dk_seg dksX1_typeMore_2 24 rfl rfl
theorem dksX1_typeMore_4 : cX1_typeMore.data.toList.drop 93 = dktX1_typeMore_4 := dk_seg dksX1_typeMore_3 22 rfl rfl
theorem dX1_typeMore_0 : decode cX1_typeMore 0 = .ok (.iload_n 1, 1) := dk_27 (dk_at dksX1_typeMore_0 0 rfl rfl)
theorem dX1_typeMore_1 : decode cX1_typeMore 1 = .ok (.iconst 1, 1) := dk_4 (dk_at dksX1_typeMore_0 1 rfl rfl)
theorem dX1_typeMore_2 : decode cX1_typeMore 2 = .ok (.if_icmp .lt 19, 3) := dk_161 0 19 (dk_at dksX1_typeMore_0 2 rfl rfl)
theorem dX1_typeMore_5 : decode cX1_typeMore 5 = .ok (.iload_n 1, 1) := dk_27 (dk_at dksX1_typeMore_0 5 rfl rfl)
theorem dX1_typeMore_6 : decode cX1_typeMore 6 = .ok (.bipush 8, 2) := dk_16 8 (dk_at dksX1_typeMore_0 6 rfl rfl)
theorem dX1_typeMore_8 : decode cX1_typeMore 8 = .ok (.if_icmp .gt 13, 3) := dk_163 0 13 (dk_at dksX1_typeMore_0 8 rfl rfl)
theorem dX1_typeMore_11 : decode cX1_typeMore 11 = .ok (.iload_n 2, 1) := dk_28 (dk_at dksX1_typeMore_0 11 rfl rfl)
theorem dX1_typeMore_12 : decode cX1_typeMore 12 = .ok (.ifCond .lt 9, 3) := dk_155 0 9 (dk_at dksX1_typeMore_0 12 rfl rfl)
theorem dX1_typeMore_15 : decode cX1_typeMore 15 = .ok (.iload_n 2, 1) := dk_28 (dk_at dksX1_typeMore_0 15 rfl rfl)
theorem dX1_typeMore_16 : decode cX1_typeMore 16 = .ok (.ldc 53, 2) := dk_18 53 (dk_at dksX1_typeMore_0 16 rfl rfl)
theorem dX1_typeMore_18 : decode cX1_typeMore 18 = .ok (.if_icmp .le 11, 3) := dk_164 0 11 (dk_at dksX1_typeMore_0 18 rfl rfl)
theorem dX1_typeMore_21 : decode cX1_typeMore 21 = .ok (.new 39, 3) := dk_187 0 39 (dk_at dksX1_typeMore_0 21 rfl rfl)
theorem dX1_typeMore_24 : decode cX1_typeMore 24 = .ok (.dup, 1) := dk_89 (dk_at dksX1_typeMore_1 0 rfl rfl)
theorem dX1_typeMore_25 : decode cX1_typeMore 25 = .ok (.invokespecial 41, 3) := dk_183 0 41 (dk_at dksX1_typeMore_1 1 rfl rfl)
theorem dX1_typeMore_28 : decode cX1_typeMore 28 = .ok (.athrow, 1) := dk_191 (dk_at dksX1_typeMore_1 4 rfl rfl)
theorem dX1_typeMore_29 : decode cX1_typeMore 29 = .ok (.aload_n 0, 1) := dk_42 (dk_at dksX1_typeMore_1 5 rfl rfl)
theorem dX1_typeMore_30 : decode cX1_typeMore 30 = .ok (.getfield 10, 3) := dk_180 0 10 (dk_at dksX1_typeMore_1 6 rfl rfl)
theorem dX1_typeMore_33 : decode cX1_typeMore 33 = .ok (.invokevirtual 42, 3) := dk_182 0 42 (dk_at dksX1_typeMore_1 9 rfl rfl)
theorem dX1_typeMore_36 : decode cX1_typeMore 36 = .ok (.iload_n 1, 1) := dk_27 (dk_at dksX1_typeMore_1 12 rfl rfl)
theorem dX1_typeMore_37 : decode cX1_typeMore 37 = .ok (.iadd, 1) := dk_96 (dk_at dksX1_typeMore_1 13 rfl rfl)
theorem dX1_typeMore_38 : decode cX1_typeMore 38 = .ok (.bipush 24, 2) := dk_16 24 (dk_at dksX1_typeMore_1 14 rfl rfl)
theorem dX1_typeMore_40 : decode cX1_typeMore 40 = .ok (.if_icmp .le 11, 3) := dk_164 0 11 (dk_at dksX1_typeMore_1 16 rfl rfl)
theorem dX1_typeMore_43 : decode cX1_typeMore 43 = .ok (.new 46, 3) := dk_187 0 46 (dk_at dksX1_typeMore_1 19 rfl rfl)
theorem dX1_typeMore_46 : decode cX1_typeMore 46 = .ok (.dup, 1) := dk_89 (dk_at dksX1_typeMore_1 22 rfl rfl)
theorem dX1_typeMore_47 : decode cX1_typeMore 47 = .ok (.invokespecial 48, 3) := dk_183 0 48 (dk_at dksX1_typeMore_2 0 rfl rfl)
theorem dX1_typeMore_50 : decode cX1_typeMore 50 = .ok (.athrow, 1) := dk_191 (dk_at dksX1_typeMore_2 3 rfl rfl)
theorem dX1_typeMore_51 : decode cX1_typeMore 51 = .ok (.iload_n 2, 1) := dk_28 (dk_at dksX1_typeMore_2 4 rfl rfl)
theorem dX1_typeMore_52 : decode cX1_typeMore 52 = .ok (.istore_n 3, 1) := dk_62 (dk_at dksX1_typeMore_2 5 rfl rfl)
theorem dX1_typeMore_53 : decode cX1_typeMore 53 = .ok (.iconst 0, 1) := dk_3 (dk_at dksX1_typeMore_2 6 rfl rfl)
theorem dX1_typeMore_54 : decode cX1_typeMore 54 = .ok (.istore 4, 2) := dk_54 4 (dk_at dksX1_typeMore_2 7 rfl rfl)
theorem dX1_typeMore_56 : decode cX1_typeMore 56 = .ok (.iload 4, 2) := dk_21 4 (dk_at dksX1_typeMore_2 9 rfl rfl)
theorem dX1_typeMore_58 : decode cX1_typeMore 58 = .ok (.iload_n 1, 1) := dk_27 (dk_at dksX1_typeMore_2 11 rfl rfl)
theorem dX1_typeMore_59 : decode cX1_typeMore 59 = .ok (.if_icmp .ge 30, 3) := dk_162 0 30 (dk_at dksX1_typeMore_2 12 rfl rfl)
theorem dX1_typeMore_62 : decode cX1_typeMore 62 = .ok (.aload_n 0, 1) := dk_42 (dk_at dksX1_typeMore_2 15 rfl rfl)
theorem dX1_typeMore_63 : decode cX1_typeMore 63 = .ok (.getfield 10, 3) := dk_180 0 10 (dk_at dksX1_typeMore_2 16 rfl rfl)
theorem dX1_typeMore_66 : decode cX1_typeMore 66 = .ok (.bipush 97, 2) := dk_16 97 (dk_at dksX1_typeMore_2 19 rfl rfl)
theorem dX1_typeMore_68 : decode cX1_typeMore 68 = .ok (.iload_n 3, 1) := dk_29 (dk_at dksX1_typeMore_2 21 rfl rfl)
theorem dX1_typeMore_69 : decode cX1_typeMore 69 = .ok (.bipush 6, 2) := dk_16 6 (dk_at dksX1_typeMore_2 22 rfl rfl)
theorem dX1_typeMore_71 : decode cX1_typeMore 71 = .ok (.irem, 1) := dk_112 (dk_at dksX1_typeMore_3 0 rfl rfl)
theorem dX1_typeMore_72 : decode cX1_typeMore 72 = .ok (.iadd, 1) := dk_96 (dk_at dksX1_typeMore_3 1 rfl rfl)
theorem dX1_typeMore_73 : decode cX1_typeMore 73 = .ok (.i2c, 1) := dk_146 (dk_at dksX1_typeMore_3 2 rfl rfl)
theorem dX1_typeMore_74 : decode cX1_typeMore 74 = .ok (.invokevirtual 49, 3) := dk_182 0 49 (dk_at dksX1_typeMore_3 3 rfl rfl)
theorem dX1_typeMore_77 : decode cX1_typeMore 77 = .ok (.pop, 1) := dk_87 (dk_at dksX1_typeMore_3 6 rfl rfl)
theorem dX1_typeMore_78 : decode cX1_typeMore 78 = .ok (.iload_n 3, 1) := dk_29 (dk_at dksX1_typeMore_3 7 rfl rfl)
theorem dX1_typeMore_79 : decode cX1_typeMore 79 = .ok (.bipush 6, 2) := dk_16 6 (dk_at dksX1_typeMore_3 8 rfl rfl)
theorem dX1_typeMore_81 : decode cX1_typeMore 81 = .ok (.idiv, 1) := dk_108 (dk_at dksX1_typeMore_3 10 rfl rfl)
theorem dX1_typeMore_82 : decode cX1_typeMore 82 = .ok (.istore_n 3, 1) := dk_62 (dk_at dksX1_typeMore_3 11 rfl rfl)
theorem dX1_typeMore_83 : decode cX1_typeMore 83 = .ok (.iinc 4 1, 3) := dk_132 4 1 (dk_at dksX1_typeMore_3 12 rfl rfl)
theorem dX1_typeMore_86 : decode cX1_typeMore 86 = .ok (.goto (-30), 3) := dk_167 255 226 (dk_at dksX1_typeMore_3 15 rfl rfl)
theorem dX1_typeMore_89 : decode cX1_typeMore 89 = .ok (.aload_n 0, 1) := dk_42 (dk_at dksX1_typeMore_3 18 rfl rfl)
theorem dX1_typeMore_90 : decode cX1_typeMore 90 = .ok (.getfield 10, 3) := dk_180 0 10 (dk_at dksX1_typeMore_3 19 rfl rfl)
theorem dX1_typeMore_93 : decode cX1_typeMore 93 = .ok (.invokevirtual 42, 3) := dk_182 0 42 (dk_at dksX1_typeMore_4 0 rfl rfl)
theorem dX1_typeMore_96 : decode cX1_typeMore 96 = .ok (.ireturn, 1) := dk_172 (dk_at dksX1_typeMore_4 3 rfl rfl)
abbrev cX1_typeAt : ByteArray := prog_1_method_5_code
def yX1_typeAt : MethodName := ⟨RX1, "typeAt", "(IC)I"⟩
def dkwX1_typeAt_3 : List UInt8 := [180, 0, 10, 182, 0, 42, 172]
abbrev dktX1_typeAt_3 : List UInt8 := dkwX1_typeAt_3 ++ []
def dkwX1_typeAt_2 : List UInt8 := [160, 0, 11, 187, 0, 46, 89, 183, 0, 48, 191, 42, 180, 0, 10, 27, 28, 182, 0, 57, 87, 42]
abbrev dktX1_typeAt_2 : List UInt8 := dkwX1_typeAt_2 ++ dktX1_typeAt_3
def dkwX1_typeAt_1 : List UInt8 := [184, 0, 35, 154, 0, 11, 187, 0, 39, 89, 183, 0, 41, 191, 42, 180, 0, 10, 182, 0, 42, 16, 24]
abbrev dktX1_typeAt_1 : List UInt8 := dkwX1_typeAt_1 ++ dktX1_typeAt_2
def dkwX1_typeAt_0 : List UInt8 := [27, 155, 0, 14, 27, 42, 180, 0, 10, 182, 0, 42, 164, 0, 11, 187, 0, 54, 89, 183, 0, 56, 191, 28]
abbrev dktX1_typeAt_0 : List UInt8 := dkwX1_typeAt_0 ++ dktX1_typeAt_1
theorem dksX1_typeAt_0 : cX1_typeAt.data.toList.drop 0 = dktX1_typeAt_0 := by decide +kernel
theorem dksX1_typeAt_1 : cX1_typeAt.data.toList.drop 24 = dktX1_typeAt_1 := dk_seg dksX1_typeAt_0 24 rfl rfl
theorem dksX1_typeAt_2 : cX1_typeAt.data.toList.drop 47 = dktX1_typeAt_2 := dk_seg dksX1_typeAt_1 23 rfl rfl
theorem dksX1_typeAt_3 : cX1_typeAt.data.toList.drop 69 = dktX1_typeAt_3 := dk_seg dksX1_typeAt_2 22 rfl rfl
theorem dX1_typeAt_0 : decode cX1_typeAt 0 = .ok (.iload_n 1, 1) := dk_27 (dk_at dksX1_typeAt_0 0 rfl rfl)
theorem dX1_typeAt_1 : decode cX1_typeAt 1 = .ok (.ifCond .lt 14, 3) := dk_155 0 14 (dk_at dksX1_typeAt_0 1 rfl rfl)
theorem dX1_typeAt_4 : decode cX1_typeAt 4 = .ok (.iload_n 1, 1) := dk_27 (dk_at dksX1_typeAt_0 4 rfl rfl)
theorem dX1_typeAt_5 : decode cX1_typeAt 5 = .ok (.aload_n 0, 1) := dk_42 (dk_at dksX1_typeAt_0 5 rfl rfl)
theorem dX1_typeAt_6 : decode cX1_typeAt 6 = .ok (.getfield 10, 3) := dk_180 0 10 (dk_at dksX1_typeAt_0 6 rfl rfl)
theorem dX1_typeAt_9 : decode cX1_typeAt 9 = .ok (.invokevirtual 42, 3) := dk_182 0 42 (dk_at dksX1_typeAt_0 9 rfl rfl)
theorem dX1_typeAt_12 : decode cX1_typeAt 12 = .ok (.if_icmp .le 11, 3) := dk_164 0 11 (dk_at dksX1_typeAt_0 12 rfl rfl)
theorem dX1_typeAt_15 : decode cX1_typeAt 15 = .ok (.new 54, 3) := dk_187 0 54 (dk_at dksX1_typeAt_0 15 rfl rfl)
theorem dX1_typeAt_18 : decode cX1_typeAt 18 = .ok (.dup, 1) := dk_89 (dk_at dksX1_typeAt_0 18 rfl rfl)
theorem dX1_typeAt_19 : decode cX1_typeAt 19 = .ok (.invokespecial 56, 3) := dk_183 0 56 (dk_at dksX1_typeAt_0 19 rfl rfl)
theorem dX1_typeAt_22 : decode cX1_typeAt 22 = .ok (.athrow, 1) := dk_191 (dk_at dksX1_typeAt_0 22 rfl rfl)
theorem dX1_typeAt_23 : decode cX1_typeAt 23 = .ok (.iload_n 2, 1) := dk_28 (dk_at dksX1_typeAt_0 23 rfl rfl)
theorem dX1_typeAt_24 : decode cX1_typeAt 24 = .ok (.invokestatic 35, 3) := dk_184 0 35 (dk_at dksX1_typeAt_1 0 rfl rfl)
theorem dX1_typeAt_27 : decode cX1_typeAt 27 = .ok (.ifCond .ne 11, 3) := dk_154 0 11 (dk_at dksX1_typeAt_1 3 rfl rfl)
theorem dX1_typeAt_30 : decode cX1_typeAt 30 = .ok (.new 39, 3) := dk_187 0 39 (dk_at dksX1_typeAt_1 6 rfl rfl)
theorem dX1_typeAt_33 : decode cX1_typeAt 33 = .ok (.dup, 1) := dk_89 (dk_at dksX1_typeAt_1 9 rfl rfl)
theorem dX1_typeAt_34 : decode cX1_typeAt 34 = .ok (.invokespecial 41, 3) := dk_183 0 41 (dk_at dksX1_typeAt_1 10 rfl rfl)
theorem dX1_typeAt_37 : decode cX1_typeAt 37 = .ok (.athrow, 1) := dk_191 (dk_at dksX1_typeAt_1 13 rfl rfl)
theorem dX1_typeAt_38 : decode cX1_typeAt 38 = .ok (.aload_n 0, 1) := dk_42 (dk_at dksX1_typeAt_1 14 rfl rfl)
theorem dX1_typeAt_39 : decode cX1_typeAt 39 = .ok (.getfield 10, 3) := dk_180 0 10 (dk_at dksX1_typeAt_1 15 rfl rfl)
theorem dX1_typeAt_42 : decode cX1_typeAt 42 = .ok (.invokevirtual 42, 3) := dk_182 0 42 (dk_at dksX1_typeAt_1 18 rfl rfl)
theorem dX1_typeAt_45 : decode cX1_typeAt 45 = .ok (.bipush 24, 2) := dk_16 24 (dk_at dksX1_typeAt_1 21 rfl rfl)
theorem dX1_typeAt_47 : decode cX1_typeAt 47 = .ok (.if_icmp .ne 11, 3) := dk_160 0 11 (dk_at dksX1_typeAt_2 0 rfl rfl)
theorem dX1_typeAt_50 : decode cX1_typeAt 50 = .ok (.new 46, 3) := dk_187 0 46 (dk_at dksX1_typeAt_2 3 rfl rfl)
theorem dX1_typeAt_53 : decode cX1_typeAt 53 = .ok (.dup, 1) := dk_89 (dk_at dksX1_typeAt_2 6 rfl rfl)
theorem dX1_typeAt_54 : decode cX1_typeAt 54 = .ok (.invokespecial 48, 3) := dk_183 0 48 (dk_at dksX1_typeAt_2 7 rfl rfl)
theorem dX1_typeAt_57 : decode cX1_typeAt 57 = .ok (.athrow, 1) := dk_191 (dk_at dksX1_typeAt_2 10 rfl rfl)
theorem dX1_typeAt_58 : decode cX1_typeAt 58 = .ok (.aload_n 0, 1) := dk_42 (dk_at dksX1_typeAt_2 11 rfl rfl)
theorem dX1_typeAt_59 : decode cX1_typeAt 59 = .ok (.getfield 10, 3) := dk_180 0 10 (dk_at dksX1_typeAt_2 12 rfl rfl)
theorem dX1_typeAt_62 : decode cX1_typeAt 62 = .ok (.iload_n 1, 1) := dk_27 (dk_at dksX1_typeAt_2 15 rfl rfl)
theorem dX1_typeAt_63 : decode cX1_typeAt 63 = .ok (.iload_n 2, 1) := dk_28 (dk_at dksX1_typeAt_2 16 rfl rfl)
theorem dX1_typeAt_64 : decode cX1_typeAt 64 = .ok (.invokevirtual 57, 3) := dk_182 0 57 (dk_at dksX1_typeAt_2 17 rfl rfl)
theorem dX1_typeAt_67 : decode cX1_typeAt 67 = .ok (.pop, 1) := dk_87 (dk_at dksX1_typeAt_2 20 rfl rfl)
theorem dX1_typeAt_68 : decode cX1_typeAt 68 = .ok (.aload_n 0, 1) := dk_42 (dk_at dksX1_typeAt_2 21 rfl rfl)
theorem dX1_typeAt_69 : decode cX1_typeAt 69 = .ok (.getfield 10, 3) := dk_180 0 10 (dk_at dksX1_typeAt_3 0 rfl rfl)
theorem dX1_typeAt_72 : decode cX1_typeAt 72 = .ok (.invokevirtual 42, 3) := dk_182 0 42 (dk_at dksX1_typeAt_3 3 rfl rfl)
theorem dX1_typeAt_75 : decode cX1_typeAt 75 = .ok (.ireturn, 1) := dk_172 (dk_at dksX1_typeAt_3 6 rfl rfl)
abbrev cX1_drop : ByteArray := prog_1_method_6_code
def yX1_drop : MethodName := ⟨RX1, "drop", "()I"⟩
def dkwX1_drop_1 : List UInt8 := [180, 0, 10, 182, 0, 42, 4, 100, 182, 0, 64, 87, 42, 180, 0, 10, 182, 0, 42, 172]
abbrev dktX1_drop_1 : List UInt8 := dkwX1_drop_1 ++ []
def dkwX1_drop_0 : List UInt8 := [42, 180, 0, 10, 182, 0, 42, 154, 0, 11, 187, 0, 61, 89, 183, 0, 63, 191, 42, 180, 0, 10, 42]
abbrev dktX1_drop_0 : List UInt8 := dkwX1_drop_0 ++ dktX1_drop_1
theorem dksX1_drop_0 : cX1_drop.data.toList.drop 0 = dktX1_drop_0 := by decide +kernel
theorem dksX1_drop_1 : cX1_drop.data.toList.drop 23 = dktX1_drop_1 := dk_seg dksX1_drop_0 23 rfl rfl
theorem dX1_drop_0 : decode cX1_drop 0 = .ok (.aload_n 0, 1) := dk_42 (dk_at dksX1_drop_0 0 rfl rfl)
theorem dX1_drop_1 : decode cX1_drop 1 = .ok (.getfield 10, 3) := dk_180 0 10 (dk_at dksX1_drop_0 1 rfl rfl)
theorem dX1_drop_4 : decode cX1_drop 4 = .ok (.invokevirtual 42, 3) := dk_182 0 42 (dk_at dksX1_drop_0 4 rfl rfl)
theorem dX1_drop_7 : decode cX1_drop 7 = .ok (.ifCond .ne 11, 3) := dk_154 0 11 (dk_at dksX1_drop_0 7 rfl rfl)
theorem dX1_drop_10 : decode cX1_drop 10 = .ok (.new 61, 3) := dk_187 0 61 (dk_at dksX1_drop_0 10 rfl rfl)
theorem dX1_drop_13 : decode cX1_drop 13 = .ok (.dup, 1) := dk_89 (dk_at dksX1_drop_0 13 rfl rfl)
theorem dX1_drop_14 : decode cX1_drop 14 = .ok (.invokespecial 63, 3) := dk_183 0 63 (dk_at dksX1_drop_0 14 rfl rfl)
theorem dX1_drop_17 : decode cX1_drop 17 = .ok (.athrow, 1) := dk_191 (dk_at dksX1_drop_0 17 rfl rfl)
theorem dX1_drop_18 : decode cX1_drop 18 = .ok (.aload_n 0, 1) := dk_42 (dk_at dksX1_drop_0 18 rfl rfl)
theorem dX1_drop_19 : decode cX1_drop 19 = .ok (.getfield 10, 3) := dk_180 0 10 (dk_at dksX1_drop_0 19 rfl rfl)
theorem dX1_drop_22 : decode cX1_drop 22 = .ok (.aload_n 0, 1) := dk_42 (dk_at dksX1_drop_0 22 rfl rfl)
theorem dX1_drop_23 : decode cX1_drop 23 = .ok (.getfield 10, 3) := dk_180 0 10 (dk_at dksX1_drop_1 0 rfl rfl)
theorem dX1_drop_26 : decode cX1_drop 26 = .ok (.invokevirtual 42, 3) := dk_182 0 42 (dk_at dksX1_drop_1 3 rfl rfl)
theorem dX1_drop_29 : decode cX1_drop 29 = .ok (.iconst 1, 1) := dk_4 (dk_at dksX1_drop_1 6 rfl rfl)
theorem dX1_drop_30 : decode cX1_drop 30 = .ok (.isub, 1) := dk_100 (dk_at dksX1_drop_1 7 rfl rfl)
theorem dX1_drop_31 : decode cX1_drop 31 = .ok (.invokevirtual 64, 3) := dk_182 0 64 (dk_at dksX1_drop_1 8 rfl rfl)
theorem dX1_drop_34 : decode cX1_drop 34 = .ok (.pop, 1) := dk_87 (dk_at dksX1_drop_1 11 rfl rfl)
theorem dX1_drop_35 : decode cX1_drop 35 = .ok (.aload_n 0, 1) := dk_42 (dk_at dksX1_drop_1 12 rfl rfl)
theorem dX1_drop_36 : decode cX1_drop 36 = .ok (.getfield 10, 3) := dk_180 0 10 (dk_at dksX1_drop_1 13 rfl rfl)
theorem dX1_drop_39 : decode cX1_drop 39 = .ok (.invokevirtual 42, 3) := dk_182 0 42 (dk_at dksX1_drop_1 16 rfl rfl)
theorem dX1_drop_42 : decode cX1_drop 42 = .ok (.ireturn, 1) := dk_172 (dk_at dksX1_drop_1 19 rfl rfl)
abbrev cX1_clip : ByteArray := prog_1_method_7_code
def yX1_clip : MethodName := ⟨RX1, "clip", "(II)I"⟩
def dkwX1_clip_1 : List UInt8 := [183, 0, 56, 191, 42, 180, 0, 10, 27, 28, 182, 0, 68, 87, 42, 180, 0, 10, 182, 0, 42, 172]
abbrev dktX1_clip_1 : List UInt8 := dkwX1_clip_1 ++ []
def dkwX1_clip_0 : List UInt8 := [27, 155, 0, 19, 28, 27, 161, 0, 14, 28, 42, 180, 0, 10, 182, 0, 42, 164, 0, 11, 187, 0, 54, 89]
abbrev dktX1_clip_0 : List UInt8 := dkwX1_clip_0 ++ dktX1_clip_1
theorem dksX1_clip_0 : cX1_clip.data.toList.drop 0 = dktX1_clip_0 := by decide +kernel
theorem dksX1_clip_1 : cX1_clip.data.toList.drop 24 = dktX1_clip_1 := dk_seg dksX1_clip_0 24 rfl rfl
theorem dX1_clip_0 : decode cX1_clip 0 = .ok (.iload_n 1, 1) := dk_27 (dk_at dksX1_clip_0 0 rfl rfl)
theorem dX1_clip_1 : decode cX1_clip 1 = .ok (.ifCond .lt 19, 3) := dk_155 0 19 (dk_at dksX1_clip_0 1 rfl rfl)
theorem dX1_clip_4 : decode cX1_clip 4 = .ok (.iload_n 2, 1) := dk_28 (dk_at dksX1_clip_0 4 rfl rfl)
theorem dX1_clip_5 : decode cX1_clip 5 = .ok (.iload_n 1, 1) := dk_27 (dk_at dksX1_clip_0 5 rfl rfl)
theorem dX1_clip_6 : decode cX1_clip 6 = .ok (.if_icmp .lt 14, 3) := dk_161 0 14 (dk_at dksX1_clip_0 6 rfl rfl)
theorem dX1_clip_9 : decode cX1_clip 9 = .ok (.iload_n 2, 1) := dk_28 (dk_at dksX1_clip_0 9 rfl rfl)
theorem dX1_clip_10 : decode cX1_clip 10 = .ok (.aload_n 0, 1) := dk_42 (dk_at dksX1_clip_0 10 rfl rfl)
theorem dX1_clip_11 : decode cX1_clip 11 = .ok (.getfield 10, 3) := dk_180 0 10 (dk_at dksX1_clip_0 11 rfl rfl)
theorem dX1_clip_14 : decode cX1_clip 14 = .ok (.invokevirtual 42, 3) := dk_182 0 42 (dk_at dksX1_clip_0 14 rfl rfl)
theorem dX1_clip_17 : decode cX1_clip 17 = .ok (.if_icmp .le 11, 3) := dk_164 0 11 (dk_at dksX1_clip_0 17 rfl rfl)
theorem dX1_clip_20 : decode cX1_clip 20 = .ok (.new 54, 3) := dk_187 0 54 (dk_at dksX1_clip_0 20 rfl rfl)
theorem dX1_clip_23 : decode cX1_clip 23 = .ok (.dup, 1) := dk_89 (dk_at dksX1_clip_0 23 rfl rfl)
theorem dX1_clip_24 : decode cX1_clip 24 = .ok (.invokespecial 56, 3) := dk_183 0 56 (dk_at dksX1_clip_1 0 rfl rfl)
theorem dX1_clip_27 : decode cX1_clip 27 = .ok (.athrow, 1) := dk_191 (dk_at dksX1_clip_1 3 rfl rfl)
theorem dX1_clip_28 : decode cX1_clip 28 = .ok (.aload_n 0, 1) := dk_42 (dk_at dksX1_clip_1 4 rfl rfl)
theorem dX1_clip_29 : decode cX1_clip 29 = .ok (.getfield 10, 3) := dk_180 0 10 (dk_at dksX1_clip_1 5 rfl rfl)
theorem dX1_clip_32 : decode cX1_clip 32 = .ok (.iload_n 1, 1) := dk_27 (dk_at dksX1_clip_1 8 rfl rfl)
theorem dX1_clip_33 : decode cX1_clip 33 = .ok (.iload_n 2, 1) := dk_28 (dk_at dksX1_clip_1 9 rfl rfl)
theorem dX1_clip_34 : decode cX1_clip 34 = .ok (.invokevirtual 68, 3) := dk_182 0 68 (dk_at dksX1_clip_1 10 rfl rfl)
theorem dX1_clip_37 : decode cX1_clip 37 = .ok (.pop, 1) := dk_87 (dk_at dksX1_clip_1 13 rfl rfl)
theorem dX1_clip_38 : decode cX1_clip 38 = .ok (.aload_n 0, 1) := dk_42 (dk_at dksX1_clip_1 14 rfl rfl)
theorem dX1_clip_39 : decode cX1_clip 39 = .ok (.getfield 10, 3) := dk_180 0 10 (dk_at dksX1_clip_1 15 rfl rfl)
theorem dX1_clip_42 : decode cX1_clip 42 = .ok (.invokevirtual 42, 3) := dk_182 0 42 (dk_at dksX1_clip_1 18 rfl rfl)
theorem dX1_clip_45 : decode cX1_clip 45 = .ok (.ireturn, 1) := dk_172 (dk_at dksX1_clip_1 21 rfl rfl)
abbrev cX1_signAt : ByteArray := prog_1_method_10_code
def yX1_signAt : MethodName := ⟨RX1, "signAt", "(I)C"⟩
def dkwX1_signAt_1 : List UInt8 := [180, 0, 10, 27, 182, 0, 88, 172]
abbrev dktX1_signAt_1 : List UInt8 := dkwX1_signAt_1 ++ []
def dkwX1_signAt_0 : List UInt8 := [27, 155, 0, 14, 27, 42, 180, 0, 10, 182, 0, 42, 161, 0, 11, 187, 0, 54, 89, 183, 0, 56, 191, 42]
abbrev dktX1_signAt_0 : List UInt8 := dkwX1_signAt_0 ++ dktX1_signAt_1
theorem dksX1_signAt_0 : cX1_signAt.data.toList.drop 0 = dktX1_signAt_0 := by decide +kernel
theorem dksX1_signAt_1 : cX1_signAt.data.toList.drop 24 = dktX1_signAt_1 := dk_seg dksX1_signAt_0 24 rfl rfl
theorem dX1_signAt_0 : decode cX1_signAt 0 = .ok (.iload_n 1, 1) := dk_27 (dk_at dksX1_signAt_0 0 rfl rfl)
theorem dX1_signAt_1 : decode cX1_signAt 1 = .ok (.ifCond .lt 14, 3) := dk_155 0 14 (dk_at dksX1_signAt_0 1 rfl rfl)
theorem dX1_signAt_4 : decode cX1_signAt 4 = .ok (.iload_n 1, 1) := dk_27 (dk_at dksX1_signAt_0 4 rfl rfl)
theorem dX1_signAt_5 : decode cX1_signAt 5 = .ok (.aload_n 0, 1) := dk_42 (dk_at dksX1_signAt_0 5 rfl rfl)
theorem dX1_signAt_6 : decode cX1_signAt 6 = .ok (.getfield 10, 3) := dk_180 0 10 (dk_at dksX1_signAt_0 6 rfl rfl)
theorem dX1_signAt_9 : decode cX1_signAt 9 = .ok (.invokevirtual 42, 3) := dk_182 0 42 (dk_at dksX1_signAt_0 9 rfl rfl)
theorem dX1_signAt_12 : decode cX1_signAt 12 = .ok (.if_icmp .lt 11, 3) := dk_161 0 11 (dk_at dksX1_signAt_0 12 rfl rfl)
theorem dX1_signAt_15 : decode cX1_signAt 15 = .ok (.new 54, 3) := dk_187 0 54 (dk_at dksX1_signAt_0 15 rfl rfl)
theorem dX1_signAt_18 : decode cX1_signAt 18 = .ok (.dup, 1) := dk_89 (dk_at dksX1_signAt_0 18 rfl rfl)
theorem dX1_signAt_19 : decode cX1_signAt 19 = .ok (.invokespecial 56, 3) := dk_183 0 56 (dk_at dksX1_signAt_0 19 rfl rfl)
theorem dX1_signAt_22 : decode cX1_signAt 22 = .ok (.athrow, 1) := dk_191 (dk_at dksX1_signAt_0 22 rfl rfl)
theorem dX1_signAt_23 : decode cX1_signAt 23 = .ok (.aload_n 0, 1) := dk_42 (dk_at dksX1_signAt_0 23 rfl rfl)
theorem dX1_signAt_24 : decode cX1_signAt 24 = .ok (.getfield 10, 3) := dk_180 0 10 (dk_at dksX1_signAt_1 0 rfl rfl)
theorem dX1_signAt_27 : decode cX1_signAt 27 = .ok (.iload_n 1, 1) := dk_27 (dk_at dksX1_signAt_1 3 rfl rfl)
theorem dX1_signAt_28 : decode cX1_signAt 28 = .ok (.invokevirtual 88, 3) := dk_182 0 88 (dk_at dksX1_signAt_1 4 rfl rfl)
theorem dX1_signAt_31 : decode cX1_signAt 31 = .ok (.ireturn, 1) := dk_172 (dk_at dksX1_signAt_1 7 rfl rfl)
abbrev cX1_put : ByteArray := prog_1_method_12_code
def yX1_put : MethodName := ⟨RX1, "put", "(I)I"⟩
def dkwX1_put_4 : List UInt8 := [27, 184, 0, 104, 182, 0, 110, 192, 0, 105, 78, 45, 199, 0, 7, 2, 167, 0, 7, 45, 182, 0, 114, 172]
abbrev dktX1_put_4 : List UInt8 := dkwX1_put_4 ++ []
def dkwX1_put_3 : List UInt8 := [42, 180, 0, 19, 44, 182, 0, 101, 154, 0, 11, 187, 0, 46, 89, 183, 0, 48, 191, 42, 180, 0, 19, 44]
abbrev dktX1_put_3 : List UInt8 := dkwX1_put_3 ++ dktX1_put_4
def dkwX1_put_2 : List UInt8 := [183, 0, 97, 191, 42, 180, 0, 10, 182, 0, 76, 77, 42, 180, 0, 19, 182, 0, 98, 16, 24, 160, 0, 22]
abbrev dktX1_put_2 : List UInt8 := dkwX1_put_2 ++ dktX1_put_3
def dkwX1_put_1 : List UInt8 := [182, 0, 42, 153, 0, 15, 42, 180, 0, 10, 182, 0, 42, 16, 10, 164, 0, 11, 187, 0, 95, 89]
abbrev dktX1_put_1 : List UInt8 := dkwX1_put_1 ++ dktX1_put_2
def dkwX1_put_0 : List UInt8 := [27, 155, 0, 10, 27, 17, 3, 231, 164, 0, 11, 187, 0, 39, 89, 183, 0, 41, 191, 42, 180, 0, 10]
abbrev dktX1_put_0 : List UInt8 := dkwX1_put_0 ++ dktX1_put_1
theorem dksX1_put_0 : cX1_put.data.toList.drop 0 = dktX1_put_0 := by decide +kernel
theorem dksX1_put_1 : cX1_put.data.toList.drop 23 = dktX1_put_1 := dk_seg dksX1_put_0 23 rfl rfl
theorem dksX1_put_2 : cX1_put.data.toList.drop 45 = dktX1_put_2 := dk_seg dksX1_put_1 22 rfl rfl
theorem dksX1_put_3 : cX1_put.data.toList.drop 69 = dktX1_put_3 := dk_seg dksX1_put_2 24 rfl rfl
theorem dksX1_put_4 : cX1_put.data.toList.drop 93 = dktX1_put_4 := dk_seg dksX1_put_3 24 rfl rfl
theorem dX1_put_0 : decode cX1_put 0 = .ok (.iload_n 1, 1) := dk_27 (dk_at dksX1_put_0 0 rfl rfl)
theorem dX1_put_1 : decode cX1_put 1 = .ok (.ifCond .lt 10, 3) := dk_155 0 10 (dk_at dksX1_put_0 1 rfl rfl)
theorem dX1_put_4 : decode cX1_put 4 = .ok (.iload_n 1, 1) := dk_27 (dk_at dksX1_put_0 4 rfl rfl)
theorem dX1_put_5 : decode cX1_put 5 = .ok (.sipush 999, 3) := dk_17 3 231 (dk_at dksX1_put_0 5 rfl rfl)
theorem dX1_put_8 : decode cX1_put 8 = .ok (.if_icmp .le 11, 3) := dk_164 0 11 (dk_at dksX1_put_0 8 rfl rfl)
theorem dX1_put_11 : decode cX1_put 11 = .ok (.new 39, 3) := dk_187 0 39 (dk_at dksX1_put_0 11 rfl rfl)
theorem dX1_put_14 : decode cX1_put 14 = .ok (.dup, 1) := dk_89 (dk_at dksX1_put_0 14 rfl rfl)
theorem dX1_put_15 : decode cX1_put 15 = .ok (.invokespecial 41, 3) := dk_183 0 41 (dk_at dksX1_put_0 15 rfl rfl)
theorem dX1_put_18 : decode cX1_put 18 = .ok (.athrow, 1) := dk_191 (dk_at dksX1_put_0 18 rfl rfl)
theorem dX1_put_19 : decode cX1_put 19 = .ok (.aload_n 0, 1) := dk_42 (dk_at dksX1_put_0 19 rfl rfl)
theorem dX1_put_20 : decode cX1_put 20 = .ok (.getfield 10, 3) := dk_180 0 10 (dk_at dksX1_put_0 20 rfl rfl)
theorem dX1_put_23 : decode cX1_put 23 = .ok (.invokevirtual 42, 3) := dk_182 0 42 (dk_at dksX1_put_1 0 rfl rfl)
theorem dX1_put_26 : decode cX1_put 26 = .ok (.ifCond .eq 15, 3) := dk_153 0 15 (dk_at dksX1_put_1 3 rfl rfl)
theorem dX1_put_29 : decode cX1_put 29 = .ok (.aload_n 0, 1) := dk_42 (dk_at dksX1_put_1 6 rfl rfl)
theorem dX1_put_30 : decode cX1_put 30 = .ok (.getfield 10, 3) := dk_180 0 10 (dk_at dksX1_put_1 7 rfl rfl)
theorem dX1_put_33 : decode cX1_put 33 = .ok (.invokevirtual 42, 3) := dk_182 0 42 (dk_at dksX1_put_1 10 rfl rfl)
theorem dX1_put_36 : decode cX1_put 36 = .ok (.bipush 10, 2) := dk_16 10 (dk_at dksX1_put_1 13 rfl rfl)
theorem dX1_put_38 : decode cX1_put 38 = .ok (.if_icmp .le 11, 3) := dk_164 0 11 (dk_at dksX1_put_1 15 rfl rfl)
theorem dX1_put_41 : decode cX1_put 41 = .ok (.new 95, 3) := dk_187 0 95 (dk_at dksX1_put_1 18 rfl rfl)
theorem dX1_put_44 : decode cX1_put 44 = .ok (.dup, 1) := dk_89 (dk_at dksX1_put_1 21 rfl rfl)
theorem dX1_put_45 : decode cX1_put 45 = .ok (.invokespecial 97, 3) := dk_183 0 97 (dk_at dksX1_put_2 0 rfl rfl)
theorem dX1_put_48 : decode cX1_put 48 = .ok (.athrow, 1) := dk_191 (dk_at dksX1_put_2 3 rfl rfl)
theorem dX1_put_49 : decode cX1_put 49 = .ok (.aload_n 0, 1) := dk_42 (dk_at dksX1_put_2 4 rfl rfl)
theorem dX1_put_50 : decode cX1_put 50 = .ok (.getfield 10, 3) := dk_180 0 10 (dk_at dksX1_put_2 5 rfl rfl)
theorem dX1_put_53 : decode cX1_put 53 = .ok (.invokevirtual 76, 3) := dk_182 0 76 (dk_at dksX1_put_2 8 rfl rfl)
theorem dX1_put_56 : decode cX1_put 56 = .ok (.astore_n 2, 1) := dk_77 (dk_at dksX1_put_2 11 rfl rfl)
theorem dX1_put_57 : decode cX1_put 57 = .ok (.aload_n 0, 1) := dk_42 (dk_at dksX1_put_2 12 rfl rfl)
theorem dX1_put_58 : decode cX1_put 58 = .ok (.getfield 19, 3) := dk_180 0 19 (dk_at dksX1_put_2 13 rfl rfl)
theorem dX1_put_61 : decode cX1_put 61 = .ok (.invokevirtual 98, 3) := dk_182 0 98 (dk_at dksX1_put_2 16 rfl rfl)
theorem dX1_put_64 : decode cX1_put 64 = .ok (.bipush 24, 2) := dk_16 24 (dk_at dksX1_put_2 19 rfl rfl)
theorem dX1_put_66 : decode cX1_put 66 = .ok (.if_icmp .ne 22, 3) := dk_160 0 22 (dk_at dksX1_put_2 21 rfl rfl)
theorem dX1_put_69 : decode cX1_put 69 = .ok (.aload_n 0, 1) := dk_42 (dk_at dksX1_put_3 0 rfl rfl)
theorem dX1_put_70 : decode cX1_put 70 = .ok (.getfield 19, 3) := dk_180 0 19 (dk_at dksX1_put_3 1 rfl rfl)
theorem dX1_put_73 : decode cX1_put 73 = .ok (.aload_n 2, 1) := dk_44 (dk_at dksX1_put_3 4 rfl rfl)
theorem dX1_put_74 : decode cX1_put 74 = .ok (.invokevirtual 101, 3) := dk_182 0 101 (dk_at dksX1_put_3 5 rfl rfl)
theorem dX1_put_77 : decode cX1_put 77 = .ok (.ifCond .ne 11, 3) := dk_154 0 11 (dk_at dksX1_put_3 8 rfl rfl)
theorem dX1_put_80 : decode cX1_put 80 = .ok (.new 46, 3) := dk_187 0 46 (dk_at dksX1_put_3 11 rfl rfl)
theorem dX1_put_83 : decode cX1_put 83 = .ok (.dup, 1) := dk_89 (dk_at dksX1_put_3 14 rfl rfl)
theorem dX1_put_84 : decode cX1_put 84 = .ok (.invokespecial 48, 3) := dk_183 0 48 (dk_at dksX1_put_3 15 rfl rfl)
theorem dX1_put_87 : decode cX1_put 87 = .ok (.athrow, 1) := dk_191 (dk_at dksX1_put_3 18 rfl rfl)
theorem dX1_put_88 : decode cX1_put 88 = .ok (.aload_n 0, 1) := dk_42 (dk_at dksX1_put_3 19 rfl rfl)
theorem dX1_put_89 : decode cX1_put 89 = .ok (.getfield 19, 3) := dk_180 0 19 (dk_at dksX1_put_3 20 rfl rfl)
theorem dX1_put_92 : decode cX1_put 92 = .ok (.aload_n 2, 1) := dk_44 (dk_at dksX1_put_3 23 rfl rfl)
theorem dX1_put_93 : decode cX1_put 93 = .ok (.iload_n 1, 1) := dk_27 (dk_at dksX1_put_4 0 rfl rfl)
theorem dX1_put_94 : decode cX1_put 94 = .ok (.invokestatic 104, 3) := dk_184 0 104 (dk_at dksX1_put_4 1 rfl rfl)
theorem dX1_put_97 : decode cX1_put 97 = .ok (.invokevirtual 110, 3) := dk_182 0 110 (dk_at dksX1_put_4 4 rfl rfl)
theorem dX1_put_100 : decode cX1_put 100 = .ok (.checkcast 105, 3) := dk_192 0 105 (dk_at dksX1_put_4 7 rfl rfl)
theorem dX1_put_103 : decode cX1_put 103 = .ok (.astore_n 3, 1) := dk_78 (dk_at dksX1_put_4 10 rfl rfl)
theorem dX1_put_104 : decode cX1_put 104 = .ok (.aload_n 3, 1) := dk_45 (dk_at dksX1_put_4 11 rfl rfl)
theorem dX1_put_105 : decode cX1_put 105 = .ok (.ifnonnull 7, 3) := dk_199 0 7 (dk_at dksX1_put_4 12 rfl rfl)
theorem dX1_put_108 : decode cX1_put 108 = .ok (.iconst (-1), 1) := dk_2 (dk_at dksX1_put_4 15 rfl rfl)
theorem dX1_put_109 : decode cX1_put 109 = .ok (.goto 7, 3) := dk_167 0 7 (dk_at dksX1_put_4 16 rfl rfl)
theorem dX1_put_112 : decode cX1_put 112 = .ok (.aload_n 3, 1) := dk_45 (dk_at dksX1_put_4 19 rfl rfl)
theorem dX1_put_113 : decode cX1_put 113 = .ok (.invokevirtual 114, 3) := dk_182 0 114 (dk_at dksX1_put_4 20 rfl rfl)
theorem dX1_put_116 : decode cX1_put 116 = .ok (.ireturn, 1) := dk_172 (dk_at dksX1_put_4 23 rfl rfl)
abbrev cX1_take : ByteArray := prog_1_method_13_code
def yX1_take : MethodName := ⟨RX1, "take", "()I"⟩
def dkwX1_take_1 : List UInt8 := [187, 0, 61, 89, 183, 0, 63, 191, 43, 182, 0, 114, 172]
abbrev dktX1_take_1 : List UInt8 := dkwX1_take_1 ++ []
def dkwX1_take_0 : List UInt8 := [42, 180, 0, 19, 42, 180, 0, 10, 182, 0, 76, 182, 0, 117, 192, 0, 105, 76, 43, 199, 0, 11]
abbrev dktX1_take_0 : List UInt8 := dkwX1_take_0 ++ dktX1_take_1
theorem dksX1_take_0 : cX1_take.data.toList.drop 0 = dktX1_take_0 := by decide +kernel
theorem dksX1_take_1 : cX1_take.data.toList.drop 22 = dktX1_take_1 := dk_seg dksX1_take_0 22 rfl rfl
theorem dX1_take_0 : decode cX1_take 0 = .ok (.aload_n 0, 1) := dk_42 (dk_at dksX1_take_0 0 rfl rfl)
theorem dX1_take_1 : decode cX1_take 1 = .ok (.getfield 19, 3) := dk_180 0 19 (dk_at dksX1_take_0 1 rfl rfl)
theorem dX1_take_4 : decode cX1_take 4 = .ok (.aload_n 0, 1) := dk_42 (dk_at dksX1_take_0 4 rfl rfl)
theorem dX1_take_5 : decode cX1_take 5 = .ok (.getfield 10, 3) := dk_180 0 10 (dk_at dksX1_take_0 5 rfl rfl)
theorem dX1_take_8 : decode cX1_take 8 = .ok (.invokevirtual 76, 3) := dk_182 0 76 (dk_at dksX1_take_0 8 rfl rfl)
theorem dX1_take_11 : decode cX1_take 11 = .ok (.invokevirtual 117, 3) := dk_182 0 117 (dk_at dksX1_take_0 11 rfl rfl)
theorem dX1_take_14 : decode cX1_take 14 = .ok (.checkcast 105, 3) := dk_192 0 105 (dk_at dksX1_take_0 14 rfl rfl)
theorem dX1_take_17 : decode cX1_take 17 = .ok (.astore_n 1, 1) := dk_76 (dk_at dksX1_take_0 17 rfl rfl)
theorem dX1_take_18 : decode cX1_take 18 = .ok (.aload_n 1, 1) := dk_43 (dk_at dksX1_take_0 18 rfl rfl)
theorem dX1_take_19 : decode cX1_take 19 = .ok (.ifnonnull 11, 3) := dk_199 0 11 (dk_at dksX1_take_0 19 rfl rfl)
theorem dX1_take_22 : decode cX1_take 22 = .ok (.new 61, 3) := dk_187 0 61 (dk_at dksX1_take_1 0 rfl rfl)
theorem dX1_take_25 : decode cX1_take 25 = .ok (.dup, 1) := dk_89 (dk_at dksX1_take_1 3 rfl rfl)
theorem dX1_take_26 : decode cX1_take 26 = .ok (.invokespecial 63, 3) := dk_183 0 63 (dk_at dksX1_take_1 4 rfl rfl)
theorem dX1_take_29 : decode cX1_take 29 = .ok (.athrow, 1) := dk_191 (dk_at dksX1_take_1 7 rfl rfl)
theorem dX1_take_30 : decode cX1_take 30 = .ok (.aload_n 1, 1) := dk_43 (dk_at dksX1_take_1 8 rfl rfl)
theorem dX1_take_31 : decode cX1_take 31 = .ok (.invokevirtual 114, 3) := dk_182 0 114 (dk_at dksX1_take_1 9 rfl rfl)
theorem dX1_take_34 : decode cX1_take 34 = .ok (.ireturn, 1) := dk_172 (dk_at dksX1_take_1 12 rfl rfl)
abbrev cX1_number : ByteArray := prog_1_method_14_code
def yX1_number : MethodName := ⟨RX1, "number", "()I"⟩
def dkwX1_number_1 : List UInt8 := [187, 0, 61, 89, 183, 0, 63, 191, 43, 182, 0, 114, 172]
abbrev dktX1_number_1 : List UInt8 := dkwX1_number_1 ++ []
def dkwX1_number_0 : List UInt8 := [42, 180, 0, 19, 42, 180, 0, 10, 182, 0, 76, 182, 0, 121, 192, 0, 105, 76, 43, 199, 0, 11]
abbrev dktX1_number_0 : List UInt8 := dkwX1_number_0 ++ dktX1_number_1
theorem dksX1_number_0 : cX1_number.data.toList.drop 0 = dktX1_number_0 := by decide +kernel
theorem dksX1_number_1 : cX1_number.data.toList.drop 22 = dktX1_number_1 := dk_seg dksX1_number_0 22 rfl rfl
theorem dX1_number_0 : decode cX1_number 0 = .ok (.aload_n 0, 1) := dk_42 (dk_at dksX1_number_0 0 rfl rfl)
theorem dX1_number_1 : decode cX1_number 1 = .ok (.getfield 19, 3) := dk_180 0 19 (dk_at dksX1_number_0 1 rfl rfl)
theorem dX1_number_4 : decode cX1_number 4 = .ok (.aload_n 0, 1) := dk_42 (dk_at dksX1_number_0 4 rfl rfl)
theorem dX1_number_5 : decode cX1_number 5 = .ok (.getfield 10, 3) := dk_180 0 10 (dk_at dksX1_number_0 5 rfl rfl)
theorem dX1_number_8 : decode cX1_number 8 = .ok (.invokevirtual 76, 3) := dk_182 0 76 (dk_at dksX1_number_0 8 rfl rfl)
theorem dX1_number_11 : decode cX1_number 11 = .ok (.invokevirtual 121, 3) := dk_182 0 121 (dk_at dksX1_number_0 11 rfl rfl)
theorem dX1_number_14 : decode cX1_number 14 = .ok (.checkcast 105, 3) := dk_192 0 105 (dk_at dksX1_number_0 14 rfl rfl)
theorem dX1_number_17 : decode cX1_number 17 = .ok (.astore_n 1, 1) := dk_76 (dk_at dksX1_number_0 17 rfl rfl)
theorem dX1_number_18 : decode cX1_number 18 = .ok (.aload_n 1, 1) := dk_43 (dk_at dksX1_number_0 18 rfl rfl)
theorem dX1_number_19 : decode cX1_number 19 = .ok (.ifnonnull 11, 3) := dk_199 0 11 (dk_at dksX1_number_0 19 rfl rfl)
theorem dX1_number_22 : decode cX1_number 22 = .ok (.new 61, 3) := dk_187 0 61 (dk_at dksX1_number_1 0 rfl rfl)
theorem dX1_number_25 : decode cX1_number 25 = .ok (.dup, 1) := dk_89 (dk_at dksX1_number_1 3 rfl rfl)
theorem dX1_number_26 : decode cX1_number 26 = .ok (.invokespecial 63, 3) := dk_183 0 63 (dk_at dksX1_number_1 4 rfl rfl)
theorem dX1_number_29 : decode cX1_number 29 = .ok (.athrow, 1) := dk_191 (dk_at dksX1_number_1 7 rfl rfl)
theorem dX1_number_30 : decode cX1_number 30 = .ok (.aload_n 1, 1) := dk_43 (dk_at dksX1_number_1 8 rfl rfl)
theorem dX1_number_31 : decode cX1_number 31 = .ok (.invokevirtual 114, 3) := dk_182 0 114 (dk_at dksX1_number_1 9 rfl rfl)
theorem dX1_number_34 : decode cX1_number 34 = .ok (.ireturn, 1) := dk_172 (dk_at dksX1_number_1 12 rfl rfl)
abbrev cX1_word : ByteArray := prog_1_method_17_code
def yX1_word : MethodName := ⟨RX1, "word", "(I)I"⟩
def dkwX1_word_3 : List UInt8 := [42, 45, 182, 0, 147, 45, 182, 0, 151, 172]
abbrev dktX1_word_3 : List UInt8 := dkwX1_word_3 ++ []
def dkwX1_word_2 : List UInt8 := [54, 4, 21, 4, 27, 162, 0, 19, 44, 185, 0, 141, 1, 0, 192, 0, 23, 78, 132, 4, 1, 167, 255, 237]
abbrev dktX1_word_2 : List UInt8 := dkwX1_word_2 ++ dktX1_word_3
def dkwX1_word_1 : List UInt8 := [180, 0, 19, 182, 0, 131, 185, 0, 135, 1, 0, 77, 44, 185, 0, 141, 1, 0, 192, 0, 23, 78, 3]
abbrev dktX1_word_1 : List UInt8 := dkwX1_word_1 ++ dktX1_word_2
def dkwX1_word_0 : List UInt8 := [27, 155, 0, 14, 27, 42, 180, 0, 19, 182, 0, 98, 161, 0, 11, 187, 0, 54, 89, 183, 0, 56, 191, 42]
abbrev dktX1_word_0 : List UInt8 := dkwX1_word_0 ++ dktX1_word_1
theorem dksX1_word_0 : cX1_word.data.toList.drop 0 = dktX1_word_0 := by decide +kernel
theorem dksX1_word_1 : cX1_word.data.toList.drop 24 = dktX1_word_1 := dk_seg dksX1_word_0 24 rfl rfl
theorem dksX1_word_2 : cX1_word.data.toList.drop 47 = dktX1_word_2 := dk_seg dksX1_word_1 23 rfl rfl
theorem dksX1_word_3 : cX1_word.data.toList.drop 71 = dktX1_word_3 := dk_seg dksX1_word_2 24 rfl rfl
theorem dX1_word_0 : decode cX1_word 0 = .ok (.iload_n 1, 1) := dk_27 (dk_at dksX1_word_0 0 rfl rfl)
theorem dX1_word_1 : decode cX1_word 1 = .ok (.ifCond .lt 14, 3) := dk_155 0 14 (dk_at dksX1_word_0 1 rfl rfl)
theorem dX1_word_4 : decode cX1_word 4 = .ok (.iload_n 1, 1) := dk_27 (dk_at dksX1_word_0 4 rfl rfl)
theorem dX1_word_5 : decode cX1_word 5 = .ok (.aload_n 0, 1) := dk_42 (dk_at dksX1_word_0 5 rfl rfl)
theorem dX1_word_6 : decode cX1_word 6 = .ok (.getfield 19, 3) := dk_180 0 19 (dk_at dksX1_word_0 6 rfl rfl)
theorem dX1_word_9 : decode cX1_word 9 = .ok (.invokevirtual 98, 3) := dk_182 0 98 (dk_at dksX1_word_0 9 rfl rfl)
theorem dX1_word_12 : decode cX1_word 12 = .ok (.if_icmp .lt 11, 3) := dk_161 0 11 (dk_at dksX1_word_0 12 rfl rfl)
theorem dX1_word_15 : decode cX1_word 15 = .ok (.new 54, 3) := dk_187 0 54 (dk_at dksX1_word_0 15 rfl rfl)
theorem dX1_word_18 : decode cX1_word 18 = .ok (.dup, 1) := dk_89 (dk_at dksX1_word_0 18 rfl rfl)
theorem dX1_word_19 : decode cX1_word 19 = .ok (.invokespecial 56, 3) := dk_183 0 56 (dk_at dksX1_word_0 19 rfl rfl)
theorem dX1_word_22 : decode cX1_word 22 = .ok (.athrow, 1) := dk_191 (dk_at dksX1_word_0 22 rfl rfl)
theorem dX1_word_23 : decode cX1_word 23 = .ok (.aload_n 0, 1) := dk_42 (dk_at dksX1_word_0 23 rfl rfl)
theorem dX1_word_24 : decode cX1_word 24 = .ok (.getfield 19, 3) := dk_180 0 19 (dk_at dksX1_word_1 0 rfl rfl)
theorem dX1_word_27 : decode cX1_word 27 = .ok (.invokevirtual 131, 3) := dk_182 0 131 (dk_at dksX1_word_1 3 rfl rfl)
theorem dX1_word_30 : decode cX1_word 30 = .ok (.invokeinterface 135 1, 5) := by decide +kernel
theorem dX1_word_35 : decode cX1_word 35 = .ok (.astore_n 2, 1) := dk_77 (dk_at dksX1_word_1 11 rfl rfl)
theorem dX1_word_36 : decode cX1_word 36 = .ok (.aload_n 2, 1) := dk_44 (dk_at dksX1_word_1 12 rfl rfl)
theorem dX1_word_37 : decode cX1_word 37 = .ok (.invokeinterface 141 1, 5) := by decide +kernel
theorem dX1_word_42 : decode cX1_word 42 = .ok (.checkcast 23, 3) := dk_192 0 23 (dk_at dksX1_word_1 18 rfl rfl)
theorem dX1_word_45 : decode cX1_word 45 = .ok (.astore_n 3, 1) := dk_78 (dk_at dksX1_word_1 21 rfl rfl)
theorem dX1_word_46 : decode cX1_word 46 = .ok (.iconst 0, 1) := dk_3 (dk_at dksX1_word_1 22 rfl rfl)
theorem dX1_word_47 : decode cX1_word 47 = .ok (.istore 4, 2) := dk_54 4 (dk_at dksX1_word_2 0 rfl rfl)
theorem dX1_word_49 : decode cX1_word 49 = .ok (.iload 4, 2) := dk_21 4 (dk_at dksX1_word_2 2 rfl rfl)
theorem dX1_word_51 : decode cX1_word 51 = .ok (.iload_n 1, 1) := dk_27 (dk_at dksX1_word_2 4 rfl rfl)
theorem dX1_word_52 : decode cX1_word 52 = .ok (.if_icmp .ge 19, 3) := dk_162 0 19 (dk_at dksX1_word_2 5 rfl rfl)
theorem dX1_word_55 : decode cX1_word 55 = .ok (.aload_n 2, 1) := dk_44 (dk_at dksX1_word_2 8 rfl rfl)
theorem dX1_word_56 : decode cX1_word 56 = .ok (.invokeinterface 141 1, 5) := by decide +kernel
theorem dX1_word_61 : decode cX1_word 61 = .ok (.checkcast 23, 3) := dk_192 0 23 (dk_at dksX1_word_2 14 rfl rfl)
theorem dX1_word_64 : decode cX1_word 64 = .ok (.astore_n 3, 1) := dk_78 (dk_at dksX1_word_2 17 rfl rfl)
theorem dX1_word_65 : decode cX1_word 65 = .ok (.iinc 4 1, 3) := dk_132 4 1 (dk_at dksX1_word_2 18 rfl rfl)
theorem dX1_word_68 : decode cX1_word 68 = .ok (.goto (-19), 3) := dk_167 255 237 (dk_at dksX1_word_2 21 rfl rfl)
theorem dX1_word_71 : decode cX1_word 71 = .ok (.aload_n 0, 1) := dk_42 (dk_at dksX1_word_3 0 rfl rfl)
theorem dX1_word_72 : decode cX1_word 72 = .ok (.aload_n 3, 1) := dk_45 (dk_at dksX1_word_3 1 rfl rfl)
theorem dX1_word_73 : decode cX1_word 73 = .ok (.invokevirtual 147, 3) := dk_182 0 147 (dk_at dksX1_word_3 2 rfl rfl)
theorem dX1_word_76 : decode cX1_word 76 = .ok (.aload_n 3, 1) := dk_45 (dk_at dksX1_word_3 5 rfl rfl)
theorem dX1_word_77 : decode cX1_word 77 = .ok (.invokevirtual 151, 3) := dk_182 0 151 (dk_at dksX1_word_3 6 rfl rfl)
theorem dX1_word_80 : decode cX1_word 80 = .ok (.ireturn, 1) := dk_172 (dk_at dksX1_word_3 9 rfl rfl)
abbrev cX1_become : ByteArray := prog_1_method_11_code
def yX1_become : MethodName := ⟨RX1, "become", "(Ljava/lang/String;)V"⟩
def dkwX1_become_0 : List UInt8 := [42, 180, 0, 10, 3, 182, 0, 72, 42, 180, 0, 10, 43, 182, 0, 92, 87, 177]
abbrev dktX1_become_0 : List UInt8 := dkwX1_become_0 ++ []
theorem dksX1_become_0 : cX1_become.data.toList.drop 0 = dktX1_become_0 := by decide +kernel
theorem dX1_become_0 : decode cX1_become 0 = .ok (.aload_n 0, 1) := dk_42 (dk_at dksX1_become_0 0 rfl rfl)
theorem dX1_become_1 : decode cX1_become 1 = .ok (.getfield 10, 3) := dk_180 0 10 (dk_at dksX1_become_0 1 rfl rfl)
theorem dX1_become_4 : decode cX1_become 4 = .ok (.iconst 0, 1) := dk_3 (dk_at dksX1_become_0 4 rfl rfl)
theorem dX1_become_5 : decode cX1_become 5 = .ok (.invokevirtual 72, 3) := dk_182 0 72 (dk_at dksX1_become_0 5 rfl rfl)
theorem dX1_become_8 : decode cX1_become 8 = .ok (.aload_n 0, 1) := dk_42 (dk_at dksX1_become_0 8 rfl rfl)
theorem dX1_become_9 : decode cX1_become 9 = .ok (.getfield 10, 3) := dk_180 0 10 (dk_at dksX1_become_0 9 rfl rfl)
theorem dX1_become_12 : decode cX1_become 12 = .ok (.aload_n 1, 1) := dk_43 (dk_at dksX1_become_0 12 rfl rfl)
theorem dX1_become_13 : decode cX1_become 13 = .ok (.invokevirtual 92, 3) := dk_182 0 92 (dk_at dksX1_become_0 13 rfl rfl)
theorem dX1_become_16 : decode cX1_become 16 = .ok (.pop, 1) := dk_87 (dk_at dksX1_become_0 16 rfl rfl)
theorem dX1_become_17 : decode cX1_become 17 = .ok (.return_, 1) := dk_177 (dk_at dksX1_become_0 17 rfl rfl)
abbrev cX1_near : ByteArray := prog_1_method_18_code
def yX1_near : MethodName := ⟨RX1, "near", "(C)I"⟩
def dkwX1_near_6 : List UInt8 := [192, 0, 105, 182, 0, 114, 172]
abbrev dktX1_near_6 : List UInt8 := dkwX1_near_6 ++ []
def dkwX1_near_5 : List UInt8 := [199, 0, 11, 187, 0, 61, 89, 183, 0, 63, 191, 42, 45, 182, 0, 147, 42, 180, 0, 19, 45, 182, 0, 121]
abbrev dktX1_near_5 : List UInt8 := dkwX1_near_5 ++ dktX1_near_6
def dkwX1_near_4 : List UInt8 := [180, 0, 19, 44, 182, 0, 161, 192, 0, 23, 78, 167, 0, 11, 187, 0, 39, 89, 183, 0, 41, 191, 45]
abbrev dktX1_near_4 : List UInt8 := dkwX1_near_4 ++ dktX1_near_5
def dkwX1_near_3 : List UInt8 := [192, 0, 23, 78, 167, 0, 41, 42, 180, 0, 19, 44, 182, 0, 158, 192, 0, 23, 78, 167, 0, 26, 42]
abbrev dktX1_near_3 : List UInt8 := dkwX1_near_3 ++ dktX1_near_4
def dkwX1_near_2 : List UInt8 := [42, 180, 0, 19, 44, 182, 0, 152, 192, 0, 23, 78, 167, 0, 56, 42, 180, 0, 19, 44, 182, 0, 155]
abbrev dktX1_near_2 : List UInt8 := dkwX1_near_2 ++ dktX1_near_3
def dkwX1_near_1 : List UInt8 := [170, 0, 0, 0, 0, 0, 115, 0, 0, 0, 99, 0, 0, 0, 108, 0, 0, 0, 70, 0, 0, 0, 115, 0, 0, 0, 115, 0, 0, 0, 55, 0, 0, 0, 115, 0, 0, 0, 100, 0, 0, 0, 115, 0, 0, 0, 115, 0, 0, 0, 115, 0, 0, 0, 85]
abbrev dktX1_near_1 : List UInt8 := dkwX1_near_1 ++ dktX1_near_2
def dkwX1_near_0 : List UInt8 := [42, 180, 0, 10, 182, 0, 76, 77, 27]
abbrev dktX1_near_0 : List UInt8 := dkwX1_near_0 ++ dktX1_near_1
theorem dksX1_near_0 : cX1_near.data.toList.drop 0 = dktX1_near_0 := by decide +kernel
theorem dksX1_near_1 : cX1_near.data.toList.drop 9 = dktX1_near_1 := dk_seg dksX1_near_0 9 rfl rfl
theorem dksX1_near_2 : cX1_near.data.toList.drop 64 = dktX1_near_2 := dk_seg dksX1_near_1 55 rfl rfl
theorem dksX1_near_3 : cX1_near.data.toList.drop 87 = dktX1_near_3 := dk_seg dksX1_near_2 23 rfl rfl
theorem dksX1_near_4 : cX1_near.data.toList.drop 110 = dktX1_near_4 := dk_seg dksX1_near_3 23 rfl rfl
theorem dksX1_near_5 : cX1_near.data.toList.drop 133 = dktX1_near_5 := dk_seg dksX1_near_4 23 rfl rfl
theorem dksX1_near_6 : cX1_near.data.toList.drop 157 = dktX1_near_6 := dk_seg dksX1_near_5 24 rfl rfl
theorem dX1_near_0 : decode cX1_near 0 = .ok (.aload_n 0, 1) := dk_42 (dk_at dksX1_near_0 0 rfl rfl)
theorem dX1_near_1 : decode cX1_near 1 = .ok (.getfield 10, 3) := dk_180 0 10 (dk_at dksX1_near_0 1 rfl rfl)
theorem dX1_near_4 : decode cX1_near 4 = .ok (.invokevirtual 76, 3) := dk_182 0 76 (dk_at dksX1_near_0 4 rfl rfl)
theorem dX1_near_7 : decode cX1_near 7 = .ok (.astore_n 2, 1) := dk_77 (dk_at dksX1_near_0 7 rfl rfl)
theorem dX1_near_8 : decode cX1_near 8 = .ok (.iload_n 1, 1) := dk_27 (dk_at dksX1_near_0 8 rfl rfl)
theorem dX1_near_9 : decode cX1_near 9 = .ok (.tableswitch 115 99 108 #[70, 115, 115, 55, 115, 100, 115, 115, 115, 85], 55) := by decide +kernel
theorem dX1_near_64 : decode cX1_near 64 = .ok (.aload_n 0, 1) := dk_42 (dk_at dksX1_near_2 0 rfl rfl)
theorem dX1_near_65 : decode cX1_near 65 = .ok (.getfield 19, 3) := dk_180 0 19 (dk_at dksX1_near_2 1 rfl rfl)
theorem dX1_near_68 : decode cX1_near 68 = .ok (.aload_n 2, 1) := dk_44 (dk_at dksX1_near_2 4 rfl rfl)
theorem dX1_near_69 : decode cX1_near 69 = .ok (.invokevirtual 152, 3) := dk_182 0 152 (dk_at dksX1_near_2 5 rfl rfl)
theorem dX1_near_72 : decode cX1_near 72 = .ok (.checkcast 23, 3) := dk_192 0 23 (dk_at dksX1_near_2 8 rfl rfl)
theorem dX1_near_75 : decode cX1_near 75 = .ok (.astore_n 3, 1) := dk_78 (dk_at dksX1_near_2 11 rfl rfl)
theorem dX1_near_76 : decode cX1_near 76 = .ok (.goto 56, 3) := dk_167 0 56 (dk_at dksX1_near_2 12 rfl rfl)
theorem dX1_near_79 : decode cX1_near 79 = .ok (.aload_n 0, 1) := dk_42 (dk_at dksX1_near_2 15 rfl rfl)
theorem dX1_near_80 : decode cX1_near 80 = .ok (.getfield 19, 3) := dk_180 0 19 (dk_at dksX1_near_2 16 rfl rfl)
theorem dX1_near_83 : decode cX1_near 83 = .ok (.aload_n 2, 1) := dk_44 (dk_at dksX1_near_2 19 rfl rfl)
theorem dX1_near_84 : decode cX1_near 84 = .ok (.invokevirtual 155, 3) := dk_182 0 155 (dk_at dksX1_near_2 20 rfl rfl)
theorem dX1_near_87 : decode cX1_near 87 = .ok (.checkcast 23, 3) := dk_192 0 23 (dk_at dksX1_near_3 0 rfl rfl)
theorem dX1_near_90 : decode cX1_near 90 = .ok (.astore_n 3, 1) := dk_78 (dk_at dksX1_near_3 3 rfl rfl)
theorem dX1_near_91 : decode cX1_near 91 = .ok (.goto 41, 3) := dk_167 0 41 (dk_at dksX1_near_3 4 rfl rfl)
theorem dX1_near_94 : decode cX1_near 94 = .ok (.aload_n 0, 1) := dk_42 (dk_at dksX1_near_3 7 rfl rfl)
theorem dX1_near_95 : decode cX1_near 95 = .ok (.getfield 19, 3) := dk_180 0 19 (dk_at dksX1_near_3 8 rfl rfl)
theorem dX1_near_98 : decode cX1_near 98 = .ok (.aload_n 2, 1) := dk_44 (dk_at dksX1_near_3 11 rfl rfl)
theorem dX1_near_99 : decode cX1_near 99 = .ok (.invokevirtual 158, 3) := dk_182 0 158 (dk_at dksX1_near_3 12 rfl rfl)
theorem dX1_near_102 : decode cX1_near 102 = .ok (.checkcast 23, 3) := dk_192 0 23 (dk_at dksX1_near_3 15 rfl rfl)
theorem dX1_near_105 : decode cX1_near 105 = .ok (.astore_n 3, 1) := dk_78 (dk_at dksX1_near_3 18 rfl rfl)
theorem dX1_near_106 : decode cX1_near 106 = .ok (.goto 26, 3) := dk_167 0 26 (dk_at dksX1_near_3 19 rfl rfl)
theorem dX1_near_109 : decode cX1_near 109 = .ok (.aload_n 0, 1) := dk_42 (dk_at dksX1_near_3 22 rfl rfl)
theorem dX1_near_110 : decode cX1_near 110 = .ok (.getfield 19, 3) := dk_180 0 19 (dk_at dksX1_near_4 0 rfl rfl)
theorem dX1_near_113 : decode cX1_near 113 = .ok (.aload_n 2, 1) := dk_44 (dk_at dksX1_near_4 3 rfl rfl)
theorem dX1_near_114 : decode cX1_near 114 = .ok (.invokevirtual 161, 3) := dk_182 0 161 (dk_at dksX1_near_4 4 rfl rfl)
theorem dX1_near_117 : decode cX1_near 117 = .ok (.checkcast 23, 3) := dk_192 0 23 (dk_at dksX1_near_4 7 rfl rfl)
theorem dX1_near_120 : decode cX1_near 120 = .ok (.astore_n 3, 1) := dk_78 (dk_at dksX1_near_4 10 rfl rfl)
theorem dX1_near_121 : decode cX1_near 121 = .ok (.goto 11, 3) := dk_167 0 11 (dk_at dksX1_near_4 11 rfl rfl)
theorem dX1_near_124 : decode cX1_near 124 = .ok (.new 39, 3) := dk_187 0 39 (dk_at dksX1_near_4 14 rfl rfl)
theorem dX1_near_127 : decode cX1_near 127 = .ok (.dup, 1) := dk_89 (dk_at dksX1_near_4 17 rfl rfl)
theorem dX1_near_128 : decode cX1_near 128 = .ok (.invokespecial 41, 3) := dk_183 0 41 (dk_at dksX1_near_4 18 rfl rfl)
theorem dX1_near_131 : decode cX1_near 131 = .ok (.athrow, 1) := dk_191 (dk_at dksX1_near_4 21 rfl rfl)
theorem dX1_near_132 : decode cX1_near 132 = .ok (.aload_n 3, 1) := dk_45 (dk_at dksX1_near_4 22 rfl rfl)
theorem dX1_near_133 : decode cX1_near 133 = .ok (.ifnonnull 11, 3) := dk_199 0 11 (dk_at dksX1_near_5 0 rfl rfl)
theorem dX1_near_136 : decode cX1_near 136 = .ok (.new 61, 3) := dk_187 0 61 (dk_at dksX1_near_5 3 rfl rfl)
theorem dX1_near_139 : decode cX1_near 139 = .ok (.dup, 1) := dk_89 (dk_at dksX1_near_5 6 rfl rfl)
theorem dX1_near_140 : decode cX1_near 140 = .ok (.invokespecial 63, 3) := dk_183 0 63 (dk_at dksX1_near_5 7 rfl rfl)
theorem dX1_near_143 : decode cX1_near 143 = .ok (.athrow, 1) := dk_191 (dk_at dksX1_near_5 10 rfl rfl)
theorem dX1_near_144 : decode cX1_near 144 = .ok (.aload_n 0, 1) := dk_42 (dk_at dksX1_near_5 11 rfl rfl)
theorem dX1_near_145 : decode cX1_near 145 = .ok (.aload_n 3, 1) := dk_45 (dk_at dksX1_near_5 12 rfl rfl)
theorem dX1_near_146 : decode cX1_near 146 = .ok (.invokevirtual 147, 3) := dk_182 0 147 (dk_at dksX1_near_5 13 rfl rfl)
theorem dX1_near_149 : decode cX1_near 149 = .ok (.aload_n 0, 1) := dk_42 (dk_at dksX1_near_5 16 rfl rfl)
theorem dX1_near_150 : decode cX1_near 150 = .ok (.getfield 19, 3) := dk_180 0 19 (dk_at dksX1_near_5 17 rfl rfl)
theorem dX1_near_153 : decode cX1_near 153 = .ok (.aload_n 3, 1) := dk_45 (dk_at dksX1_near_5 20 rfl rfl)
theorem dX1_near_154 : decode cX1_near 154 = .ok (.invokevirtual 121, 3) := dk_182 0 121 (dk_at dksX1_near_5 21 rfl rfl)
theorem dX1_near_157 : decode cX1_near 157 = .ok (.checkcast 105, 3) := dk_192 0 105 (dk_at dksX1_near_6 0 rfl rfl)
theorem dX1_near_160 : decode cX1_near 160 = .ok (.invokevirtual 114, 3) := dk_182 0 114 (dk_at dksX1_near_6 3 rfl rfl)
theorem dX1_near_163 : decode cX1_near 163 = .ok (.ireturn, 1) := dk_172 (dk_at dksX1_near_6 6 rfl rfl)
abbrev cX1_begunAt : ByteArray := prog_1_method_22_code
def yX1_begunAt : MethodName := ⟨RX1, "begunAt", "(I)I"⟩
def dkwX1_begunAt_3 : List UInt8 := [185, 0, 180, 1, 0, 192, 0, 23, 182, 0, 147, 45, 185, 0, 188, 1, 0, 192, 0, 105, 182, 0, 114, 172]
abbrev dktX1_begunAt_3 : List UInt8 := dkwX1_begunAt_3 ++ []
def dkwX1_begunAt_2 : List UInt8 := [180, 0, 19, 45, 185, 0, 180, 1, 0, 192, 0, 23, 182, 0, 185, 78, 132, 4, 1, 167, 255, 230, 42, 45]
abbrev dktX1_begunAt_2 : List UInt8 := dkwX1_begunAt_2 ++ dktX1_begunAt_3
def dkwX1_begunAt_1 : List UInt8 := [89, 183, 0, 63, 191, 42, 180, 0, 19, 44, 182, 0, 176, 78, 3, 54, 4, 21, 4, 27, 162, 0, 26, 42]
abbrev dktX1_begunAt_1 : List UInt8 := dkwX1_begunAt_1 ++ dktX1_begunAt_2
def dkwX1_begunAt_0 : List UInt8 := [42, 180, 0, 10, 182, 0, 76, 77, 27, 155, 0, 12, 27, 42, 44, 182, 0, 172, 161, 0, 11, 187, 0, 61]
abbrev dktX1_begunAt_0 : List UInt8 := dkwX1_begunAt_0 ++ dktX1_begunAt_1
theorem dksX1_begunAt_0 : cX1_begunAt.data.toList.drop 0 = dktX1_begunAt_0 := by decide +kernel
theorem dksX1_begunAt_1 : cX1_begunAt.data.toList.drop 24 = dktX1_begunAt_1 := dk_seg dksX1_begunAt_0 24 rfl rfl
theorem dksX1_begunAt_2 : cX1_begunAt.data.toList.drop 48 = dktX1_begunAt_2 := dk_seg dksX1_begunAt_1 24 rfl rfl
theorem dksX1_begunAt_3 : cX1_begunAt.data.toList.drop 72 = dktX1_begunAt_3 := dk_seg dksX1_begunAt_2 24 rfl rfl
theorem dX1_begunAt_0 : decode cX1_begunAt 0 = .ok (.aload_n 0, 1) := dk_42 (dk_at dksX1_begunAt_0 0 rfl rfl)
theorem dX1_begunAt_1 : decode cX1_begunAt 1 = .ok (.getfield 10, 3) := dk_180 0 10 (dk_at dksX1_begunAt_0 1 rfl rfl)
theorem dX1_begunAt_4 : decode cX1_begunAt 4 = .ok (.invokevirtual 76, 3) := dk_182 0 76 (dk_at dksX1_begunAt_0 4 rfl rfl)
theorem dX1_begunAt_7 : decode cX1_begunAt 7 = .ok (.astore_n 2, 1) := dk_77 (dk_at dksX1_begunAt_0 7 rfl rfl)
theorem dX1_begunAt_8 : decode cX1_begunAt 8 = .ok (.iload_n 1, 1) := dk_27 (dk_at dksX1_begunAt_0 8 rfl rfl)
theorem dX1_begunAt_9 : decode cX1_begunAt 9 = .ok (.ifCond .lt 12, 3) := dk_155 0 12 (dk_at dksX1_begunAt_0 9 rfl rfl)
theorem dX1_begunAt_12 : decode cX1_begunAt 12 = .ok (.iload_n 1, 1) := dk_27 (dk_at dksX1_begunAt_0 12 rfl rfl)
theorem dX1_begunAt_13 : decode cX1_begunAt 13 = .ok (.aload_n 0, 1) := dk_42 (dk_at dksX1_begunAt_0 13 rfl rfl)
theorem dX1_begunAt_14 : decode cX1_begunAt 14 = .ok (.aload_n 2, 1) := dk_44 (dk_at dksX1_begunAt_0 14 rfl rfl)
theorem dX1_begunAt_15 : decode cX1_begunAt 15 = .ok (.invokevirtual 172, 3) := dk_182 0 172 (dk_at dksX1_begunAt_0 15 rfl rfl)
theorem dX1_begunAt_18 : decode cX1_begunAt 18 = .ok (.if_icmp .lt 11, 3) := dk_161 0 11 (dk_at dksX1_begunAt_0 18 rfl rfl)
theorem dX1_begunAt_21 : decode cX1_begunAt 21 = .ok (.new 61, 3) := dk_187 0 61 (dk_at dksX1_begunAt_0 21 rfl rfl)
theorem dX1_begunAt_24 : decode cX1_begunAt 24 = .ok (.dup, 1) := dk_89 (dk_at dksX1_begunAt_1 0 rfl rfl)
theorem dX1_begunAt_25 : decode cX1_begunAt 25 = .ok (.invokespecial 63, 3) := dk_183 0 63 (dk_at dksX1_begunAt_1 1 rfl rfl)
theorem dX1_begunAt_28 : decode cX1_begunAt 28 = .ok (.athrow, 1) := dk_191 (dk_at dksX1_begunAt_1 4 rfl rfl)
theorem dX1_begunAt_29 : decode cX1_begunAt 29 = .ok (.aload_n 0, 1) := dk_42 (dk_at dksX1_begunAt_1 5 rfl rfl)
theorem dX1_begunAt_30 : decode cX1_begunAt 30 = .ok (.getfield 19, 3) := dk_180 0 19 (dk_at dksX1_begunAt_1 6 rfl rfl)
theorem dX1_begunAt_33 : decode cX1_begunAt 33 = .ok (.aload_n 2, 1) := dk_44 (dk_at dksX1_begunAt_1 9 rfl rfl)
theorem dX1_begunAt_34 : decode cX1_begunAt 34 = .ok (.invokevirtual 176, 3) := dk_182 0 176 (dk_at dksX1_begunAt_1 10 rfl rfl)
theorem dX1_begunAt_37 : decode cX1_begunAt 37 = .ok (.astore_n 3, 1) := dk_78 (dk_at dksX1_begunAt_1 13 rfl rfl)
theorem dX1_begunAt_38 : decode cX1_begunAt 38 = .ok (.iconst 0, 1) := dk_3 (dk_at dksX1_begunAt_1 14 rfl rfl)
theorem dX1_begunAt_39 : decode cX1_begunAt 39 = .ok (.istore 4, 2) := dk_54 4 (dk_at dksX1_begunAt_1 15 rfl rfl)
theorem dX1_begunAt_41 : decode cX1_begunAt 41 = .ok (.iload 4, 2) := dk_21 4 (dk_at dksX1_begunAt_1 17 rfl rfl)
theorem dX1_begunAt_43 : decode cX1_begunAt 43 = .ok (.iload_n 1, 1) := dk_27 (dk_at dksX1_begunAt_1 19 rfl rfl)
theorem dX1_begunAt_44 : decode cX1_begunAt 44 = .ok (.if_icmp .ge 26, 3) := dk_162 0 26 (dk_at dksX1_begunAt_1 20 rfl rfl)
theorem dX1_begunAt_47 : decode cX1_begunAt 47 = .ok (.aload_n 0, 1) := dk_42 (dk_at dksX1_begunAt_1 23 rfl rfl)
theorem dX1_begunAt_48 : decode cX1_begunAt 48 = .ok (.getfield 19, 3) := dk_180 0 19 (dk_at dksX1_begunAt_2 0 rfl rfl)
theorem dX1_begunAt_51 : decode cX1_begunAt 51 = .ok (.aload_n 3, 1) := dk_45 (dk_at dksX1_begunAt_2 3 rfl rfl)
theorem dX1_begunAt_52 : decode cX1_begunAt 52 = .ok (.invokeinterface 180 1, 5) := by decide +kernel
theorem dX1_begunAt_57 : decode cX1_begunAt 57 = .ok (.checkcast 23, 3) := dk_192 0 23 (dk_at dksX1_begunAt_2 9 rfl rfl)
theorem dX1_begunAt_60 : decode cX1_begunAt 60 = .ok (.invokevirtual 185, 3) := dk_182 0 185 (dk_at dksX1_begunAt_2 12 rfl rfl)
theorem dX1_begunAt_63 : decode cX1_begunAt 63 = .ok (.astore_n 3, 1) := dk_78 (dk_at dksX1_begunAt_2 15 rfl rfl)
theorem dX1_begunAt_64 : decode cX1_begunAt 64 = .ok (.iinc 4 1, 3) := dk_132 4 1 (dk_at dksX1_begunAt_2 16 rfl rfl)
theorem dX1_begunAt_67 : decode cX1_begunAt 67 = .ok (.goto (-26), 3) := dk_167 255 230 (dk_at dksX1_begunAt_2 19 rfl rfl)
theorem dX1_begunAt_70 : decode cX1_begunAt 70 = .ok (.aload_n 0, 1) := dk_42 (dk_at dksX1_begunAt_2 22 rfl rfl)
theorem dX1_begunAt_71 : decode cX1_begunAt 71 = .ok (.aload_n 3, 1) := dk_45 (dk_at dksX1_begunAt_2 23 rfl rfl)
theorem dX1_begunAt_72 : decode cX1_begunAt 72 = .ok (.invokeinterface 180 1, 5) := by decide +kernel
theorem dX1_begunAt_77 : decode cX1_begunAt 77 = .ok (.checkcast 23, 3) := dk_192 0 23 (dk_at dksX1_begunAt_3 5 rfl rfl)
theorem dX1_begunAt_80 : decode cX1_begunAt 80 = .ok (.invokevirtual 147, 3) := dk_182 0 147 (dk_at dksX1_begunAt_3 8 rfl rfl)
theorem dX1_begunAt_83 : decode cX1_begunAt 83 = .ok (.aload_n 3, 1) := dk_45 (dk_at dksX1_begunAt_3 11 rfl rfl)
theorem dX1_begunAt_84 : decode cX1_begunAt 84 = .ok (.invokeinterface 188 1, 5) := by decide +kernel
theorem dX1_begunAt_89 : decode cX1_begunAt 89 = .ok (.checkcast 105, 3) := dk_192 0 105 (dk_at dksX1_begunAt_3 17 rfl rfl)
theorem dX1_begunAt_92 : decode cX1_begunAt 92 = .ok (.invokevirtual 114, 3) := dk_182 0 114 (dk_at dksX1_begunAt_3 20 rfl rfl)
theorem dX1_begunAt_95 : decode cX1_begunAt 95 = .ok (.ireturn, 1) := dk_172 (dk_at dksX1_begunAt_3 23 rfl rfl)
abbrev cX1_longest_2 : ByteArray := prog_1_method_27_code
def yX1_longest_2 : MethodName := ⟨RX1, "longest", "(I)I"⟩
def dkwX1_longest_2_1 : List UInt8 := [180, 0, 19, 42, 180, 0, 10, 27, 182, 0, 213, 184, 0, 216, 172]
abbrev dktX1_longest_2_1 : List UInt8 := dkwX1_longest_2_1 ++ []
def dkwX1_longest_2_0 : List UInt8 := [27, 155, 0, 14, 27, 42, 180, 0, 10, 182, 0, 42, 164, 0, 11, 187, 0, 54, 89, 183, 0, 56, 191, 42]
abbrev dktX1_longest_2_0 : List UInt8 := dkwX1_longest_2_0 ++ dktX1_longest_2_1
theorem dksX1_longest_2_0 : cX1_longest_2.data.toList.drop 0 = dktX1_longest_2_0 := by decide +kernel
theorem dksX1_longest_2_1 : cX1_longest_2.data.toList.drop 24 = dktX1_longest_2_1 := dk_seg dksX1_longest_2_0 24 rfl rfl
theorem dX1_longest_2_0 : decode cX1_longest_2 0 = .ok (.iload_n 1, 1) := dk_27 (dk_at dksX1_longest_2_0 0 rfl rfl)
theorem dX1_longest_2_1 : decode cX1_longest_2 1 = .ok (.ifCond .lt 14, 3) := dk_155 0 14 (dk_at dksX1_longest_2_0 1 rfl rfl)
theorem dX1_longest_2_4 : decode cX1_longest_2 4 = .ok (.iload_n 1, 1) := dk_27 (dk_at dksX1_longest_2_0 4 rfl rfl)
theorem dX1_longest_2_5 : decode cX1_longest_2 5 = .ok (.aload_n 0, 1) := dk_42 (dk_at dksX1_longest_2_0 5 rfl rfl)
theorem dX1_longest_2_6 : decode cX1_longest_2 6 = .ok (.getfield 10, 3) := dk_180 0 10 (dk_at dksX1_longest_2_0 6 rfl rfl)
theorem dX1_longest_2_9 : decode cX1_longest_2 9 = .ok (.invokevirtual 42, 3) := dk_182 0 42 (dk_at dksX1_longest_2_0 9 rfl rfl)
theorem dX1_longest_2_12 : decode cX1_longest_2 12 = .ok (.if_icmp .le 11, 3) := dk_164 0 11 (dk_at dksX1_longest_2_0 12 rfl rfl)
theorem dX1_longest_2_15 : decode cX1_longest_2 15 = .ok (.new 54, 3) := dk_187 0 54 (dk_at dksX1_longest_2_0 15 rfl rfl)
theorem dX1_longest_2_18 : decode cX1_longest_2 18 = .ok (.dup, 1) := dk_89 (dk_at dksX1_longest_2_0 18 rfl rfl)
theorem dX1_longest_2_19 : decode cX1_longest_2 19 = .ok (.invokespecial 56, 3) := dk_183 0 56 (dk_at dksX1_longest_2_0 19 rfl rfl)
theorem dX1_longest_2_22 : decode cX1_longest_2 22 = .ok (.athrow, 1) := dk_191 (dk_at dksX1_longest_2_0 22 rfl rfl)
theorem dX1_longest_2_23 : decode cX1_longest_2 23 = .ok (.aload_n 0, 1) := dk_42 (dk_at dksX1_longest_2_0 23 rfl rfl)
theorem dX1_longest_2_24 : decode cX1_longest_2 24 = .ok (.getfield 19, 3) := dk_180 0 19 (dk_at dksX1_longest_2_1 0 rfl rfl)
theorem dX1_longest_2_27 : decode cX1_longest_2 27 = .ok (.aload_n 0, 1) := dk_42 (dk_at dksX1_longest_2_1 3 rfl rfl)
theorem dX1_longest_2_28 : decode cX1_longest_2 28 = .ok (.getfield 10, 3) := dk_180 0 10 (dk_at dksX1_longest_2_1 4 rfl rfl)
theorem dX1_longest_2_31 : decode cX1_longest_2 31 = .ok (.iload_n 1, 1) := dk_27 (dk_at dksX1_longest_2_1 7 rfl rfl)
theorem dX1_longest_2_32 : decode cX1_longest_2 32 = .ok (.invokevirtual 213, 3) := dk_182 0 213 (dk_at dksX1_longest_2_1 8 rfl rfl)
theorem dX1_longest_2_35 : decode cX1_longest_2 35 = .ok (.invokestatic 216, 3) := dk_184 0 216 (dk_at dksX1_longest_2_1 11 rfl rfl)
theorem dX1_longest_2_38 : decode cX1_longest_2 38 = .ok (.ireturn, 1) := dk_172 (dk_at dksX1_longest_2_1 14 rfl rfl)
abbrev cX1_piece : ByteArray := prog_1_method_31_code
def yX1_piece : MethodName := ⟨RX1, "piece", "(I)I"⟩
def dkwX1_piece_3 : List UInt8 := [61, 132, 3, 255, 167, 255, 196]
abbrev dktX1_piece_3 : List UInt8 := dkwX1_piece_3 ++ []
def dkwX1_piece_2 : List UInt8 := [21, 4, 154, 0, 11, 187, 0, 61, 89, 183, 0, 63, 191, 29, 154, 0, 6, 21, 4, 172, 28, 21, 4, 96]
abbrev dktX1_piece_2 : List UInt8 := dkwX1_piece_2 ++ dktX1_piece_3
def dkwX1_piece_1 : List UInt8 := [162, 0, 21, 42, 180, 0, 19, 42, 180, 0, 10, 28, 182, 0, 213, 184, 0, 216, 167, 0, 4, 3, 54, 4]
abbrev dktX1_piece_1 : List UInt8 := dkwX1_piece_1 ++ dktX1_piece_2
def dkwX1_piece_0 : List UInt8 := [27, 156, 0, 11, 187, 0, 61, 89, 183, 0, 63, 191, 3, 61, 27, 62, 28, 42, 180, 0, 10, 182, 0, 42]
abbrev dktX1_piece_0 : List UInt8 := dkwX1_piece_0 ++ dktX1_piece_1
theorem dksX1_piece_0 : cX1_piece.data.toList.drop 0 = dktX1_piece_0 := by decide +kernel
theorem dksX1_piece_1 : cX1_piece.data.toList.drop 24 = dktX1_piece_1 := dk_seg dksX1_piece_0 24 rfl rfl
theorem dksX1_piece_2 : cX1_piece.data.toList.drop 48 = dktX1_piece_2 := dk_seg dksX1_piece_1 24 rfl rfl
theorem dksX1_piece_3 : cX1_piece.data.toList.drop 72 = dktX1_piece_3 := dk_seg dksX1_piece_2 24 rfl rfl
theorem dX1_piece_0 : decode cX1_piece 0 = .ok (.iload_n 1, 1) := dk_27 (dk_at dksX1_piece_0 0 rfl rfl)
theorem dX1_piece_1 : decode cX1_piece 1 = .ok (.ifCond .ge 11, 3) := dk_156 0 11 (dk_at dksX1_piece_0 1 rfl rfl)
theorem dX1_piece_4 : decode cX1_piece 4 = .ok (.new 61, 3) := dk_187 0 61 (dk_at dksX1_piece_0 4 rfl rfl)
theorem dX1_piece_7 : decode cX1_piece 7 = .ok (.dup, 1) := dk_89 (dk_at dksX1_piece_0 7 rfl rfl)
theorem dX1_piece_8 : decode cX1_piece 8 = .ok (.invokespecial 63, 3) := dk_183 0 63 (dk_at dksX1_piece_0 8 rfl rfl)
theorem dX1_piece_11 : decode cX1_piece 11 = .ok (.athrow, 1) := dk_191 (dk_at dksX1_piece_0 11 rfl rfl)
theorem dX1_piece_12 : decode cX1_piece 12 = .ok (.iconst 0, 1) := dk_3 (dk_at dksX1_piece_0 12 rfl rfl)
theorem dX1_piece_13 : decode cX1_piece 13 = .ok (.istore_n 2, 1) := dk_61 (dk_at dksX1_piece_0 13 rfl rfl)
theorem dX1_piece_14 : decode cX1_piece 14 = .ok (.iload_n 1, 1) := dk_27 (dk_at dksX1_piece_0 14 rfl rfl)
theorem dX1_piece_15 : decode cX1_piece 15 = .ok (.istore_n 3, 1) := dk_62 (dk_at dksX1_piece_0 15 rfl rfl)
theorem dX1_piece_16 : decode cX1_piece 16 = .ok (.iload_n 2, 1) := dk_28 (dk_at dksX1_piece_0 16 rfl rfl)
theorem dX1_piece_17 : decode cX1_piece 17 = .ok (.aload_n 0, 1) := dk_42 (dk_at dksX1_piece_0 17 rfl rfl)
theorem dX1_piece_18 : decode cX1_piece 18 = .ok (.getfield 10, 3) := dk_180 0 10 (dk_at dksX1_piece_0 18 rfl rfl)
theorem dX1_piece_21 : decode cX1_piece 21 = .ok (.invokevirtual 42, 3) := dk_182 0 42 (dk_at dksX1_piece_0 21 rfl rfl)
theorem dX1_piece_24 : decode cX1_piece 24 = .ok (.if_icmp .ge 21, 3) := dk_162 0 21 (dk_at dksX1_piece_1 0 rfl rfl)
theorem dX1_piece_27 : decode cX1_piece 27 = .ok (.aload_n 0, 1) := dk_42 (dk_at dksX1_piece_1 3 rfl rfl)
theorem dX1_piece_28 : decode cX1_piece 28 = .ok (.getfield 19, 3) := dk_180 0 19 (dk_at dksX1_piece_1 4 rfl rfl)
theorem dX1_piece_31 : decode cX1_piece 31 = .ok (.aload_n 0, 1) := dk_42 (dk_at dksX1_piece_1 7 rfl rfl)
theorem dX1_piece_32 : decode cX1_piece 32 = .ok (.getfield 10, 3) := dk_180 0 10 (dk_at dksX1_piece_1 8 rfl rfl)
theorem dX1_piece_35 : decode cX1_piece 35 = .ok (.iload_n 2, 1) := dk_28 (dk_at dksX1_piece_1 11 rfl rfl)
theorem dX1_piece_36 : decode cX1_piece 36 = .ok (.invokevirtual 213, 3) := dk_182 0 213 (dk_at dksX1_piece_1 12 rfl rfl)
theorem dX1_piece_39 : decode cX1_piece 39 = .ok (.invokestatic 216, 3) := dk_184 0 216 (dk_at dksX1_piece_1 15 rfl rfl)
theorem dX1_piece_42 : decode cX1_piece 42 = .ok (.goto 4, 3) := dk_167 0 4 (dk_at dksX1_piece_1 18 rfl rfl)
theorem dX1_piece_45 : decode cX1_piece 45 = .ok (.iconst 0, 1) := dk_3 (dk_at dksX1_piece_1 21 rfl rfl)
theorem dX1_piece_46 : decode cX1_piece 46 = .ok (.istore 4, 2) := dk_54 4 (dk_at dksX1_piece_1 22 rfl rfl)
theorem dX1_piece_48 : decode cX1_piece 48 = .ok (.iload 4, 2) := dk_21 4 (dk_at dksX1_piece_2 0 rfl rfl)
theorem dX1_piece_50 : decode cX1_piece 50 = .ok (.ifCond .ne 11, 3) := dk_154 0 11 (dk_at dksX1_piece_2 2 rfl rfl)
theorem dX1_piece_53 : decode cX1_piece 53 = .ok (.new 61, 3) := dk_187 0 61 (dk_at dksX1_piece_2 5 rfl rfl)
theorem dX1_piece_56 : decode cX1_piece 56 = .ok (.dup, 1) := dk_89 (dk_at dksX1_piece_2 8 rfl rfl)
theorem dX1_piece_57 : decode cX1_piece 57 = .ok (.invokespecial 63, 3) := dk_183 0 63 (dk_at dksX1_piece_2 9 rfl rfl)
theorem dX1_piece_60 : decode cX1_piece 60 = .ok (.athrow, 1) := dk_191 (dk_at dksX1_piece_2 12 rfl rfl)
theorem dX1_piece_61 : decode cX1_piece 61 = .ok (.iload_n 3, 1) := dk_29 (dk_at dksX1_piece_2 13 rfl rfl)
theorem dX1_piece_62 : decode cX1_piece 62 = .ok (.ifCond .ne 6, 3) := dk_154 0 6 (dk_at dksX1_piece_2 14 rfl rfl)
theorem dX1_piece_65 : decode cX1_piece 65 = .ok (.iload 4, 2) := dk_21 4 (dk_at dksX1_piece_2 17 rfl rfl)
theorem dX1_piece_67 : decode cX1_piece 67 = .ok (.ireturn, 1) := dk_172 (dk_at dksX1_piece_2 19 rfl rfl)
theorem dX1_piece_68 : decode cX1_piece 68 = .ok (.iload_n 2, 1) := dk_28 (dk_at dksX1_piece_2 20 rfl rfl)
theorem dX1_piece_69 : decode cX1_piece 69 = .ok (.iload 4, 2) := dk_21 4 (dk_at dksX1_piece_2 21 rfl rfl)
theorem dX1_piece_71 : decode cX1_piece 71 = .ok (.iadd, 1) := dk_96 (dk_at dksX1_piece_2 23 rfl rfl)
theorem dX1_piece_72 : decode cX1_piece 72 = .ok (.istore_n 2, 1) := dk_61 (dk_at dksX1_piece_3 0 rfl rfl)
theorem dX1_piece_73 : decode cX1_piece 73 = .ok (.iinc 3 (-1), 3) := dk_132 3 255 (dk_at dksX1_piece_3 1 rfl rfl)
theorem dX1_piece_76 : decode cX1_piece 76 = .ok (.goto (-60), 3) := dk_167 255 196 (dk_at dksX1_piece_3 4 rfl rfl)
abbrev cX1_code : ByteArray := prog_1_method_34_code
def yX1_code : MethodName := ⟨RX1, "code", "(C)I"⟩
def dkwX1_code_3 : List UInt8 := [182, 0, 76, 83, 28, 172]
abbrev dktX1_code_3 : List UInt8 := dkwX1_code_3 ++ []
def dkwX1_code_2 : List UInt8 := [180, 0, 25, 27, 16, 97, 100, 50, 182, 0, 151, 61, 42, 180, 0, 25, 27, 16, 97, 100, 42, 180, 0, 10]
abbrev dktX1_code_2 : List UInt8 := dkwX1_code_2 ++ dktX1_code_3
def dkwX1_code_1 : List UInt8 := [153, 0, 14, 42, 180, 0, 10, 182, 0, 42, 6, 164, 0, 11, 187, 0, 95, 89, 183, 0, 97, 191, 42]
abbrev dktX1_code_1 : List UInt8 := dkwX1_code_1 ++ dktX1_code_2
def dkwX1_code_0 : List UInt8 := [27, 184, 0, 35, 154, 0, 11, 187, 0, 39, 89, 183, 0, 41, 191, 42, 180, 0, 10, 182, 0, 42]
abbrev dktX1_code_0 : List UInt8 := dkwX1_code_0 ++ dktX1_code_1
theorem dksX1_code_0 : cX1_code.data.toList.drop 0 = dktX1_code_0 := by decide +kernel
theorem dksX1_code_1 : cX1_code.data.toList.drop 22 = dktX1_code_1 := dk_seg dksX1_code_0 22 rfl rfl
theorem dksX1_code_2 : cX1_code.data.toList.drop 45 = dktX1_code_2 := dk_seg dksX1_code_1 23 rfl rfl
theorem dksX1_code_3 : cX1_code.data.toList.drop 69 = dktX1_code_3 := dk_seg dksX1_code_2 24 rfl rfl
theorem dX1_code_0 : decode cX1_code 0 = .ok (.iload_n 1, 1) := dk_27 (dk_at dksX1_code_0 0 rfl rfl)
theorem dX1_code_1 : decode cX1_code 1 = .ok (.invokestatic 35, 3) := dk_184 0 35 (dk_at dksX1_code_0 1 rfl rfl)
theorem dX1_code_4 : decode cX1_code 4 = .ok (.ifCond .ne 11, 3) := dk_154 0 11 (dk_at dksX1_code_0 4 rfl rfl)
theorem dX1_code_7 : decode cX1_code 7 = .ok (.new 39, 3) := dk_187 0 39 (dk_at dksX1_code_0 7 rfl rfl)
theorem dX1_code_10 : decode cX1_code 10 = .ok (.dup, 1) := dk_89 (dk_at dksX1_code_0 10 rfl rfl)
theorem dX1_code_11 : decode cX1_code 11 = .ok (.invokespecial 41, 3) := dk_183 0 41 (dk_at dksX1_code_0 11 rfl rfl)
theorem dX1_code_14 : decode cX1_code 14 = .ok (.athrow, 1) := dk_191 (dk_at dksX1_code_0 14 rfl rfl)
theorem dX1_code_15 : decode cX1_code 15 = .ok (.aload_n 0, 1) := dk_42 (dk_at dksX1_code_0 15 rfl rfl)
theorem dX1_code_16 : decode cX1_code 16 = .ok (.getfield 10, 3) := dk_180 0 10 (dk_at dksX1_code_0 16 rfl rfl)
theorem dX1_code_19 : decode cX1_code 19 = .ok (.invokevirtual 42, 3) := dk_182 0 42 (dk_at dksX1_code_0 19 rfl rfl)
theorem dX1_code_22 : decode cX1_code 22 = .ok (.ifCond .eq 14, 3) := dk_153 0 14 (dk_at dksX1_code_1 0 rfl rfl)
theorem dX1_code_25 : decode cX1_code 25 = .ok (.aload_n 0, 1) := dk_42 (dk_at dksX1_code_1 3 rfl rfl)
theorem dX1_code_26 : decode cX1_code 26 = .ok (.getfield 10, 3) := dk_180 0 10 (dk_at dksX1_code_1 4 rfl rfl)
theorem dX1_code_29 : decode cX1_code 29 = .ok (.invokevirtual 42, 3) := dk_182 0 42 (dk_at dksX1_code_1 7 rfl rfl)
theorem dX1_code_32 : decode cX1_code 32 = .ok (.iconst 3, 1) := dk_6 (dk_at dksX1_code_1 10 rfl rfl)
theorem dX1_code_33 : decode cX1_code 33 = .ok (.if_icmp .le 11, 3) := dk_164 0 11 (dk_at dksX1_code_1 11 rfl rfl)
theorem dX1_code_36 : decode cX1_code 36 = .ok (.new 95, 3) := dk_187 0 95 (dk_at dksX1_code_1 14 rfl rfl)
theorem dX1_code_39 : decode cX1_code 39 = .ok (.dup, 1) := dk_89 (dk_at dksX1_code_1 17 rfl rfl)
theorem dX1_code_40 : decode cX1_code 40 = .ok (.invokespecial 97, 3) := dk_183 0 97 (dk_at dksX1_code_1 18 rfl rfl)
theorem dX1_code_43 : decode cX1_code 43 = .ok (.athrow, 1) := dk_191 (dk_at dksX1_code_1 21 rfl rfl)
theorem dX1_code_44 : decode cX1_code 44 = .ok (.aload_n 0, 1) := dk_42 (dk_at dksX1_code_1 22 rfl rfl)
theorem dX1_code_45 : decode cX1_code 45 = .ok (.getfield 25, 3) := dk_180 0 25 (dk_at dksX1_code_2 0 rfl rfl)
theorem dX1_code_48 : decode cX1_code 48 = .ok (.iload_n 1, 1) := dk_27 (dk_at dksX1_code_2 3 rfl rfl)
theorem dX1_code_49 : decode cX1_code 49 = .ok (.bipush 97, 2) := dk_16 97 (dk_at dksX1_code_2 4 rfl rfl)
theorem dX1_code_51 : decode cX1_code 51 = .ok (.isub, 1) := dk_100 (dk_at dksX1_code_2 6 rfl rfl)
theorem dX1_code_52 : decode cX1_code 52 = .ok (.aaload, 1) := dk_50 (dk_at dksX1_code_2 7 rfl rfl)
theorem dX1_code_53 : decode cX1_code 53 = .ok (.invokevirtual 151, 3) := dk_182 0 151 (dk_at dksX1_code_2 8 rfl rfl)
theorem dX1_code_56 : decode cX1_code 56 = .ok (.istore_n 2, 1) := dk_61 (dk_at dksX1_code_2 11 rfl rfl)
theorem dX1_code_57 : decode cX1_code 57 = .ok (.aload_n 0, 1) := dk_42 (dk_at dksX1_code_2 12 rfl rfl)
theorem dX1_code_58 : decode cX1_code 58 = .ok (.getfield 25, 3) := dk_180 0 25 (dk_at dksX1_code_2 13 rfl rfl)
theorem dX1_code_61 : decode cX1_code 61 = .ok (.iload_n 1, 1) := dk_27 (dk_at dksX1_code_2 16 rfl rfl)
theorem dX1_code_62 : decode cX1_code 62 = .ok (.bipush 97, 2) := dk_16 97 (dk_at dksX1_code_2 17 rfl rfl)
theorem dX1_code_64 : decode cX1_code 64 = .ok (.isub, 1) := dk_100 (dk_at dksX1_code_2 19 rfl rfl)
theorem dX1_code_65 : decode cX1_code 65 = .ok (.aload_n 0, 1) := dk_42 (dk_at dksX1_code_2 20 rfl rfl)
theorem dX1_code_66 : decode cX1_code 66 = .ok (.getfield 10, 3) := dk_180 0 10 (dk_at dksX1_code_2 21 rfl rfl)
theorem dX1_code_69 : decode cX1_code 69 = .ok (.invokevirtual 76, 3) := dk_182 0 76 (dk_at dksX1_code_3 0 rfl rfl)
theorem dX1_code_72 : decode cX1_code 72 = .ok (.aastore, 1) := dk_83 (dk_at dksX1_code_3 3 rfl rfl)
theorem dX1_code_73 : decode cX1_code 73 = .ok (.iload_n 2, 1) := dk_28 (dk_at dksX1_code_3 4 rfl rfl)
theorem dX1_code_74 : decode cX1_code 74 = .ok (.ireturn, 1) := dk_172 (dk_at dksX1_code_3 5 rfl rfl)
abbrev cX1_write : ByteArray := prog_1_method_37_code
def yX1_write : MethodName := ⟨RX1, "write", "()I"⟩
def dkwX1_write_1 : List UInt8 := [89, 183, 0, 48, 191, 42, 43, 182, 0, 147, 43, 182, 0, 151, 172]
abbrev dktX1_write_1 : List UInt8 := dkwX1_write_1 ++ []
def dkwX1_write_0 : List UInt8 := [42, 42, 180, 0, 10, 182, 0, 76, 182, 0, 226, 76, 43, 182, 0, 151, 16, 24, 164, 0, 11, 187, 0, 46]
abbrev dktX1_write_0 : List UInt8 := dkwX1_write_0 ++ dktX1_write_1
theorem dksX1_write_0 : cX1_write.data.toList.drop 0 = dktX1_write_0 := by decide +kernel
theorem dksX1_write_1 : cX1_write.data.toList.drop 24 = dktX1_write_1 := dk_seg dksX1_write_0 24 rfl rfl
theorem dX1_write_0 : decode cX1_write 0 = .ok (.aload_n 0, 1) := dk_42 (dk_at dksX1_write_0 0 rfl rfl)
theorem dX1_write_1 : decode cX1_write 1 = .ok (.aload_n 0, 1) := dk_42 (dk_at dksX1_write_0 1 rfl rfl)
theorem dX1_write_2 : decode cX1_write 2 = .ok (.getfield 10, 3) := dk_180 0 10 (dk_at dksX1_write_0 2 rfl rfl)
theorem dX1_write_5 : decode cX1_write 5 = .ok (.invokevirtual 76, 3) := dk_182 0 76 (dk_at dksX1_write_0 5 rfl rfl)
theorem dX1_write_8 : decode cX1_write 8 = .ok (.invokevirtual 226, 3) := dk_182 0 226 (dk_at dksX1_write_0 8 rfl rfl)
theorem dX1_write_11 : decode cX1_write 11 = .ok (.astore_n 1, 1) := dk_76 (dk_at dksX1_write_0 11 rfl rfl)
theorem dX1_write_12 : decode cX1_write 12 = .ok (.aload_n 1, 1) := dk_43 (dk_at dksX1_write_0 12 rfl rfl)
theorem dX1_write_13 : decode cX1_write 13 = .ok (.invokevirtual 151, 3) := dk_182 0 151 (dk_at dksX1_write_0 13 rfl rfl)
theorem dX1_write_16 : decode cX1_write 16 = .ok (.bipush 24, 2) := dk_16 24 (dk_at dksX1_write_0 16 rfl rfl)
theorem dX1_write_18 : decode cX1_write 18 = .ok (.if_icmp .le 11, 3) := dk_164 0 11 (dk_at dksX1_write_0 18 rfl rfl)
theorem dX1_write_21 : decode cX1_write 21 = .ok (.new 46, 3) := dk_187 0 46 (dk_at dksX1_write_0 21 rfl rfl)
theorem dX1_write_24 : decode cX1_write 24 = .ok (.dup, 1) := dk_89 (dk_at dksX1_write_1 0 rfl rfl)
theorem dX1_write_25 : decode cX1_write 25 = .ok (.invokespecial 48, 3) := dk_183 0 48 (dk_at dksX1_write_1 1 rfl rfl)
theorem dX1_write_28 : decode cX1_write 28 = .ok (.athrow, 1) := dk_191 (dk_at dksX1_write_1 4 rfl rfl)
theorem dX1_write_29 : decode cX1_write 29 = .ok (.aload_n 0, 1) := dk_42 (dk_at dksX1_write_1 5 rfl rfl)
theorem dX1_write_30 : decode cX1_write 30 = .ok (.aload_n 1, 1) := dk_43 (dk_at dksX1_write_1 6 rfl rfl)
theorem dX1_write_31 : decode cX1_write 31 = .ok (.invokevirtual 147, 3) := dk_182 0 147 (dk_at dksX1_write_1 7 rfl rfl)
theorem dX1_write_34 : decode cX1_write 34 = .ok (.aload_n 1, 1) := dk_43 (dk_at dksX1_write_1 10 rfl rfl)
theorem dX1_write_35 : decode cX1_write 35 = .ok (.invokevirtual 151, 3) := dk_182 0 151 (dk_at dksX1_write_1 11 rfl rfl)
theorem dX1_write_38 : decode cX1_write 38 = .ok (.ireturn, 1) := dk_172 (dk_at dksX1_write_1 14 rfl rfl)
abbrev cX1_read : ByteArray := prog_1_method_38_code
def yX1_read : MethodName := ⟨RX1, "read", "()I"⟩
def dkwX1_read_6 : List UInt8 := [167, 255, 178, 42, 44, 182, 0, 76, 182, 0, 147, 42, 180, 0, 10, 182, 0, 42, 172]
abbrev dktX1_read_6 : List UInt8 := dkwX1_read_6 ++ []
def dkwX1_read_5 : List UInt8 := [192, 0, 105, 182, 0, 114, 54, 5, 44, 16, 97, 21, 5, 96, 146, 182, 0, 49, 87, 29, 21, 4, 96, 62]
abbrev dktX1_read_5 : List UInt8 := dkwX1_read_5 ++ dktX1_read_6
def dkwX1_read_4 : List UInt8 := [187, 0, 61, 89, 183, 0, 63, 191, 43, 42, 180, 0, 10, 29, 29, 21, 4, 96, 182, 0, 222, 182, 0, 121]
abbrev dktX1_read_4 : List UInt8 := dkwX1_read_4 ++ dktX1_read_5
def dkwX1_read_3 : List UInt8 := [162, 0, 73, 43, 42, 180, 0, 10, 29, 182, 0, 213, 184, 0, 216, 54, 4, 21, 4, 154, 0, 11]
abbrev dktX1_read_3 : List UInt8 := dkwX1_read_3 ++ dktX1_read_4
def dkwX1_read_2 : List UInt8 := [132, 2, 1, 167, 255, 232, 187, 0, 7, 89, 183, 0, 9, 77, 3, 62, 29, 42, 180, 0, 10, 182, 0, 42]
abbrev dktX1_read_2 : List UInt8 := dkwX1_read_2 ++ dktX1_read_3
def dkwX1_read_1 : List UInt8 := [61, 28, 16, 6, 162, 0, 24, 43, 42, 180, 0, 25, 28, 50, 28, 184, 0, 104, 182, 0, 110, 87]
abbrev dktX1_read_1 : List UInt8 := dkwX1_read_1 ++ dktX1_read_2
def dkwX1_read_0 : List UInt8 := [42, 182, 0, 229, 154, 0, 11, 187, 0, 95, 89, 183, 0, 97, 191, 187, 0, 16, 89, 183, 0, 18, 76, 3]
abbrev dktX1_read_0 : List UInt8 := dkwX1_read_0 ++ dktX1_read_1
theorem dksX1_read_0 : cX1_read.data.toList.drop 0 = dktX1_read_0 := by decide +kernel
theorem dksX1_read_1 : cX1_read.data.toList.drop 24 = dktX1_read_1 := dk_seg dksX1_read_0 24 rfl rfl
theorem dksX1_read_2 : cX1_read.data.toList.drop 46 = dktX1_read_2 := dk_seg dksX1_read_1 22 rfl rfl
theorem dksX1_read_3 : cX1_read.data.toList.drop 70 = dktX1_read_3 := dk_seg dksX1_read_2 24 rfl rfl
theorem dksX1_read_4 : cX1_read.data.toList.drop 92 = dktX1_read_4 := dk_seg dksX1_read_3 22 rfl rfl
theorem dksX1_read_5 : cX1_read.data.toList.drop 116 = dktX1_read_5 := dk_seg dksX1_read_4 24 rfl rfl
theorem dksX1_read_6 : cX1_read.data.toList.drop 140 = dktX1_read_6 := dk_seg dksX1_read_5 24 rfl rfl
theorem dX1_read_0 : decode cX1_read 0 = .ok (.aload_n 0, 1) := dk_42 (dk_at dksX1_read_0 0 rfl rfl)
theorem dX1_read_1 : decode cX1_read 1 = .ok (.invokevirtual 229, 3) := dk_182 0 229 (dk_at dksX1_read_0 1 rfl rfl)
theorem dX1_read_4 : decode cX1_read 4 = .ok (.ifCond .ne 11, 3) := dk_154 0 11 (dk_at dksX1_read_0 4 rfl rfl)
theorem dX1_read_7 : decode cX1_read 7 = .ok (.new 95, 3) := dk_187 0 95 (dk_at dksX1_read_0 7 rfl rfl)
theorem dX1_read_10 : decode cX1_read 10 = .ok (.dup, 1) := dk_89 (dk_at dksX1_read_0 10 rfl rfl)
theorem dX1_read_11 : decode cX1_read 11 = .ok (.invokespecial 97, 3) := dk_183 0 97 (dk_at dksX1_read_0 11 rfl rfl)
theorem dX1_read_14 : decode cX1_read 14 = .ok (.athrow, 1) := dk_191 (dk_at dksX1_read_0 14 rfl rfl)
theorem dX1_read_15 : decode cX1_read 15 = .ok (.new 16, 3) := dk_187 0 16 (dk_at dksX1_read_0 15 rfl rfl)
theorem dX1_read_18 : decode cX1_read 18 = .ok (.dup, 1) := dk_89 (dk_at dksX1_read_0 18 rfl rfl)
theorem dX1_read_19 : decode cX1_read 19 = .ok (.invokespecial 18, 3) := dk_183 0 18 (dk_at dksX1_read_0 19 rfl rfl)
theorem dX1_read_22 : decode cX1_read 22 = .ok (.astore_n 1, 1) := dk_76 (dk_at dksX1_read_0 22 rfl rfl)
theorem dX1_read_23 : decode cX1_read 23 = .ok (.iconst 0, 1) := dk_3 (dk_at dksX1_read_0 23 rfl rfl)
theorem dX1_read_24 : decode cX1_read 24 = .ok (.istore_n 2, 1) := dk_61 (dk_at dksX1_read_1 0 rfl rfl)
theorem dX1_read_25 : decode cX1_read 25 = .ok (.iload_n 2, 1) := dk_28 (dk_at dksX1_read_1 1 rfl rfl)
theorem dX1_read_26 : decode cX1_read 26 = .ok (.bipush 6, 2) := dk_16 6 (dk_at dksX1_read_1 2 rfl rfl)
theorem dX1_read_28 : decode cX1_read 28 = .ok (.if_icmp .ge 24, 3) := dk_162 0 24 (dk_at dksX1_read_1 4 rfl rfl)
theorem dX1_read_31 : decode cX1_read 31 = .ok (.aload_n 1, 1) := dk_43 (dk_at dksX1_read_1 7 rfl rfl)
theorem dX1_read_32 : decode cX1_read 32 = .ok (.aload_n 0, 1) := dk_42 (dk_at dksX1_read_1 8 rfl rfl)
theorem dX1_read_33 : decode cX1_read 33 = .ok (.getfield 25, 3) := dk_180 0 25 (dk_at dksX1_read_1 9 rfl rfl)
theorem dX1_read_36 : decode cX1_read 36 = .ok (.iload_n 2, 1) := dk_28 (dk_at dksX1_read_1 12 rfl rfl)
theorem dX1_read_37 : decode cX1_read 37 = .ok (.aaload, 1) := dk_50 (dk_at dksX1_read_1 13 rfl rfl)
theorem dX1_read_38 : decode cX1_read 38 = .ok (.iload_n 2, 1) := dk_28 (dk_at dksX1_read_1 14 rfl rfl)
theorem dX1_read_39 : decode cX1_read 39 = .ok (.invokestatic 104, 3) := dk_184 0 104 (dk_at dksX1_read_1 15 rfl rfl)
theorem dX1_read_42 : decode cX1_read 42 = .ok (.invokevirtual 110, 3) := dk_182 0 110 (dk_at dksX1_read_1 18 rfl rfl)
theorem dX1_read_45 : decode cX1_read 45 = .ok (.pop, 1) := dk_87 (dk_at dksX1_read_1 21 rfl rfl)
theorem dX1_read_46 : decode cX1_read 46 = .ok (.iinc 2 1, 3) := dk_132 2 1 (dk_at dksX1_read_2 0 rfl rfl)
theorem dX1_read_49 : decode cX1_read 49 = .ok (.goto (-24), 3) := dk_167 255 232 (dk_at dksX1_read_2 3 rfl rfl)
theorem dX1_read_52 : decode cX1_read 52 = .ok (.new 7, 3) := dk_187 0 7 (dk_at dksX1_read_2 6 rfl rfl)
theorem dX1_read_55 : decode cX1_read 55 = .ok (.dup, 1) := dk_89 (dk_at dksX1_read_2 9 rfl rfl)
theorem dX1_read_56 : decode cX1_read 56 = .ok (.invokespecial 9, 3) := dk_183 0 9 (dk_at dksX1_read_2 10 rfl rfl)
theorem dX1_read_59 : decode cX1_read 59 = .ok (.astore_n 2, 1) := dk_77 (dk_at dksX1_read_2 13 rfl rfl)
theorem dX1_read_60 : decode cX1_read 60 = .ok (.iconst 0, 1) := dk_3 (dk_at dksX1_read_2 14 rfl rfl)
theorem dX1_read_61 : decode cX1_read 61 = .ok (.istore_n 3, 1) := dk_62 (dk_at dksX1_read_2 15 rfl rfl)
theorem dX1_read_62 : decode cX1_read 62 = .ok (.iload_n 3, 1) := dk_29 (dk_at dksX1_read_2 16 rfl rfl)
theorem dX1_read_63 : decode cX1_read 63 = .ok (.aload_n 0, 1) := dk_42 (dk_at dksX1_read_2 17 rfl rfl)
theorem dX1_read_64 : decode cX1_read 64 = .ok (.getfield 10, 3) := dk_180 0 10 (dk_at dksX1_read_2 18 rfl rfl)
theorem dX1_read_67 : decode cX1_read 67 = .ok (.invokevirtual 42, 3) := dk_182 0 42 (dk_at dksX1_read_2 21 rfl rfl)
theorem dX1_read_70 : decode cX1_read 70 = .ok (.if_icmp .ge 73, 3) := dk_162 0 73 (dk_at dksX1_read_3 0 rfl rfl)
theorem dX1_read_73 : decode cX1_read 73 = .ok (.aload_n 1, 1) := dk_43 (dk_at dksX1_read_3 3 rfl rfl)
theorem dX1_read_74 : decode cX1_read 74 = .ok (.aload_n 0, 1) := dk_42 (dk_at dksX1_read_3 4 rfl rfl)
theorem dX1_read_75 : decode cX1_read 75 = .ok (.getfield 10, 3) := dk_180 0 10 (dk_at dksX1_read_3 5 rfl rfl)
theorem dX1_read_78 : decode cX1_read 78 = .ok (.iload_n 3, 1) := dk_29 (dk_at dksX1_read_3 8 rfl rfl)
theorem dX1_read_79 : decode cX1_read 79 = .ok (.invokevirtual 213, 3) := dk_182 0 213 (dk_at dksX1_read_3 9 rfl rfl)
theorem dX1_read_82 : decode cX1_read 82 = .ok (.invokestatic 216, 3) := dk_184 0 216 (dk_at dksX1_read_3 12 rfl rfl)
theorem dX1_read_85 : decode cX1_read 85 = .ok (.istore 4, 2) := dk_54 4 (dk_at dksX1_read_3 15 rfl rfl)
theorem dX1_read_87 : decode cX1_read 87 = .ok (.iload 4, 2) := dk_21 4 (dk_at dksX1_read_3 17 rfl rfl)
theorem dX1_read_89 : decode cX1_read 89 = .ok (.ifCond .ne 11, 3) := dk_154 0 11 (dk_at dksX1_read_3 19 rfl rfl)
theorem dX1_read_92 : decode cX1_read 92 = .ok (.new 61, 3) := dk_187 0 61 (dk_at dksX1_read_4 0 rfl rfl)
theorem dX1_read_95 : decode cX1_read 95 = .ok (.dup, 1) := dk_89 (dk_at dksX1_read_4 3 rfl rfl)
theorem dX1_read_96 : decode cX1_read 96 = .ok (.invokespecial 63, 3) := dk_183 0 63 (dk_at dksX1_read_4 4 rfl rfl)
theorem dX1_read_99 : decode cX1_read 99 = .ok (.athrow, 1) := dk_191 (dk_at dksX1_read_4 7 rfl rfl)
theorem dX1_read_100 : decode cX1_read 100 = .ok (.aload_n 1, 1) := dk_43 (dk_at dksX1_read_4 8 rfl rfl)
theorem dX1_read_101 : decode cX1_read 101 = .ok (.aload_n 0, 1) := dk_42 (dk_at dksX1_read_4 9 rfl rfl)
theorem dX1_read_102 : decode cX1_read 102 = .ok (.getfield 10, 3) := dk_180 0 10 (dk_at dksX1_read_4 10 rfl rfl)
theorem dX1_read_105 : decode cX1_read 105 = .ok (.iload_n 3, 1) := dk_29 (dk_at dksX1_read_4 13 rfl rfl)
theorem dX1_read_106 : decode cX1_read 106 = .ok (.iload_n 3, 1) := dk_29 (dk_at dksX1_read_4 14 rfl rfl)
theorem dX1_read_107 : decode cX1_read 107 = .ok (.iload 4, 2) := dk_21 4 (dk_at dksX1_read_4 15 rfl rfl)
theorem dX1_read_109 : decode cX1_read 109 = .ok (.iadd, 1) := dk_96 (dk_at dksX1_read_4 17 rfl rfl)
theorem dX1_read_110 : decode cX1_read 110 = .ok (.invokevirtual 222, 3) := dk_182 0 222 (dk_at dksX1_read_4 18 rfl rfl)
theorem dX1_read_113 : decode cX1_read 113 = .ok (.invokevirtual 121, 3) := dk_182 0 121 (dk_at dksX1_read_4 21 rfl rfl)
theorem dX1_read_116 : decode cX1_read 116 = .ok (.checkcast 105, 3) := dk_192 0 105 (dk_at dksX1_read_5 0 rfl rfl)
theorem dX1_read_119 : decode cX1_read 119 = .ok (.invokevirtual 114, 3) := dk_182 0 114 (dk_at dksX1_read_5 3 rfl rfl)
theorem dX1_read_122 : decode cX1_read 122 = .ok (.istore 5, 2) := dk_54 5 (dk_at dksX1_read_5 6 rfl rfl)
theorem dX1_read_124 : decode cX1_read 124 = .ok (.aload_n 2, 1) := dk_44 (dk_at dksX1_read_5 8 rfl rfl)
theorem dX1_read_125 : decode cX1_read 125 = .ok (.bipush 97, 2) := dk_16 97 (dk_at dksX1_read_5 9 rfl rfl)
theorem dX1_read_127 : decode cX1_read 127 = .ok (.iload 5, 2) := dk_21 5 (dk_at dksX1_read_5 11 rfl rfl)
theorem dX1_read_129 : decode cX1_read 129 = .ok (.iadd, 1) := dk_96 (dk_at dksX1_read_5 13 rfl rfl)
theorem dX1_read_130 : decode cX1_read 130 = .ok (.i2c, 1) := dk_146 (dk_at dksX1_read_5 14 rfl rfl)
theorem dX1_read_131 : decode cX1_read 131 = .ok (.invokevirtual 49, 3) := dk_182 0 49 (dk_at dksX1_read_5 15 rfl rfl)
theorem dX1_read_134 : decode cX1_read 134 = .ok (.pop, 1) := dk_87 (dk_at dksX1_read_5 18 rfl rfl)
theorem dX1_read_135 : decode cX1_read 135 = .ok (.iload_n 3, 1) := dk_29 (dk_at dksX1_read_5 19 rfl rfl)
theorem dX1_read_136 : decode cX1_read 136 = .ok (.iload 4, 2) := dk_21 4 (dk_at dksX1_read_5 20 rfl rfl)
theorem dX1_read_138 : decode cX1_read 138 = .ok (.iadd, 1) := dk_96 (dk_at dksX1_read_5 22 rfl rfl)
theorem dX1_read_139 : decode cX1_read 139 = .ok (.istore_n 3, 1) := dk_62 (dk_at dksX1_read_5 23 rfl rfl)
theorem dX1_read_140 : decode cX1_read 140 = .ok (.goto (-78), 3) := dk_167 255 178 (dk_at dksX1_read_6 0 rfl rfl)
theorem dX1_read_143 : decode cX1_read 143 = .ok (.aload_n 0, 1) := dk_42 (dk_at dksX1_read_6 3 rfl rfl)
theorem dX1_read_144 : decode cX1_read 144 = .ok (.aload_n 2, 1) := dk_44 (dk_at dksX1_read_6 4 rfl rfl)
theorem dX1_read_145 : decode cX1_read 145 = .ok (.invokevirtual 76, 3) := dk_182 0 76 (dk_at dksX1_read_6 5 rfl rfl)
theorem dX1_read_148 : decode cX1_read 148 = .ok (.invokevirtual 147, 3) := dk_182 0 147 (dk_at dksX1_read_6 8 rfl rfl)
theorem dX1_read_151 : decode cX1_read 151 = .ok (.aload_n 0, 1) := dk_42 (dk_at dksX1_read_6 11 rfl rfl)
theorem dX1_read_152 : decode cX1_read 152 = .ok (.getfield 10, 3) := dk_180 0 10 (dk_at dksX1_read_6 12 rfl rfl)
theorem dX1_read_155 : decode cX1_read 155 = .ok (.invokevirtual 42, 3) := dk_182 0 42 (dk_at dksX1_read_6 15 rfl rfl)
theorem dX1_read_158 : decode cX1_read 158 = .ok (.ireturn, 1) := dk_172 (dk_at dksX1_read_6 18 rfl rfl)
abbrev cX1_writeAll : ByteArray := prog_1_method_39_code
def yX1_writeAll : MethodName := ⟨RX1, "writeAll", "()I"⟩
def dkwX1_writeAll_6 : List UInt8 := [180, 0, 19, 182, 0, 235, 42, 180, 0, 19, 43, 182, 0, 236, 28, 172]
abbrev dktX1_writeAll_6 : List UInt8 := dkwX1_writeAll_6 ++ []
def dkwX1_writeAll_5 : List UInt8 := [96, 61, 43, 25, 5, 25, 4, 185, 0, 188, 1, 0, 192, 0, 105, 182, 0, 110, 87, 167, 255, 156, 42]
abbrev dktX1_writeAll_5 : List UInt8 := dkwX1_writeAll_5 ++ dktX1_writeAll_6
def dkwX1_writeAll_4 : List UInt8 := [182, 0, 151, 25, 4, 185, 0, 180, 1, 0, 192, 0, 23, 182, 0, 151, 164, 0, 7, 4, 167, 0, 4, 3]
abbrev dktX1_writeAll_4 : List UInt8 := dkwX1_writeAll_4 ++ dktX1_writeAll_5
def dkwX1_writeAll_3 : List UInt8 := [58, 5, 25, 5, 182, 0, 151, 16, 10, 164, 0, 11, 187, 0, 46, 89, 183, 0, 48, 191, 28, 25, 5]
abbrev dktX1_writeAll_3 : List UInt8 := dkwX1_writeAll_3 ++ dktX1_writeAll_4
def dkwX1_writeAll_2 : List UInt8 := [185, 0, 141, 1, 0, 192, 0, 181, 58, 4, 42, 25, 4, 185, 0, 180, 1, 0, 192, 0, 23, 182, 0, 226]
abbrev dktX1_writeAll_2 : List UInt8 := dkwX1_writeAll_2 ++ dktX1_writeAll_3
def dkwX1_writeAll_1 : List UInt8 := [61, 42, 180, 0, 19, 182, 0, 232, 185, 0, 135, 1, 0, 78, 45, 185, 0, 198, 1, 0, 153, 0, 97, 45]
abbrev dktX1_writeAll_1 : List UInt8 := dkwX1_writeAll_1 ++ dktX1_writeAll_2
def dkwX1_writeAll_0 : List UInt8 := [42, 182, 0, 229, 154, 0, 11, 187, 0, 95, 89, 183, 0, 97, 191, 187, 0, 16, 89, 183, 0, 18, 76, 3]
abbrev dktX1_writeAll_0 : List UInt8 := dkwX1_writeAll_0 ++ dktX1_writeAll_1
theorem dksX1_writeAll_0 : cX1_writeAll.data.toList.drop 0 = dktX1_writeAll_0 := by decide +kernel
theorem dksX1_writeAll_1 : cX1_writeAll.data.toList.drop 24 = dktX1_writeAll_1 := dk_seg dksX1_writeAll_0 24 rfl rfl
theorem dksX1_writeAll_2 : cX1_writeAll.data.toList.drop 48 = dktX1_writeAll_2 := dk_seg dksX1_writeAll_1 24 rfl rfl
theorem dksX1_writeAll_3 : cX1_writeAll.data.toList.drop 72 = dktX1_writeAll_3 := dk_seg dksX1_writeAll_2 24 rfl rfl
theorem dksX1_writeAll_4 : cX1_writeAll.data.toList.drop 95 = dktX1_writeAll_4 := dk_seg dksX1_writeAll_3 23 rfl rfl
theorem dksX1_writeAll_5 : cX1_writeAll.data.toList.drop 119 = dktX1_writeAll_5 := dk_seg dksX1_writeAll_4 24 rfl rfl
theorem dksX1_writeAll_6 : cX1_writeAll.data.toList.drop 142 = dktX1_writeAll_6 := dk_seg dksX1_writeAll_5 23 rfl rfl
theorem dX1_writeAll_0 : decode cX1_writeAll 0 = .ok (.aload_n 0, 1) := dk_42 (dk_at dksX1_writeAll_0 0 rfl rfl)
theorem dX1_writeAll_1 : decode cX1_writeAll 1 = .ok (.invokevirtual 229, 3) := dk_182 0 229 (dk_at dksX1_writeAll_0 1 rfl rfl)
theorem dX1_writeAll_4 : decode cX1_writeAll 4 = .ok (.ifCond .ne 11, 3) := dk_154 0 11 (dk_at dksX1_writeAll_0 4 rfl rfl)
theorem dX1_writeAll_7 : decode cX1_writeAll 7 = .ok (.new 95, 3) := dk_187 0 95 (dk_at dksX1_writeAll_0 7 rfl rfl)
theorem dX1_writeAll_10 : decode cX1_writeAll 10 = .ok (.dup, 1) := dk_89 (dk_at dksX1_writeAll_0 10 rfl rfl)
theorem dX1_writeAll_11 : decode cX1_writeAll 11 = .ok (.invokespecial 97, 3) := dk_183 0 97 (dk_at dksX1_writeAll_0 11 rfl rfl)
theorem dX1_writeAll_14 : decode cX1_writeAll 14 = .ok (.athrow, 1) := dk_191 (dk_at dksX1_writeAll_0 14 rfl rfl)
theorem dX1_writeAll_15 : decode cX1_writeAll 15 = .ok (.new 16, 3) := dk_187 0 16 (dk_at dksX1_writeAll_0 15 rfl rfl)
theorem dX1_writeAll_18 : decode cX1_writeAll 18 = .ok (.dup, 1) := dk_89 (dk_at dksX1_writeAll_0 18 rfl rfl)
theorem dX1_writeAll_19 : decode cX1_writeAll 19 = .ok (.invokespecial 18, 3) := dk_183 0 18 (dk_at dksX1_writeAll_0 19 rfl rfl)
theorem dX1_writeAll_22 : decode cX1_writeAll 22 = .ok (.astore_n 1, 1) := dk_76 (dk_at dksX1_writeAll_0 22 rfl rfl)
theorem dX1_writeAll_23 : decode cX1_writeAll 23 = .ok (.iconst 0, 1) := dk_3 (dk_at dksX1_writeAll_0 23 rfl rfl)
theorem dX1_writeAll_24 : decode cX1_writeAll 24 = .ok (.istore_n 2, 1) := dk_61 (dk_at dksX1_writeAll_1 0 rfl rfl)
theorem dX1_writeAll_25 : decode cX1_writeAll 25 = .ok (.aload_n 0, 1) := dk_42 (dk_at dksX1_writeAll_1 1 rfl rfl)
theorem dX1_writeAll_26 : decode cX1_writeAll 26 = .ok (.getfield 19, 3) := dk_180 0 19 (dk_at dksX1_writeAll_1 2 rfl rfl)
theorem dX1_writeAll_29 : decode cX1_writeAll 29 = .ok (.invokevirtual 232, 3) := dk_182 0 232 (dk_at dksX1_writeAll_1 5 rfl rfl)
theorem dX1_writeAll_32 : decode cX1_writeAll 32 = .ok (.invokeinterface 135 1, 5) := by decide +kernel
theorem dX1_writeAll_37 : decode cX1_writeAll 37 = .ok (.astore_n 3, 1) := dk_78 (dk_at dksX1_writeAll_1 13 rfl rfl)
theorem dX1_writeAll_38 : decode cX1_writeAll 38 = .ok (.aload_n 3, 1) := dk_45 (dk_at dksX1_writeAll_1 14 rfl rfl)
theorem dX1_writeAll_39 : decode cX1_writeAll 39 = .ok (.invokeinterface 198 1, 5) := by decide +kernel
theorem dX1_writeAll_44 : decode cX1_writeAll 44 = .ok (.ifCond .eq 97, 3) := dk_153 0 97 (dk_at dksX1_writeAll_1 20 rfl rfl)
theorem dX1_writeAll_47 : decode cX1_writeAll 47 = .ok (.aload_n 3, 1) := dk_45 (dk_at dksX1_writeAll_1 23 rfl rfl)
theorem dX1_writeAll_48 : decode cX1_writeAll 48 = .ok (.invokeinterface 141 1, 5) := by decide +kernel
theorem dX1_writeAll_53 : decode cX1_writeAll 53 = .ok (.checkcast 181, 3) := dk_192 0 181 (dk_at dksX1_writeAll_2 5 rfl rfl)
theorem dX1_writeAll_56 : decode cX1_writeAll 56 = .ok (.astore 4, 2) := dk_58 4 (dk_at dksX1_writeAll_2 8 rfl rfl)
theorem dX1_writeAll_58 : decode cX1_writeAll 58 = .ok (.aload_n 0, 1) := dk_42 (dk_at dksX1_writeAll_2 10 rfl rfl)
theorem dX1_writeAll_59 : decode cX1_writeAll 59 = .ok (.aload 4, 2) := dk_25 4 (dk_at dksX1_writeAll_2 11 rfl rfl)
theorem dX1_writeAll_61 : decode cX1_writeAll 61 = .ok (.invokeinterface 180 1, 5) := by decide +kernel
theorem dX1_writeAll_66 : decode cX1_writeAll 66 = .ok (.checkcast 23, 3) := dk_192 0 23 (dk_at dksX1_writeAll_2 18 rfl rfl)
theorem dX1_writeAll_69 : decode cX1_writeAll 69 = .ok (.invokevirtual 226, 3) := dk_182 0 226 (dk_at dksX1_writeAll_2 21 rfl rfl)
theorem dX1_writeAll_72 : decode cX1_writeAll 72 = .ok (.astore 5, 2) := dk_58 5 (dk_at dksX1_writeAll_3 0 rfl rfl)
theorem dX1_writeAll_74 : decode cX1_writeAll 74 = .ok (.aload 5, 2) := dk_25 5 (dk_at dksX1_writeAll_3 2 rfl rfl)
theorem dX1_writeAll_76 : decode cX1_writeAll 76 = .ok (.invokevirtual 151, 3) := dk_182 0 151 (dk_at dksX1_writeAll_3 4 rfl rfl)
theorem dX1_writeAll_79 : decode cX1_writeAll 79 = .ok (.bipush 10, 2) := dk_16 10 (dk_at dksX1_writeAll_3 7 rfl rfl)
theorem dX1_writeAll_81 : decode cX1_writeAll 81 = .ok (.if_icmp .le 11, 3) := dk_164 0 11 (dk_at dksX1_writeAll_3 9 rfl rfl)
theorem dX1_writeAll_84 : decode cX1_writeAll 84 = .ok (.new 46, 3) := dk_187 0 46 (dk_at dksX1_writeAll_3 12 rfl rfl)
theorem dX1_writeAll_87 : decode cX1_writeAll 87 = .ok (.dup, 1) := dk_89 (dk_at dksX1_writeAll_3 15 rfl rfl)
theorem dX1_writeAll_88 : decode cX1_writeAll 88 = .ok (.invokespecial 48, 3) := dk_183 0 48 (dk_at dksX1_writeAll_3 16 rfl rfl)
theorem dX1_writeAll_91 : decode cX1_writeAll 91 = .ok (.athrow, 1) := dk_191 (dk_at dksX1_writeAll_3 19 rfl rfl)
theorem dX1_writeAll_92 : decode cX1_writeAll 92 = .ok (.iload_n 2, 1) := dk_28 (dk_at dksX1_writeAll_3 20 rfl rfl)
theorem dX1_writeAll_93 : decode cX1_writeAll 93 = .ok (.aload 5, 2) := dk_25 5 (dk_at dksX1_writeAll_3 21 rfl rfl)
theorem dX1_writeAll_95 : decode cX1_writeAll 95 = .ok (.invokevirtual 151, 3) := dk_182 0 151 (dk_at dksX1_writeAll_4 0 rfl rfl)
theorem dX1_writeAll_98 : decode cX1_writeAll 98 = .ok (.aload 4, 2) := dk_25 4 (dk_at dksX1_writeAll_4 3 rfl rfl)
theorem dX1_writeAll_100 : decode cX1_writeAll 100 = .ok (.invokeinterface 180 1, 5) := by decide +kernel
theorem dX1_writeAll_105 : decode cX1_writeAll 105 = .ok (.checkcast 23, 3) := dk_192 0 23 (dk_at dksX1_writeAll_4 10 rfl rfl)
theorem dX1_writeAll_108 : decode cX1_writeAll 108 = .ok (.invokevirtual 151, 3) := dk_182 0 151 (dk_at dksX1_writeAll_4 13 rfl rfl)
theorem dX1_writeAll_111 : decode cX1_writeAll 111 = .ok (.if_icmp .le 7, 3) := dk_164 0 7 (dk_at dksX1_writeAll_4 16 rfl rfl)
theorem dX1_writeAll_114 : decode cX1_writeAll 114 = .ok (.iconst 1, 1) := dk_4 (dk_at dksX1_writeAll_4 19 rfl rfl)
theorem dX1_writeAll_115 : decode cX1_writeAll 115 = .ok (.goto 4, 3) := dk_167 0 4 (dk_at dksX1_writeAll_4 20 rfl rfl)
theorem dX1_writeAll_118 : decode cX1_writeAll 118 = .ok (.iconst 0, 1) := dk_3 (dk_at dksX1_writeAll_4 23 rfl rfl)
theorem dX1_writeAll_119 : decode cX1_writeAll 119 = .ok (.iadd, 1) := dk_96 (dk_at dksX1_writeAll_5 0 rfl rfl)
theorem dX1_writeAll_120 : decode cX1_writeAll 120 = .ok (.istore_n 2, 1) := dk_61 (dk_at dksX1_writeAll_5 1 rfl rfl)
theorem dX1_writeAll_121 : decode cX1_writeAll 121 = .ok (.aload_n 1, 1) := dk_43 (dk_at dksX1_writeAll_5 2 rfl rfl)
theorem dX1_writeAll_122 : decode cX1_writeAll 122 = .ok (.aload 5, 2) := dk_25 5 (dk_at dksX1_writeAll_5 3 rfl rfl)
theorem dX1_writeAll_124 : decode cX1_writeAll 124 = .ok (.aload 4, 2) := dk_25 4 (dk_at dksX1_writeAll_5 5 rfl rfl)
theorem dX1_writeAll_126 : decode cX1_writeAll 126 = .ok (.invokeinterface 188 1, 5) := by decide +kernel
theorem dX1_writeAll_131 : decode cX1_writeAll 131 = .ok (.checkcast 105, 3) := dk_192 0 105 (dk_at dksX1_writeAll_5 12 rfl rfl)
theorem dX1_writeAll_134 : decode cX1_writeAll 134 = .ok (.invokevirtual 110, 3) := dk_182 0 110 (dk_at dksX1_writeAll_5 15 rfl rfl)
theorem dX1_writeAll_137 : decode cX1_writeAll 137 = .ok (.pop, 1) := dk_87 (dk_at dksX1_writeAll_5 18 rfl rfl)
theorem dX1_writeAll_138 : decode cX1_writeAll 138 = .ok (.goto (-100), 3) := dk_167 255 156 (dk_at dksX1_writeAll_5 19 rfl rfl)
theorem dX1_writeAll_141 : decode cX1_writeAll 141 = .ok (.aload_n 0, 1) := dk_42 (dk_at dksX1_writeAll_5 22 rfl rfl)
theorem dX1_writeAll_142 : decode cX1_writeAll 142 = .ok (.getfield 19, 3) := dk_180 0 19 (dk_at dksX1_writeAll_6 0 rfl rfl)
theorem dX1_writeAll_145 : decode cX1_writeAll 145 = .ok (.invokevirtual 235, 3) := dk_182 0 235 (dk_at dksX1_writeAll_6 3 rfl rfl)
theorem dX1_writeAll_148 : decode cX1_writeAll 148 = .ok (.aload_n 0, 1) := dk_42 (dk_at dksX1_writeAll_6 6 rfl rfl)
theorem dX1_writeAll_149 : decode cX1_writeAll 149 = .ok (.getfield 19, 3) := dk_180 0 19 (dk_at dksX1_writeAll_6 7 rfl rfl)
theorem dX1_writeAll_152 : decode cX1_writeAll 152 = .ok (.aload_n 1, 1) := dk_43 (dk_at dksX1_writeAll_6 10 rfl rfl)
theorem dX1_writeAll_153 : decode cX1_writeAll 153 = .ok (.invokevirtual 236, 3) := dk_182 0 236 (dk_at dksX1_writeAll_6 11 rfl rfl)
theorem dX1_writeAll_156 : decode cX1_writeAll 156 = .ok (.iload_n 2, 1) := dk_28 (dk_at dksX1_writeAll_6 14 rfl rfl)
theorem dX1_writeAll_157 : decode cX1_writeAll 157 = .ok (.ireturn, 1) := dk_172 (dk_at dksX1_writeAll_6 15 rfl rfl)
theorem q41 : (Jvm.Cond.initialized "Stemspan") ∈ lw_all := lw_g (lw_at lw_m1 1 rfl) rfl
theorem q94 : (Jvm.Cond.instantiable "Stemspan" (3 : Nat)) ∈ lw_all := lw_g (lw_at lw_m1 54 rfl) rfl
theorem q96 : (Jvm.Cond.instanceMethod ({ cls := "Stemspan", name := "<init>", desc := "()V" } : Jvm.MethodName)) ∈ lw_all := lw_g (lw_at lw_m1 56 rfl) rfl
theorem q97 : (Jvm.Cond.code ({ cls := "Stemspan", name := "<init>", desc := "()V" } : Jvm.MethodName) prog_1_method_1_code (2 : Nat) (Option.none : Option Jvm.ClassFile.FieldType)) ∈ lw_all := lw_g (lw_at lw_m1 57 rfl) rfl
theorem q98 : (Jvm.Cond.methodLink "Stemspan" (1 : Nat) ({ cls := "java/lang/Object", name := "<init>", desc := "()V" } : Jvm.MethodName)) ∈ lw_all := lw_g (lw_at lw_m1 58 rfl) rfl
theorem q101 : (Jvm.Cond.classLink "Stemspan" (7 : Nat) "java/lang/StringBuilder") ∈ lw_all := lw_g (lw_at lw_m1 61 rfl) rfl
theorem q103 : (Jvm.Cond.methodLink "Stemspan" (9 : Nat) ({ cls := "java/lang/StringBuilder", name := "<init>", desc := "()V" } : Jvm.MethodName)) ∈ lw_all := lw_g (lw_at lw_m1 63 rfl) rfl
theorem q134 : (Jvm.Cond.classLink "Stemspan" (16 : Nat) "java/util/TreeMap") ∈ lw_all := lw_g (lw_at lw_m1 94 rfl) rfl
theorem q136 : (Jvm.Cond.methodLink "Stemspan" (18 : Nat) ({ cls := "java/util/TreeMap", name := "<init>", desc := "()V" } : Jvm.MethodName)) ∈ lw_all := lw_g (lw_at lw_m1 96 rfl) rfl
theorem q174 : (Jvm.Cond.classLink "Stemspan" (23 : Nat) "java/lang/String") ∈ lw_all := lw_g (lw_at lw_m1 134 rfl) rfl
theorem q176 : (Jvm.Cond.stringRef "Stemspan" (29 : Nat) "abcdef") ∈ lw_tbl := lw_at lw_m1 136 rfl
theorem q177 : (Jvm.Cond.methodLink "Stemspan" (31 : Nat) ({ cls := "java/lang/String", name := "substring", desc := "(II)Ljava/lang/String;" } : Jvm.MethodName)) ∈ lw_all := lw_g (lw_at lw_m1 137 rfl) rfl
theorem q483 : (Jvm.Cond.fieldLink "Stemspan" (10 : Nat) "Stemspan" "text" "Ljava/lang/StringBuilder;") ∈ lw_all := lw_g (lw_at lw_m2 203 rfl) rfl
theorem q484 : (Jvm.Cond.fieldLink "Stemspan" (19 : Nat) "Stemspan" "words" "Ljava/util/TreeMap;") ∈ lw_all := lw_g (lw_at lw_m2 204 rfl) rfl
theorem q485 : (Jvm.Cond.fieldLink "Stemspan" (25 : Nat) "Stemspan" "codes" "[Ljava/lang/String;") ∈ lw_all := lw_g (lw_at lw_m2 205 rfl) rfl
theorem q486 : (Jvm.Cond.laysFinal "Stemspan" "Stemspan" "text" "Ljava/lang/StringBuilder;") ∈ lw_all := lw_g (lw_at lw_m2 206 rfl) rfl
theorem q487 : (Jvm.Cond.soleField "Stemspan" "text") ∈ lw_all := lw_g (lw_at lw_m2 207 rfl) rfl
theorem q488 : (Jvm.Cond.laysFinal "Stemspan" "Stemspan" "words" "Ljava/util/TreeMap;") ∈ lw_all := lw_g (lw_at lw_m2 208 rfl) rfl
theorem q489 : (Jvm.Cond.soleField "Stemspan" "words") ∈ lw_all := lw_g (lw_at lw_m2 209 rfl) rfl
theorem q490 : (Jvm.Cond.laysFinal "Stemspan" "Stemspan" "codes" "[Ljava/lang/String;") ∈ lw_all := lw_g (lw_at lw_m2 210 rfl) rfl
theorem q491 : (Jvm.Cond.soleField "Stemspan" "codes") ∈ lw_all := lw_g (lw_at lw_m2 211 rfl) rfl
theorem q492 : (Jvm.Cond.superclass "Stemspan" "java/lang/Object") ∈ lw_all := lw_g (lw_at lw_m2 212 rfl) rfl
theorem q494 : (Jvm.Cond.instanceMethod ({ cls := "Stemspan", name := "wipe", desc := "()I" } : Jvm.MethodName)) ∈ lw_all := lw_g (lw_at lw_m2 214 rfl) rfl
theorem q495 : (Jvm.Cond.selects "Stemspan" ({ cls := "Stemspan", name := "wipe", desc := "()I" } : Jvm.MethodName) ({ cls := "Stemspan", name := "wipe", desc := "()I" } : Jvm.MethodName)) ∈ lw_all := lw_g (lw_at lw_m2 215 rfl) rfl
theorem q496 : (Jvm.Cond.code ({ cls := "Stemspan", name := "wipe", desc := "()I" } : Jvm.MethodName) prog_1_method_8_code (2 : Nat) (Option.some Jvm.ClassFile.FieldType.int)) ∈ lw_all := lw_g (lw_at lw_m2 216 rfl) rfl
theorem q497 : (Jvm.Cond.methodLink "Stemspan" (42 : Nat) ({ cls := "java/lang/StringBuilder", name := "length", desc := "()I" } : Jvm.MethodName)) ∈ lw_all := lw_g (lw_at lw_m2 217 rfl) rfl
theorem q498 : (Jvm.Cond.methodLink "Stemspan" (72 : Nat) ({ cls := "java/lang/StringBuilder", name := "setLength", desc := "(I)V" } : Jvm.MethodName)) ∈ lw_all := lw_g (lw_at lw_m2 218 rfl) rfl
theorem q567 : (Jvm.Cond.instanceMethod ({ cls := "Stemspan", name := "turn", desc := "()Z" } : Jvm.MethodName)) ∈ lw_all := lw_g (lw_at lw_m3 47 rfl) rfl
theorem q568 : (Jvm.Cond.selects "Stemspan" ({ cls := "Stemspan", name := "turn", desc := "()Z" } : Jvm.MethodName) ({ cls := "Stemspan", name := "turn", desc := "()Z" } : Jvm.MethodName)) ∈ lw_all := lw_g (lw_at lw_m3 48 rfl) rfl
theorem q569 : (Jvm.Cond.code ({ cls := "Stemspan", name := "turn", desc := "()Z" } : Jvm.MethodName) prog_1_method_9_code (2 : Nat) (Option.some Jvm.ClassFile.FieldType.boolean)) ∈ lw_all := lw_g (lw_at lw_m3 49 rfl) rfl
theorem q570 : (Jvm.Cond.methodLink "Stemspan" (76 : Nat) ({ cls := "java/lang/StringBuilder", name := "toString", desc := "()Ljava/lang/String;" } : Jvm.MethodName)) ∈ lw_all := lw_g (lw_at lw_m3 50 rfl) rfl
theorem q571 : (Jvm.Cond.methodLink "Stemspan" (80 : Nat) ({ cls := "java/lang/StringBuilder", name := "reverse", desc := "()Ljava/lang/StringBuilder;" } : Jvm.MethodName)) ∈ lw_all := lw_g (lw_at lw_m3 51 rfl) rfl
theorem q602 : (Jvm.Cond.methodLink "Stemspan" (84 : Nat) ({ cls := "java/lang/String", name := "equals", desc := "(Ljava/lang/Object;)Z" } : Jvm.MethodName)) ∈ lw_all := lw_g (lw_at lw_m3 82 rfl) rfl
theorem q611 : (Jvm.Cond.instanceMethod ({ cls := "Stemspan", name := "words", desc := "()I" } : Jvm.MethodName)) ∈ lw_all := lw_g (lw_at lw_m3 91 rfl) rfl
theorem q612 : (Jvm.Cond.selects "Stemspan" ({ cls := "Stemspan", name := "words", desc := "()I" } : Jvm.MethodName) ({ cls := "Stemspan", name := "words", desc := "()I" } : Jvm.MethodName)) ∈ lw_all := lw_g (lw_at lw_m3 92 rfl) rfl
theorem q613 : (Jvm.Cond.code ({ cls := "Stemspan", name := "words", desc := "()I" } : Jvm.MethodName) prog_1_method_15_code (1 : Nat) (Option.some Jvm.ClassFile.FieldType.int)) ∈ lw_all := lw_g (lw_at lw_m3 93 rfl) rfl
theorem q614 : (Jvm.Cond.methodLink "Stemspan" (98 : Nat) ({ cls := "java/util/TreeMap", name := "size", desc := "()I" } : Jvm.MethodName)) ∈ lw_all := lw_g (lw_at lw_m3 94 rfl) rfl
theorem q619 : (Jvm.Cond.instanceMethod ({ cls := "Stemspan", name := "rank", desc := "()I" } : Jvm.MethodName)) ∈ lw_all := lw_g (lw_at lw_m3 99 rfl) rfl
theorem q620 : (Jvm.Cond.selects "Stemspan" ({ cls := "Stemspan", name := "rank", desc := "()I" } : Jvm.MethodName) ({ cls := "Stemspan", name := "rank", desc := "()I" } : Jvm.MethodName)) ∈ lw_all := lw_g (lw_at lw_m3 100 rfl) rfl
theorem q621 : (Jvm.Cond.code ({ cls := "Stemspan", name := "rank", desc := "()I" } : Jvm.MethodName) prog_1_method_16_code (1 : Nat) (Option.some Jvm.ClassFile.FieldType.int)) ∈ lw_all := lw_g (lw_at lw_m3 101 rfl) rfl
theorem q622 : (Jvm.Cond.methodLink "Stemspan" (124 : Nat) ({ cls := "java/util/TreeMap", name := "headMap", desc := "(Ljava/lang/Object;)Ljava/util/SortedMap;" } : Jvm.MethodName)) ∈ lw_all := lw_g (lw_at lw_m3 102 rfl) rfl
theorem q879 : (Jvm.Cond.interfaceEntry "Stemspan" (128 : Nat)) ∈ lw_tbl := lw_at lw_m4 119 rfl
theorem q1160 : (Jvm.Cond.instanceMethod ({ cls := "Stemspan", name := "begun", desc := "()I" } : Jvm.MethodName)) ∈ lw_all := lw_g (lw_at lw_m5 160 rfl) rfl
theorem q1161 : (Jvm.Cond.selects "Stemspan" ({ cls := "Stemspan", name := "begun", desc := "()I" } : Jvm.MethodName) ({ cls := "Stemspan", name := "begun", desc := "()I" } : Jvm.MethodName)) ∈ lw_all := lw_g (lw_at lw_m5 161 rfl) rfl
theorem q1162 : (Jvm.Cond.code ({ cls := "Stemspan", name := "begun", desc := "()I" } : Jvm.MethodName) prog_1_method_21_code (1 : Nat) (Option.some Jvm.ClassFile.FieldType.int)) ∈ lw_all := lw_g (lw_at lw_m5 162 rfl) rfl
theorem q1163 : (Jvm.Cond.methodLink "Stemspan" (172 : Nat) ({ cls := "Stemspan", name := "span", desc := "(Ljava/lang/String;)I" } : Jvm.MethodName)) ∈ lw_all := lw_g (lw_at lw_m5 163 rfl) rfl
theorem q1164 : (Jvm.Cond.privateMethod ({ cls := "Stemspan", name := "span", desc := "(Ljava/lang/String;)I" } : Jvm.MethodName)) ∈ lw_tbl := lw_at lw_m5 164 rfl
theorem q1165 : (Jvm.Cond.instanceMethod ({ cls := "Stemspan", name := "span", desc := "(Ljava/lang/String;)I" } : Jvm.MethodName)) ∈ lw_all := lw_g (lw_at lw_m5 165 rfl) rfl
theorem q1166 : (Jvm.Cond.code ({ cls := "Stemspan", name := "span", desc := "(Ljava/lang/String;)I" } : Jvm.MethodName) prog_1_method_20_code (2 : Nat) (Option.some Jvm.ClassFile.FieldType.int)) ∈ lw_all := lw_g (lw_at lw_m5 166 rfl) rfl
theorem q1167 : (Jvm.Cond.methodLink "Stemspan" (164 : Nat) ({ cls := "Stemspan", name := "behind", desc := "(Ljava/lang/String;)Ljava/lang/String;" } : Jvm.MethodName)) ∈ lw_all := lw_g (lw_at lw_m5 167 rfl) rfl
theorem q1168 : (Jvm.Cond.static ({ cls := "Stemspan", name := "behind", desc := "(Ljava/lang/String;)Ljava/lang/String;" } : Jvm.MethodName)) ∈ lw_all := lw_g (lw_at lw_m5 168 rfl) rfl
theorem q1169 : (Jvm.Cond.code ({ cls := "Stemspan", name := "behind", desc := "(Ljava/lang/String;)Ljava/lang/String;" } : Jvm.MethodName) prog_1_method_19_code (2 : Nat) (Option.some (Jvm.ClassFile.FieldType.object "java/lang/String"))) ∈ lw_all := lw_g (lw_at lw_m5 169 rfl) rfl
theorem q1170 : (Jvm.Cond.methodLink "Stemspan" (92 : Nat) ({ cls := "java/lang/StringBuilder", name := "append", desc := "(Ljava/lang/String;)Ljava/lang/StringBuilder;" } : Jvm.MethodName)) ∈ lw_all := lw_g (lw_at lw_m5 170 rfl) rfl
theorem q1171 : (Jvm.Cond.methodLink "Stemspan" (49 : Nat) ({ cls := "java/lang/StringBuilder", name := "append", desc := "(C)Ljava/lang/StringBuilder;" } : Jvm.MethodName)) ∈ lw_all := lw_g (lw_at lw_m5 171 rfl) rfl
theorem q1193 : (Jvm.Cond.methodLink "Stemspan" (168 : Nat) ({ cls := "java/util/TreeMap", name := "subMap", desc := "(Ljava/lang/Object;Ljava/lang/Object;)Ljava/util/SortedMap;" } : Jvm.MethodName)) ∈ lw_all := lw_g (lw_at lw_m5 193 rfl) rfl
theorem q1202 : (Jvm.Cond.instanceMethod ({ cls := "Stemspan", name := "sum", desc := "()I" } : Jvm.MethodName)) ∈ lw_all := lw_g (lw_at lw_m5 202 rfl) rfl
theorem q1203 : (Jvm.Cond.selects "Stemspan" ({ cls := "Stemspan", name := "sum", desc := "()I" } : Jvm.MethodName) ({ cls := "Stemspan", name := "sum", desc := "()I" } : Jvm.MethodName)) ∈ lw_all := lw_g (lw_at lw_m5 203 rfl) rfl
theorem q1204 : (Jvm.Cond.code ({ cls := "Stemspan", name := "sum", desc := "()I" } : Jvm.MethodName) prog_1_method_23_code (5 : Nat) (Option.some Jvm.ClassFile.FieldType.int)) ∈ lw_all := lw_g (lw_at lw_m5 204 rfl) rfl
theorem q1205 : (Jvm.Cond.interfaceEntry "Stemspan" (191 : Nat)) ∈ lw_tbl := lw_at lw_m5 205 rfl
theorem q1206 : (Jvm.Cond.methodLink "Stemspan" (191 : Nat) ({ cls := "java/util/SortedMap", name := "values", desc := "()Ljava/util/Collection;" } : Jvm.MethodName)) ∈ lw_all := lw_g (lw_at lw_m5 206 rfl) rfl
theorem q1240 : (Jvm.Cond.interfaceEntry "Stemspan" (195 : Nat)) ∈ lw_tbl := lw_at lw_m6 0 rfl
theorem q1241 : (Jvm.Cond.methodLink "Stemspan" (195 : Nat) ({ cls := "java/util/Collection", name := "iterator", desc := "()Ljava/util/Iterator;" } : Jvm.MethodName)) ∈ lw_all := lw_g (lw_at lw_m6 1 rfl) rfl
theorem q1381 : (Jvm.Cond.interfaceEntry "Stemspan" (198 : Nat)) ∈ lw_tbl := lw_at lw_m6 141 rfl
theorem q1382 : (Jvm.Cond.methodLink "Stemspan" (198 : Nat) ({ cls := "java/util/Iterator", name := "hasNext", desc := "()Z" } : Jvm.MethodName)) ∈ lw_all := lw_g (lw_at lw_m6 142 rfl) rfl
theorem q1383 : (Jvm.Cond.interfaceEntry "Stemspan" (141 : Nat)) ∈ lw_tbl := lw_at lw_m6 143 rfl
theorem q1384 : (Jvm.Cond.methodLink "Stemspan" (141 : Nat) ({ cls := "java/util/Iterator", name := "next", desc := "()Ljava/lang/Object;" } : Jvm.MethodName)) ∈ lw_all := lw_g (lw_at lw_m6 144 rfl) rfl
theorem q1385 : (Jvm.Cond.classLink "Stemspan" (105 : Nat) "java/lang/Integer") ∈ lw_all := lw_g (lw_at lw_m6 145 rfl) rfl
theorem q1386 : (Jvm.Cond.methodLink "Stemspan" (114 : Nat) ({ cls := "java/lang/Integer", name := "intValue", desc := "()I" } : Jvm.MethodName)) ∈ lw_all := lw_g (lw_at lw_m6 146 rfl) rfl
theorem q1391 : (Jvm.Cond.instanceMethod ({ cls := "Stemspan", name := "gone", desc := "()I" } : Jvm.MethodName)) ∈ lw_all := lw_g (lw_at lw_m6 151 rfl) rfl
theorem q1392 : (Jvm.Cond.selects "Stemspan" ({ cls := "Stemspan", name := "gone", desc := "()I" } : Jvm.MethodName) ({ cls := "Stemspan", name := "gone", desc := "()I" } : Jvm.MethodName)) ∈ lw_all := lw_g (lw_at lw_m6 152 rfl) rfl
theorem q1393 : (Jvm.Cond.code ({ cls := "Stemspan", name := "gone", desc := "()I" } : Jvm.MethodName) prog_1_method_24_code (3 : Nat) (Option.some Jvm.ClassFile.FieldType.int)) ∈ lw_all := lw_g (lw_at lw_m6 153 rfl) rfl
theorem q1394 : (Jvm.Cond.interfaceEntry "Stemspan" (202 : Nat)) ∈ lw_tbl := lw_at lw_m6 154 rfl
theorem q1524 : (Jvm.Cond.instanceMethod ({ cls := "Stemspan", name := "shared", desc := "()I" } : Jvm.MethodName)) ∈ lw_all := lw_g (lw_at lw_m7 44 rfl) rfl
theorem q1525 : (Jvm.Cond.selects "Stemspan" ({ cls := "Stemspan", name := "shared", desc := "()I" } : Jvm.MethodName) ({ cls := "Stemspan", name := "shared", desc := "()I" } : Jvm.MethodName)) ∈ lw_all := lw_g (lw_at lw_m7 45 rfl) rfl
theorem q1526 : (Jvm.Cond.code ({ cls := "Stemspan", name := "shared", desc := "()I" } : Jvm.MethodName) prog_1_method_28_code (6 : Nat) (Option.some Jvm.ClassFile.FieldType.int)) ∈ lw_all := lw_g (lw_at lw_m7 46 rfl) rfl
theorem q1527 : (Jvm.Cond.methodLink "Stemspan" (152 : Nat) ({ cls := "java/util/TreeMap", name := "floorKey", desc := "(Ljava/lang/Object;)Ljava/lang/Object;" } : Jvm.MethodName)) ∈ lw_all := lw_g (lw_at lw_m7 47 rfl) rfl
theorem q1538 : (Jvm.Cond.methodLink "Stemspan" (155 : Nat) ({ cls := "java/util/TreeMap", name := "ceilingKey", desc := "(Ljava/lang/Object;)Ljava/lang/Object;" } : Jvm.MethodName)) ∈ lw_all := lw_g (lw_at lw_m7 58 rfl) rfl
theorem q1543 : (Jvm.Cond.methodLink "Stemspan" (209 : Nat) ({ cls := "Stemspan", name := "common", desc := "(Ljava/lang/String;Ljava/lang/String;)I" } : Jvm.MethodName)) ∈ lw_all := lw_g (lw_at lw_m7 63 rfl) rfl
theorem q1544 : (Jvm.Cond.static ({ cls := "Stemspan", name := "common", desc := "(Ljava/lang/String;Ljava/lang/String;)I" } : Jvm.MethodName)) ∈ lw_all := lw_g (lw_at lw_m7 64 rfl) rfl
theorem q1545 : (Jvm.Cond.code ({ cls := "Stemspan", name := "common", desc := "(Ljava/lang/String;Ljava/lang/String;)I" } : Jvm.MethodName) prog_1_method_25_code (3 : Nat) (Option.some Jvm.ClassFile.FieldType.int)) ∈ lw_all := lw_g (lw_at lw_m7 65 rfl) rfl
theorem q1546 : (Jvm.Cond.methodLink "Stemspan" (151 : Nat) ({ cls := "java/lang/String", name := "length", desc := "()I" } : Jvm.MethodName)) ∈ lw_all := lw_g (lw_at lw_m7 66 rfl) rfl
theorem q1547 : (Jvm.Cond.methodLink "Stemspan" (205 : Nat) ({ cls := "java/lang/String", name := "charAt", desc := "(I)C" } : Jvm.MethodName)) ∈ lw_all := lw_g (lw_at lw_m7 67 rfl) rfl
theorem q1559 : (Jvm.Cond.instanceMethod ({ cls := "Stemspan", name := "pieces", desc := "()I" } : Jvm.MethodName)) ∈ lw_all := lw_g (lw_at lw_m7 79 rfl) rfl
theorem q1560 : (Jvm.Cond.selects "Stemspan" ({ cls := "Stemspan", name := "pieces", desc := "()I" } : Jvm.MethodName) ({ cls := "Stemspan", name := "pieces", desc := "()I" } : Jvm.MethodName)) ∈ lw_all := lw_g (lw_at lw_m7 80 rfl) rfl
theorem q1561 : (Jvm.Cond.code ({ cls := "Stemspan", name := "pieces", desc := "()I" } : Jvm.MethodName) prog_1_method_30_code (4 : Nat) (Option.some Jvm.ClassFile.FieldType.int)) ∈ lw_all := lw_g (lw_at lw_m7 81 rfl) rfl
theorem q1562 : (Jvm.Cond.methodLink "Stemspan" (213 : Nat) ({ cls := "java/lang/StringBuilder", name := "substring", desc := "(I)Ljava/lang/String;" } : Jvm.MethodName)) ∈ lw_all := lw_g (lw_at lw_m7 82 rfl) rfl
theorem q1581 : (Jvm.Cond.methodLink "Stemspan" (216 : Nat) ({ cls := "Stemspan", name := "longest", desc := "(Ljava/util/TreeMap;Ljava/lang/String;)I" } : Jvm.MethodName)) ∈ lw_all := lw_g (lw_at lw_m7 101 rfl) rfl
theorem q1582 : (Jvm.Cond.static ({ cls := "Stemspan", name := "longest", desc := "(Ljava/util/TreeMap;Ljava/lang/String;)I" } : Jvm.MethodName)) ∈ lw_all := lw_g (lw_at lw_m7 102 rfl) rfl
theorem q1583 : (Jvm.Cond.code ({ cls := "Stemspan", name := "longest", desc := "(Ljava/util/TreeMap;Ljava/lang/String;)I" } : Jvm.MethodName) prog_1_method_26_code (5 : Nat) (Option.some Jvm.ClassFile.FieldType.int)) ∈ lw_all := lw_g (lw_at lw_m7 103 rfl) rfl
theorem q1584 : (Jvm.Cond.methodLink "Stemspan" (206 : Nat) ({ cls := "java/lang/String", name := "isEmpty", desc := "()Z" } : Jvm.MethodName)) ∈ lw_all := lw_g (lw_at lw_m7 104 rfl) rfl
theorem q1589 : (Jvm.Cond.instanceMethod ({ cls := "Stemspan", name := "cuts", desc := "()J" } : Jvm.MethodName)) ∈ lw_all := lw_g (lw_at lw_m7 109 rfl) rfl
theorem q1590 : (Jvm.Cond.selects "Stemspan" ({ cls := "Stemspan", name := "cuts", desc := "()J" } : Jvm.MethodName) ({ cls := "Stemspan", name := "cuts", desc := "()J" } : Jvm.MethodName)) ∈ lw_all := lw_g (lw_at lw_m7 110 rfl) rfl
theorem q1591 : (Jvm.Cond.code ({ cls := "Stemspan", name := "cuts", desc := "()J" } : Jvm.MethodName) prog_1_method_32_code (4 : Nat) (Option.some Jvm.ClassFile.FieldType.long)) ∈ lw_all := lw_g (lw_at lw_m7 111 rfl) rfl
theorem q1592 : (Jvm.Cond.methodLink "Stemspan" (222 : Nat) ({ cls := "java/lang/StringBuilder", name := "substring", desc := "(II)Ljava/lang/String;" } : Jvm.MethodName)) ∈ lw_all := lw_g (lw_at lw_m7 112 rfl) rfl
theorem q1593 : (Jvm.Cond.methodLink "Stemspan" (101 : Nat) ({ cls := "java/util/TreeMap", name := "containsKey", desc := "(Ljava/lang/Object;)Z" } : Jvm.MethodName)) ∈ lw_all := lw_g (lw_at lw_m7 113 rfl) rfl
theorem q1610 : (Jvm.Cond.instanceMethod ({ cls := "Stemspan", name := "fewest", desc := "()I" } : Jvm.MethodName)) ∈ lw_all := lw_g (lw_at lw_m7 130 rfl) rfl
theorem q1611 : (Jvm.Cond.selects "Stemspan" ({ cls := "Stemspan", name := "fewest", desc := "()I" } : Jvm.MethodName) ({ cls := "Stemspan", name := "fewest", desc := "()I" } : Jvm.MethodName)) ∈ lw_all := lw_g (lw_at lw_m7 131 rfl) rfl
theorem q1612 : (Jvm.Cond.code ({ cls := "Stemspan", name := "fewest", desc := "()I" } : Jvm.MethodName) prog_1_method_33_code (4 : Nat) (Option.some Jvm.ClassFile.FieldType.int)) ∈ lw_all := lw_g (lw_at lw_m7 132 rfl) rfl
theorem q1615 : (Jvm.Cond.instanceMethod ({ cls := "Stemspan", name := "isTrue", desc := "()Z" } : Jvm.MethodName)) ∈ lw_all := lw_g (lw_at lw_m7 135 rfl) rfl
theorem q1616 : (Jvm.Cond.selects "Stemspan" ({ cls := "Stemspan", name := "isTrue", desc := "()Z" } : Jvm.MethodName) ({ cls := "Stemspan", name := "isTrue", desc := "()Z" } : Jvm.MethodName)) ∈ lw_all := lw_g (lw_at lw_m7 136 rfl) rfl
theorem q1617 : (Jvm.Cond.code ({ cls := "Stemspan", name := "isTrue", desc := "()Z" } : Jvm.MethodName) prog_1_method_46_code (5 : Nat) (Option.some Jvm.ClassFile.FieldType.boolean)) ∈ lw_all := lw_g (lw_at lw_m7 137 rfl) rfl
theorem q1618 : (Jvm.Cond.methodLink "Stemspan" (248 : Nat) ({ cls := "Stemspan", name := "all", desc := "()[Ljava/lang/String;" } : Jvm.MethodName)) ∈ lw_all := lw_g (lw_at lw_m7 138 rfl) rfl
theorem q1619 : (Jvm.Cond.privateMethod ({ cls := "Stemspan", name := "all", desc := "()[Ljava/lang/String;" } : Jvm.MethodName)) ∈ lw_tbl := lw_at lw_m7 139 rfl
theorem q1620 : (Jvm.Cond.instanceMethod ({ cls := "Stemspan", name := "all", desc := "()[Ljava/lang/String;" } : Jvm.MethodName)) ∈ lw_all := lw_g (lw_at lw_m7 140 rfl) rfl
theorem q1621 : (Jvm.Cond.code ({ cls := "Stemspan", name := "all", desc := "()[Ljava/lang/String;" } : Jvm.MethodName) prog_1_method_40_code (5 : Nat) (Option.some (Jvm.ClassFile.FieldType.array (Jvm.ClassFile.FieldType.object "java/lang/String")))) ∈ lw_all := lw_g (lw_at lw_m7 141 rfl) rfl
theorem q1622 : (Jvm.Cond.methodLink "Stemspan" (131 : Nat) ({ cls := "java/util/TreeMap", name := "keySet", desc := "()Ljava/util/Set;" } : Jvm.MethodName)) ∈ lw_all := lw_g (lw_at lw_m7 142 rfl) rfl
theorem q1640 : (Jvm.Cond.interfaceEntry "Stemspan" (135 : Nat)) ∈ lw_tbl := lw_at lw_m7 160 rfl
theorem q1641 : (Jvm.Cond.methodLink "Stemspan" (135 : Nat) ({ cls := "java/util/Set", name := "iterator", desc := "()Ljava/util/Iterator;" } : Jvm.MethodName)) ∈ lw_all := lw_g (lw_at lw_m7 161 rfl) rfl
theorem q1642 : (Jvm.Cond.methodLink "Stemspan" (252 : Nat) ({ cls := "Stemspan", name := "isSpan", desc := "([Ljava/lang/String;Ljava/lang/String;)Z" } : Jvm.MethodName)) ∈ lw_all := lw_g (lw_at lw_m7 162 rfl) rfl
theorem q1643 : (Jvm.Cond.privateMethod ({ cls := "Stemspan", name := "isSpan", desc := "([Ljava/lang/String;Ljava/lang/String;)Z" } : Jvm.MethodName)) ∈ lw_tbl := lw_at lw_m7 163 rfl
theorem q1644 : (Jvm.Cond.instanceMethod ({ cls := "Stemspan", name := "isSpan", desc := "([Ljava/lang/String;Ljava/lang/String;)Z" } : Jvm.MethodName)) ∈ lw_all := lw_g (lw_at lw_m7 164 rfl) rfl
theorem q1645 : (Jvm.Cond.code ({ cls := "Stemspan", name := "isSpan", desc := "([Ljava/lang/String;Ljava/lang/String;)Z" } : Jvm.MethodName) prog_1_method_42_code (6 : Nat) (Option.some Jvm.ClassFile.FieldType.boolean)) ∈ lw_all := lw_g (lw_at lw_m7 165 rfl) rfl
theorem q1646 : (Jvm.Cond.methodLink "Stemspan" (240 : Nat) ({ cls := "Stemspan", name := "begins", desc := "(Ljava/lang/String;Ljava/lang/String;)Z" } : Jvm.MethodName)) ∈ lw_all := lw_g (lw_at lw_m7 166 rfl) rfl
theorem q1647 : (Jvm.Cond.static ({ cls := "Stemspan", name := "begins", desc := "(Ljava/lang/String;Ljava/lang/String;)Z" } : Jvm.MethodName)) ∈ lw_all := lw_g (lw_at lw_m7 167 rfl) rfl
theorem q1648 : (Jvm.Cond.code ({ cls := "Stemspan", name := "begins", desc := "(Ljava/lang/String;Ljava/lang/String;)Z" } : Jvm.MethodName) prog_1_method_41_code (2 : Nat) (Option.some Jvm.ClassFile.FieldType.boolean)) ∈ lw_all := lw_g (lw_at lw_m7 168 rfl) rfl
theorem q1649 : (Jvm.Cond.methodLink "Stemspan" (247 : Nat) ({ cls := "java/lang/String", name := "substring", desc := "(I)Ljava/lang/String;" } : Jvm.MethodName)) ∈ lw_all := lw_g (lw_at lw_m7 169 rfl) rfl
theorem q1654 : (Jvm.Cond.methodLink "Stemspan" (256 : Nat) ({ cls := "Stemspan", name := "isNear", desc := "([Ljava/lang/String;Ljava/lang/String;)Z" } : Jvm.MethodName)) ∈ lw_all := lw_g (lw_at lw_m7 174 rfl) rfl
theorem q1655 : (Jvm.Cond.privateMethod ({ cls := "Stemspan", name := "isNear", desc := "([Ljava/lang/String;Ljava/lang/String;)Z" } : Jvm.MethodName)) ∈ lw_tbl := lw_at lw_m7 175 rfl
theorem q1656 : (Jvm.Cond.instanceMethod ({ cls := "Stemspan", name := "isNear", desc := "([Ljava/lang/String;Ljava/lang/String;)Z" } : Jvm.MethodName)) ∈ lw_all := lw_g (lw_at lw_m7 176 rfl) rfl
theorem q1657 : (Jvm.Cond.code ({ cls := "Stemspan", name := "isNear", desc := "([Ljava/lang/String;Ljava/lang/String;)Z" } : Jvm.MethodName) prog_1_method_43_code (10 : Nat) (Option.some Jvm.ClassFile.FieldType.boolean)) ∈ lw_all := lw_g (lw_at lw_m7 177 rfl) rfl
theorem q1658 : (Jvm.Cond.methodLink "Stemspan" (259 : Nat) ({ cls := "Stemspan", name := "fewest", desc := "()I" } : Jvm.MethodName)) ∈ lw_all := lw_g (lw_at lw_m7 178 rfl) rfl
theorem q1659 : (Jvm.Cond.methodLink "Stemspan" (262 : Nat) ({ cls := "Stemspan", name := "pieces", desc := "()I" } : Jvm.MethodName)) ∈ lw_all := lw_g (lw_at lw_m7 179 rfl) rfl
theorem q1660 : (Jvm.Cond.methodLink "Stemspan" (265 : Nat) ({ cls := "Stemspan", name := "cuts", desc := "()J" } : Jvm.MethodName)) ∈ lw_all := lw_g (lw_at lw_m7 180 rfl) rfl
theorem q1661 : (Jvm.Cond.methodLink "Stemspan" (269 : Nat) ({ cls := "Stemspan", name := "arePairs", desc := "([Ljava/lang/String;)Z" } : Jvm.MethodName)) ∈ lw_all := lw_g (lw_at lw_m7 181 rfl) rfl
theorem q1662 : (Jvm.Cond.privateMethod ({ cls := "Stemspan", name := "arePairs", desc := "([Ljava/lang/String;)Z" } : Jvm.MethodName)) ∈ lw_tbl := lw_at lw_m7 182 rfl
theorem q1663 : (Jvm.Cond.instanceMethod ({ cls := "Stemspan", name := "arePairs", desc := "([Ljava/lang/String;)Z" } : Jvm.MethodName)) ∈ lw_all := lw_g (lw_at lw_m7 183 rfl) rfl
theorem q1664 : (Jvm.Cond.code ({ cls := "Stemspan", name := "arePairs", desc := "([Ljava/lang/String;)Z" } : Jvm.MethodName) prog_1_method_44_code (9 : Nat) (Option.some Jvm.ClassFile.FieldType.boolean)) ∈ lw_all := lw_g (lw_at lw_m7 184 rfl) rfl
theorem q1665 : (Jvm.Cond.methodLink "Stemspan" (229 : Nat) ({ cls := "Stemspan", name := "isOrderly", desc := "()Z" } : Jvm.MethodName)) ∈ lw_all := lw_g (lw_at lw_m7 185 rfl) rfl
theorem q1666 : (Jvm.Cond.privateMethod ({ cls := "Stemspan", name := "isOrderly", desc := "()Z" } : Jvm.MethodName)) ∈ lw_tbl := lw_at lw_m7 186 rfl
theorem q1667 : (Jvm.Cond.instanceMethod ({ cls := "Stemspan", name := "isOrderly", desc := "()Z" } : Jvm.MethodName)) ∈ lw_all := lw_g (lw_at lw_m7 187 rfl) rfl
theorem q1668 : (Jvm.Cond.code ({ cls := "Stemspan", name := "isOrderly", desc := "()Z" } : Jvm.MethodName) prog_1_method_35_code (2 : Nat) (Option.some Jvm.ClassFile.FieldType.boolean)) ∈ lw_all := lw_g (lw_at lw_m7 188 rfl) rfl
theorem q1669 : (Jvm.Cond.methodLink "Stemspan" (223 : Nat) ({ cls := "java/lang/String", name := "compareTo", desc := "(Ljava/lang/String;)I" } : Jvm.MethodName)) ∈ lw_all := lw_g (lw_at lw_m7 189 rfl) rfl
theorem q1670 : (Jvm.Cond.methodLink "Stemspan" (226 : Nat) ({ cls := "Stemspan", name := "written", desc := "(Ljava/lang/String;)Ljava/lang/String;" } : Jvm.MethodName)) ∈ lw_all := lw_g (lw_at lw_m7 190 rfl) rfl
theorem q1671 : (Jvm.Cond.privateMethod ({ cls := "Stemspan", name := "written", desc := "(Ljava/lang/String;)Ljava/lang/String;" } : Jvm.MethodName)) ∈ lw_tbl := lw_at lw_m7 191 rfl
theorem q1672 : (Jvm.Cond.instanceMethod ({ cls := "Stemspan", name := "written", desc := "(Ljava/lang/String;)Ljava/lang/String;" } : Jvm.MethodName)) ∈ lw_all := lw_g (lw_at lw_m7 192 rfl) rfl
theorem q1673 : (Jvm.Cond.code ({ cls := "Stemspan", name := "written", desc := "(Ljava/lang/String;)Ljava/lang/String;" } : Jvm.MethodName) prog_1_method_36_code (4 : Nat) (Option.some (Jvm.ClassFile.FieldType.object "java/lang/String"))) ∈ lw_all := lw_g (lw_at lw_m7 193 rfl) rfl
theorem q1674 : (Jvm.Cond.methodLink "Stemspan" (244 : Nat) ({ cls := "Stemspan", name := "twin", desc := "()I" } : Jvm.MethodName)) ∈ lw_all := lw_g (lw_at lw_m7 194 rfl) rfl
theorem q1675 : (Jvm.Cond.instanceMethod ({ cls := "Stemspan", name := "twin", desc := "()I" } : Jvm.MethodName)) ∈ lw_all := lw_g (lw_at lw_m7 195 rfl) rfl
theorem q1676 : (Jvm.Cond.selects "Stemspan" ({ cls := "Stemspan", name := "twin", desc := "()I" } : Jvm.MethodName) ({ cls := "Stemspan", name := "twin", desc := "()I" } : Jvm.MethodName)) ∈ lw_all := lw_g (lw_at lw_m7 196 rfl) rfl
theorem q1677 : (Jvm.Cond.code ({ cls := "Stemspan", name := "twin", desc := "()I" } : Jvm.MethodName) prog_1_method_29_code (6 : Nat) (Option.some Jvm.ClassFile.FieldType.int)) ∈ lw_all := lw_g (lw_at lw_m7 197 rfl) rfl
theorem q1678 : (Jvm.Cond.classLink "Stemspan" (61 : Nat) "java/util/NoSuchElementException") ∈ lw_all := lw_g (lw_at lw_m7 198 rfl) rfl
theorem q1679 : (Jvm.Cond.methodLink "Stemspan" (63 : Nat) ({ cls := "java/util/NoSuchElementException", name := "<init>", desc := "()V" } : Jvm.MethodName)) ∈ lw_all := lw_g (lw_at lw_m7 199 rfl) rfl
theorem q1680 : (Jvm.Cond.stringRef "Stemspan" (220 : Nat) "") ∈ lw_tbl := lw_at lw_m7 200 rfl
theorem q1681 : (Jvm.Cond.methodLink "Stemspan" (273 : Nat) ({ cls := "Stemspan", name := "areEnds", desc := "([Ljava/lang/String;)Z" } : Jvm.MethodName)) ∈ lw_all := lw_g (lw_at lw_m7 201 rfl) rfl
theorem q1682 : (Jvm.Cond.privateMethod ({ cls := "Stemspan", name := "areEnds", desc := "([Ljava/lang/String;)Z" } : Jvm.MethodName)) ∈ lw_tbl := lw_at lw_m7 202 rfl
theorem q1683 : (Jvm.Cond.instanceMethod ({ cls := "Stemspan", name := "areEnds", desc := "([Ljava/lang/String;)Z" } : Jvm.MethodName)) ∈ lw_all := lw_g (lw_at lw_m7 203 rfl) rfl
theorem q1684 : (Jvm.Cond.code ({ cls := "Stemspan", name := "areEnds", desc := "([Ljava/lang/String;)Z" } : Jvm.MethodName) prog_1_method_45_code (7 : Nat) (Option.some Jvm.ClassFile.FieldType.boolean)) ∈ lw_all := lw_g (lw_at lw_m7 204 rfl) rfl
theorem q1686 : (Jvm.Cond.instanceMethod ({ cls := "Stemspan", name := "checksum", desc := "()J" } : Jvm.MethodName)) ∈ lw_all := lw_g (lw_at lw_m7 206 rfl) rfl
theorem q1687 : (Jvm.Cond.selects "Stemspan" ({ cls := "Stemspan", name := "checksum", desc := "()J" } : Jvm.MethodName) ({ cls := "Stemspan", name := "checksum", desc := "()J" } : Jvm.MethodName)) ∈ lw_all := lw_g (lw_at lw_m7 207 rfl) rfl
theorem q1688 : (Jvm.Cond.code ({ cls := "Stemspan", name := "checksum", desc := "()J" } : Jvm.MethodName) prog_1_method_47_code (8 : Nat) (Option.some Jvm.ClassFile.FieldType.long)) ∈ lw_all := lw_g (lw_at lw_m7 208 rfl) rfl
theorem q1689 : (Jvm.Cond.constantLong "Stemspan" (276 : Nat) (7 : Int64)) ∈ lw_all := lw_g (lw_at lw_m7 209 rfl) rfl
theorem q1690 : (Jvm.Cond.constantLong "Stemspan" (278 : Nat) (31 : Int64)) ∈ lw_all := lw_g (lw_at lw_m7 210 rfl) rfl
theorem q1691 : (Jvm.Cond.methodLink "Stemspan" (88 : Nat) ({ cls := "java/lang/StringBuilder", name := "charAt", desc := "(I)C" } : Jvm.MethodName)) ∈ lw_all := lw_g (lw_at lw_m7 211 rfl) rfl
theorem q1701 : (Jvm.Cond.methodLink "Stemspan" (232 : Nat) ({ cls := "java/util/TreeMap", name := "entrySet", desc := "()Ljava/util/Set;" } : Jvm.MethodName)) ∈ lw_all := lw_g (lw_at lw_m7 221 rfl) rfl
theorem q1702 : (Jvm.Cond.classLink "Stemspan" (181 : Nat) "java/util/Map$Entry") ∈ lw_all := lw_g (lw_at lw_m7 222 rfl) rfl
theorem q1703 : (Jvm.Cond.interfaceEntry "Stemspan" (180 : Nat)) ∈ lw_tbl := lw_at lw_m7 223 rfl
theorem q1704 : (Jvm.Cond.methodLink "Stemspan" (180 : Nat) ({ cls := "java/util/Map$Entry", name := "getKey", desc := "()Ljava/lang/Object;" } : Jvm.MethodName)) ∈ lw_all := lw_g (lw_at lw_m7 224 rfl) rfl
theorem q1717 : (Jvm.Cond.interfaceEntry "Stemspan" (188 : Nat)) ∈ lw_tbl := lw_at lw_m7 237 rfl
theorem q1718 : (Jvm.Cond.methodLink "Stemspan" (188 : Nat) ({ cls := "java/util/Map$Entry", name := "getValue", desc := "()Ljava/lang/Object;" } : Jvm.MethodName)) ∈ lw_all := lw_g (lw_at lw_m7 238 rfl) rfl
theorem q1725 : (Jvm.Cond.instanceMethod ({ cls := "Stemspan", name := "type", desc := "(C)I" } : Jvm.MethodName)) ∈ lw_all := lw_g (lw_at lw_m8 5 rfl) rfl
theorem q1726 : (Jvm.Cond.selects "Stemspan" ({ cls := "Stemspan", name := "type", desc := "(C)I" } : Jvm.MethodName) ({ cls := "Stemspan", name := "type", desc := "(C)I" } : Jvm.MethodName)) ∈ lw_all := lw_g (lw_at lw_m8 6 rfl) rfl
theorem q1727 : (Jvm.Cond.code ({ cls := "Stemspan", name := "type", desc := "(C)I" } : Jvm.MethodName) prog_1_method_3_code (2 : Nat) (Option.some Jvm.ClassFile.FieldType.int)) ∈ lw_all := lw_g (lw_at lw_m8 7 rfl) rfl
theorem q1728 : (Jvm.Cond.methodLink "Stemspan" (35 : Nat) ({ cls := "Stemspan", name := "isSign", desc := "(C)Z" } : Jvm.MethodName)) ∈ lw_all := lw_g (lw_at lw_m8 8 rfl) rfl
theorem q1729 : (Jvm.Cond.static ({ cls := "Stemspan", name := "isSign", desc := "(C)Z" } : Jvm.MethodName)) ∈ lw_all := lw_g (lw_at lw_m8 9 rfl) rfl
theorem q1730 : (Jvm.Cond.code ({ cls := "Stemspan", name := "isSign", desc := "(C)Z" } : Jvm.MethodName) prog_1_method_2_code (1 : Nat) (Option.some Jvm.ClassFile.FieldType.boolean)) ∈ lw_all := lw_g (lw_at lw_m8 10 rfl) rfl
theorem q1731 : (Jvm.Cond.classLink "Stemspan" (39 : Nat) "java/lang/IllegalArgumentException") ∈ lw_all := lw_g (lw_at lw_m8 11 rfl) rfl
theorem q1732 : (Jvm.Cond.methodLink "Stemspan" (41 : Nat) ({ cls := "java/lang/IllegalArgumentException", name := "<init>", desc := "()V" } : Jvm.MethodName)) ∈ lw_all := lw_g (lw_at lw_m8 12 rfl) rfl
theorem q1736 : (Jvm.Cond.classLink "Stemspan" (46 : Nat) "java/lang/IllegalStateException") ∈ lw_all := lw_g (lw_at lw_m8 16 rfl) rfl
theorem q1737 : (Jvm.Cond.methodLink "Stemspan" (48 : Nat) ({ cls := "java/lang/IllegalStateException", name := "<init>", desc := "()V" } : Jvm.MethodName)) ∈ lw_all := lw_g (lw_at lw_m8 17 rfl) rfl
theorem q1742 : (Jvm.Cond.instanceMethod ({ cls := "Stemspan", name := "typeMore", desc := "(II)I" } : Jvm.MethodName)) ∈ lw_all := lw_g (lw_at lw_m8 22 rfl) rfl
theorem q1743 : (Jvm.Cond.selects "Stemspan" ({ cls := "Stemspan", name := "typeMore", desc := "(II)I" } : Jvm.MethodName) ({ cls := "Stemspan", name := "typeMore", desc := "(II)I" } : Jvm.MethodName)) ∈ lw_all := lw_g (lw_at lw_m8 23 rfl) rfl
theorem q1744 : (Jvm.Cond.code ({ cls := "Stemspan", name := "typeMore", desc := "(II)I" } : Jvm.MethodName) prog_1_method_4_code (5 : Nat) (Option.some Jvm.ClassFile.FieldType.int)) ∈ lw_all := lw_g (lw_at lw_m8 24 rfl) rfl
theorem q1745 : (Jvm.Cond.constant "Stemspan" (53 : Nat) (1679615 : Int32)) ∈ lw_all := lw_g (lw_at lw_m8 25 rfl) rfl
theorem q1753 : (Jvm.Cond.instanceMethod ({ cls := "Stemspan", name := "typeAt", desc := "(IC)I" } : Jvm.MethodName)) ∈ lw_all := lw_g (lw_at lw_m8 33 rfl) rfl
theorem q1754 : (Jvm.Cond.selects "Stemspan" ({ cls := "Stemspan", name := "typeAt", desc := "(IC)I" } : Jvm.MethodName) ({ cls := "Stemspan", name := "typeAt", desc := "(IC)I" } : Jvm.MethodName)) ∈ lw_all := lw_g (lw_at lw_m8 34 rfl) rfl
theorem q1755 : (Jvm.Cond.code ({ cls := "Stemspan", name := "typeAt", desc := "(IC)I" } : Jvm.MethodName) prog_1_method_5_code (3 : Nat) (Option.some Jvm.ClassFile.FieldType.int)) ∈ lw_all := lw_g (lw_at lw_m8 35 rfl) rfl
theorem q1756 : (Jvm.Cond.classLink "Stemspan" (54 : Nat) "java/lang/IndexOutOfBoundsException") ∈ lw_all := lw_g (lw_at lw_m8 36 rfl) rfl
theorem q1765 : (Jvm.Cond.methodLink "Stemspan" (56 : Nat) ({ cls := "java/lang/IndexOutOfBoundsException", name := "<init>", desc := "()V" } : Jvm.MethodName)) ∈ lw_all := lw_g (lw_at lw_m8 45 rfl) rfl
theorem q1771 : (Jvm.Cond.methodLink "Stemspan" (57 : Nat) ({ cls := "java/lang/StringBuilder", name := "insert", desc := "(IC)Ljava/lang/StringBuilder;" } : Jvm.MethodName)) ∈ lw_all := lw_g (lw_at lw_m8 51 rfl) rfl
theorem q1789 : (Jvm.Cond.instanceMethod ({ cls := "Stemspan", name := "drop", desc := "()I" } : Jvm.MethodName)) ∈ lw_all := lw_g (lw_at lw_m8 69 rfl) rfl
theorem q1790 : (Jvm.Cond.selects "Stemspan" ({ cls := "Stemspan", name := "drop", desc := "()I" } : Jvm.MethodName) ({ cls := "Stemspan", name := "drop", desc := "()I" } : Jvm.MethodName)) ∈ lw_all := lw_g (lw_at lw_m8 70 rfl) rfl
theorem q1791 : (Jvm.Cond.code ({ cls := "Stemspan", name := "drop", desc := "()I" } : Jvm.MethodName) prog_1_method_6_code (1 : Nat) (Option.some Jvm.ClassFile.FieldType.int)) ∈ lw_all := lw_g (lw_at lw_m8 71 rfl) rfl
theorem q1792 : (Jvm.Cond.methodLink "Stemspan" (64 : Nat) ({ cls := "java/lang/StringBuilder", name := "deleteCharAt", desc := "(I)Ljava/lang/StringBuilder;" } : Jvm.MethodName)) ∈ lw_all := lw_g (lw_at lw_m8 72 rfl) rfl
theorem q1803 : (Jvm.Cond.instanceMethod ({ cls := "Stemspan", name := "clip", desc := "(II)I" } : Jvm.MethodName)) ∈ lw_all := lw_g (lw_at lw_m8 83 rfl) rfl
theorem q1804 : (Jvm.Cond.selects "Stemspan" ({ cls := "Stemspan", name := "clip", desc := "(II)I" } : Jvm.MethodName) ({ cls := "Stemspan", name := "clip", desc := "(II)I" } : Jvm.MethodName)) ∈ lw_all := lw_g (lw_at lw_m8 84 rfl) rfl
theorem q1805 : (Jvm.Cond.code ({ cls := "Stemspan", name := "clip", desc := "(II)I" } : Jvm.MethodName) prog_1_method_7_code (3 : Nat) (Option.some Jvm.ClassFile.FieldType.int)) ∈ lw_all := lw_g (lw_at lw_m8 85 rfl) rfl
theorem q1806 : (Jvm.Cond.methodLink "Stemspan" (68 : Nat) ({ cls := "java/lang/StringBuilder", name := "delete", desc := "(II)Ljava/lang/StringBuilder;" } : Jvm.MethodName)) ∈ lw_all := lw_g (lw_at lw_m8 86 rfl) rfl
theorem q1817 : (Jvm.Cond.instanceMethod ({ cls := "Stemspan", name := "signAt", desc := "(I)C" } : Jvm.MethodName)) ∈ lw_all := lw_g (lw_at lw_m8 97 rfl) rfl
theorem q1818 : (Jvm.Cond.selects "Stemspan" ({ cls := "Stemspan", name := "signAt", desc := "(I)C" } : Jvm.MethodName) ({ cls := "Stemspan", name := "signAt", desc := "(I)C" } : Jvm.MethodName)) ∈ lw_all := lw_g (lw_at lw_m8 98 rfl) rfl
theorem q1819 : (Jvm.Cond.code ({ cls := "Stemspan", name := "signAt", desc := "(I)C" } : Jvm.MethodName) prog_1_method_10_code (2 : Nat) (Option.some Jvm.ClassFile.FieldType.char)) ∈ lw_all := lw_g (lw_at lw_m8 99 rfl) rfl
theorem q1825 : (Jvm.Cond.instanceMethod ({ cls := "Stemspan", name := "put", desc := "(I)I" } : Jvm.MethodName)) ∈ lw_all := lw_g (lw_at lw_m8 105 rfl) rfl
theorem q1826 : (Jvm.Cond.selects "Stemspan" ({ cls := "Stemspan", name := "put", desc := "(I)I" } : Jvm.MethodName) ({ cls := "Stemspan", name := "put", desc := "(I)I" } : Jvm.MethodName)) ∈ lw_all := lw_g (lw_at lw_m8 106 rfl) rfl
theorem q1827 : (Jvm.Cond.code ({ cls := "Stemspan", name := "put", desc := "(I)I" } : Jvm.MethodName) prog_1_method_12_code (4 : Nat) (Option.some Jvm.ClassFile.FieldType.int)) ∈ lw_all := lw_g (lw_at lw_m8 107 rfl) rfl
theorem q1828 : (Jvm.Cond.classLink "Stemspan" (95 : Nat) "java/lang/UnsupportedOperationException") ∈ lw_all := lw_g (lw_at lw_m8 108 rfl) rfl
theorem q1837 : (Jvm.Cond.methodLink "Stemspan" (97 : Nat) ({ cls := "java/lang/UnsupportedOperationException", name := "<init>", desc := "()V" } : Jvm.MethodName)) ∈ lw_all := lw_g (lw_at lw_m8 117 rfl) rfl
theorem q1843 : (Jvm.Cond.methodLink "Stemspan" (104 : Nat) ({ cls := "java/lang/Integer", name := "valueOf", desc := "(I)Ljava/lang/Integer;" } : Jvm.MethodName)) ∈ lw_all := lw_g (lw_at lw_m8 123 rfl) rfl
theorem q1862 : (Jvm.Cond.methodLink "Stemspan" (110 : Nat) ({ cls := "java/util/TreeMap", name := "put", desc := "(Ljava/lang/Object;Ljava/lang/Object;)Ljava/lang/Object;" } : Jvm.MethodName)) ∈ lw_all := lw_g (lw_at lw_m8 142 rfl) rfl
theorem q1924 : (Jvm.Cond.instanceMethod ({ cls := "Stemspan", name := "take", desc := "()I" } : Jvm.MethodName)) ∈ lw_all := lw_g (lw_at lw_m8 204 rfl) rfl
theorem q1925 : (Jvm.Cond.selects "Stemspan" ({ cls := "Stemspan", name := "take", desc := "()I" } : Jvm.MethodName) ({ cls := "Stemspan", name := "take", desc := "()I" } : Jvm.MethodName)) ∈ lw_all := lw_g (lw_at lw_m8 205 rfl) rfl
theorem q1926 : (Jvm.Cond.code ({ cls := "Stemspan", name := "take", desc := "()I" } : Jvm.MethodName) prog_1_method_13_code (2 : Nat) (Option.some Jvm.ClassFile.FieldType.int)) ∈ lw_all := lw_g (lw_at lw_m8 206 rfl) rfl
theorem q1927 : (Jvm.Cond.methodLink "Stemspan" (117 : Nat) ({ cls := "java/util/TreeMap", name := "remove", desc := "(Ljava/lang/Object;)Ljava/lang/Object;" } : Jvm.MethodName)) ∈ lw_all := lw_g (lw_at lw_m8 207 rfl) rfl
theorem q1936 : (Jvm.Cond.instanceMethod ({ cls := "Stemspan", name := "number", desc := "()I" } : Jvm.MethodName)) ∈ lw_all := lw_g (lw_at lw_m8 216 rfl) rfl
theorem q1937 : (Jvm.Cond.selects "Stemspan" ({ cls := "Stemspan", name := "number", desc := "()I" } : Jvm.MethodName) ({ cls := "Stemspan", name := "number", desc := "()I" } : Jvm.MethodName)) ∈ lw_all := lw_g (lw_at lw_m8 217 rfl) rfl
theorem q1938 : (Jvm.Cond.code ({ cls := "Stemspan", name := "number", desc := "()I" } : Jvm.MethodName) prog_1_method_14_code (2 : Nat) (Option.some Jvm.ClassFile.FieldType.int)) ∈ lw_all := lw_g (lw_at lw_m8 218 rfl) rfl
theorem q1939 : (Jvm.Cond.methodLink "Stemspan" (121 : Nat) ({ cls := "java/util/TreeMap", name := "get", desc := "(Ljava/lang/Object;)Ljava/lang/Object;" } : Jvm.MethodName)) ∈ lw_all := lw_g (lw_at lw_m8 219 rfl) rfl
theorem q1947 : (Jvm.Cond.instanceMethod ({ cls := "Stemspan", name := "word", desc := "(I)I" } : Jvm.MethodName)) ∈ lw_all := lw_g (lw_at lw_m8 227 rfl) rfl
theorem q1948 : (Jvm.Cond.selects "Stemspan" ({ cls := "Stemspan", name := "word", desc := "(I)I" } : Jvm.MethodName) ({ cls := "Stemspan", name := "word", desc := "(I)I" } : Jvm.MethodName)) ∈ lw_all := lw_g (lw_at lw_m8 228 rfl) rfl
theorem q1949 : (Jvm.Cond.code ({ cls := "Stemspan", name := "word", desc := "(I)I" } : Jvm.MethodName) prog_1_method_17_code (5 : Nat) (Option.some Jvm.ClassFile.FieldType.int)) ∈ lw_all := lw_g (lw_at lw_m8 229 rfl) rfl
theorem q1950 : (Jvm.Cond.methodLink "Stemspan" (147 : Nat) ({ cls := "Stemspan", name := "become", desc := "(Ljava/lang/String;)V" } : Jvm.MethodName)) ∈ lw_all := lw_g (lw_at lw_m8 230 rfl) rfl
theorem q1951 : (Jvm.Cond.privateMethod ({ cls := "Stemspan", name := "become", desc := "(Ljava/lang/String;)V" } : Jvm.MethodName)) ∈ lw_tbl := lw_at lw_m8 231 rfl
theorem q1952 : (Jvm.Cond.instanceMethod ({ cls := "Stemspan", name := "become", desc := "(Ljava/lang/String;)V" } : Jvm.MethodName)) ∈ lw_all := lw_g (lw_at lw_m8 232 rfl) rfl
theorem q1953 : (Jvm.Cond.code ({ cls := "Stemspan", name := "become", desc := "(Ljava/lang/String;)V" } : Jvm.MethodName) prog_1_method_11_code (2 : Nat) (Option.none : Option Jvm.ClassFile.FieldType)) ∈ lw_all := lw_g (lw_at lw_m8 233 rfl) rfl
theorem q1958 : (Jvm.Cond.instanceMethod ({ cls := "Stemspan", name := "near", desc := "(C)I" } : Jvm.MethodName)) ∈ lw_all := lw_g (lw_at lw_m8 238 rfl) rfl
theorem q1959 : (Jvm.Cond.selects "Stemspan" ({ cls := "Stemspan", name := "near", desc := "(C)I" } : Jvm.MethodName) ({ cls := "Stemspan", name := "near", desc := "(C)I" } : Jvm.MethodName)) ∈ lw_all := lw_g (lw_at lw_m8 239 rfl) rfl
theorem q1960 : (Jvm.Cond.code ({ cls := "Stemspan", name := "near", desc := "(C)I" } : Jvm.MethodName) prog_1_method_18_code (4 : Nat) (Option.some Jvm.ClassFile.FieldType.int)) ∈ lw_all := lw_g (lw_at lw_m9 0 rfl) rfl
theorem q1961 : (Jvm.Cond.methodLink "Stemspan" (158 : Nat) ({ cls := "java/util/TreeMap", name := "lowerKey", desc := "(Ljava/lang/Object;)Ljava/lang/Object;" } : Jvm.MethodName)) ∈ lw_all := lw_g (lw_at lw_m9 1 rfl) rfl
theorem q1969 : (Jvm.Cond.methodLink "Stemspan" (161 : Nat) ({ cls := "java/util/TreeMap", name := "higherKey", desc := "(Ljava/lang/Object;)Ljava/lang/Object;" } : Jvm.MethodName)) ∈ lw_all := lw_g (lw_at lw_m9 9 rfl) rfl
theorem q1978 : (Jvm.Cond.instanceMethod ({ cls := "Stemspan", name := "begunAt", desc := "(I)I" } : Jvm.MethodName)) ∈ lw_all := lw_g (lw_at lw_m9 18 rfl) rfl
theorem q1979 : (Jvm.Cond.selects "Stemspan" ({ cls := "Stemspan", name := "begunAt", desc := "(I)I" } : Jvm.MethodName) ({ cls := "Stemspan", name := "begunAt", desc := "(I)I" } : Jvm.MethodName)) ∈ lw_all := lw_g (lw_at lw_m9 19 rfl) rfl
theorem q1980 : (Jvm.Cond.code ({ cls := "Stemspan", name := "begunAt", desc := "(I)I" } : Jvm.MethodName) prog_1_method_22_code (5 : Nat) (Option.some Jvm.ClassFile.FieldType.int)) ∈ lw_all := lw_g (lw_at lw_m9 20 rfl) rfl
theorem q1981 : (Jvm.Cond.methodLink "Stemspan" (176 : Nat) ({ cls := "java/util/TreeMap", name := "ceilingEntry", desc := "(Ljava/lang/Object;)Ljava/util/Map$Entry;" } : Jvm.MethodName)) ∈ lw_all := lw_g (lw_at lw_m9 21 rfl) rfl
theorem q2005 : (Jvm.Cond.methodLink "Stemspan" (185 : Nat) ({ cls := "java/util/TreeMap", name := "higherEntry", desc := "(Ljava/lang/Object;)Ljava/util/Map$Entry;" } : Jvm.MethodName)) ∈ lw_all := lw_g (lw_at lw_m9 45 rfl) rfl
theorem q2013 : (Jvm.Cond.instanceMethod ({ cls := "Stemspan", name := "longest", desc := "(I)I" } : Jvm.MethodName)) ∈ lw_all := lw_g (lw_at lw_m9 53 rfl) rfl
theorem q2014 : (Jvm.Cond.selects "Stemspan" ({ cls := "Stemspan", name := "longest", desc := "(I)I" } : Jvm.MethodName) ({ cls := "Stemspan", name := "longest", desc := "(I)I" } : Jvm.MethodName)) ∈ lw_all := lw_g (lw_at lw_m9 54 rfl) rfl
theorem q2015 : (Jvm.Cond.code ({ cls := "Stemspan", name := "longest", desc := "(I)I" } : Jvm.MethodName) prog_1_method_27_code (2 : Nat) (Option.some Jvm.ClassFile.FieldType.int)) ∈ lw_all := lw_g (lw_at lw_m9 55 rfl) rfl
theorem q2024 : (Jvm.Cond.instanceMethod ({ cls := "Stemspan", name := "piece", desc := "(I)I" } : Jvm.MethodName)) ∈ lw_all := lw_g (lw_at lw_m9 64 rfl) rfl
theorem q2025 : (Jvm.Cond.selects "Stemspan" ({ cls := "Stemspan", name := "piece", desc := "(I)I" } : Jvm.MethodName) ({ cls := "Stemspan", name := "piece", desc := "(I)I" } : Jvm.MethodName)) ∈ lw_all := lw_g (lw_at lw_m9 65 rfl) rfl
theorem q2026 : (Jvm.Cond.code ({ cls := "Stemspan", name := "piece", desc := "(I)I" } : Jvm.MethodName) prog_1_method_31_code (5 : Nat) (Option.some Jvm.ClassFile.FieldType.int)) ∈ lw_all := lw_g (lw_at lw_m9 66 rfl) rfl
theorem q2031 : (Jvm.Cond.instanceMethod ({ cls := "Stemspan", name := "code", desc := "(C)I" } : Jvm.MethodName)) ∈ lw_all := lw_g (lw_at lw_m9 71 rfl) rfl
theorem q2032 : (Jvm.Cond.selects "Stemspan" ({ cls := "Stemspan", name := "code", desc := "(C)I" } : Jvm.MethodName) ({ cls := "Stemspan", name := "code", desc := "(C)I" } : Jvm.MethodName)) ∈ lw_all := lw_g (lw_at lw_m9 72 rfl) rfl
theorem q2033 : (Jvm.Cond.code ({ cls := "Stemspan", name := "code", desc := "(C)I" } : Jvm.MethodName) prog_1_method_34_code (3 : Nat) (Option.some Jvm.ClassFile.FieldType.int)) ∈ lw_all := lw_g (lw_at lw_m9 73 rfl) rfl
theorem q2038 : (Jvm.Cond.instanceMethod ({ cls := "Stemspan", name := "write", desc := "()I" } : Jvm.MethodName)) ∈ lw_all := lw_g (lw_at lw_m9 78 rfl) rfl
theorem q2039 : (Jvm.Cond.selects "Stemspan" ({ cls := "Stemspan", name := "write", desc := "()I" } : Jvm.MethodName) ({ cls := "Stemspan", name := "write", desc := "()I" } : Jvm.MethodName)) ∈ lw_all := lw_g (lw_at lw_m9 79 rfl) rfl
theorem q2040 : (Jvm.Cond.code ({ cls := "Stemspan", name := "write", desc := "()I" } : Jvm.MethodName) prog_1_method_37_code (2 : Nat) (Option.some Jvm.ClassFile.FieldType.int)) ∈ lw_all := lw_g (lw_at lw_m9 80 rfl) rfl
theorem q2045 : (Jvm.Cond.instanceMethod ({ cls := "Stemspan", name := "read", desc := "()I" } : Jvm.MethodName)) ∈ lw_all := lw_g (lw_at lw_m9 85 rfl) rfl
theorem q2046 : (Jvm.Cond.selects "Stemspan" ({ cls := "Stemspan", name := "read", desc := "()I" } : Jvm.MethodName) ({ cls := "Stemspan", name := "read", desc := "()I" } : Jvm.MethodName)) ∈ lw_all := lw_g (lw_at lw_m9 86 rfl) rfl
theorem q2047 : (Jvm.Cond.code ({ cls := "Stemspan", name := "read", desc := "()I" } : Jvm.MethodName) prog_1_method_38_code (6 : Nat) (Option.some Jvm.ClassFile.FieldType.int)) ∈ lw_all := lw_g (lw_at lw_m9 87 rfl) rfl
theorem q2052 : (Jvm.Cond.instanceMethod ({ cls := "Stemspan", name := "writeAll", desc := "()I" } : Jvm.MethodName)) ∈ lw_all := lw_g (lw_at lw_m9 92 rfl) rfl
theorem q2053 : (Jvm.Cond.selects "Stemspan" ({ cls := "Stemspan", name := "writeAll", desc := "()I" } : Jvm.MethodName) ({ cls := "Stemspan", name := "writeAll", desc := "()I" } : Jvm.MethodName)) ∈ lw_all := lw_g (lw_at lw_m9 93 rfl) rfl
theorem q2054 : (Jvm.Cond.code ({ cls := "Stemspan", name := "writeAll", desc := "()I" } : Jvm.MethodName) prog_1_method_39_code (6 : Nat) (Option.some Jvm.ClassFile.FieldType.int)) ∈ lw_all := lw_g (lw_at lw_m9 94 rfl) rfl
theorem q2055 : (Jvm.Cond.methodLink "Stemspan" (235 : Nat) ({ cls := "java/util/TreeMap", name := "clear", desc := "()V" } : Jvm.MethodName)) ∈ lw_all := lw_g (lw_at lw_m9 95 rfl) rfl
theorem q2056 : (Jvm.Cond.methodLink "Stemspan" (236 : Nat) ({ cls := "java/util/TreeMap", name := "putAll", desc := "(Ljava/util/Map;)V" } : Jvm.MethodName)) ∈ lw_all := lw_g (lw_at lw_m9 96 rfl) rfl
theorem q2088 : (Jvm.Cond.selects "Stemspan" ({ cls := "java/lang/Object", name := "equals", desc := "(Ljava/lang/Object;)Z" } : Jvm.MethodName) ({ cls := "java/lang/Object", name := "equals", desc := "(Ljava/lang/Object;)Z" } : Jvm.MethodName)) ∈ lw_all := lw_g (lw_at lw_m9 128 rfl) rfl
theorem q2481 : (Jvm.Cond.castable "Stemspan" "java/lang/Object") ∈ lw_tbl := lw_at lw_m11 41 rfl
theorem in_X1 : ∀ w ∈ wsX10, w ∈ lw_all := lw_in wsX10 [486, 488, 490] (by decide +kernel) (by decide +kernel)
