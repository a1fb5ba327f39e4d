/-! StemspanModel -/
set_option maxRecDepth 100000
def RX2 : String := "StemspanModel"
def TX2 : u_T := fun k => match k with
  | 0 => ("StemspanModel", "code", "I", false)
  | 1 => ("StemspanModel", "text", "[C", true)
  | 2 => ("StemspanModel", "word", "[C", true)
  | 3 => ("StemspanModel", "codes", "[C", true)
  | 4 => ("StemspanModel", "made", "[C", true)
  | 5 => ("StemspanModel", "wordLength", "[I", true)
  | 6 => ("StemspanModel", "number", "[I", true)
  | 7 => ("StemspanModel", "codeLength", "[I", true)
  | 8 => ("StemspanModel", "length", "I", false)
  | 9 => ("StemspanModel", "many", "I", false)
  | 10 => ("StemspanModel", "order", "[I", true)
  | 11 => ("StemspanModel", "ranks", "[I", true)
  | 12 => ("StemspanModel", "waysFrom", "[J", true)
  | _ => ("StemspanModel", "fewestFrom", "[I", true)
def tyX2 : Nat → FieldType := fun k => match k with
  | 0 => .int
  | 1 => .array .char
  | 2 => .array .char
  | 3 => .array .char
  | 4 => .array .char
  | 5 => .array .int
  | 6 => .array .int
  | 7 => .array .int
  | 8 => .int
  | 9 => .int
  | 10 => .array .int
  | 11 => .array .int
  | 12 => .array .long
  | _ => .array .int
abbrev wsX20 : List Cond := u_ws RX2 TX2 14
set_option maxRecDepth 100000 in
theorem nmX2 : ∀ a, a < 14 → ∀ b, b < 14 → a ≠ b → (TX2 a).2.1 ≠ (TX2 b).2.1 := by decide +kernel
set_option maxRecDepth 100000 in
theorem tyX2_ok : ∀ k, k < 14 → parseFieldDescriptor (TX2 k).2.2.1 = some (tyX2 k) := by decide +kernel
abbrev cX2_thrown : ByteArray := prog_3_method_1_code
def yX2_thrown : MethodName := ⟨RX2, "thrown", "()I"⟩
theorem dX2_thrown_0 : decode cX2_thrown 0 = .ok (.aload_n 0, 1) := by decide +kernel
theorem dX2_thrown_1 : decode cX2_thrown 1 = .ok (.getfield 1, 3) := by decide +kernel
theorem dX2_thrown_4 : decode cX2_thrown 4 = .ok (.ireturn, 1) := by decide +kernel
abbrev cX2_init : ByteArray := prog_3_method_4_code
def yX2_init : MethodName := ⟨RX2, "<init>", "()V"⟩
def dkwX2_init_5 : List UInt8 := [79, 132, 1, 1, 167, 255, 227, 177]
abbrev dktX2_init_5 : List UInt8 := dkwX2_init_5 ++ []
def dkwX2_init_4 : List UInt8 := [16, 6, 162, 0, 29, 42, 180, 0, 20, 6, 27, 104, 16, 97, 27, 96, 146, 85, 42, 180, 0, 33, 27, 4]
abbrev dktX2_init_4 : List UInt8 := dkwX2_init_4 ++ dktX2_init_5
def dkwX2_init_3 : List UInt8 := [188, 10, 181, 0, 39, 42, 16, 25, 188, 11, 181, 0, 42, 42, 16, 25, 188, 10, 181, 0, 46, 3, 60, 27]
abbrev dktX2_init_3 : List UInt8 := dkwX2_init_3 ++ dktX2_init_4
def dkwX2_init_2 : List UInt8 := [188, 10, 181, 0, 30, 42, 16, 6, 188, 10, 181, 0, 33, 42, 16, 24, 188, 10, 181, 0, 36, 42, 16, 24]
abbrev dktX2_init_2 : List UInt8 := dkwX2_init_2 ++ dktX2_init_3
def dkwX2_init_1 : List UInt8 := [188, 5, 181, 0, 20, 42, 16, 72, 188, 5, 181, 0, 23, 42, 16, 24, 188, 10, 181, 0, 26, 42, 16, 24]
abbrev dktX2_init_1 : List UInt8 := dkwX2_init_1 ++ dktX2_init_2
def dkwX2_init_0 : List UInt8 := [42, 183, 0, 7, 42, 16, 24, 188, 5, 181, 0, 13, 42, 17, 0, 240, 188, 5, 181, 0, 17, 42, 16, 18]
abbrev dktX2_init_0 : List UInt8 := dkwX2_init_0 ++ dktX2_init_1
theorem dksX2_init_0 : cX2_init.data.toList.drop 0 = dktX2_init_0 := by decide +kernel
theorem dksX2_init_1 : cX2_init.data.toList.drop 24 = dktX2_init_1 := dk_seg dksX2_init_0 24 rfl rfl
theorem dksX2_init_2 : cX2_init.data.toList.drop 48 = dktX2_init_2 := dk_seg dksX2_init_1 24 rfl rfl
theorem dksX2_init_3 : cX2_init.data.toList.drop 72 = dktX2_init_3 := dk_seg dksX2_init_2 24 rfl rfl
theorem dksX2_init_4 : cX2_init.data.toList.drop 96 = dktX2_init_4 := dk_seg dksX2_init_3 24 rfl rfl
theorem dksX2_init_5 : cX2_init.data.toList.drop 120 = dktX2_init_5 := dk_seg dksX2_init_4 24 rfl rfl
theorem dX2_init_0 : decode cX2_init 0 = .ok (.aload_n 0, 1) := dk_42 (dk_at dksX2_init_0 0 rfl rfl)
theorem dX2_init_1 : decode cX2_init 1 = .ok (.invokespecial 7, 3) := dk_183 0 7 (dk_at dksX2_init_0 1 rfl rfl)
theorem dX2_init_4 : decode cX2_init 4 = .ok (.aload_n 0, 1) := dk_42 (dk_at dksX2_init_0 4 rfl rfl)
theorem dX2_init_5 : decode cX2_init 5 = .ok (.bipush 24, 2) := dk_16 24 (dk_at dksX2_init_0 5 rfl rfl)
theorem dX2_init_7 : decode cX2_init 7 = .ok (.newarray .char, 2) := dk_188_5 (dk_at dksX2_init_0 7 rfl rfl)
theorem dX2_init_9 : decode cX2_init 9 = .ok (.putfield 13, 3) := dk_181 0 13 (dk_at dksX2_init_0 9 rfl rfl)
theorem dX2_init_12 : decode cX2_init 12 = .ok (.aload_n 0, 1) := dk_42 (dk_at dksX2_init_0 12 rfl rfl)
theorem dX2_init_13 : decode cX2_init 13 = .ok (.sipush 240, 3) := dk_17 0 240 (dk_at dksX2_init_0 13 rfl rfl)
theorem dX2_init_16 : decode cX2_init 16 = .ok (.newarray .char, 2) := dk_188_5 (dk_at dksX2_init_0 16 rfl rfl)
theorem dX2_init_18 : decode cX2_init 18 = .ok (.putfield 17, 3) := dk_181 0 17 (dk_at dksX2_init_0 18 rfl rfl)
theorem dX2_init_21 : decode cX2_init 21 = .ok (.aload_n 0, 1) := dk_42 (dk_at dksX2_init_0 21 rfl rfl)
theorem dX2_init_22 : decode cX2_init 22 = .ok (.bipush 18, 2) := dk_16 18 (dk_at dksX2_init_0 22 rfl rfl)
theorem dX2_init_24 : decode cX2_init 24 = .ok (.newarray .char, 2) := dk_188_5 (dk_at dksX2_init_1 0 rfl rfl)
theorem dX2_init_26 : decode cX2_init 26 = .ok (.putfield 20, 3) := dk_181 0 20 (dk_at dksX2_init_1 2 rfl rfl)
theorem dX2_init_29 : decode cX2_init 29 = .ok (.aload_n 0, 1) := dk_42 (dk_at dksX2_init_1 5 rfl rfl)
theorem dX2_init_30 : decode cX2_init 30 = .ok (.bipush 72, 2) := dk_16 72 (dk_at dksX2_init_1 6 rfl rfl)
theorem dX2_init_32 : decode cX2_init 32 = .ok (.newarray .char, 2) := dk_188_5 (dk_at dksX2_init_1 8 rfl rfl)
theorem dX2_init_34 : decode cX2_init 34 = .ok (.putfield 23, 3) := dk_181 0 23 (dk_at dksX2_init_1 10 rfl rfl)
theorem dX2_init_37 : decode cX2_init 37 = .ok (.aload_n 0, 1) := dk_42 (dk_at dksX2_init_1 13 rfl rfl)
theorem dX2_init_38 : decode cX2_init 38 = .ok (.bipush 24, 2) := dk_16 24 (dk_at dksX2_init_1 14 rfl rfl)
theorem dX2_init_40 : decode cX2_init 40 = .ok (.newarray .int, 2) := dk_188_10 (dk_at dksX2_init_1 16 rfl rfl)
theorem dX2_init_42 : decode cX2_init 42 = .ok (.putfield 26, 3) := dk_181 0 26 (dk_at dksX2_init_1 18 rfl rfl)
theorem dX2_init_45 : decode cX2_init 45 = .ok (.aload_n 0, 1) := dk_42 (dk_at dksX2_init_1 21 rfl rfl)
theorem dX2_init_46 : decode cX2_init 46 = .ok (.bipush 24, 2) := dk_16 24 (dk_at dksX2_init_1 22 rfl rfl)
theorem dX2_init_48 : decode cX2_init 48 = .ok (.newarray .int, 2) := dk_188_10 (dk_at dksX2_init_2 0 rfl rfl)
theorem dX2_init_50 : decode cX2_init 50 = .ok (.putfield 30, 3) := dk_181 0 30 (dk_at dksX2_init_2 2 rfl rfl)
theorem dX2_init_53 : decode cX2_init 53 = .ok (.aload_n 0, 1) := dk_42 (dk_at dksX2_init_2 5 rfl rfl)
theorem dX2_init_54 : decode cX2_init 54 = .ok (.bipush 6, 2) := dk_16 6 (dk_at dksX2_init_2 6 rfl rfl)
theorem dX2_init_56 : decode cX2_init 56 = .ok (.newarray .int, 2) := dk_188_10 (dk_at dksX2_init_2 8 rfl rfl)
theorem dX2_init_58 : decode cX2_init 58 = .ok (.putfield 33, 3) := dk_181 0 33 (dk_at dksX2_init_2 10 rfl rfl)
theorem dX2_init_61 : decode cX2_init 61 = .ok (.aload_n 0, 1) := dk_42 (dk_at dksX2_init_2 13 rfl rfl)
theorem dX2_init_62 : decode cX2_init 62 = .ok (.bipush 24, 2) := dk_16 24 (dk_at dksX2_init_2 14 rfl rfl)
theorem dX2_init_64 : decode cX2_init 64 = .ok (.newarray .int, 2) := dk_188_10 (dk_at dksX2_init_2 16 rfl rfl)
theorem dX2_init_66 : decode cX2_init 66 = .ok (.putfield 36, 3) := dk_181 0 36 (dk_at dksX2_init_2 18 rfl rfl)
theorem dX2_init_69 : decode cX2_init 69 = .ok (.aload_n 0, 1) := dk_42 (dk_at dksX2_init_2 21 rfl rfl)
theorem dX2_init_70 : decode cX2_init 70 = .ok (.bipush 24, 2) := dk_16 24 (dk_at dksX2_init_2 22 rfl rfl)
theorem dX2_init_72 : decode cX2_init 72 = .ok (.newarray .int, 2) := dk_188_10 (dk_at dksX2_init_3 0 rfl rfl)
theorem dX2_init_74 : decode cX2_init 74 = .ok (.putfield 39, 3) := dk_181 0 39 (dk_at dksX2_init_3 2 rfl rfl)
theorem dX2_init_77 : decode cX2_init 77 = .ok (.aload_n 0, 1) := dk_42 (dk_at dksX2_init_3 5 rfl rfl)
theorem dX2_init_78 : decode cX2_init 78 = .ok (.bipush 25, 2) := dk_16 25 (dk_at dksX2_init_3 6 rfl rfl)
theorem dX2_init_80 : decode cX2_init 80 = .ok (.newarray .long, 2) := dk_188_11 (dk_at dksX2_init_3 8 rfl rfl)
theorem dX2_init_82 : decode cX2_init 82 = .ok (.putfield 42, 3) := dk_181 0 42 (dk_at dksX2_init_3 10 rfl rfl)
theorem dX2_init_85 : decode cX2_init 85 = .ok (.aload_n 0, 1) := dk_42 (dk_at dksX2_init_3 13 rfl rfl)
theorem dX2_init_86 : decode cX2_init 86 = .ok (.bipush 25, 2) := dk_16 25 (dk_at dksX2_init_3 14 rfl rfl)
theorem dX2_init_88 : decode cX2_init 88 = .ok (.newarray .int, 2) := dk_188_10 (dk_at dksX2_init_3 16 rfl rfl)
theorem dX2_init_90 : decode cX2_init 90 = .ok (.putfield 46, 3) := dk_181 0 46 (dk_at dksX2_init_3 18 rfl rfl)
theorem dX2_init_93 : decode cX2_init 93 = .ok (.iconst 0, 1) := dk_3 (dk_at dksX2_init_3 21 rfl rfl)
theorem dX2_init_94 : decode cX2_init 94 = .ok (.istore_n 1, 1) := dk_60 (dk_at dksX2_init_3 22 rfl rfl)
theorem dX2_init_95 : decode cX2_init 95 = .ok (.iload_n 1, 1) := dk_27 (dk_at dksX2_init_3 23 rfl rfl)
theorem dX2_init_96 : decode cX2_init 96 = .ok (.bipush 6, 2) := dk_16 6 (dk_at dksX2_init_4 0 rfl rfl)
theorem dX2_init_98 : decode cX2_init 98 = .ok (.if_icmp .ge 29, 3) := dk_162 0 29 (dk_at dksX2_init_4 2 rfl rfl)
theorem dX2_init_101 : decode cX2_init 101 = .ok (.aload_n 0, 1) := dk_42 (dk_at dksX2_init_4 5 rfl rfl)
theorem dX2_init_102 : decode cX2_init 102 = .ok (.getfield 20, 3) := dk_180 0 20 (dk_at dksX2_init_4 6 rfl rfl)
theorem dX2_init_105 : decode cX2_init 105 = .ok (.iconst 3, 1) := dk_6 (dk_at dksX2_init_4 9 rfl rfl)
theorem dX2_init_106 : decode cX2_init 106 = .ok (.iload_n 1, 1) := dk_27 (dk_at dksX2_init_4 10 rfl rfl)
theorem dX2_init_107 : decode cX2_init 107 = .ok (.imul, 1) := dk_104 (dk_at dksX2_init_4 11 rfl rfl)
theorem dX2_init_108 : decode cX2_init 108 = .ok (.bipush 97, 2) := dk_16 97 (dk_at dksX2_init_4 12 rfl rfl)
theorem dX2_init_110 : decode cX2_init 110 = .ok (.iload_n 1, 1) := dk_27 (dk_at dksX2_init_4 14 rfl rfl)
theorem dX2_init_111 : decode cX2_init 111 = .ok (.iadd, 1) := dk_96 (dk_at dksX2_init_4 15 rfl rfl)
theorem dX2_init_112 : decode cX2_init 112 = .ok (.i2c, 1) := dk_146 (dk_at dksX2_init_4 16 rfl rfl)
theorem dX2_init_113 : decode cX2_init 113 = .ok (.castore, 1) := dk_85 (dk_at dksX2_init_4 17 rfl rfl)
theorem dX2_init_114 : decode cX2_init 114 = .ok (.aload_n 0, 1) := dk_42 (dk_at dksX2_init_4 18 rfl rfl)
theorem dX2_init_115 : decode cX2_init 115 = .ok (.getfield 33, 3) := dk_180 0 33 (dk_at dksX2_init_4 19 rfl rfl)
theorem dX2_init_118 : decode cX2_init 118 = .ok (.iload_n 1, 1) := dk_27 (dk_at dksX2_init_4 22 rfl rfl)
theorem dX2_init_119 : decode cX2_init 119 = .ok (.iconst 1, 1) := dk_4 (dk_at dksX2_init_4 23 rfl rfl)
theorem dX2_init_120 : decode cX2_init 120 = .ok (.iastore, 1) := dk_79 (dk_at dksX2_init_5 0 rfl rfl)
theorem dX2_init_121 : decode cX2_init 121 = .ok (.iinc 1 1, 3) := dk_132 1 1 (dk_at dksX2_init_5 1 rfl rfl)
theorem dX2_init_124 : decode cX2_init 124 = .ok (.goto (-29), 3) := dk_167 255 227 (dk_at dksX2_init_5 4 rfl rfl)
theorem dX2_init_127 : decode cX2_init 127 = .ok (.return_, 1) := dk_177 (dk_at dksX2_init_5 7 rfl rfl)
abbrev cX2_type : ByteArray := prog_3_method_16_code
def yX2_type : MethodName := ⟨RX2, "type", "(C)I"⟩
def dkwX2_type_2 : List UInt8 := [180, 0, 49, 4, 96, 181, 0, 49, 42, 180, 0, 49, 172]
abbrev dktX2_type_2 : List UInt8 := dkwX2_type_2 ++ []
def dkwX2_type_1 : List UInt8 := [167, 0, 4, 3, 182, 0, 77, 153, 0, 5, 3, 172, 42, 180, 0, 13, 42, 180, 0, 49, 27, 85, 42, 89]
abbrev dktX2_type_1 : List UInt8 := dkwX2_type_1 ++ dktX2_type_2
def dkwX2_type_0 : List UInt8 := [42, 27, 184, 0, 73, 154, 0, 7, 4, 167, 0, 17, 42, 180, 0, 49, 16, 24, 160, 0, 7, 5]
abbrev dktX2_type_0 : List UInt8 := dkwX2_type_0 ++ dktX2_type_1
theorem dksX2_type_0 : cX2_type.data.toList.drop 0 = dktX2_type_0 := by decide +kernel
theorem dksX2_type_1 : cX2_type.data.toList.drop 22 = dktX2_type_1 := dk_seg dksX2_type_0 22 rfl rfl
theorem dksX2_type_2 : cX2_type.data.toList.drop 46 = dktX2_type_2 := dk_seg dksX2_type_1 24 rfl rfl
theorem dX2_type_0 : decode cX2_type 0 = .ok (.aload_n 0, 1) := dk_42 (dk_at dksX2_type_0 0 rfl rfl)
theorem dX2_type_1 : decode cX2_type 1 = .ok (.iload_n 1, 1) := dk_27 (dk_at dksX2_type_0 1 rfl rfl)
theorem dX2_type_2 : decode cX2_type 2 = .ok (.invokestatic 73, 3) := dk_184 0 73 (dk_at dksX2_type_0 2 rfl rfl)
theorem dX2_type_5 : decode cX2_type 5 = .ok (.ifCond .ne 7, 3) := dk_154 0 7 (dk_at dksX2_type_0 5 rfl rfl)
theorem dX2_type_8 : decode cX2_type 8 = .ok (.iconst 1, 1) := dk_4 (dk_at dksX2_type_0 8 rfl rfl)
theorem dX2_type_9 : decode cX2_type 9 = .ok (.goto 17, 3) := dk_167 0 17 (dk_at dksX2_type_0 9 rfl rfl)
theorem dX2_type_12 : decode cX2_type 12 = .ok (.aload_n 0, 1) := dk_42 (dk_at dksX2_type_0 12 rfl rfl)
theorem dX2_type_13 : decode cX2_type 13 = .ok (.getfield 49, 3) := dk_180 0 49 (dk_at dksX2_type_0 13 rfl rfl)
theorem dX2_type_16 : decode cX2_type 16 = .ok (.bipush 24, 2) := dk_16 24 (dk_at dksX2_type_0 16 rfl rfl)
theorem dX2_type_18 : decode cX2_type 18 = .ok (.if_icmp .ne 7, 3) := dk_160 0 7 (dk_at dksX2_type_0 18 rfl rfl)
theorem dX2_type_21 : decode cX2_type 21 = .ok (.iconst 2, 1) := dk_5 (dk_at dksX2_type_0 21 rfl rfl)
theorem dX2_type_22 : decode cX2_type 22 = .ok (.goto 4, 3) := dk_167 0 4 (dk_at dksX2_type_1 0 rfl rfl)
theorem dX2_type_25 : decode cX2_type 25 = .ok (.iconst 0, 1) := dk_3 (dk_at dksX2_type_1 3 rfl rfl)
theorem dX2_type_26 : decode cX2_type 26 = .ok (.invokevirtual 77, 3) := dk_182 0 77 (dk_at dksX2_type_1 4 rfl rfl)
theorem dX2_type_29 : decode cX2_type 29 = .ok (.ifCond .eq 5, 3) := dk_153 0 5 (dk_at dksX2_type_1 7 rfl rfl)
theorem dX2_type_32 : decode cX2_type 32 = .ok (.iconst 0, 1) := dk_3 (dk_at dksX2_type_1 10 rfl rfl)
theorem dX2_type_33 : decode cX2_type 33 = .ok (.ireturn, 1) := dk_172 (dk_at dksX2_type_1 11 rfl rfl)
theorem dX2_type_34 : decode cX2_type 34 = .ok (.aload_n 0, 1) := dk_42 (dk_at dksX2_type_1 12 rfl rfl)
theorem dX2_type_35 : decode cX2_type 35 = .ok (.getfield 13, 3) := dk_180 0 13 (dk_at dksX2_type_1 13 rfl rfl)
theorem dX2_type_38 : decode cX2_type 38 = .ok (.aload_n 0, 1) := dk_42 (dk_at dksX2_type_1 16 rfl rfl)
theorem dX2_type_39 : decode cX2_type 39 = .ok (.getfield 49, 3) := dk_180 0 49 (dk_at dksX2_type_1 17 rfl rfl)
theorem dX2_type_42 : decode cX2_type 42 = .ok (.iload_n 1, 1) := dk_27 (dk_at dksX2_type_1 20 rfl rfl)
theorem dX2_type_43 : decode cX2_type 43 = .ok (.castore, 1) := dk_85 (dk_at dksX2_type_1 21 rfl rfl)
theorem dX2_type_44 : decode cX2_type 44 = .ok (.aload_n 0, 1) := dk_42 (dk_at dksX2_type_1 22 rfl rfl)
theorem dX2_type_45 : decode cX2_type 45 = .ok (.dup, 1) := dk_89 (dk_at dksX2_type_1 23 rfl rfl)
theorem dX2_type_46 : decode cX2_type 46 = .ok (.getfield 49, 3) := dk_180 0 49 (dk_at dksX2_type_2 0 rfl rfl)
theorem dX2_type_49 : decode cX2_type 49 = .ok (.iconst 1, 1) := dk_4 (dk_at dksX2_type_2 3 rfl rfl)
theorem dX2_type_50 : decode cX2_type 50 = .ok (.iadd, 1) := dk_96 (dk_at dksX2_type_2 4 rfl rfl)
theorem dX2_type_51 : decode cX2_type 51 = .ok (.putfield 49, 3) := dk_181 0 49 (dk_at dksX2_type_2 5 rfl rfl)
theorem dX2_type_54 : decode cX2_type 54 = .ok (.aload_n 0, 1) := dk_42 (dk_at dksX2_type_2 8 rfl rfl)
theorem dX2_type_55 : decode cX2_type 55 = .ok (.getfield 49, 3) := dk_180 0 49 (dk_at dksX2_type_2 9 rfl rfl)
theorem dX2_type_58 : decode cX2_type 58 = .ok (.ireturn, 1) := dk_172 (dk_at dksX2_type_2 12 rfl rfl)
abbrev cX2_isSign : ByteArray := prog_3_method_5_code
def yX2_isSign : MethodName := ⟨RX2, "isSign", "(C)Z"⟩
def dkwX2_isSign_0 : List UInt8 := [26, 16, 97, 161, 0, 13, 26, 16, 102, 163, 0, 7, 4, 167, 0, 4, 3, 172]
abbrev dktX2_isSign_0 : List UInt8 := dkwX2_isSign_0 ++ []
theorem dksX2_isSign_0 : cX2_isSign.data.toList.drop 0 = dktX2_isSign_0 := by decide +kernel
theorem dX2_isSign_0 : decode cX2_isSign 0 = .ok (.iload_n 0, 1) := dk_26 (dk_at dksX2_isSign_0 0 rfl rfl)
theorem dX2_isSign_1 : decode cX2_isSign 1 = .ok (.bipush 97, 2) := dk_16 97 (dk_at dksX2_isSign_0 1 rfl rfl)
theorem dX2_isSign_3 : decode cX2_isSign 3 = .ok (.if_icmp .lt 13, 3) := dk_161 0 13 (dk_at dksX2_isSign_0 3 rfl rfl)
theorem dX2_isSign_6 : decode cX2_isSign 6 = .ok (.iload_n 0, 1) := dk_26 (dk_at dksX2_isSign_0 6 rfl rfl)
theorem dX2_isSign_7 : decode cX2_isSign 7 = .ok (.bipush 102, 2) := dk_16 102 (dk_at dksX2_isSign_0 7 rfl rfl)
theorem dX2_isSign_9 : decode cX2_isSign 9 = .ok (.if_icmp .gt 7, 3) := dk_163 0 7 (dk_at dksX2_isSign_0 9 rfl rfl)
theorem dX2_isSign_12 : decode cX2_isSign 12 = .ok (.iconst 1, 1) := dk_4 (dk_at dksX2_isSign_0 12 rfl rfl)
theorem dX2_isSign_13 : decode cX2_isSign 13 = .ok (.goto 4, 3) := dk_167 0 4 (dk_at dksX2_isSign_0 13 rfl rfl)
theorem dX2_isSign_16 : decode cX2_isSign 16 = .ok (.iconst 0, 1) := dk_3 (dk_at dksX2_isSign_0 16 rfl rfl)
theorem dX2_isSign_17 : decode cX2_isSign 17 = .ok (.ireturn, 1) := dk_172 (dk_at dksX2_isSign_0 17 rfl rfl)
abbrev cX2_fails : ByteArray := prog_3_method_2_code
def yX2_fails : MethodName := ⟨RX2, "fails", "(I)Z"⟩
def dkwX2_fails_0 : List UInt8 := [42, 27, 181, 0, 1, 27, 158, 0, 7, 4, 167, 0, 4, 3, 172]
abbrev dktX2_fails_0 : List UInt8 := dkwX2_fails_0 ++ []
theorem dksX2_fails_0 : cX2_fails.data.toList.drop 0 = dktX2_fails_0 := by decide +kernel
theorem dX2_fails_0 : decode cX2_fails 0 = .ok (.aload_n 0, 1) := dk_42 (dk_at dksX2_fails_0 0 rfl rfl)
theorem dX2_fails_1 : decode cX2_fails 1 = .ok (.iload_n 1, 1) := dk_27 (dk_at dksX2_fails_0 1 rfl rfl)
theorem dX2_fails_2 : decode cX2_fails 2 = .ok (.putfield 1, 3) := dk_181 0 1 (dk_at dksX2_fails_0 2 rfl rfl)
theorem dX2_fails_5 : decode cX2_fails 5 = .ok (.iload_n 1, 1) := dk_27 (dk_at dksX2_fails_0 5 rfl rfl)
theorem dX2_fails_6 : decode cX2_fails 6 = .ok (.ifCond .le 7, 3) := dk_158 0 7 (dk_at dksX2_fails_0 6 rfl rfl)
theorem dX2_fails_9 : decode cX2_fails 9 = .ok (.iconst 1, 1) := dk_4 (dk_at dksX2_fails_0 9 rfl rfl)
theorem dX2_fails_10 : decode cX2_fails 10 = .ok (.goto 4, 3) := dk_167 0 4 (dk_at dksX2_fails_0 10 rfl rfl)
theorem dX2_fails_13 : decode cX2_fails 13 = .ok (.iconst 0, 1) := dk_3 (dk_at dksX2_fails_0 13 rfl rfl)
theorem dX2_fails_14 : decode cX2_fails 14 = .ok (.ireturn, 1) := dk_172 (dk_at dksX2_fails_0 14 rfl rfl)
abbrev cX2_typeMore : ByteArray := prog_3_method_17_code
def yX2_typeMore : MethodName := ⟨RX2, "typeMore", "(II)I"⟩
def dkwX2_typeMore_4 : List UInt8 := [132, 4, 1, 167, 255, 215, 42, 180, 0, 49, 172]
abbrev dktX2_typeMore_4 : List UInt8 := dkwX2_typeMore_4 ++ []
def dkwX2_typeMore_3 : List UInt8 := [16, 97, 29, 16, 6, 112, 96, 146, 85, 42, 89, 180, 0, 49, 4, 96, 181, 0, 49, 29, 16, 6, 108, 62]
abbrev dktX2_typeMore_3 : List UInt8 := dkwX2_typeMore_3 ++ dktX2_typeMore_4
def dkwX2_typeMore_2 : List UInt8 := [153, 0, 5, 3, 172, 28, 62, 3, 54, 4, 21, 4, 27, 162, 0, 41, 42, 180, 0, 13, 42, 180, 0, 49]
abbrev dktX2_typeMore_2 : List UInt8 := dkwX2_typeMore_2 ++ dktX2_typeMore_3
def dkwX2_typeMore_1 : List UInt8 := [167, 0, 19, 42, 180, 0, 49, 27, 96, 16, 24, 164, 0, 7, 5, 167, 0, 4, 3, 182, 0, 77]
abbrev dktX2_typeMore_1 : List UInt8 := dkwX2_typeMore_1 ++ dktX2_typeMore_2
def dkwX2_typeMore_0 : List UInt8 := [42, 27, 4, 16, 8, 184, 0, 81, 153, 0, 13, 28, 3, 18, 85, 184, 0, 81, 154, 0, 7, 4]
abbrev dktX2_typeMore_0 : List UInt8 := dkwX2_typeMore_0 ++ dktX2_typeMore_1
theorem dksX2_typeMore_0 : cX2_typeMore.data.toList.drop 0 = dktX2_typeMore_0 := by decide +kernel
theorem dksX2_typeMore_1 : cX2_typeMore.data.toList.drop 22 = dktX2_typeMore_1 := dk_seg dksX2_typeMore_0 22 rfl rfl
theorem dksX2_typeMore_2 : cX2_typeMore.data.toList.drop 44 = dktX2_typeMore_2 := dk_seg dksX2_typeMore_1 22 rfl rfl
theorem dksX2_typeMore_3 : cX2_typeMore.data.toList.drop 68 = dktX2_typeMore_3 := dk_seg dksX2_typeMore_2 24 rfl rfl
theorem dksX2_typeMore_4 : cX2_typeMore.data.toList.drop 92 = dktX2_typeMore_4 := dk_seg dksX2_typeMore_3 24 rfl rfl
theorem dX2_typeMore_0 : decode cX2_typeMore 0 = .ok (.aload_n 0, 1) := dk_42 (dk_at dksX2_typeMore_0 0 rfl rfl)
theorem dX2_typeMore_1 : decode cX2_typeMore 1 = .ok (.iload_n 1, 1) := dk_27 (dk_at dksX2_typeMore_0 1 rfl rfl)
theorem dX2_typeMore_2 : decode cX2_typeMore 2 = .ok (.iconst 1, 1) := dk_4 (dk_at dksX2_typeMore_0 2 rfl rfl)
theorem dX2_typeMore_3 : decode cX2_typeMore 3 = .ok (.bipush 8, 2) := dk_16 8 (dk_at dksX2_typeMore_0 3 rfl rfl)
theorem dX2_typeMore_5 : decode cX2_typeMore 5 = .ok (.invokestatic 81, 3) := dk_184 0 81 (dk_at dksX2_typeMore_0 5 rfl rfl)
theorem dX2_typeMore_8 : decode cX2_typeMore 8 = .ok (.ifCond .eq 13, 3) := dk_153 0 13 (dk_at dksX2_typeMore_0 8 rfl rfl)
theorem dX2_typeMore_11 : decode cX2_typeMore 11 = .ok (.iload_n 2, 1) := dk_28 (dk_at dksX2_typeMore_0 11 rfl rfl)
theorem dX2_typeMore_12 : decode cX2_typeMore 12 = .ok (.iconst 0, 1) := dk_3 (dk_at dksX2_typeMore_0 12 rfl rfl)
theorem dX2_typeMore_13 : decode cX2_typeMore 13 = .ok (.ldc 85, 2) := dk_18 85 (dk_at dksX2_typeMore_0 13 rfl rfl)
theorem dX2_typeMore_15 : decode cX2_typeMore 15 = .ok (.invokestatic 81, 3) := dk_184 0 81 (dk_at dksX2_typeMore_0 15 rfl rfl)
theorem dX2_typeMore_18 : decode cX2_typeMore 18 = .ok (.ifCond .ne 7, 3) := dk_154 0 7 (dk_at dksX2_typeMore_0 18 rfl rfl)
theorem dX2_typeMore_21 : decode cX2_typeMore 21 = .ok (.iconst 1, 1) := dk_4 (dk_at dksX2_typeMore_0 21 rfl rfl)
theorem dX2_typeMore_22 : decode cX2_typeMore 22 = .ok (.goto 19, 3) := dk_167 0 19 (dk_at dksX2_typeMore_1 0 rfl rfl)
theorem dX2_typeMore_25 : decode cX2_typeMore 25 = .ok (.aload_n 0, 1) := dk_42 (dk_at dksX2_typeMore_1 3 rfl rfl)
theorem dX2_typeMore_26 : decode cX2_typeMore 26 = .ok (.getfield 49, 3) := dk_180 0 49 (dk_at dksX2_typeMore_1 4 rfl rfl)
theorem dX2_typeMore_29 : decode cX2_typeMore 29 = .ok (.iload_n 1, 1) := dk_27 (dk_at dksX2_typeMore_1 7 rfl rfl)
theorem dX2_typeMore_30 : decode cX2_typeMore 30 = .ok (.iadd, 1) := dk_96 (dk_at dksX2_typeMore_1 8 rfl rfl)
theorem dX2_typeMore_31 : decode cX2_typeMore 31 = .ok (.bipush 24, 2) := dk_16 24 (dk_at dksX2_typeMore_1 9 rfl rfl)
theorem dX2_typeMore_33 : decode cX2_typeMore 33 = .ok (.if_icmp .le 7, 3) := dk_164 0 7 (dk_at dksX2_typeMore_1 11 rfl rfl)
theorem dX2_typeMore_36 : decode cX2_typeMore 36 = .ok (.iconst 2, 1) := dk_5 (dk_at dksX2_typeMore_1 14 rfl rfl)
theorem dX2_typeMore_37 : decode cX2_typeMore 37 = .ok (.goto 4, 3) := dk_167 0 4 (dk_at dksX2_typeMore_1 15 rfl rfl)
theorem dX2_typeMore_40 : decode cX2_typeMore 40 = .ok (.iconst 0, 1) := dk_3 (dk_at dksX2_typeMore_1 18 rfl rfl)
theorem dX2_typeMore_41 : decode cX2_typeMore 41 = .ok (.invokevirtual 77, 3) := dk_182 0 77 (dk_at dksX2_typeMore_1 19 rfl rfl)
theorem dX2_typeMore_44 : decode cX2_typeMore 44 = .ok (.ifCond .eq 5, 3) := dk_153 0 5 (dk_at dksX2_typeMore_2 0 rfl rfl)
theorem dX2_typeMore_47 : decode cX2_typeMore 47 = .ok (.iconst 0, 1) := dk_3 (dk_at dksX2_typeMore_2 3 rfl rfl)
theorem dX2_typeMore_48 : decode cX2_typeMore 48 = .ok (.ireturn, 1) := dk_172 (dk_at dksX2_typeMore_2 4 rfl rfl)
theorem dX2_typeMore_49 : decode cX2_typeMore 49 = .ok (.iload_n 2, 1) := dk_28 (dk_at dksX2_typeMore_2 5 rfl rfl)
theorem dX2_typeMore_50 : decode cX2_typeMore 50 = .ok (.istore_n 3, 1) := dk_62 (dk_at dksX2_typeMore_2 6 rfl rfl)
theorem dX2_typeMore_51 : decode cX2_typeMore 51 = .ok (.iconst 0, 1) := dk_3 (dk_at dksX2_typeMore_2 7 rfl rfl)
theorem dX2_typeMore_52 : decode cX2_typeMore 52 = .ok (.istore 4, 2) := dk_54 4 (dk_at dksX2_typeMore_2 8 rfl rfl)
theorem dX2_typeMore_54 : decode cX2_typeMore 54 = .ok (.iload 4, 2) := dk_21 4 (dk_at dksX2_typeMore_2 10 rfl rfl)
theorem dX2_typeMore_56 : decode cX2_typeMore 56 = .ok (.iload_n 1, 1) := dk_27 (dk_at dksX2_typeMore_2 12 rfl rfl)
theorem dX2_typeMore_57 : decode cX2_typeMore 57 = .ok (.if_icmp .ge 41, 3) := dk_162 0 41 (dk_at dksX2_typeMore_2 13 rfl rfl)
theorem dX2_typeMore_60 : decode cX2_typeMore 60 = .ok (.aload_n 0, 1) := dk_42 (dk_at dksX2_typeMore_2 16 rfl rfl)
theorem dX2_typeMore_61 : decode cX2_typeMore 61 = .ok (.getfield 13, 3) := dk_180 0 13 (dk_at dksX2_typeMore_2 17 rfl rfl)
theorem dX2_typeMore_64 : decode cX2_typeMore 64 = .ok (.aload_n 0, 1) := dk_42 (dk_at dksX2_typeMore_2 20 rfl rfl)
theorem dX2_typeMore_65 : decode cX2_typeMore 65 = .ok (.getfield 49, 3) := dk_180 0 49 (dk_at dksX2_typeMore_2 21 rfl rfl)
theorem dX2_typeMore_68 : decode cX2_typeMore 68 = .ok (.bipush 97, 2) := dk_16 97 (dk_at dksX2_typeMore_3 0 rfl rfl)
theorem dX2_typeMore_70 : decode cX2_typeMore 70 = .ok (.iload_n 3, 1) := dk_29 (dk_at dksX2_typeMore_3 2 rfl rfl)
theorem dX2_typeMore_71 : decode cX2_typeMore 71 = .ok (.bipush 6, 2) := dk_16 6 (dk_at dksX2_typeMore_3 3 rfl rfl)
theorem dX2_typeMore_73 : decode cX2_typeMore 73 = .ok (.irem, 1) := dk_112 (dk_at dksX2_typeMore_3 5 rfl rfl)
theorem dX2_typeMore_74 : decode cX2_typeMore 74 = .ok (.iadd, 1) := dk_96 (dk_at dksX2_typeMore_3 6 rfl rfl)
theorem dX2_typeMore_75 : decode cX2_typeMore 75 = .ok (.i2c, 1) := dk_146 (dk_at dksX2_typeMore_3 7 rfl rfl)
theorem dX2_typeMore_76 : decode cX2_typeMore 76 = .ok (.castore, 1) := dk_85 (dk_at dksX2_typeMore_3 8 rfl rfl)
theorem dX2_typeMore_77 : decode cX2_typeMore 77 = .ok (.aload_n 0, 1) := dk_42 (dk_at dksX2_typeMore_3 9 rfl rfl)
theorem dX2_typeMore_78 : decode cX2_typeMore 78 = .ok (.dup, 1) := dk_89 (dk_at dksX2_typeMore_3 10 rfl rfl)
theorem dX2_typeMore_79 : decode cX2_typeMore 79 = .ok (.getfield 49, 3) := dk_180 0 49 (dk_at dksX2_typeMore_3 11 rfl rfl)
theorem dX2_typeMore_82 : decode cX2_typeMore 82 = .ok (.iconst 1, 1) := dk_4 (dk_at dksX2_typeMore_3 14 rfl rfl)
theorem dX2_typeMore_83 : decode cX2_typeMore 83 = .ok (.iadd, 1) := dk_96 (dk_at dksX2_typeMore_3 15 rfl rfl)
theorem dX2_typeMore_84 : decode cX2_typeMore 84 = .ok (.putfield 49, 3) := dk_181 0 49 (dk_at dksX2_typeMore_3 16 rfl rfl)
theorem dX2_typeMore_87 : decode cX2_typeMore 87 = .ok (.iload_n 3, 1) := dk_29 (dk_at dksX2_typeMore_3 19 rfl rfl)
theorem dX2_typeMore_88 : decode cX2_typeMore 88 = .ok (.bipush 6, 2) := dk_16 6 (dk_at dksX2_typeMore_3 20 rfl rfl)
theorem dX2_typeMore_90 : decode cX2_typeMore 90 = .ok (.idiv, 1) := dk_108 (dk_at dksX2_typeMore_3 22 rfl rfl)
theorem dX2_typeMore_91 : decode cX2_typeMore 91 = .ok (.istore_n 3, 1) := dk_62 (dk_at dksX2_typeMore_3 23 rfl rfl)
theorem dX2_typeMore_92 : decode cX2_typeMore 92 = .ok (.iinc 4 1, 3) := dk_132 4 1 (dk_at dksX2_typeMore_4 0 rfl rfl)
theorem dX2_typeMore_95 : decode cX2_typeMore 95 = .ok (.goto (-41), 3) := dk_167 255 215 (dk_at dksX2_typeMore_4 3 rfl rfl)
theorem dX2_typeMore_98 : decode cX2_typeMore 98 = .ok (.aload_n 0, 1) := dk_42 (dk_at dksX2_typeMore_4 6 rfl rfl)
theorem dX2_typeMore_99 : decode cX2_typeMore 99 = .ok (.getfield 49, 3) := dk_180 0 49 (dk_at dksX2_typeMore_4 7 rfl rfl)
theorem dX2_typeMore_102 : decode cX2_typeMore 102 = .ok (.ireturn, 1) := dk_172 (dk_at dksX2_typeMore_4 10 rfl rfl)
abbrev cX2_in : ByteArray := prog_3_method_3_code
def yX2_in : MethodName := ⟨RX2, "in", "(III)Z"⟩
def dkwX2_in_0 : List UInt8 := [26, 27, 161, 0, 12, 26, 28, 163, 0, 7, 4, 167, 0, 4, 3, 172]
abbrev dktX2_in_0 : List UInt8 := dkwX2_in_0 ++ []
theorem dksX2_in_0 : cX2_in.data.toList.drop 0 = dktX2_in_0 := by decide +kernel
theorem dX2_in_0 : decode cX2_in 0 = .ok (.iload_n 0, 1) := dk_26 (dk_at dksX2_in_0 0 rfl rfl)
theorem dX2_in_1 : decode cX2_in 1 = .ok (.iload_n 1, 1) := dk_27 (dk_at dksX2_in_0 1 rfl rfl)
theorem dX2_in_2 : decode cX2_in 2 = .ok (.if_icmp .lt 12, 3) := dk_161 0 12 (dk_at dksX2_in_0 2 rfl rfl)
theorem dX2_in_5 : decode cX2_in 5 = .ok (.iload_n 0, 1) := dk_26 (dk_at dksX2_in_0 5 rfl rfl)
theorem dX2_in_6 : decode cX2_in 6 = .ok (.iload_n 2, 1) := dk_28 (dk_at dksX2_in_0 6 rfl rfl)
theorem dX2_in_7 : decode cX2_in 7 = .ok (.if_icmp .gt 7, 3) := dk_163 0 7 (dk_at dksX2_in_0 7 rfl rfl)
theorem dX2_in_10 : decode cX2_in 10 = .ok (.iconst 1, 1) := dk_4 (dk_at dksX2_in_0 10 rfl rfl)
theorem dX2_in_11 : decode cX2_in 11 = .ok (.goto 4, 3) := dk_167 0 4 (dk_at dksX2_in_0 11 rfl rfl)
theorem dX2_in_14 : decode cX2_in 14 = .ok (.iconst 0, 1) := dk_3 (dk_at dksX2_in_0 14 rfl rfl)
theorem dX2_in_15 : decode cX2_in 15 = .ok (.ireturn, 1) := dk_172 (dk_at dksX2_in_0 15 rfl rfl)
abbrev cX2_typeAt : ByteArray := prog_3_method_18_code
def yX2_typeAt : MethodName := ⟨RX2, "typeAt", "(IC)I"⟩
def dkwX2_typeAt_4 : List UInt8 := [181, 0, 49, 42, 180, 0, 49, 172]
abbrev dktX2_typeAt_4 : List UInt8 := dkwX2_typeAt_4 ++ []
def dkwX2_typeAt_3 : List UInt8 := [52, 85, 132, 3, 255, 167, 255, 234, 42, 180, 0, 13, 27, 28, 85, 42, 89, 180, 0, 49, 4, 96]
abbrev dktX2_typeAt_3 : List UInt8 := dkwX2_typeAt_3 ++ dktX2_typeAt_4
def dkwX2_typeAt_2 : List UInt8 := [3, 172, 42, 180, 0, 49, 62, 29, 27, 164, 0, 23, 42, 180, 0, 13, 29, 42, 180, 0, 13, 29, 4, 100]
abbrev dktX2_typeAt_2 : List UInt8 := dkwX2_typeAt_2 ++ dktX2_typeAt_3
def dkwX2_typeAt_1 : List UInt8 := [5, 167, 0, 17, 42, 180, 0, 49, 16, 24, 160, 0, 7, 6, 167, 0, 4, 3, 182, 0, 77, 153, 0, 5]
abbrev dktX2_typeAt_1 : List UInt8 := dkwX2_typeAt_1 ++ dktX2_typeAt_2
def dkwX2_typeAt_0 : List UInt8 := [42, 27, 3, 42, 180, 0, 49, 184, 0, 81, 154, 0, 7, 4, 167, 0, 28, 28, 184, 0, 73, 154, 0, 7]
abbrev dktX2_typeAt_0 : List UInt8 := dkwX2_typeAt_0 ++ dktX2_typeAt_1
theorem dksX2_typeAt_0 : cX2_typeAt.data.toList.drop 0 = dktX2_typeAt_0 := by decide +kernel
theorem dksX2_typeAt_1 : cX2_typeAt.data.toList.drop 24 = dktX2_typeAt_1 := dk_seg dksX2_typeAt_0 24 rfl rfl
theorem dksX2_typeAt_2 : cX2_typeAt.data.toList.drop 48 = dktX2_typeAt_2 := dk_seg dksX2_typeAt_1 24 rfl rfl
theorem dksX2_typeAt_3 : cX2_typeAt.data.toList.drop 72 = dktX2_typeAt_3 := dk_seg dksX2_typeAt_2 24 rfl rfl
theorem dksX2_typeAt_4 : cX2_typeAt.data.toList.drop 94 = dktX2_typeAt_4 := dk_seg dksX2_typeAt_3 22 rfl rfl
theorem dX2_typeAt_0 : decode cX2_typeAt 0 = .ok (.aload_n 0, 1) := dk_42 (dk_at dksX2_typeAt_0 0 rfl rfl)
theorem dX2_typeAt_1 : decode cX2_typeAt 1 = .ok (.iload_n 1, 1) := dk_27 (dk_at dksX2_typeAt_0 1 rfl rfl)
theorem dX2_typeAt_2 : decode cX2_typeAt 2 = .ok (.iconst 0, 1) := dk_3 (dk_at dksX2_typeAt_0 2 rfl rfl)
theorem dX2_typeAt_3 : decode cX2_typeAt 3 = .ok (.aload_n 0, 1) := dk_42 (dk_at dksX2_typeAt_0 3 rfl rfl)
theorem dX2_typeAt_4 : decode cX2_typeAt 4 = .ok (.getfield 49, 3) := dk_180 0 49 (dk_at dksX2_typeAt_0 4 rfl rfl)
theorem dX2_typeAt_7 : decode cX2_typeAt 7 = .ok (.invokestatic 81, 3) := dk_184 0 81 (dk_at dksX2_typeAt_0 7 rfl rfl)
theorem dX2_typeAt_10 : decode cX2_typeAt 10 = .ok (.ifCond .ne 7, 3) := dk_154 0 7 (dk_at dksX2_typeAt_0 10 rfl rfl)
theorem dX2_typeAt_13 : decode cX2_typeAt 13 = .ok (.iconst 1, 1) := dk_4 (dk_at dksX2_typeAt_0 13 rfl rfl)
theorem dX2_typeAt_14 : decode cX2_typeAt 14 = .ok (.goto 28, 3) := dk_167 0 28 (dk_at dksX2_typeAt_0 14 rfl rfl)
theorem dX2_typeAt_17 : decode cX2_typeAt 17 = .ok (.iload_n 2, 1) := dk_28 (dk_at dksX2_typeAt_0 17 rfl rfl)
theorem dX2_typeAt_18 : decode cX2_typeAt 18 = .ok (.invokestatic 73, 3) := dk_184 0 73 (dk_at dksX2_typeAt_0 18 rfl rfl)
theorem dX2_typeAt_21 : decode cX2_typeAt 21 = .ok (.ifCond .ne 7, 3) := dk_154 0 7 (dk_at dksX2_typeAt_0 21 rfl rfl)
theorem dX2_typeAt_24 : decode cX2_typeAt 24 = .ok (.iconst 2, 1) := dk_5 (dk_at dksX2_typeAt_1 0 rfl rfl)
theorem dX2_typeAt_25 : decode cX2_typeAt 25 = .ok (.goto 17, 3) := dk_167 0 17 (dk_at dksX2_typeAt_1 1 rfl rfl)
theorem dX2_typeAt_28 : decode cX2_typeAt 28 = .ok (.aload_n 0, 1) := dk_42 (dk_at dksX2_typeAt_1 4 rfl rfl)
theorem dX2_typeAt_29 : decode cX2_typeAt 29 = .ok (.getfield 49, 3) := dk_180 0 49 (dk_at dksX2_typeAt_1 5 rfl rfl)
theorem dX2_typeAt_32 : decode cX2_typeAt 32 = .ok (.bipush 24, 2) := dk_16 24 (dk_at dksX2_typeAt_1 8 rfl rfl)
theorem dX2_typeAt_34 : decode cX2_typeAt 34 = .ok (.if_icmp .ne 7, 3) := dk_160 0 7 (dk_at dksX2_typeAt_1 10 rfl rfl)
theorem dX2_typeAt_37 : decode cX2_typeAt 37 = .ok (.iconst 3, 1) := dk_6 (dk_at dksX2_typeAt_1 13 rfl rfl)
theorem dX2_typeAt_38 : decode cX2_typeAt 38 = .ok (.goto 4, 3) := dk_167 0 4 (dk_at dksX2_typeAt_1 14 rfl rfl)
theorem dX2_typeAt_41 : decode cX2_typeAt 41 = .ok (.iconst 0, 1) := dk_3 (dk_at dksX2_typeAt_1 17 rfl rfl)
theorem dX2_typeAt_42 : decode cX2_typeAt 42 = .ok (.invokevirtual 77, 3) := dk_182 0 77 (dk_at dksX2_typeAt_1 18 rfl rfl)
theorem dX2_typeAt_45 : decode cX2_typeAt 45 = .ok (.ifCond .eq 5, 3) := dk_153 0 5 (dk_at dksX2_typeAt_1 21 rfl rfl)
theorem dX2_typeAt_48 : decode cX2_typeAt 48 = .ok (.iconst 0, 1) := dk_3 (dk_at dksX2_typeAt_2 0 rfl rfl)
theorem dX2_typeAt_49 : decode cX2_typeAt 49 = .ok (.ireturn, 1) := dk_172 (dk_at dksX2_typeAt_2 1 rfl rfl)
theorem dX2_typeAt_50 : decode cX2_typeAt 50 = .ok (.aload_n 0, 1) := dk_42 (dk_at dksX2_typeAt_2 2 rfl rfl)
theorem dX2_typeAt_51 : decode cX2_typeAt 51 = .ok (.getfield 49, 3) := dk_180 0 49 (dk_at dksX2_typeAt_2 3 rfl rfl)
theorem dX2_typeAt_54 : decode cX2_typeAt 54 = .ok (.istore_n 3, 1) := dk_62 (dk_at dksX2_typeAt_2 6 rfl rfl)
theorem dX2_typeAt_55 : decode cX2_typeAt 55 = .ok (.iload_n 3, 1) := dk_29 (dk_at dksX2_typeAt_2 7 rfl rfl)
theorem dX2_typeAt_56 : decode cX2_typeAt 56 = .ok (.iload_n 1, 1) := dk_27 (dk_at dksX2_typeAt_2 8 rfl rfl)
theorem dX2_typeAt_57 : decode cX2_typeAt 57 = .ok (.if_icmp .le 23, 3) := dk_164 0 23 (dk_at dksX2_typeAt_2 9 rfl rfl)
theorem dX2_typeAt_60 : decode cX2_typeAt 60 = .ok (.aload_n 0, 1) := dk_42 (dk_at dksX2_typeAt_2 12 rfl rfl)
theorem dX2_typeAt_61 : decode cX2_typeAt 61 = .ok (.getfield 13, 3) := dk_180 0 13 (dk_at dksX2_typeAt_2 13 rfl rfl)
theorem dX2_typeAt_64 : decode cX2_typeAt 64 = .ok (.iload_n 3, 1) := dk_29 (dk_at dksX2_typeAt_2 16 rfl rfl)
theorem dX2_typeAt_65 : decode cX2_typeAt 65 = .ok (.aload_n 0, 1) := dk_42 (dk_at dksX2_typeAt_2 17 rfl rfl)
theorem dX2_typeAt_66 : decode cX2_typeAt 66 = .ok (.getfield 13, 3) := dk_180 0 13 (dk_at dksX2_typeAt_2 18 rfl rfl)
theorem dX2_typeAt_69 : decode cX2_typeAt 69 = .ok (.iload_n 3, 1) := dk_29 (dk_at dksX2_typeAt_2 21 rfl rfl)
theorem dX2_typeAt_70 : decode cX2_typeAt 70 = .ok (.iconst 1, 1) := dk_4 (dk_at dksX2_typeAt_2 22 rfl rfl)
theorem dX2_typeAt_71 : decode cX2_typeAt 71 = .ok (.isub, 1) := dk_100 (dk_at dksX2_typeAt_2 23 rfl rfl)
theorem dX2_typeAt_72 : decode cX2_typeAt 72 = .ok (.caload, 1) := dk_52 (dk_at dksX2_typeAt_3 0 rfl rfl)
theorem dX2_typeAt_73 : decode cX2_typeAt 73 = .ok (.castore, 1) := dk_85 (dk_at dksX2_typeAt_3 1 rfl rfl)
theorem dX2_typeAt_74 : decode cX2_typeAt 74 = .ok (.iinc 3 (-1), 3) := dk_132 3 255 (dk_at dksX2_typeAt_3 2 rfl rfl)
theorem dX2_typeAt_77 : decode cX2_typeAt 77 = .ok (.goto (-22), 3) := dk_167 255 234 (dk_at dksX2_typeAt_3 5 rfl rfl)
theorem dX2_typeAt_80 : decode cX2_typeAt 80 = .ok (.aload_n 0, 1) := dk_42 (dk_at dksX2_typeAt_3 8 rfl rfl)
theorem dX2_typeAt_81 : decode cX2_typeAt 81 = .ok (.getfield 13, 3) := dk_180 0 13 (dk_at dksX2_typeAt_3 9 rfl rfl)
theorem dX2_typeAt_84 : decode cX2_typeAt 84 = .ok (.iload_n 1, 1) := dk_27 (dk_at dksX2_typeAt_3 12 rfl rfl)
theorem dX2_typeAt_85 : decode cX2_typeAt 85 = .ok (.iload_n 2, 1) := dk_28 (dk_at dksX2_typeAt_3 13 rfl rfl)
theorem dX2_typeAt_86 : decode cX2_typeAt 86 = .ok (.castore, 1) := dk_85 (dk_at dksX2_typeAt_3 14 rfl rfl)
theorem dX2_typeAt_87 : decode cX2_typeAt 87 = .ok (.aload_n 0, 1) := dk_42 (dk_at dksX2_typeAt_3 15 rfl rfl)
theorem dX2_typeAt_88 : decode cX2_typeAt 88 = .ok (.dup, 1) := dk_89 (dk_at dksX2_typeAt_3 16 rfl rfl)
theorem dX2_typeAt_89 : decode cX2_typeAt 89 = .ok (.getfield 49, 3) := dk_180 0 49 (dk_at dksX2_typeAt_3 17 rfl rfl)
theorem dX2_typeAt_92 : decode cX2_typeAt 92 = .ok (.iconst 1, 1) := dk_4 (dk_at dksX2_typeAt_3 20 rfl rfl)
theorem dX2_typeAt_93 : decode cX2_typeAt 93 = .ok (.iadd, 1) := dk_96 (dk_at dksX2_typeAt_3 21 rfl rfl)
theorem dX2_typeAt_94 : decode cX2_typeAt 94 = .ok (.putfield 49, 3) := dk_181 0 49 (dk_at dksX2_typeAt_4 0 rfl rfl)
theorem dX2_typeAt_97 : decode cX2_typeAt 97 = .ok (.aload_n 0, 1) := dk_42 (dk_at dksX2_typeAt_4 3 rfl rfl)
theorem dX2_typeAt_98 : decode cX2_typeAt 98 = .ok (.getfield 49, 3) := dk_180 0 49 (dk_at dksX2_typeAt_4 4 rfl rfl)
theorem dX2_typeAt_101 : decode cX2_typeAt 101 = .ok (.ireturn, 1) := dk_172 (dk_at dksX2_typeAt_4 7 rfl rfl)
abbrev cX2_drop : ByteArray := prog_3_method_19_code
def yX2_drop : MethodName := ⟨RX2, "drop", "()I"⟩
def dkwX2_drop_1 : List UInt8 := [180, 0, 49, 4, 100, 181, 0, 49, 42, 180, 0, 49, 172]
abbrev dktX2_drop_1 : List UInt8 := dkwX2_drop_1 ++ []
def dkwX2_drop_0 : List UInt8 := [42, 42, 180, 0, 49, 154, 0, 7, 4, 167, 0, 4, 3, 182, 0, 77, 153, 0, 5, 3, 172, 42, 89]
abbrev dktX2_drop_0 : List UInt8 := dkwX2_drop_0 ++ dktX2_drop_1
theorem dksX2_drop_0 : cX2_drop.data.toList.drop 0 = dktX2_drop_0 := by decide +kernel
theorem dksX2_drop_1 : cX2_drop.data.toList.drop 23 = dktX2_drop_1 := dk_seg dksX2_drop_0 23 rfl rfl
theorem dX2_drop_0 : decode cX2_drop 0 = .ok (.aload_n 0, 1) := dk_42 (dk_at dksX2_drop_0 0 rfl rfl)
theorem dX2_drop_1 : decode cX2_drop 1 = .ok (.aload_n 0, 1) := dk_42 (dk_at dksX2_drop_0 1 rfl rfl)
theorem dX2_drop_2 : decode cX2_drop 2 = .ok (.getfield 49, 3) := dk_180 0 49 (dk_at dksX2_drop_0 2 rfl rfl)
theorem dX2_drop_5 : decode cX2_drop 5 = .ok (.ifCond .ne 7, 3) := dk_154 0 7 (dk_at dksX2_drop_0 5 rfl rfl)
theorem dX2_drop_8 : decode cX2_drop 8 = .ok (.iconst 1, 1) := dk_4 (dk_at dksX2_drop_0 8 rfl rfl)
theorem dX2_drop_9 : decode cX2_drop 9 = .ok (.goto 4, 3) := dk_167 0 4 (dk_at dksX2_drop_0 9 rfl rfl)
theorem dX2_drop_12 : decode cX2_drop 12 = .ok (.iconst 0, 1) := dk_3 (dk_at dksX2_drop_0 12 rfl rfl)
theorem dX2_drop_13 : decode cX2_drop 13 = .ok (.invokevirtual 77, 3) := dk_182 0 77 (dk_at dksX2_drop_0 13 rfl rfl)
theorem dX2_drop_16 : decode cX2_drop 16 = .ok (.ifCond .eq 5, 3) := dk_153 0 5 (dk_at dksX2_drop_0 16 rfl rfl)
theorem dX2_drop_19 : decode cX2_drop 19 = .ok (.iconst 0, 1) := dk_3 (dk_at dksX2_drop_0 19 rfl rfl)
theorem dX2_drop_20 : decode cX2_drop 20 = .ok (.ireturn, 1) := dk_172 (dk_at dksX2_drop_0 20 rfl rfl)
theorem dX2_drop_21 : decode cX2_drop 21 = .ok (.aload_n 0, 1) := dk_42 (dk_at dksX2_drop_0 21 rfl rfl)
theorem dX2_drop_22 : decode cX2_drop 22 = .ok (.dup, 1) := dk_89 (dk_at dksX2_drop_0 22 rfl rfl)
theorem dX2_drop_23 : decode cX2_drop 23 = .ok (.getfield 49, 3) := dk_180 0 49 (dk_at dksX2_drop_1 0 rfl rfl)
theorem dX2_drop_26 : decode cX2_drop 26 = .ok (.iconst 1, 1) := dk_4 (dk_at dksX2_drop_1 3 rfl rfl)
theorem dX2_drop_27 : decode cX2_drop 27 = .ok (.isub, 1) := dk_100 (dk_at dksX2_drop_1 4 rfl rfl)
theorem dX2_drop_28 : decode cX2_drop 28 = .ok (.putfield 49, 3) := dk_181 0 49 (dk_at dksX2_drop_1 5 rfl rfl)
theorem dX2_drop_31 : decode cX2_drop 31 = .ok (.aload_n 0, 1) := dk_42 (dk_at dksX2_drop_1 8 rfl rfl)
theorem dX2_drop_32 : decode cX2_drop 32 = .ok (.getfield 49, 3) := dk_180 0 49 (dk_at dksX2_drop_1 9 rfl rfl)
theorem dX2_drop_35 : decode cX2_drop 35 = .ok (.ireturn, 1) := dk_172 (dk_at dksX2_drop_1 12 rfl rfl)
abbrev cX2_clip : ByteArray := prog_3_method_20_code
def yX2_clip : MethodName := ⟨RX2, "clip", "(II)I"⟩
def dkwX2_clip_3 : List UInt8 := [100, 181, 0, 49, 42, 180, 0, 49, 172]
abbrev dktX2_clip_3 : List UInt8 := dkwX2_clip_3 ++ []
def dkwX2_clip_2 : List UInt8 := [96, 28, 100, 42, 180, 0, 13, 29, 52, 85, 132, 3, 1, 167, 255, 229, 42, 89, 180, 0, 49, 28, 27, 100]
abbrev dktX2_clip_2 : List UInt8 := dkwX2_clip_2 ++ dktX2_clip_3
def dkwX2_clip_1 : List UInt8 := [182, 0, 77, 153, 0, 5, 3, 172, 28, 62, 29, 42, 180, 0, 49, 162, 0, 25, 42, 180, 0, 13, 27, 29]
abbrev dktX2_clip_1 : List UInt8 := dkwX2_clip_1 ++ dktX2_clip_2
def dkwX2_clip_0 : List UInt8 := [42, 27, 155, 0, 16, 28, 27, 161, 0, 11, 28, 42, 180, 0, 49, 164, 0, 7, 4, 167, 0, 4, 3]
abbrev dktX2_clip_0 : List UInt8 := dkwX2_clip_0 ++ dktX2_clip_1
theorem dksX2_clip_0 : cX2_clip.data.toList.drop 0 = dktX2_clip_0 := by decide +kernel
theorem dksX2_clip_1 : cX2_clip.data.toList.drop 23 = dktX2_clip_1 := dk_seg dksX2_clip_0 23 rfl rfl
theorem dksX2_clip_2 : cX2_clip.data.toList.drop 47 = dktX2_clip_2 := dk_seg dksX2_clip_1 24 rfl rfl
theorem dksX2_clip_3 : cX2_clip.data.toList.drop 71 = dktX2_clip_3 := dk_seg dksX2_clip_2 24 rfl rfl
theorem dX2_clip_0 : decode cX2_clip 0 = .ok (.aload_n 0, 1) := dk_42 (dk_at dksX2_clip_0 0 rfl rfl)
theorem dX2_clip_1 : decode cX2_clip 1 = .ok (.iload_n 1, 1) := dk_27 (dk_at dksX2_clip_0 1 rfl rfl)
theorem dX2_clip_2 : decode cX2_clip 2 = .ok (.ifCond .lt 16, 3) := dk_155 0 16 (dk_at dksX2_clip_0 2 rfl rfl)
theorem dX2_clip_5 : decode cX2_clip 5 = .ok (.iload_n 2, 1) := dk_28 (dk_at dksX2_clip_0 5 rfl rfl)
theorem dX2_clip_6 : decode cX2_clip 6 = .ok (.iload_n 1, 1) := dk_27 (dk_at dksX2_clip_0 6 rfl rfl)
theorem dX2_clip_7 : decode cX2_clip 7 = .ok (.if_icmp .lt 11, 3) := dk_161 0 11 (dk_at dksX2_clip_0 7 rfl rfl)
theorem dX2_clip_10 : decode cX2_clip 10 = .ok (.iload_n 2, 1) := dk_28 (dk_at dksX2_clip_0 10 rfl rfl)
theorem dX2_clip_11 : decode cX2_clip 11 = .ok (.aload_n 0, 1) := dk_42 (dk_at dksX2_clip_0 11 rfl rfl)
theorem dX2_clip_12 : decode cX2_clip 12 = .ok (.getfield 49, 3) := dk_180 0 49 (dk_at dksX2_clip_0 12 rfl rfl)
theorem dX2_clip_15 : decode cX2_clip 15 = .ok (.if_icmp .le 7, 3) := dk_164 0 7 (dk_at dksX2_clip_0 15 rfl rfl)
theorem dX2_clip_18 : decode cX2_clip 18 = .ok (.iconst 1, 1) := dk_4 (dk_at dksX2_clip_0 18 rfl rfl)
theorem dX2_clip_19 : decode cX2_clip 19 = .ok (.goto 4, 3) := dk_167 0 4 (dk_at dksX2_clip_0 19 rfl rfl)
theorem dX2_clip_22 : decode cX2_clip 22 = .ok (.iconst 0, 1) := dk_3 (dk_at dksX2_clip_0 22 rfl rfl)
theorem dX2_clip_23 : decode cX2_clip 23 = .ok (.invokevirtual 77, 3) := dk_182 0 77 (dk_at dksX2_clip_1 0 rfl rfl)
theorem dX2_clip_26 : decode cX2_clip 26 = .ok (.ifCond .eq 5, 3) := dk_153 0 5 (dk_at dksX2_clip_1 3 rfl rfl)
theorem dX2_clip_29 : decode cX2_clip 29 = .ok (.iconst 0, 1) := dk_3 (dk_at dksX2_clip_1 6 rfl rfl)
theorem dX2_clip_30 : decode cX2_clip 30 = .ok (.ireturn, 1) := dk_172 (dk_at dksX2_clip_1 7 rfl rfl)
theorem dX2_clip_31 : decode cX2_clip 31 = .ok (.iload_n 2, 1) := dk_28 (dk_at dksX2_clip_1 8 rfl rfl)
theorem dX2_clip_32 : decode cX2_clip 32 = .ok (.istore_n 3, 1) := dk_62 (dk_at dksX2_clip_1 9 rfl rfl)
theorem dX2_clip_33 : decode cX2_clip 33 = .ok (.iload_n 3, 1) := dk_29 (dk_at dksX2_clip_1 10 rfl rfl)
theorem dX2_clip_34 : decode cX2_clip 34 = .ok (.aload_n 0, 1) := dk_42 (dk_at dksX2_clip_1 11 rfl rfl)
theorem dX2_clip_35 : decode cX2_clip 35 = .ok (.getfield 49, 3) := dk_180 0 49 (dk_at dksX2_clip_1 12 rfl rfl)
theorem dX2_clip_38 : decode cX2_clip 38 = .ok (.if_icmp .ge 25, 3) := dk_162 0 25 (dk_at dksX2_clip_1 15 rfl rfl)
theorem dX2_clip_41 : decode cX2_clip 41 = .ok (.aload_n 0, 1) := dk_42 (dk_at dksX2_clip_1 18 rfl rfl)
theorem dX2_clip_42 : decode cX2_clip 42 = .ok (.getfield 13, 3) := dk_180 0 13 (dk_at dksX2_clip_1 19 rfl rfl)
theorem dX2_clip_45 : decode cX2_clip 45 = .ok (.iload_n 1, 1) := dk_27 (dk_at dksX2_clip_1 22 rfl rfl)
theorem dX2_clip_46 : decode cX2_clip 46 = .ok (.iload_n 3, 1) := dk_29 (dk_at dksX2_clip_1 23 rfl rfl)
theorem dX2_clip_47 : decode cX2_clip 47 = .ok (.iadd, 1) := dk_96 (dk_at dksX2_clip_2 0 rfl rfl)
theorem dX2_clip_48 : decode cX2_clip 48 = .ok (.iload_n 2, 1) := dk_28 (dk_at dksX2_clip_2 1 rfl rfl)
theorem dX2_clip_49 : decode cX2_clip 49 = .ok (.isub, 1) := dk_100 (dk_at dksX2_clip_2 2 rfl rfl)
theorem dX2_clip_50 : decode cX2_clip 50 = .ok (.aload_n 0, 1) := dk_42 (dk_at dksX2_clip_2 3 rfl rfl)
theorem dX2_clip_51 : decode cX2_clip 51 = .ok (.getfield 13, 3) := dk_180 0 13 (dk_at dksX2_clip_2 4 rfl rfl)
theorem dX2_clip_54 : decode cX2_clip 54 = .ok (.iload_n 3, 1) := dk_29 (dk_at dksX2_clip_2 7 rfl rfl)
theorem dX2_clip_55 : decode cX2_clip 55 = .ok (.caload, 1) := dk_52 (dk_at dksX2_clip_2 8 rfl rfl)
theorem dX2_clip_56 : decode cX2_clip 56 = .ok (.castore, 1) := dk_85 (dk_at dksX2_clip_2 9 rfl rfl)
theorem dX2_clip_57 : decode cX2_clip 57 = .ok (.iinc 3 1, 3) := dk_132 3 1 (dk_at dksX2_clip_2 10 rfl rfl)
theorem dX2_clip_60 : decode cX2_clip 60 = .ok (.goto (-27), 3) := dk_167 255 229 (dk_at dksX2_clip_2 13 rfl rfl)
theorem dX2_clip_63 : decode cX2_clip 63 = .ok (.aload_n 0, 1) := dk_42 (dk_at dksX2_clip_2 16 rfl rfl)
theorem dX2_clip_64 : decode cX2_clip 64 = .ok (.dup, 1) := dk_89 (dk_at dksX2_clip_2 17 rfl rfl)
theorem dX2_clip_65 : decode cX2_clip 65 = .ok (.getfield 49, 3) := dk_180 0 49 (dk_at dksX2_clip_2 18 rfl rfl)
theorem dX2_clip_68 : decode cX2_clip 68 = .ok (.iload_n 2, 1) := dk_28 (dk_at dksX2_clip_2 21 rfl rfl)
theorem dX2_clip_69 : decode cX2_clip 69 = .ok (.iload_n 1, 1) := dk_27 (dk_at dksX2_clip_2 22 rfl rfl)
theorem dX2_clip_70 : decode cX2_clip 70 = .ok (.isub, 1) := dk_100 (dk_at dksX2_clip_2 23 rfl rfl)
theorem dX2_clip_71 : decode cX2_clip 71 = .ok (.isub, 1) := dk_100 (dk_at dksX2_clip_3 0 rfl rfl)
theorem dX2_clip_72 : decode cX2_clip 72 = .ok (.putfield 49, 3) := dk_181 0 49 (dk_at dksX2_clip_3 1 rfl rfl)
theorem dX2_clip_75 : decode cX2_clip 75 = .ok (.aload_n 0, 1) := dk_42 (dk_at dksX2_clip_3 4 rfl rfl)
theorem dX2_clip_76 : decode cX2_clip 76 = .ok (.getfield 49, 3) := dk_180 0 49 (dk_at dksX2_clip_3 5 rfl rfl)
theorem dX2_clip_79 : decode cX2_clip 79 = .ok (.ireturn, 1) := dk_172 (dk_at dksX2_clip_3 8 rfl rfl)
abbrev cX2_wipe : ByteArray := prog_3_method_21_code
def yX2_wipe : MethodName := ⟨RX2, "wipe", "()I"⟩
def dkwX2_wipe_0 : List UInt8 := [42, 3, 181, 0, 1, 42, 180, 0, 49, 60, 42, 3, 181, 0, 49, 27, 172]
abbrev dktX2_wipe_0 : List UInt8 := dkwX2_wipe_0 ++ []
theorem dksX2_wipe_0 : cX2_wipe.data.toList.drop 0 = dktX2_wipe_0 := by decide +kernel
theorem dX2_wipe_0 : decode cX2_wipe 0 = .ok (.aload_n 0, 1) := dk_42 (dk_at dksX2_wipe_0 0 rfl rfl)
theorem dX2_wipe_1 : decode cX2_wipe 1 = .ok (.iconst 0, 1) := dk_3 (dk_at dksX2_wipe_0 1 rfl rfl)
theorem dX2_wipe_2 : decode cX2_wipe 2 = .ok (.putfield 1, 3) := dk_181 0 1 (dk_at dksX2_wipe_0 2 rfl rfl)
theorem dX2_wipe_5 : decode cX2_wipe 5 = .ok (.aload_n 0, 1) := dk_42 (dk_at dksX2_wipe_0 5 rfl rfl)
theorem dX2_wipe_6 : decode cX2_wipe 6 = .ok (.getfield 49, 3) := dk_180 0 49 (dk_at dksX2_wipe_0 6 rfl rfl)
theorem dX2_wipe_9 : decode cX2_wipe 9 = .ok (.istore_n 1, 1) := dk_60 (dk_at dksX2_wipe_0 9 rfl rfl)
theorem dX2_wipe_10 : decode cX2_wipe 10 = .ok (.aload_n 0, 1) := dk_42 (dk_at dksX2_wipe_0 10 rfl rfl)
theorem dX2_wipe_11 : decode cX2_wipe 11 = .ok (.iconst 0, 1) := dk_3 (dk_at dksX2_wipe_0 11 rfl rfl)
theorem dX2_wipe_12 : decode cX2_wipe 12 = .ok (.putfield 49, 3) := dk_181 0 49 (dk_at dksX2_wipe_0 12 rfl rfl)
theorem dX2_wipe_15 : decode cX2_wipe 15 = .ok (.iload_n 1, 1) := dk_27 (dk_at dksX2_wipe_0 15 rfl rfl)
theorem dX2_wipe_16 : decode cX2_wipe 16 = .ok (.ireturn, 1) := dk_172 (dk_at dksX2_wipe_0 16 rfl rfl)
abbrev cX2_turn : ByteArray := prog_3_method_22_code
def yX2_turn : MethodName := ⟨RX2, "turn", "()Z"⟩
def dkwX2_turn_4 : List UInt8 := [27, 172]
abbrev dktX2_turn_4 : List UInt8 := dkwX2_turn_4 ++ []
def dkwX2_turn_3 : List UInt8 := [167, 0, 4, 3, 126, 60, 42, 180, 0, 13, 28, 42, 180, 0, 23, 28, 52, 85, 132, 2, 1, 167, 255, 210]
abbrev dktX2_turn_3 : List UInt8 := dkwX2_turn_3 ++ dktX2_turn_4
def dkwX2_turn_2 : List UInt8 := [180, 0, 49, 162, 0, 44, 27, 42, 180, 0, 23, 28, 52, 42, 180, 0, 13, 28, 52, 160, 0, 7, 4]
abbrev dktX2_turn_2 : List UInt8 := dkwX2_turn_2 ++ dktX2_turn_3
def dkwX2_turn_1 : List UInt8 := [180, 0, 13, 42, 180, 0, 49, 4, 100, 28, 100, 52, 85, 132, 2, 1, 167, 255, 226, 3, 61, 28, 42]
abbrev dktX2_turn_1 : List UInt8 := dkwX2_turn_1 ++ dktX2_turn_2
def dkwX2_turn_0 : List UInt8 := [42, 3, 181, 0, 1, 4, 60, 3, 61, 28, 42, 180, 0, 49, 162, 0, 28, 42, 180, 0, 23, 28, 42]
abbrev dktX2_turn_0 : List UInt8 := dkwX2_turn_0 ++ dktX2_turn_1
theorem dksX2_turn_0 : cX2_turn.data.toList.drop 0 = dktX2_turn_0 := by decide +kernel
theorem dksX2_turn_1 : cX2_turn.data.toList.drop 23 = dktX2_turn_1 := dk_seg dksX2_turn_0 23 rfl rfl
theorem dksX2_turn_2 : cX2_turn.data.toList.drop 46 = dktX2_turn_2 := dk_seg dksX2_turn_1 23 rfl rfl
theorem dksX2_turn_3 : cX2_turn.data.toList.drop 69 = dktX2_turn_3 := dk_seg dksX2_turn_2 23 rfl rfl
theorem dksX2_turn_4 : cX2_turn.data.toList.drop 93 = dktX2_turn_4 := dk_seg dksX2_turn_3 24 rfl rfl
theorem dX2_turn_0 : decode cX2_turn 0 = .ok (.aload_n 0, 1) := dk_42 (dk_at dksX2_turn_0 0 rfl rfl)
theorem dX2_turn_1 : decode cX2_turn 1 = .ok (.iconst 0, 1) := dk_3 (dk_at dksX2_turn_0 1 rfl rfl)
theorem dX2_turn_2 : decode cX2_turn 2 = .ok (.putfield 1, 3) := dk_181 0 1 (dk_at dksX2_turn_0 2 rfl rfl)
theorem dX2_turn_5 : decode cX2_turn 5 = .ok (.iconst 1, 1) := dk_4 (dk_at dksX2_turn_0 5 rfl rfl)
theorem dX2_turn_6 : decode cX2_turn 6 = .ok (.istore_n 1, 1) := dk_60 (dk_at dksX2_turn_0 6 rfl rfl)
theorem dX2_turn_7 : decode cX2_turn 7 = .ok (.iconst 0, 1) := dk_3 (dk_at dksX2_turn_0 7 rfl rfl)
theorem dX2_turn_8 : decode cX2_turn 8 = .ok (.istore_n 2, 1) := dk_61 (dk_at dksX2_turn_0 8 rfl rfl)
theorem dX2_turn_9 : decode cX2_turn 9 = .ok (.iload_n 2, 1) := dk_28 (dk_at dksX2_turn_0 9 rfl rfl)
theorem dX2_turn_10 : decode cX2_turn 10 = .ok (.aload_n 0, 1) := dk_42 (dk_at dksX2_turn_0 10 rfl rfl)
theorem dX2_turn_11 : decode cX2_turn 11 = .ok (.getfield 49, 3) := dk_180 0 49 (dk_at dksX2_turn_0 11 rfl rfl)
theorem dX2_turn_14 : decode cX2_turn 14 = .ok (.if_icmp .ge 28, 3) := dk_162 0 28 (dk_at dksX2_turn_0 14 rfl rfl)
theorem dX2_turn_17 : decode cX2_turn 17 = .ok (.aload_n 0, 1) := dk_42 (dk_at dksX2_turn_0 17 rfl rfl)
theorem dX2_turn_18 : decode cX2_turn 18 = .ok (.getfield 23, 3) := dk_180 0 23 (dk_at dksX2_turn_0 18 rfl rfl)
theorem dX2_turn_21 : decode cX2_turn 21 = .ok (.iload_n 2, 1) := dk_28 (dk_at dksX2_turn_0 21 rfl rfl)
theorem dX2_turn_22 : decode cX2_turn 22 = .ok (.aload_n 0, 1) := dk_42 (dk_at dksX2_turn_0 22 rfl rfl)
theorem dX2_turn_23 : decode cX2_turn 23 = .ok (.getfield 13, 3) := dk_180 0 13 (dk_at dksX2_turn_1 0 rfl rfl)
theorem dX2_turn_26 : decode cX2_turn 26 = .ok (.aload_n 0, 1) := dk_42 (dk_at dksX2_turn_1 3 rfl rfl)
theorem dX2_turn_27 : decode cX2_turn 27 = .ok (.getfield 49, 3) := dk_180 0 49 (dk_at dksX2_turn_1 4 rfl rfl)
theorem dX2_turn_30 : decode cX2_turn 30 = .ok (.iconst 1, 1) := dk_4 (dk_at dksX2_turn_1 7 rfl rfl)
theorem dX2_turn_31 : decode cX2_turn 31 = .ok (.isub, 1) := dk_100 (dk_at dksX2_turn_1 8 rfl rfl)
theorem dX2_turn_32 : decode cX2_turn 32 = .ok (.iload_n 2, 1) := dk_28 (dk_at dksX2_turn_1 9 rfl rfl)
theorem dX2_turn_33 : decode cX2_turn 33 = .ok (.isub, 1) := dk_100 (dk_at dksX2_turn_1 10 rfl rfl)
theorem dX2_turn_34 : decode cX2_turn 34 = .ok (.caload, 1) := dk_52 (dk_at dksX2_turn_1 11 rfl rfl)
theorem dX2_turn_35 : decode cX2_turn 35 = .ok (.castore, 1) := dk_85 (dk_at dksX2_turn_1 12 rfl rfl)
theorem dX2_turn_36 : decode cX2_turn 36 = .ok (.iinc 2 1, 3) := dk_132 2 1 (dk_at dksX2_turn_1 13 rfl rfl)
theorem dX2_turn_39 : decode cX2_turn 39 = .ok (.goto (-30), 3) := dk_167 255 226 (dk_at dksX2_turn_1 16 rfl rfl)
theorem dX2_turn_42 : decode cX2_turn 42 = .ok (.iconst 0, 1) := dk_3 (dk_at dksX2_turn_1 19 rfl rfl)
theorem dX2_turn_43 : decode cX2_turn 43 = .ok (.istore_n 2, 1) := dk_61 (dk_at dksX2_turn_1 20 rfl rfl)
theorem dX2_turn_44 : decode cX2_turn 44 = .ok (.iload_n 2, 1) := dk_28 (dk_at dksX2_turn_1 21 rfl rfl)
theorem dX2_turn_45 : decode cX2_turn 45 = .ok (.aload_n 0, 1) := dk_42 (dk_at dksX2_turn_1 22 rfl rfl)
theorem dX2_turn_46 : decode cX2_turn 46 = .ok (.getfield 49, 3) := dk_180 0 49 (dk_at dksX2_turn_2 0 rfl rfl)
theorem dX2_turn_49 : decode cX2_turn 49 = .ok (.if_icmp .ge 44, 3) := dk_162 0 44 (dk_at dksX2_turn_2 3 rfl rfl)
theorem dX2_turn_52 : decode cX2_turn 52 = .ok (.iload_n 1, 1) := dk_27 (dk_at dksX2_turn_2 6 rfl rfl)
theorem dX2_turn_53 : decode cX2_turn 53 = .ok (.aload_n 0, 1) := dk_42 (dk_at dksX2_turn_2 7 rfl rfl)
theorem dX2_turn_54 : decode cX2_turn 54 = .ok (.getfield 23, 3) := dk_180 0 23 (dk_at dksX2_turn_2 8 rfl rfl)
theorem dX2_turn_57 : decode cX2_turn 57 = .ok (.iload_n 2, 1) := dk_28 (dk_at dksX2_turn_2 11 rfl rfl)
theorem dX2_turn_58 : decode cX2_turn 58 = .ok (.caload, 1) := dk_52 (dk_at dksX2_turn_2 12 rfl rfl)
theorem dX2_turn_59 : decode cX2_turn 59 = .ok (.aload_n 0, 1) := dk_42 (dk_at dksX2_turn_2 13 rfl rfl)
theorem dX2_turn_60 : decode cX2_turn 60 = .ok (.getfield 13, 3) := dk_180 0 13 (dk_at dksX2_turn_2 14 rfl rfl)
theorem dX2_turn_63 : decode cX2_turn 63 = .ok (.iload_n 2, 1) := dk_28 (dk_at dksX2_turn_2 17 rfl rfl)
theorem dX2_turn_64 : decode cX2_turn 64 = .ok (.caload, 1) := dk_52 (dk_at dksX2_turn_2 18 rfl rfl)
theorem dX2_turn_65 : decode cX2_turn 65 = .ok (.if_icmp .ne 7, 3) := dk_160 0 7 (dk_at dksX2_turn_2 19 rfl rfl)
theorem dX2_turn_68 : decode cX2_turn 68 = .ok (.iconst 1, 1) := dk_4 (dk_at dksX2_turn_2 22 rfl rfl)
theorem dX2_turn_69 : decode cX2_turn 69 = .ok (.goto 4, 3) := dk_167 0 4 (dk_at dksX2_turn_3 0 rfl rfl)
theorem dX2_turn_72 : decode cX2_turn 72 = .ok (.iconst 0, 1) := dk_3 (dk_at dksX2_turn_3 3 rfl rfl)
theorem dX2_turn_73 : decode cX2_turn 73 = .ok (.iand, 1) := dk_126 (dk_at dksX2_turn_3 4 rfl rfl)
theorem dX2_turn_74 : decode cX2_turn 74 = .ok (.istore_n 1, 1) := dk_60 (dk_at dksX2_turn_3 5 rfl rfl)
theorem dX2_turn_75 : decode cX2_turn 75 = .ok (.aload_n 0, 1) := dk_42 (dk_at dksX2_turn_3 6 rfl rfl)
theorem dX2_turn_76 : decode cX2_turn 76 = .ok (.getfield 13, 3) := dk_180 0 13 (dk_at dksX2_turn_3 7 rfl rfl)
theorem dX2_turn_79 : decode cX2_turn 79 = .ok (.iload_n 2, 1) := dk_28 (dk_at dksX2_turn_3 10 rfl rfl)
theorem dX2_turn_80 : decode cX2_turn 80 = .ok (.aload_n 0, 1) := dk_42 (dk_at dksX2_turn_3 11 rfl rfl)
theorem dX2_turn_81 : decode cX2_turn 81 = .ok (.getfield 23, 3) := dk_180 0 23 (dk_at dksX2_turn_3 12 rfl rfl)
theorem dX2_turn_84 : decode cX2_turn 84 = .ok (.iload_n 2, 1) := dk_28 (dk_at dksX2_turn_3 15 rfl rfl)
theorem dX2_turn_85 : decode cX2_turn 85 = .ok (.caload, 1) := dk_52 (dk_at dksX2_turn_3 16 rfl rfl)
theorem dX2_turn_86 : decode cX2_turn 86 = .ok (.castore, 1) := dk_85 (dk_at dksX2_turn_3 17 rfl rfl)
theorem dX2_turn_87 : decode cX2_turn 87 = .ok (.iinc 2 1, 3) := dk_132 2 1 (dk_at dksX2_turn_3 18 rfl rfl)
theorem dX2_turn_90 : decode cX2_turn 90 = .ok (.goto (-46), 3) := dk_167 255 210 (dk_at dksX2_turn_3 21 rfl rfl)
theorem dX2_turn_93 : decode cX2_turn 93 = .ok (.iload_n 1, 1) := dk_27 (dk_at dksX2_turn_4 0 rfl rfl)
theorem dX2_turn_94 : decode cX2_turn 94 = .ok (.ireturn, 1) := dk_172 (dk_at dksX2_turn_4 1 rfl rfl)
abbrev cX2_signAt : ByteArray := prog_3_method_23_code
def yX2_signAt : MethodName := ⟨RX2, "signAt", "(I)C"⟩
def dkwX2_signAt_1 : List UInt8 := [153, 0, 8, 16, 32, 167, 0, 9, 42, 180, 0, 13, 27, 52, 172]
abbrev dktX2_signAt_1 : List UInt8 := dkwX2_signAt_1 ++ []
def dkwX2_signAt_0 : List UInt8 := [42, 27, 3, 42, 180, 0, 49, 4, 100, 184, 0, 81, 153, 0, 7, 3, 167, 0, 4, 4, 182, 0, 77]
abbrev dktX2_signAt_0 : List UInt8 := dkwX2_signAt_0 ++ dktX2_signAt_1
theorem dksX2_signAt_0 : cX2_signAt.data.toList.drop 0 = dktX2_signAt_0 := by decide +kernel
theorem dksX2_signAt_1 : cX2_signAt.data.toList.drop 23 = dktX2_signAt_1 := dk_seg dksX2_signAt_0 23 rfl rfl
theorem dX2_signAt_0 : decode cX2_signAt 0 = .ok (.aload_n 0, 1) := dk_42 (dk_at dksX2_signAt_0 0 rfl rfl)
theorem dX2_signAt_1 : decode cX2_signAt 1 = .ok (.iload_n 1, 1) := dk_27 (dk_at dksX2_signAt_0 1 rfl rfl)
theorem dX2_signAt_2 : decode cX2_signAt 2 = .ok (.iconst 0, 1) := dk_3 (dk_at dksX2_signAt_0 2 rfl rfl)
theorem dX2_signAt_3 : decode cX2_signAt 3 = .ok (.aload_n 0, 1) := dk_42 (dk_at dksX2_signAt_0 3 rfl rfl)
theorem dX2_signAt_4 : decode cX2_signAt 4 = .ok (.getfield 49, 3) := dk_180 0 49 (dk_at dksX2_signAt_0 4 rfl rfl)
theorem dX2_signAt_7 : decode cX2_signAt 7 = .ok (.iconst 1, 1) := dk_4 (dk_at dksX2_signAt_0 7 rfl rfl)
theorem dX2_signAt_8 : decode cX2_signAt 8 = .ok (.isub, 1) := dk_100 (dk_at dksX2_signAt_0 8 rfl rfl)
theorem dX2_signAt_9 : decode cX2_signAt 9 = .ok (.invokestatic 81, 3) := dk_184 0 81 (dk_at dksX2_signAt_0 9 rfl rfl)
theorem dX2_signAt_12 : decode cX2_signAt 12 = .ok (.ifCond .eq 7, 3) := dk_153 0 7 (dk_at dksX2_signAt_0 12 rfl rfl)
theorem dX2_signAt_15 : decode cX2_signAt 15 = .ok (.iconst 0, 1) := dk_3 (dk_at dksX2_signAt_0 15 rfl rfl)
theorem dX2_signAt_16 : decode cX2_signAt 16 = .ok (.goto 4, 3) := dk_167 0 4 (dk_at dksX2_signAt_0 16 rfl rfl)
theorem dX2_signAt_19 : decode cX2_signAt 19 = .ok (.iconst 1, 1) := dk_4 (dk_at dksX2_signAt_0 19 rfl rfl)
theorem dX2_signAt_20 : decode cX2_signAt 20 = .ok (.invokevirtual 77, 3) := dk_182 0 77 (dk_at dksX2_signAt_0 20 rfl rfl)
theorem dX2_signAt_23 : decode cX2_signAt 23 = .ok (.ifCond .eq 8, 3) := dk_153 0 8 (dk_at dksX2_signAt_1 0 rfl rfl)
theorem dX2_signAt_26 : decode cX2_signAt 26 = .ok (.bipush 32, 2) := dk_16 32 (dk_at dksX2_signAt_1 3 rfl rfl)
theorem dX2_signAt_28 : decode cX2_signAt 28 = .ok (.goto 9, 3) := dk_167 0 9 (dk_at dksX2_signAt_1 5 rfl rfl)
theorem dX2_signAt_31 : decode cX2_signAt 31 = .ok (.aload_n 0, 1) := dk_42 (dk_at dksX2_signAt_1 8 rfl rfl)
theorem dX2_signAt_32 : decode cX2_signAt 32 = .ok (.getfield 13, 3) := dk_180 0 13 (dk_at dksX2_signAt_1 9 rfl rfl)
theorem dX2_signAt_35 : decode cX2_signAt 35 = .ok (.iload_n 1, 1) := dk_27 (dk_at dksX2_signAt_1 12 rfl rfl)
theorem dX2_signAt_36 : decode cX2_signAt 36 = .ok (.caload, 1) := dk_52 (dk_at dksX2_signAt_1 13 rfl rfl)
theorem dX2_signAt_37 : decode cX2_signAt 37 = .ok (.ireturn, 1) := dk_172 (dk_at dksX2_signAt_1 14 rfl rfl)
abbrev cX2_put : ByteArray := prog_3_method_24_code
def yX2_put : MethodName := ⟨RX2, "put", "(I)I"⟩
def dkwX2_put_6 : List UInt8 := [132, 4, 1, 167, 255, 225, 42, 180, 0, 30, 28, 27, 79, 29, 172]
abbrev dktX2_put_6 : List UInt8 := dkwX2_put_6 ++ []
def dkwX2_put_5 : List UInt8 := [162, 0, 28, 42, 180, 0, 17, 16, 10, 28, 104, 21, 4, 96, 42, 180, 0, 13, 21, 4, 52, 85]
abbrev dktX2_put_5 : List UInt8 := dkwX2_put_5 ++ dktX2_put_6
def dkwX2_put_4 : List UInt8 := [4, 96, 181, 0, 59, 42, 180, 0, 26, 28, 42, 180, 0, 49, 79, 3, 54, 4, 21, 4, 42, 180, 0, 49]
abbrev dktX2_put_4 : List UInt8 := dkwX2_put_4 ++ dktX2_put_5
def dkwX2_put_3 : List UInt8 := [167, 0, 9, 42, 180, 0, 30, 28, 46, 62, 28, 156, 0, 65, 42, 180, 0, 59, 61, 42, 89, 180, 0, 59]
abbrev dktX2_put_3 : List UInt8 := dkwX2_put_3 ++ dktX2_put_4
def dkwX2_put_2 : List UInt8 := [16, 24, 160, 0, 7, 6, 167, 0, 4, 3, 182, 0, 77, 153, 0, 5, 3, 172, 28, 156, 0, 7, 2]
abbrev dktX2_put_2 : List UInt8 := dkwX2_put_2 ++ dktX2_put_3
def dkwX2_put_1 : List UInt8 := [180, 0, 49, 4, 16, 10, 184, 0, 81, 154, 0, 7, 5, 167, 0, 21, 28, 156, 0, 16, 42, 180, 0, 59]
abbrev dktX2_put_1 : List UInt8 := dkwX2_put_1 ++ dktX2_put_2
def dkwX2_put_0 : List UInt8 := [42, 182, 0, 86, 61, 42, 27, 3, 17, 3, 231, 184, 0, 81, 154, 0, 7, 4, 167, 0, 38, 42]
abbrev dktX2_put_0 : List UInt8 := dkwX2_put_0 ++ dktX2_put_1
theorem dksX2_put_0 : cX2_put.data.toList.drop 0 = dktX2_put_0 := by decide +kernel
theorem dksX2_put_1 : cX2_put.data.toList.drop 22 = dktX2_put_1 := dk_seg dksX2_put_0 22 rfl rfl
theorem dksX2_put_2 : cX2_put.data.toList.drop 46 = dktX2_put_2 := dk_seg dksX2_put_1 24 rfl rfl
theorem dksX2_put_3 : cX2_put.data.toList.drop 69 = dktX2_put_3 := dk_seg dksX2_put_2 23 rfl rfl
theorem dksX2_put_4 : cX2_put.data.toList.drop 93 = dktX2_put_4 := dk_seg dksX2_put_3 24 rfl rfl
theorem dksX2_put_5 : cX2_put.data.toList.drop 117 = dktX2_put_5 := dk_seg dksX2_put_4 24 rfl rfl
theorem dksX2_put_6 : cX2_put.data.toList.drop 139 = dktX2_put_6 := dk_seg dksX2_put_5 22 rfl rfl
theorem dX2_put_0 : decode cX2_put 0 = .ok (.aload_n 0, 1) := dk_42 (dk_at dksX2_put_0 0 rfl rfl)
theorem dX2_put_1 : decode cX2_put 1 = .ok (.invokevirtual 86, 3) := dk_182 0 86 (dk_at dksX2_put_0 1 rfl rfl)
theorem dX2_put_4 : decode cX2_put 4 = .ok (.istore_n 2, 1) := dk_61 (dk_at dksX2_put_0 4 rfl rfl)
theorem dX2_put_5 : decode cX2_put 5 = .ok (.aload_n 0, 1) := dk_42 (dk_at dksX2_put_0 5 rfl rfl)
theorem dX2_put_6 : decode cX2_put 6 = .ok (.iload_n 1, 1) := dk_27 (dk_at dksX2_put_0 6 rfl rfl)
theorem dX2_put_7 : decode cX2_put 7 = .ok (.iconst 0, 1) := dk_3 (dk_at dksX2_put_0 7 rfl rfl)
theorem dX2_put_8 : decode cX2_put 8 = .ok (.sipush 999, 3) := dk_17 3 231 (dk_at dksX2_put_0 8 rfl rfl)
theorem dX2_put_11 : decode cX2_put 11 = .ok (.invokestatic 81, 3) := dk_184 0 81 (dk_at dksX2_put_0 11 rfl rfl)
theorem dX2_put_14 : decode cX2_put 14 = .ok (.ifCond .ne 7, 3) := dk_154 0 7 (dk_at dksX2_put_0 14 rfl rfl)
theorem dX2_put_17 : decode cX2_put 17 = .ok (.iconst 1, 1) := dk_4 (dk_at dksX2_put_0 17 rfl rfl)
theorem dX2_put_18 : decode cX2_put 18 = .ok (.goto 38, 3) := dk_167 0 38 (dk_at dksX2_put_0 18 rfl rfl)
theorem dX2_put_21 : decode cX2_put 21 = .ok (.aload_n 0, 1) := dk_42 (dk_at dksX2_put_0 21 rfl rfl)
theorem dX2_put_22 : decode cX2_put 22 = .ok (.getfield 49, 3) := dk_180 0 49 (dk_at dksX2_put_1 0 rfl rfl)
theorem dX2_put_25 : decode cX2_put 25 = .ok (.iconst 1, 1) := dk_4 (dk_at dksX2_put_1 3 rfl rfl)
theorem dX2_put_26 : decode cX2_put 26 = .ok (.bipush 10, 2) := dk_16 10 (dk_at dksX2_put_1 4 rfl rfl)
theorem dX2_put_28 : decode cX2_put 28 = .ok (.invokestatic 81, 3) := dk_184 0 81 (dk_at dksX2_put_1 6 rfl rfl)
theorem dX2_put_31 : decode cX2_put 31 = .ok (.ifCond .ne 7, 3) := dk_154 0 7 (dk_at dksX2_put_1 9 rfl rfl)
theorem dX2_put_34 : decode cX2_put 34 = .ok (.iconst 2, 1) := dk_5 (dk_at dksX2_put_1 12 rfl rfl)
theorem dX2_put_35 : decode cX2_put 35 = .ok (.goto 21, 3) := dk_167 0 21 (dk_at dksX2_put_1 13 rfl rfl)
theorem dX2_put_38 : decode cX2_put 38 = .ok (.iload_n 2, 1) := dk_28 (dk_at dksX2_put_1 16 rfl rfl)
theorem dX2_put_39 : decode cX2_put 39 = .ok (.ifCond .ge 16, 3) := dk_156 0 16 (dk_at dksX2_put_1 17 rfl rfl)
theorem dX2_put_42 : decode cX2_put 42 = .ok (.aload_n 0, 1) := dk_42 (dk_at dksX2_put_1 20 rfl rfl)
theorem dX2_put_43 : decode cX2_put 43 = .ok (.getfield 59, 3) := dk_180 0 59 (dk_at dksX2_put_1 21 rfl rfl)
theorem dX2_put_46 : decode cX2_put 46 = .ok (.bipush 24, 2) := dk_16 24 (dk_at dksX2_put_2 0 rfl rfl)
theorem dX2_put_48 : decode cX2_put 48 = .ok (.if_icmp .ne 7, 3) := dk_160 0 7 (dk_at dksX2_put_2 2 rfl rfl)
theorem dX2_put_51 : decode cX2_put 51 = .ok (.iconst 3, 1) := dk_6 (dk_at dksX2_put_2 5 rfl rfl)
theorem dX2_put_52 : decode cX2_put 52 = .ok (.goto 4, 3) := dk_167 0 4 (dk_at dksX2_put_2 6 rfl rfl)
theorem dX2_put_55 : decode cX2_put 55 = .ok (.iconst 0, 1) := dk_3 (dk_at dksX2_put_2 9 rfl rfl)
theorem dX2_put_56 : decode cX2_put 56 = .ok (.invokevirtual 77, 3) := dk_182 0 77 (dk_at dksX2_put_2 10 rfl rfl)
theorem dX2_put_59 : decode cX2_put 59 = .ok (.ifCond .eq 5, 3) := dk_153 0 5 (dk_at dksX2_put_2 13 rfl rfl)
theorem dX2_put_62 : decode cX2_put 62 = .ok (.iconst 0, 1) := dk_3 (dk_at dksX2_put_2 16 rfl rfl)
theorem dX2_put_63 : decode cX2_put 63 = .ok (.ireturn, 1) := dk_172 (dk_at dksX2_put_2 17 rfl rfl)
theorem dX2_put_64 : decode cX2_put 64 = .ok (.iload_n 2, 1) := dk_28 (dk_at dksX2_put_2 18 rfl rfl)
theorem dX2_put_65 : decode cX2_put 65 = .ok (.ifCond .ge 7, 3) := dk_156 0 7 (dk_at dksX2_put_2 19 rfl rfl)
theorem dX2_put_68 : decode cX2_put 68 = .ok (.iconst (-1), 1) := dk_2 (dk_at dksX2_put_2 22 rfl rfl)
theorem dX2_put_69 : decode cX2_put 69 = .ok (.goto 9, 3) := dk_167 0 9 (dk_at dksX2_put_3 0 rfl rfl)
theorem dX2_put_72 : decode cX2_put 72 = .ok (.aload_n 0, 1) := dk_42 (dk_at dksX2_put_3 3 rfl rfl)
theorem dX2_put_73 : decode cX2_put 73 = .ok (.getfield 30, 3) := dk_180 0 30 (dk_at dksX2_put_3 4 rfl rfl)
theorem dX2_put_76 : decode cX2_put 76 = .ok (.iload_n 2, 1) := dk_28 (dk_at dksX2_put_3 7 rfl rfl)
theorem dX2_put_77 : decode cX2_put 77 = .ok (.iaload, 1) := dk_46 (dk_at dksX2_put_3 8 rfl rfl)
theorem dX2_put_78 : decode cX2_put 78 = .ok (.istore_n 3, 1) := dk_62 (dk_at dksX2_put_3 9 rfl rfl)
theorem dX2_put_79 : decode cX2_put 79 = .ok (.iload_n 2, 1) := dk_28 (dk_at dksX2_put_3 10 rfl rfl)
theorem dX2_put_80 : decode cX2_put 80 = .ok (.ifCond .ge 65, 3) := dk_156 0 65 (dk_at dksX2_put_3 11 rfl rfl)
theorem dX2_put_83 : decode cX2_put 83 = .ok (.aload_n 0, 1) := dk_42 (dk_at dksX2_put_3 14 rfl rfl)
theorem dX2_put_84 : decode cX2_put 84 = .ok (.getfield 59, 3) := dk_180 0 59 (dk_at dksX2_put_3 15 rfl rfl)
theorem dX2_put_87 : decode cX2_put 87 = .ok (.istore_n 2, 1) := dk_61 (dk_at dksX2_put_3 18 rfl rfl)
theorem dX2_put_88 : decode cX2_put 88 = .ok (.aload_n 0, 1) := dk_42 (dk_at dksX2_put_3 19 rfl rfl)
theorem dX2_put_89 : decode cX2_put 89 = .ok (.dup, 1) := dk_89 (dk_at dksX2_put_3 20 rfl rfl)
theorem dX2_put_90 : decode cX2_put 90 = .ok (.getfield 59, 3) := dk_180 0 59 (dk_at dksX2_put_3 21 rfl rfl)
theorem dX2_put_93 : decode cX2_put 93 = .ok (.iconst 1, 1) := dk_4 (dk_at dksX2_put_4 0 rfl rfl)
theorem dX2_put_94 : decode cX2_put 94 = .ok (.iadd, 1) := dk_96 (dk_at dksX2_put_4 1 rfl rfl)
theorem dX2_put_95 : decode cX2_put 95 = .ok (.putfield 59, 3) := dk_181 0 59 (dk_at dksX2_put_4 2 rfl rfl)
theorem dX2_put_98 : decode cX2_put 98 = .ok (.aload_n 0, 1) := dk_42 (dk_at dksX2_put_4 5 rfl rfl)
theorem dX2_put_99 : decode cX2_put 99 = .ok (.getfield 26, 3) := dk_180 0 26 (dk_at dksX2_put_4 6 rfl rfl)
theorem dX2_put_102 : decode cX2_put 102 = .ok (.iload_n 2, 1) := dk_28 (dk_at dksX2_put_4 9 rfl rfl)
theorem dX2_put_103 : decode cX2_put 103 = .ok (.aload_n 0, 1) := dk_42 (dk_at dksX2_put_4 10 rfl rfl)
theorem dX2_put_104 : decode cX2_put 104 = .ok (.getfield 49, 3) := dk_180 0 49 (dk_at dksX2_put_4 11 rfl rfl)
theorem dX2_put_107 : decode cX2_put 107 = .ok (.iastore, 1) := dk_79 (dk_at dksX2_put_4 14 rfl rfl)
theorem dX2_put_108 : decode cX2_put 108 = .ok (.iconst 0, 1) := dk_3 (dk_at dksX2_put_4 15 rfl rfl)
theorem dX2_put_109 : decode cX2_put 109 = .ok (.istore 4, 2) := dk_54 4 (dk_at dksX2_put_4 16 rfl rfl)
theorem dX2_put_111 : decode cX2_put 111 = .ok (.iload 4, 2) := dk_21 4 (dk_at dksX2_put_4 18 rfl rfl)
theorem dX2_put_113 : decode cX2_put 113 = .ok (.aload_n 0, 1) := dk_42 (dk_at dksX2_put_4 20 rfl rfl)
theorem dX2_put_114 : decode cX2_put 114 = .ok (.getfield 49, 3) := dk_180 0 49 (dk_at dksX2_put_4 21 rfl rfl)
theorem dX2_put_117 : decode cX2_put 117 = .ok (.if_icmp .ge 28, 3) := dk_162 0 28 (dk_at dksX2_put_5 0 rfl rfl)
theorem dX2_put_120 : decode cX2_put 120 = .ok (.aload_n 0, 1) := dk_42 (dk_at dksX2_put_5 3 rfl rfl)
theorem dX2_put_121 : decode cX2_put 121 = .ok (.getfield 17, 3) := dk_180 0 17 (dk_at dksX2_put_5 4 rfl rfl)
theorem dX2_put_124 : decode cX2_put 124 = .ok (.bipush 10, 2) := dk_16 10 (dk_at dksX2_put_5 7 rfl rfl)
theorem dX2_put_126 : decode cX2_put 126 = .ok (.iload_n 2, 1) := dk_28 (dk_at dksX2_put_5 9 rfl rfl)
theorem dX2_put_127 : decode cX2_put 127 = .ok (.imul, 1) := dk_104 (dk_at dksX2_put_5 10 rfl rfl)
theorem dX2_put_128 : decode cX2_put 128 = .ok (.iload 4, 2) := dk_21 4 (dk_at dksX2_put_5 11 rfl rfl)
theorem dX2_put_130 : decode cX2_put 130 = .ok (.iadd, 1) := dk_96 (dk_at dksX2_put_5 13 rfl rfl)
theorem dX2_put_131 : decode cX2_put 131 = .ok (.aload_n 0, 1) := dk_42 (dk_at dksX2_put_5 14 rfl rfl)
theorem dX2_put_132 : decode cX2_put 132 = .ok (.getfield 13, 3) := dk_180 0 13 (dk_at dksX2_put_5 15 rfl rfl)
theorem dX2_put_135 : decode cX2_put 135 = .ok (.iload 4, 2) := dk_21 4 (dk_at dksX2_put_5 18 rfl rfl)
theorem dX2_put_137 : decode cX2_put 137 = .ok (.caload, 1) := dk_52 (dk_at dksX2_put_5 20 rfl rfl)
theorem dX2_put_138 : decode cX2_put 138 = .ok (.castore, 1) := dk_85 (dk_at dksX2_put_5 21 rfl rfl)
theorem dX2_put_139 : decode cX2_put 139 = .ok (.iinc 4 1, 3) := dk_132 4 1 (dk_at dksX2_put_6 0 rfl rfl)
theorem dX2_put_142 : decode cX2_put 142 = .ok (.goto (-31), 3) := dk_167 255 225 (dk_at dksX2_put_6 3 rfl rfl)
theorem dX2_put_145 : decode cX2_put 145 = .ok (.aload_n 0, 1) := dk_42 (dk_at dksX2_put_6 6 rfl rfl)
theorem dX2_put_146 : decode cX2_put 146 = .ok (.getfield 30, 3) := dk_180 0 30 (dk_at dksX2_put_6 7 rfl rfl)
theorem dX2_put_149 : decode cX2_put 149 = .ok (.iload_n 2, 1) := dk_28 (dk_at dksX2_put_6 10 rfl rfl)
theorem dX2_put_150 : decode cX2_put 150 = .ok (.iload_n 1, 1) := dk_27 (dk_at dksX2_put_6 11 rfl rfl)
theorem dX2_put_151 : decode cX2_put 151 = .ok (.iastore, 1) := dk_79 (dk_at dksX2_put_6 12 rfl rfl)
theorem dX2_put_152 : decode cX2_put 152 = .ok (.iload_n 3, 1) := dk_29 (dk_at dksX2_put_6 13 rfl rfl)
theorem dX2_put_153 : decode cX2_put 153 = .ok (.ireturn, 1) := dk_172 (dk_at dksX2_put_6 14 rfl rfl)
abbrev cX2_own : ByteArray := prog_3_method_11_code
def yX2_own : MethodName := ⟨RX2, "own", "()I"⟩
def dkwX2_own_1 : List UInt8 := [167, 255, 235, 2, 172]
abbrev dktX2_own_1 : List UInt8 := dkwX2_own_1 ++ []
def dkwX2_own_0 : List UInt8 := [3, 60, 27, 42, 180, 0, 59, 162, 0, 19, 42, 27, 182, 0, 62, 154, 0, 5, 27, 172, 132, 1, 1]
abbrev dktX2_own_0 : List UInt8 := dkwX2_own_0 ++ dktX2_own_1
theorem dksX2_own_0 : cX2_own.data.toList.drop 0 = dktX2_own_0 := by decide +kernel
theorem dksX2_own_1 : cX2_own.data.toList.drop 23 = dktX2_own_1 := dk_seg dksX2_own_0 23 rfl rfl
theorem dX2_own_0 : decode cX2_own 0 = .ok (.iconst 0, 1) := dk_3 (dk_at dksX2_own_0 0 rfl rfl)
theorem dX2_own_1 : decode cX2_own 1 = .ok (.istore_n 1, 1) := dk_60 (dk_at dksX2_own_0 1 rfl rfl)
theorem dX2_own_2 : decode cX2_own 2 = .ok (.iload_n 1, 1) := dk_27 (dk_at dksX2_own_0 2 rfl rfl)
theorem dX2_own_3 : decode cX2_own 3 = .ok (.aload_n 0, 1) := dk_42 (dk_at dksX2_own_0 3 rfl rfl)
theorem dX2_own_4 : decode cX2_own 4 = .ok (.getfield 59, 3) := dk_180 0 59 (dk_at dksX2_own_0 4 rfl rfl)
theorem dX2_own_7 : decode cX2_own 7 = .ok (.if_icmp .ge 19, 3) := dk_162 0 19 (dk_at dksX2_own_0 7 rfl rfl)
theorem dX2_own_10 : decode cX2_own 10 = .ok (.aload_n 0, 1) := dk_42 (dk_at dksX2_own_0 10 rfl rfl)
theorem dX2_own_11 : decode cX2_own 11 = .ok (.iload_n 1, 1) := dk_27 (dk_at dksX2_own_0 11 rfl rfl)
theorem dX2_own_12 : decode cX2_own 12 = .ok (.invokevirtual 62, 3) := dk_182 0 62 (dk_at dksX2_own_0 12 rfl rfl)
theorem dX2_own_15 : decode cX2_own 15 = .ok (.ifCond .ne 5, 3) := dk_154 0 5 (dk_at dksX2_own_0 15 rfl rfl)
theorem dX2_own_18 : decode cX2_own 18 = .ok (.iload_n 1, 1) := dk_27 (dk_at dksX2_own_0 18 rfl rfl)
theorem dX2_own_19 : decode cX2_own 19 = .ok (.ireturn, 1) := dk_172 (dk_at dksX2_own_0 19 rfl rfl)
theorem dX2_own_20 : decode cX2_own 20 = .ok (.iinc 1 1, 3) := dk_132 1 1 (dk_at dksX2_own_0 20 rfl rfl)
theorem dX2_own_23 : decode cX2_own 23 = .ok (.goto (-21), 3) := dk_167 255 235 (dk_at dksX2_own_1 0 rfl rfl)
theorem dX2_own_26 : decode cX2_own 26 = .ok (.iconst (-1), 1) := dk_2 (dk_at dksX2_own_1 3 rfl rfl)
theorem dX2_own_27 : decode cX2_own 27 = .ok (.ireturn, 1) := dk_172 (dk_at dksX2_own_1 4 rfl rfl)
abbrev cX2_beside : ByteArray := prog_3_method_8_code
def yX2_beside : MethodName := ⟨RX2, "beside", "(I)I"⟩
def dkwX2_beside_2 : List UInt8 := [180, 0, 17, 16, 10, 27, 104, 28, 96, 52, 42, 180, 0, 13, 28, 52, 100, 172]
abbrev dktX2_beside_2 : List UInt8 := dkwX2_beside_2 ++ []
def dkwX2_beside_1 : List UInt8 := [160, 0, 7, 3, 167, 0, 4, 2, 172, 28, 42, 180, 0, 49, 160, 0, 7, 4, 167, 0, 21, 42]
abbrev dktX2_beside_1 : List UInt8 := dkwX2_beside_1 ++ dktX2_beside_2
def dkwX2_beside_0 : List UInt8 := [42, 27, 3, 182, 0, 52, 61, 28, 42, 180, 0, 26, 27, 46, 160, 0, 17, 28, 42, 180, 0, 49]
abbrev dktX2_beside_0 : List UInt8 := dkwX2_beside_0 ++ dktX2_beside_1
theorem dksX2_beside_0 : cX2_beside.data.toList.drop 0 = dktX2_beside_0 := by decide +kernel
theorem dksX2_beside_1 : cX2_beside.data.toList.drop 22 = dktX2_beside_1 := dk_seg dksX2_beside_0 22 rfl rfl
theorem dksX2_beside_2 : cX2_beside.data.toList.drop 44 = dktX2_beside_2 := dk_seg dksX2_beside_1 22 rfl rfl
theorem dX2_beside_0 : decode cX2_beside 0 = .ok (.aload_n 0, 1) := dk_42 (dk_at dksX2_beside_0 0 rfl rfl)
theorem dX2_beside_1 : decode cX2_beside 1 = .ok (.iload_n 1, 1) := dk_27 (dk_at dksX2_beside_0 1 rfl rfl)
theorem dX2_beside_2 : decode cX2_beside 2 = .ok (.iconst 0, 1) := dk_3 (dk_at dksX2_beside_0 2 rfl rfl)
theorem dX2_beside_3 : decode cX2_beside 3 = .ok (.invokevirtual 52, 3) := dk_182 0 52 (dk_at dksX2_beside_0 3 rfl rfl)
theorem dX2_beside_6 : decode cX2_beside 6 = .ok (.istore_n 2, 1) := dk_61 (dk_at dksX2_beside_0 6 rfl rfl)
theorem dX2_beside_7 : decode cX2_beside 7 = .ok (.iload_n 2, 1) := dk_28 (dk_at dksX2_beside_0 7 rfl rfl)
theorem dX2_beside_8 : decode cX2_beside 8 = .ok (.aload_n 0, 1) := dk_42 (dk_at dksX2_beside_0 8 rfl rfl)
theorem dX2_beside_9 : decode cX2_beside 9 = .ok (.getfield 26, 3) := dk_180 0 26 (dk_at dksX2_beside_0 9 rfl rfl)
theorem dX2_beside_12 : decode cX2_beside 12 = .ok (.iload_n 1, 1) := dk_27 (dk_at dksX2_beside_0 12 rfl rfl)
theorem dX2_beside_13 : decode cX2_beside 13 = .ok (.iaload, 1) := dk_46 (dk_at dksX2_beside_0 13 rfl rfl)
theorem dX2_beside_14 : decode cX2_beside 14 = .ok (.if_icmp .ne 17, 3) := dk_160 0 17 (dk_at dksX2_beside_0 14 rfl rfl)
theorem dX2_beside_17 : decode cX2_beside 17 = .ok (.iload_n 2, 1) := dk_28 (dk_at dksX2_beside_0 17 rfl rfl)
theorem dX2_beside_18 : decode cX2_beside 18 = .ok (.aload_n 0, 1) := dk_42 (dk_at dksX2_beside_0 18 rfl rfl)
theorem dX2_beside_19 : decode cX2_beside 19 = .ok (.getfield 49, 3) := dk_180 0 49 (dk_at dksX2_beside_0 19 rfl rfl)
theorem dX2_beside_22 : decode cX2_beside 22 = .ok (.if_icmp .ne 7, 3) := dk_160 0 7 (dk_at dksX2_beside_1 0 rfl rfl)
theorem dX2_beside_25 : decode cX2_beside 25 = .ok (.iconst 0, 1) := dk_3 (dk_at dksX2_beside_1 3 rfl rfl)
theorem dX2_beside_26 : decode cX2_beside 26 = .ok (.goto 4, 3) := dk_167 0 4 (dk_at dksX2_beside_1 4 rfl rfl)
theorem dX2_beside_29 : decode cX2_beside 29 = .ok (.iconst (-1), 1) := dk_2 (dk_at dksX2_beside_1 7 rfl rfl)
theorem dX2_beside_30 : decode cX2_beside 30 = .ok (.ireturn, 1) := dk_172 (dk_at dksX2_beside_1 8 rfl rfl)
theorem dX2_beside_31 : decode cX2_beside 31 = .ok (.iload_n 2, 1) := dk_28 (dk_at dksX2_beside_1 9 rfl rfl)
theorem dX2_beside_32 : decode cX2_beside 32 = .ok (.aload_n 0, 1) := dk_42 (dk_at dksX2_beside_1 10 rfl rfl)
theorem dX2_beside_33 : decode cX2_beside 33 = .ok (.getfield 49, 3) := dk_180 0 49 (dk_at dksX2_beside_1 11 rfl rfl)
theorem dX2_beside_36 : decode cX2_beside 36 = .ok (.if_icmp .ne 7, 3) := dk_160 0 7 (dk_at dksX2_beside_1 14 rfl rfl)
theorem dX2_beside_39 : decode cX2_beside 39 = .ok (.iconst 1, 1) := dk_4 (dk_at dksX2_beside_1 17 rfl rfl)
theorem dX2_beside_40 : decode cX2_beside 40 = .ok (.goto 21, 3) := dk_167 0 21 (dk_at dksX2_beside_1 18 rfl rfl)
theorem dX2_beside_43 : decode cX2_beside 43 = .ok (.aload_n 0, 1) := dk_42 (dk_at dksX2_beside_1 21 rfl rfl)
theorem dX2_beside_44 : decode cX2_beside 44 = .ok (.getfield 17, 3) := dk_180 0 17 (dk_at dksX2_beside_2 0 rfl rfl)
theorem dX2_beside_47 : decode cX2_beside 47 = .ok (.bipush 10, 2) := dk_16 10 (dk_at dksX2_beside_2 3 rfl rfl)
theorem dX2_beside_49 : decode cX2_beside 49 = .ok (.iload_n 1, 1) := dk_27 (dk_at dksX2_beside_2 5 rfl rfl)
theorem dX2_beside_50 : decode cX2_beside 50 = .ok (.imul, 1) := dk_104 (dk_at dksX2_beside_2 6 rfl rfl)
theorem dX2_beside_51 : decode cX2_beside 51 = .ok (.iload_n 2, 1) := dk_28 (dk_at dksX2_beside_2 7 rfl rfl)
theorem dX2_beside_52 : decode cX2_beside 52 = .ok (.iadd, 1) := dk_96 (dk_at dksX2_beside_2 8 rfl rfl)
theorem dX2_beside_53 : decode cX2_beside 53 = .ok (.caload, 1) := dk_52 (dk_at dksX2_beside_2 9 rfl rfl)
theorem dX2_beside_54 : decode cX2_beside 54 = .ok (.aload_n 0, 1) := dk_42 (dk_at dksX2_beside_2 10 rfl rfl)
theorem dX2_beside_55 : decode cX2_beside 55 = .ok (.getfield 13, 3) := dk_180 0 13 (dk_at dksX2_beside_2 11 rfl rfl)
theorem dX2_beside_58 : decode cX2_beside 58 = .ok (.iload_n 2, 1) := dk_28 (dk_at dksX2_beside_2 14 rfl rfl)
theorem dX2_beside_59 : decode cX2_beside 59 = .ok (.caload, 1) := dk_52 (dk_at dksX2_beside_2 15 rfl rfl)
theorem dX2_beside_60 : decode cX2_beside 60 = .ok (.isub, 1) := dk_100 (dk_at dksX2_beside_2 16 rfl rfl)
theorem dX2_beside_61 : decode cX2_beside 61 = .ok (.ireturn, 1) := dk_172 (dk_at dksX2_beside_2 17 rfl rfl)
abbrev cX2_like : ByteArray := prog_3_method_6_code
def yX2_like : MethodName := ⟨RX2, "like", "(II)I"⟩
def dkwX2_like_2 : List UInt8 := [167, 255, 211, 29, 172]
abbrev dktX2_like_2 : List UInt8 := dkwX2_like_2 ++ []
def dkwX2_like_1 : List UInt8 := [180, 0, 17, 16, 10, 27, 104, 29, 96, 52, 42, 180, 0, 13, 28, 29, 96, 52, 160, 0, 9, 132, 3, 1]
abbrev dktX2_like_1 : List UInt8 := dkwX2_like_1 ++ dktX2_like_2
def dkwX2_like_0 : List UInt8 := [3, 62, 29, 42, 180, 0, 26, 27, 46, 162, 0, 41, 28, 29, 96, 42, 180, 0, 49, 162, 0, 31, 42]
abbrev dktX2_like_0 : List UInt8 := dkwX2_like_0 ++ dktX2_like_1
theorem dksX2_like_0 : cX2_like.data.toList.drop 0 = dktX2_like_0 := by decide +kernel
theorem dksX2_like_1 : cX2_like.data.toList.drop 23 = dktX2_like_1 := dk_seg dksX2_like_0 23 rfl rfl
theorem dksX2_like_2 : cX2_like.data.toList.drop 47 = dktX2_like_2 := dk_seg dksX2_like_1 24 rfl rfl
theorem dX2_like_0 : decode cX2_like 0 = .ok (.iconst 0, 1) := dk_3 (dk_at dksX2_like_0 0 rfl rfl)
theorem dX2_like_1 : decode cX2_like 1 = .ok (.istore_n 3, 1) := dk_62 (dk_at dksX2_like_0 1 rfl rfl)
theorem dX2_like_2 : decode cX2_like 2 = .ok (.iload_n 3, 1) := dk_29 (dk_at dksX2_like_0 2 rfl rfl)
theorem dX2_like_3 : decode cX2_like 3 = .ok (.aload_n 0, 1) := dk_42 (dk_at dksX2_like_0 3 rfl rfl)
theorem dX2_like_4 : decode cX2_like 4 = .ok (.getfield 26, 3) := dk_180 0 26 (dk_at dksX2_like_0 4 rfl rfl)
theorem dX2_like_7 : decode cX2_like 7 = .ok (.iload_n 1, 1) := dk_27 (dk_at dksX2_like_0 7 rfl rfl)
theorem dX2_like_8 : decode cX2_like 8 = .ok (.iaload, 1) := dk_46 (dk_at dksX2_like_0 8 rfl rfl)
theorem dX2_like_9 : decode cX2_like 9 = .ok (.if_icmp .ge 41, 3) := dk_162 0 41 (dk_at dksX2_like_0 9 rfl rfl)
theorem dX2_like_12 : decode cX2_like 12 = .ok (.iload_n 2, 1) := dk_28 (dk_at dksX2_like_0 12 rfl rfl)
theorem dX2_like_13 : decode cX2_like 13 = .ok (.iload_n 3, 1) := dk_29 (dk_at dksX2_like_0 13 rfl rfl)
theorem dX2_like_14 : decode cX2_like 14 = .ok (.iadd, 1) := dk_96 (dk_at dksX2_like_0 14 rfl rfl)
theorem dX2_like_15 : decode cX2_like 15 = .ok (.aload_n 0, 1) := dk_42 (dk_at dksX2_like_0 15 rfl rfl)
theorem dX2_like_16 : decode cX2_like 16 = .ok (.getfield 49, 3) := dk_180 0 49 (dk_at dksX2_like_0 16 rfl rfl)
theorem dX2_like_19 : decode cX2_like 19 = .ok (.if_icmp .ge 31, 3) := dk_162 0 31 (dk_at dksX2_like_0 19 rfl rfl)
theorem dX2_like_22 : decode cX2_like 22 = .ok (.aload_n 0, 1) := dk_42 (dk_at dksX2_like_0 22 rfl rfl)
theorem dX2_like_23 : decode cX2_like 23 = .ok (.getfield 17, 3) := dk_180 0 17 (dk_at dksX2_like_1 0 rfl rfl)
theorem dX2_like_26 : decode cX2_like 26 = .ok (.bipush 10, 2) := dk_16 10 (dk_at dksX2_like_1 3 rfl rfl)
theorem dX2_like_28 : decode cX2_like 28 = .ok (.iload_n 1, 1) := dk_27 (dk_at dksX2_like_1 5 rfl rfl)
theorem dX2_like_29 : decode cX2_like 29 = .ok (.imul, 1) := dk_104 (dk_at dksX2_like_1 6 rfl rfl)
theorem dX2_like_30 : decode cX2_like 30 = .ok (.iload_n 3, 1) := dk_29 (dk_at dksX2_like_1 7 rfl rfl)
theorem dX2_like_31 : decode cX2_like 31 = .ok (.iadd, 1) := dk_96 (dk_at dksX2_like_1 8 rfl rfl)
theorem dX2_like_32 : decode cX2_like 32 = .ok (.caload, 1) := dk_52 (dk_at dksX2_like_1 9 rfl rfl)
theorem dX2_like_33 : decode cX2_like 33 = .ok (.aload_n 0, 1) := dk_42 (dk_at dksX2_like_1 10 rfl rfl)
theorem dX2_like_34 : decode cX2_like 34 = .ok (.getfield 13, 3) := dk_180 0 13 (dk_at dksX2_like_1 11 rfl rfl)
theorem dX2_like_37 : decode cX2_like 37 = .ok (.iload_n 2, 1) := dk_28 (dk_at dksX2_like_1 14 rfl rfl)
theorem dX2_like_38 : decode cX2_like 38 = .ok (.iload_n 3, 1) := dk_29 (dk_at dksX2_like_1 15 rfl rfl)
theorem dX2_like_39 : decode cX2_like 39 = .ok (.iadd, 1) := dk_96 (dk_at dksX2_like_1 16 rfl rfl)
theorem dX2_like_40 : decode cX2_like 40 = .ok (.caload, 1) := dk_52 (dk_at dksX2_like_1 17 rfl rfl)
theorem dX2_like_41 : decode cX2_like 41 = .ok (.if_icmp .ne 9, 3) := dk_160 0 9 (dk_at dksX2_like_1 18 rfl rfl)
theorem dX2_like_44 : decode cX2_like 44 = .ok (.iinc 3 1, 3) := dk_132 3 1 (dk_at dksX2_like_1 21 rfl rfl)
theorem dX2_like_47 : decode cX2_like 47 = .ok (.goto (-45), 3) := dk_167 255 211 (dk_at dksX2_like_2 0 rfl rfl)
theorem dX2_like_50 : decode cX2_like 50 = .ok (.iload_n 3, 1) := dk_29 (dk_at dksX2_like_2 3 rfl rfl)
theorem dX2_like_51 : decode cX2_like 51 = .ok (.ireturn, 1) := dk_172 (dk_at dksX2_like_2 4 rfl rfl)
abbrev cX2_take : ByteArray := prog_3_method_25_code
def yX2_take : MethodName := ⟨RX2, "take", "()I"⟩
def dkwX2_take_1 : List UInt8 := [180, 0, 30, 27, 46, 61, 42, 27, 182, 0, 90, 28, 172]
abbrev dktX2_take_1 : List UInt8 := dkwX2_take_1 ++ []
def dkwX2_take_0 : List UInt8 := [42, 182, 0, 86, 60, 42, 27, 156, 0, 7, 4, 167, 0, 4, 3, 182, 0, 77, 153, 0, 5, 3, 172, 42]
abbrev dktX2_take_0 : List UInt8 := dkwX2_take_0 ++ dktX2_take_1
theorem dksX2_take_0 : cX2_take.data.toList.drop 0 = dktX2_take_0 := by decide +kernel
theorem dksX2_take_1 : cX2_take.data.toList.drop 24 = dktX2_take_1 := dk_seg dksX2_take_0 24 rfl rfl
theorem dX2_take_0 : decode cX2_take 0 = .ok (.aload_n 0, 1) := dk_42 (dk_at dksX2_take_0 0 rfl rfl)
theorem dX2_take_1 : decode cX2_take 1 = .ok (.invokevirtual 86, 3) := dk_182 0 86 (dk_at dksX2_take_0 1 rfl rfl)
theorem dX2_take_4 : decode cX2_take 4 = .ok (.istore_n 1, 1) := dk_60 (dk_at dksX2_take_0 4 rfl rfl)
theorem dX2_take_5 : decode cX2_take 5 = .ok (.aload_n 0, 1) := dk_42 (dk_at dksX2_take_0 5 rfl rfl)
theorem dX2_take_6 : decode cX2_take 6 = .ok (.iload_n 1, 1) := dk_27 (dk_at dksX2_take_0 6 rfl rfl)
theorem dX2_take_7 : decode cX2_take 7 = .ok (.ifCond .ge 7, 3) := dk_156 0 7 (dk_at dksX2_take_0 7 rfl rfl)
theorem dX2_take_10 : decode cX2_take 10 = .ok (.iconst 1, 1) := dk_4 (dk_at dksX2_take_0 10 rfl rfl)
theorem dX2_take_11 : decode cX2_take 11 = .ok (.goto 4, 3) := dk_167 0 4 (dk_at dksX2_take_0 11 rfl rfl)
theorem dX2_take_14 : decode cX2_take 14 = .ok (.iconst 0, 1) := dk_3 (dk_at dksX2_take_0 14 rfl rfl)
theorem dX2_take_15 : decode cX2_take 15 = .ok (.invokevirtual 77, 3) := dk_182 0 77 (dk_at dksX2_take_0 15 rfl rfl)
theorem dX2_take_18 : decode cX2_take 18 = .ok (.ifCond .eq 5, 3) := dk_153 0 5 (dk_at dksX2_take_0 18 rfl rfl)
theorem dX2_take_21 : decode cX2_take 21 = .ok (.iconst 0, 1) := dk_3 (dk_at dksX2_take_0 21 rfl rfl)
theorem dX2_take_22 : decode cX2_take 22 = .ok (.ireturn, 1) := dk_172 (dk_at dksX2_take_0 22 rfl rfl)
theorem dX2_take_23 : decode cX2_take 23 = .ok (.aload_n 0, 1) := dk_42 (dk_at dksX2_take_0 23 rfl rfl)
theorem dX2_take_24 : decode cX2_take 24 = .ok (.getfield 30, 3) := dk_180 0 30 (dk_at dksX2_take_1 0 rfl rfl)
theorem dX2_take_27 : decode cX2_take 27 = .ok (.iload_n 1, 1) := dk_27 (dk_at dksX2_take_1 3 rfl rfl)
theorem dX2_take_28 : decode cX2_take 28 = .ok (.iaload, 1) := dk_46 (dk_at dksX2_take_1 4 rfl rfl)
theorem dX2_take_29 : decode cX2_take 29 = .ok (.istore_n 2, 1) := dk_61 (dk_at dksX2_take_1 5 rfl rfl)
theorem dX2_take_30 : decode cX2_take 30 = .ok (.aload_n 0, 1) := dk_42 (dk_at dksX2_take_1 6 rfl rfl)
theorem dX2_take_31 : decode cX2_take 31 = .ok (.iload_n 1, 1) := dk_27 (dk_at dksX2_take_1 7 rfl rfl)
theorem dX2_take_32 : decode cX2_take 32 = .ok (.invokevirtual 90, 3) := dk_182 0 90 (dk_at dksX2_take_1 8 rfl rfl)
theorem dX2_take_35 : decode cX2_take 35 = .ok (.iload_n 2, 1) := dk_28 (dk_at dksX2_take_1 11 rfl rfl)
theorem dX2_take_36 : decode cX2_take 36 = .ok (.ireturn, 1) := dk_172 (dk_at dksX2_take_1 12 rfl rfl)
abbrev cX2_goes : ByteArray := prog_3_method_15_code
def yX2_goes : MethodName := ⟨RX2, "goes", "(I)V"⟩
def dkwX2_goes_3 : List UInt8 := [85, 132, 2, 1, 167, 255, 222, 177]
abbrev dktX2_goes_3 : List UInt8 := dkwX2_goes_3 ++ []
def dkwX2_goes_2 : List UInt8 := [42, 180, 0, 17, 16, 10, 27, 104, 28, 96, 42, 180, 0, 17, 16, 10, 42, 180, 0, 59, 104, 28, 96, 52]
abbrev dktX2_goes_2 : List UInt8 := dkwX2_goes_2 ++ dktX2_goes_3
def dkwX2_goes_1 : List UInt8 := [79, 42, 180, 0, 30, 27, 42, 180, 0, 30, 42, 180, 0, 59, 46, 79, 3, 61, 28, 16, 10, 162, 0, 34]
abbrev dktX2_goes_1 : List UInt8 := dkwX2_goes_1 ++ dktX2_goes_2
def dkwX2_goes_0 : List UInt8 := [42, 89, 180, 0, 59, 4, 100, 181, 0, 59, 42, 180, 0, 26, 27, 42, 180, 0, 26, 42, 180, 0, 59, 46]
abbrev dktX2_goes_0 : List UInt8 := dkwX2_goes_0 ++ dktX2_goes_1
theorem dksX2_goes_0 : cX2_goes.data.toList.drop 0 = dktX2_goes_0 := by decide +kernel
theorem dksX2_goes_1 : cX2_goes.data.toList.drop 24 = dktX2_goes_1 := dk_seg dksX2_goes_0 24 rfl rfl
theorem dksX2_goes_2 : cX2_goes.data.toList.drop 48 = dktX2_goes_2 := dk_seg dksX2_goes_1 24 rfl rfl
theorem dksX2_goes_3 : cX2_goes.data.toList.drop 72 = dktX2_goes_3 := dk_seg dksX2_goes_2 24 rfl rfl
theorem dX2_goes_0 : decode cX2_goes 0 = .ok (.aload_n 0, 1) := dk_42 (dk_at dksX2_goes_0 0 rfl rfl)
theorem dX2_goes_1 : decode cX2_goes 1 = .ok (.dup, 1) := dk_89 (dk_at dksX2_goes_0 1 rfl rfl)
theorem dX2_goes_2 : decode cX2_goes 2 = .ok (.getfield 59, 3) := dk_180 0 59 (dk_at dksX2_goes_0 2 rfl rfl)
theorem dX2_goes_5 : decode cX2_goes 5 = .ok (.iconst 1, 1) := dk_4 (dk_at dksX2_goes_0 5 rfl rfl)
theorem dX2_goes_6 : decode cX2_goes 6 = .ok (.isub, 1) := dk_100 (dk_at dksX2_goes_0 6 rfl rfl)
theorem dX2_goes_7 : decode cX2_goes 7 = .ok (.putfield 59, 3) := dk_181 0 59 (dk_at dksX2_goes_0 7 rfl rfl)
theorem dX2_goes_10 : decode cX2_goes 10 = .ok (.aload_n 0, 1) := dk_42 (dk_at dksX2_goes_0 10 rfl rfl)
theorem dX2_goes_11 : decode cX2_goes 11 = .ok (.getfield 26, 3) := dk_180 0 26 (dk_at dksX2_goes_0 11 rfl rfl)
theorem dX2_goes_14 : decode cX2_goes 14 = .ok (.iload_n 1, 1) := dk_27 (dk_at dksX2_goes_0 14 rfl rfl)
theorem dX2_goes_15 : decode cX2_goes 15 = .ok (.aload_n 0, 1) := dk_42 (dk_at dksX2_goes_0 15 rfl rfl)
theorem dX2_goes_16 : decode cX2_goes 16 = .ok (.getfield 26, 3) := dk_180 0 26 (dk_at dksX2_goes_0 16 rfl rfl)
theorem dX2_goes_19 : decode cX2_goes 19 = .ok (.aload_n 0, 1) := dk_42 (dk_at dksX2_goes_0 19 rfl rfl)
theorem dX2_goes_20 : decode cX2_goes 20 = .ok (.getfield 59, 3) := dk_180 0 59 (dk_at dksX2_goes_0 20 rfl rfl)
theorem dX2_goes_23 : decode cX2_goes 23 = .ok (.iaload, 1) := dk_46 (dk_at dksX2_goes_0 23 rfl rfl)
theorem dX2_goes_24 : decode cX2_goes 24 = .ok (.iastore, 1) := dk_79 (dk_at dksX2_goes_1 0 rfl rfl)
theorem dX2_goes_25 : decode cX2_goes 25 = .ok (.aload_n 0, 1) := dk_42 (dk_at dksX2_goes_1 1 rfl rfl)
theorem dX2_goes_26 : decode cX2_goes 26 = .ok (.getfield 30, 3) := dk_180 0 30 (dk_at dksX2_goes_1 2 rfl rfl)
theorem dX2_goes_29 : decode cX2_goes 29 = .ok (.iload_n 1, 1) := dk_27 (dk_at dksX2_goes_1 5 rfl rfl)
theorem dX2_goes_30 : decode cX2_goes 30 = .ok (.aload_n 0, 1) := dk_42 (dk_at dksX2_goes_1 6 rfl rfl)
theorem dX2_goes_31 : decode cX2_goes 31 = .ok (.getfield 30, 3) := dk_180 0 30 (dk_at dksX2_goes_1 7 rfl rfl)
theorem dX2_goes_34 : decode cX2_goes 34 = .ok (.aload_n 0, 1) := dk_42 (dk_at dksX2_goes_1 10 rfl rfl)
theorem dX2_goes_35 : decode cX2_goes 35 = .ok (.getfield 59, 3) := dk_180 0 59 (dk_at dksX2_goes_1 11 rfl rfl)
theorem dX2_goes_38 : decode cX2_goes 38 = .ok (.iaload, 1) := dk_46 (dk_at dksX2_goes_1 14 rfl rfl)
theorem dX2_goes_39 : decode cX2_goes 39 = .ok (.iastore, 1) := dk_79 (dk_at dksX2_goes_1 15 rfl rfl)
theorem dX2_goes_40 : decode cX2_goes 40 = .ok (.iconst 0, 1) := dk_3 (dk_at dksX2_goes_1 16 rfl rfl)
theorem dX2_goes_41 : decode cX2_goes 41 = .ok (.istore_n 2, 1) := dk_61 (dk_at dksX2_goes_1 17 rfl rfl)
theorem dX2_goes_42 : decode cX2_goes 42 = .ok (.iload_n 2, 1) := dk_28 (dk_at dksX2_goes_1 18 rfl rfl)
theorem dX2_goes_43 : decode cX2_goes 43 = .ok (.bipush 10, 2) := dk_16 10 (dk_at dksX2_goes_1 19 rfl rfl)
theorem dX2_goes_45 : decode cX2_goes 45 = .ok (.if_icmp .ge 34, 3) := dk_162 0 34 (dk_at dksX2_goes_1 21 rfl rfl)
theorem dX2_goes_48 : decode cX2_goes 48 = .ok (.aload_n 0, 1) := dk_42 (dk_at dksX2_goes_2 0 rfl rfl)
theorem dX2_goes_49 : decode cX2_goes 49 = .ok (.getfield 17, 3) := dk_180 0 17 (dk_at dksX2_goes_2 1 rfl rfl)
theorem dX2_goes_52 : decode cX2_goes 52 = .ok (.bipush 10, 2) := dk_16 10 (dk_at dksX2_goes_2 4 rfl rfl)
theorem dX2_goes_54 : decode cX2_goes 54 = .ok (.iload_n 1, 1) := dk_27 (dk_at dksX2_goes_2 6 rfl rfl)
theorem dX2_goes_55 : decode cX2_goes 55 = .ok (.imul, 1) := dk_104 (dk_at dksX2_goes_2 7 rfl rfl)
theorem dX2_goes_56 : decode cX2_goes 56 = .ok (.iload_n 2, 1) := dk_28 (dk_at dksX2_goes_2 8 rfl rfl)
theorem dX2_goes_57 : decode cX2_goes 57 = .ok (.iadd, 1) := dk_96 (dk_at dksX2_goes_2 9 rfl rfl)
theorem dX2_goes_58 : decode cX2_goes 58 = .ok (.aload_n 0, 1) := dk_42 (dk_at dksX2_goes_2 10 rfl rfl)
theorem dX2_goes_59 : decode cX2_goes 59 = .ok (.getfield 17, 3) := dk_180 0 17 (dk_at dksX2_goes_2 11 rfl rfl)
theorem dX2_goes_62 : decode cX2_goes 62 = .ok (.bipush 10, 2) := dk_16 10 (dk_at dksX2_goes_2 14 rfl rfl)
theorem dX2_goes_64 : decode cX2_goes 64 = .ok (.aload_n 0, 1) := dk_42 (dk_at dksX2_goes_2 16 rfl rfl)
theorem dX2_goes_65 : decode cX2_goes 65 = .ok (.getfield 59, 3) := dk_180 0 59 (dk_at dksX2_goes_2 17 rfl rfl)
theorem dX2_goes_68 : decode cX2_goes 68 = .ok (.imul, 1) := dk_104 (dk_at dksX2_goes_2 20 rfl rfl)
theorem dX2_goes_69 : decode cX2_goes 69 = .ok (.iload_n 2, 1) := dk_28 (dk_at dksX2_goes_2 21 rfl rfl)
theorem dX2_goes_70 : decode cX2_goes 70 = .ok (.iadd, 1) := dk_96 (dk_at dksX2_goes_2 22 rfl rfl)
theorem dX2_goes_71 : decode cX2_goes 71 = .ok (.caload, 1) := dk_52 (dk_at dksX2_goes_2 23 rfl rfl)
theorem dX2_goes_72 : decode cX2_goes 72 = .ok (.castore, 1) := dk_85 (dk_at dksX2_goes_3 0 rfl rfl)
theorem dX2_goes_73 : decode cX2_goes 73 = .ok (.iinc 2 1, 3) := dk_132 2 1 (dk_at dksX2_goes_3 1 rfl rfl)
theorem dX2_goes_76 : decode cX2_goes 76 = .ok (.goto (-34), 3) := dk_167 255 222 (dk_at dksX2_goes_3 4 rfl rfl)
theorem dX2_goes_79 : decode cX2_goes 79 = .ok (.return_, 1) := dk_177 (dk_at dksX2_goes_3 7 rfl rfl)
abbrev cX2_number : ByteArray := prog_3_method_26_code
def yX2_number : MethodName := ⟨RX2, "number", "()I"⟩
def dkwX2_number_1 : List UInt8 := [167, 0, 9, 42, 180, 0, 30, 27, 46, 172]
abbrev dktX2_number_1 : List UInt8 := dkwX2_number_1 ++ []
def dkwX2_number_0 : List UInt8 := [42, 182, 0, 86, 60, 42, 27, 156, 0, 7, 4, 167, 0, 4, 3, 182, 0, 77, 153, 0, 7, 3]
abbrev dktX2_number_0 : List UInt8 := dkwX2_number_0 ++ dktX2_number_1
theorem dksX2_number_0 : cX2_number.data.toList.drop 0 = dktX2_number_0 := by decide +kernel
theorem dksX2_number_1 : cX2_number.data.toList.drop 22 = dktX2_number_1 := dk_seg dksX2_number_0 22 rfl rfl
theorem dX2_number_0 : decode cX2_number 0 = .ok (.aload_n 0, 1) := dk_42 (dk_at dksX2_number_0 0 rfl rfl)
theorem dX2_number_1 : decode cX2_number 1 = .ok (.invokevirtual 86, 3) := dk_182 0 86 (dk_at dksX2_number_0 1 rfl rfl)
theorem dX2_number_4 : decode cX2_number 4 = .ok (.istore_n 1, 1) := dk_60 (dk_at dksX2_number_0 4 rfl rfl)
theorem dX2_number_5 : decode cX2_number 5 = .ok (.aload_n 0, 1) := dk_42 (dk_at dksX2_number_0 5 rfl rfl)
theorem dX2_number_6 : decode cX2_number 6 = .ok (.iload_n 1, 1) := dk_27 (dk_at dksX2_number_0 6 rfl rfl)
theorem dX2_number_7 : decode cX2_number 7 = .ok (.ifCond .ge 7, 3) := dk_156 0 7 (dk_at dksX2_number_0 7 rfl rfl)
theorem dX2_number_10 : decode cX2_number 10 = .ok (.iconst 1, 1) := dk_4 (dk_at dksX2_number_0 10 rfl rfl)
theorem dX2_number_11 : decode cX2_number 11 = .ok (.goto 4, 3) := dk_167 0 4 (dk_at dksX2_number_0 11 rfl rfl)
theorem dX2_number_14 : decode cX2_number 14 = .ok (.iconst 0, 1) := dk_3 (dk_at dksX2_number_0 14 rfl rfl)
theorem dX2_number_15 : decode cX2_number 15 = .ok (.invokevirtual 77, 3) := dk_182 0 77 (dk_at dksX2_number_0 15 rfl rfl)
theorem dX2_number_18 : decode cX2_number 18 = .ok (.ifCond .eq 7, 3) := dk_153 0 7 (dk_at dksX2_number_0 18 rfl rfl)
theorem dX2_number_21 : decode cX2_number 21 = .ok (.iconst 0, 1) := dk_3 (dk_at dksX2_number_0 21 rfl rfl)
theorem dX2_number_22 : decode cX2_number 22 = .ok (.goto 9, 3) := dk_167 0 9 (dk_at dksX2_number_1 0 rfl rfl)
theorem dX2_number_25 : decode cX2_number 25 = .ok (.aload_n 0, 1) := dk_42 (dk_at dksX2_number_1 3 rfl rfl)
theorem dX2_number_26 : decode cX2_number 26 = .ok (.getfield 30, 3) := dk_180 0 30 (dk_at dksX2_number_1 4 rfl rfl)
theorem dX2_number_29 : decode cX2_number 29 = .ok (.iload_n 1, 1) := dk_27 (dk_at dksX2_number_1 7 rfl rfl)
theorem dX2_number_30 : decode cX2_number 30 = .ok (.iaload, 1) := dk_46 (dk_at dksX2_number_1 8 rfl rfl)
theorem dX2_number_31 : decode cX2_number 31 = .ok (.ireturn, 1) := dk_172 (dk_at dksX2_number_1 9 rfl rfl)
abbrev cX2_words : ByteArray := prog_3_method_27_code
def yX2_words : MethodName := ⟨RX2, "words", "()I"⟩
def dkwX2_words_0 : List UInt8 := [42, 3, 181, 0, 1, 42, 180, 0, 59, 172]
abbrev dktX2_words_0 : List UInt8 := dkwX2_words_0 ++ []
theorem dksX2_words_0 : cX2_words.data.toList.drop 0 = dktX2_words_0 := by decide +kernel
theorem dX2_words_0 : decode cX2_words 0 = .ok (.aload_n 0, 1) := dk_42 (dk_at dksX2_words_0 0 rfl rfl)
theorem dX2_words_1 : decode cX2_words 1 = .ok (.iconst 0, 1) := dk_3 (dk_at dksX2_words_0 1 rfl rfl)
theorem dX2_words_2 : decode cX2_words 2 = .ok (.putfield 1, 3) := dk_181 0 1 (dk_at dksX2_words_0 2 rfl rfl)
theorem dX2_words_5 : decode cX2_words 5 = .ok (.aload_n 0, 1) := dk_42 (dk_at dksX2_words_0 5 rfl rfl)
theorem dX2_words_6 : decode cX2_words 6 = .ok (.getfield 59, 3) := dk_180 0 59 (dk_at dksX2_words_0 6 rfl rfl)
theorem dX2_words_9 : decode cX2_words 9 = .ok (.ireturn, 1) := dk_172 (dk_at dksX2_words_0 9 rfl rfl)
abbrev cX2_rank : ByteArray := prog_3_method_28_code
def yX2_rank : MethodName := ⟨RX2, "rank", "()I"⟩
def dkwX2_rank_1 : List UInt8 := [156, 0, 6, 132, 1, 1, 132, 2, 1, 167, 255, 234, 27, 172]
abbrev dktX2_rank_1 : List UInt8 := dkwX2_rank_1 ++ []
def dkwX2_rank_0 : List UInt8 := [42, 3, 181, 0, 1, 3, 60, 3, 61, 28, 42, 180, 0, 59, 162, 0, 20, 42, 28, 182, 0, 62]
abbrev dktX2_rank_0 : List UInt8 := dkwX2_rank_0 ++ dktX2_rank_1
theorem dksX2_rank_0 : cX2_rank.data.toList.drop 0 = dktX2_rank_0 := by decide +kernel
theorem dksX2_rank_1 : cX2_rank.data.toList.drop 22 = dktX2_rank_1 := dk_seg dksX2_rank_0 22 rfl rfl
theorem dX2_rank_0 : decode cX2_rank 0 = .ok (.aload_n 0, 1) := dk_42 (dk_at dksX2_rank_0 0 rfl rfl)
theorem dX2_rank_1 : decode cX2_rank 1 = .ok (.iconst 0, 1) := dk_3 (dk_at dksX2_rank_0 1 rfl rfl)
theorem dX2_rank_2 : decode cX2_rank 2 = .ok (.putfield 1, 3) := dk_181 0 1 (dk_at dksX2_rank_0 2 rfl rfl)
theorem dX2_rank_5 : decode cX2_rank 5 = .ok (.iconst 0, 1) := dk_3 (dk_at dksX2_rank_0 5 rfl rfl)
theorem dX2_rank_6 : decode cX2_rank 6 = .ok (.istore_n 1, 1) := dk_60 (dk_at dksX2_rank_0 6 rfl rfl)
theorem dX2_rank_7 : decode cX2_rank 7 = .ok (.iconst 0, 1) := dk_3 (dk_at dksX2_rank_0 7 rfl rfl)
theorem dX2_rank_8 : decode cX2_rank 8 = .ok (.istore_n 2, 1) := dk_61 (dk_at dksX2_rank_0 8 rfl rfl)
theorem dX2_rank_9 : decode cX2_rank 9 = .ok (.iload_n 2, 1) := dk_28 (dk_at dksX2_rank_0 9 rfl rfl)
theorem dX2_rank_10 : decode cX2_rank 10 = .ok (.aload_n 0, 1) := dk_42 (dk_at dksX2_rank_0 10 rfl rfl)
theorem dX2_rank_11 : decode cX2_rank 11 = .ok (.getfield 59, 3) := dk_180 0 59 (dk_at dksX2_rank_0 11 rfl rfl)
theorem dX2_rank_14 : decode cX2_rank 14 = .ok (.if_icmp .ge 20, 3) := dk_162 0 20 (dk_at dksX2_rank_0 14 rfl rfl)
theorem dX2_rank_17 : decode cX2_rank 17 = .ok (.aload_n 0, 1) := dk_42 (dk_at dksX2_rank_0 17 rfl rfl)
theorem dX2_rank_18 : decode cX2_rank 18 = .ok (.iload_n 2, 1) := dk_28 (dk_at dksX2_rank_0 18 rfl rfl)
theorem dX2_rank_19 : decode cX2_rank 19 = .ok (.invokevirtual 62, 3) := dk_182 0 62 (dk_at dksX2_rank_0 19 rfl rfl)
theorem dX2_rank_22 : decode cX2_rank 22 = .ok (.ifCond .ge 6, 3) := dk_156 0 6 (dk_at dksX2_rank_1 0 rfl rfl)
theorem dX2_rank_25 : decode cX2_rank 25 = .ok (.iinc 1 1, 3) := dk_132 1 1 (dk_at dksX2_rank_1 3 rfl rfl)
theorem dX2_rank_28 : decode cX2_rank 28 = .ok (.iinc 2 1, 3) := dk_132 2 1 (dk_at dksX2_rank_1 6 rfl rfl)
theorem dX2_rank_31 : decode cX2_rank 31 = .ok (.goto (-22), 3) := dk_167 255 234 (dk_at dksX2_rank_1 9 rfl rfl)
theorem dX2_rank_34 : decode cX2_rank 34 = .ok (.iload_n 1, 1) := dk_27 (dk_at dksX2_rank_1 12 rfl rfl)
theorem dX2_rank_35 : decode cX2_rank 35 = .ok (.ireturn, 1) := dk_172 (dk_at dksX2_rank_1 13 rfl rfl)
abbrev cX2_word : ByteArray := prog_3_method_29_code
def yX2_word : MethodName := ⟨RX2, "word", "(I)I"⟩
def dkwX2_word_1 : List UInt8 := [153, 0, 5, 3, 172, 42, 182, 0, 94, 42, 42, 180, 0, 36, 27, 46, 182, 0, 97, 42, 180, 0, 49, 172]
abbrev dktX2_word_1 : List UInt8 := dkwX2_word_1 ++ []
def dkwX2_word_0 : List UInt8 := [42, 27, 3, 42, 180, 0, 59, 4, 100, 184, 0, 81, 153, 0, 7, 3, 167, 0, 4, 4, 182, 0, 77]
abbrev dktX2_word_0 : List UInt8 := dkwX2_word_0 ++ dktX2_word_1
theorem dksX2_word_0 : cX2_word.data.toList.drop 0 = dktX2_word_0 := by decide +kernel
theorem dksX2_word_1 : cX2_word.data.toList.drop 23 = dktX2_word_1 := dk_seg dksX2_word_0 23 rfl rfl
theorem dX2_word_0 : decode cX2_word 0 = .ok (.aload_n 0, 1) := dk_42 (dk_at dksX2_word_0 0 rfl rfl)
theorem dX2_word_1 : decode cX2_word 1 = .ok (.iload_n 1, 1) := dk_27 (dk_at dksX2_word_0 1 rfl rfl)
theorem dX2_word_2 : decode cX2_word 2 = .ok (.iconst 0, 1) := dk_3 (dk_at dksX2_word_0 2 rfl rfl)
theorem dX2_word_3 : decode cX2_word 3 = .ok (.aload_n 0, 1) := dk_42 (dk_at dksX2_word_0 3 rfl rfl)
theorem dX2_word_4 : decode cX2_word 4 = .ok (.getfield 59, 3) := dk_180 0 59 (dk_at dksX2_word_0 4 rfl rfl)
theorem dX2_word_7 : decode cX2_word 7 = .ok (.iconst 1, 1) := dk_4 (dk_at dksX2_word_0 7 rfl rfl)
theorem dX2_word_8 : decode cX2_word 8 = .ok (.isub, 1) := dk_100 (dk_at dksX2_word_0 8 rfl rfl)
theorem dX2_word_9 : decode cX2_word 9 = .ok (.invokestatic 81, 3) := dk_184 0 81 (dk_at dksX2_word_0 9 rfl rfl)
theorem dX2_word_12 : decode cX2_word 12 = .ok (.ifCond .eq 7, 3) := dk_153 0 7 (dk_at dksX2_word_0 12 rfl rfl)
theorem dX2_word_15 : decode cX2_word 15 = .ok (.iconst 0, 1) := dk_3 (dk_at dksX2_word_0 15 rfl rfl)
theorem dX2_word_16 : decode cX2_word 16 = .ok (.goto 4, 3) := dk_167 0 4 (dk_at dksX2_word_0 16 rfl rfl)
theorem dX2_word_19 : decode cX2_word 19 = .ok (.iconst 1, 1) := dk_4 (dk_at dksX2_word_0 19 rfl rfl)
theorem dX2_word_20 : decode cX2_word 20 = .ok (.invokevirtual 77, 3) := dk_182 0 77 (dk_at dksX2_word_0 20 rfl rfl)
theorem dX2_word_23 : decode cX2_word 23 = .ok (.ifCond .eq 5, 3) := dk_153 0 5 (dk_at dksX2_word_1 0 rfl rfl)
theorem dX2_word_26 : decode cX2_word 26 = .ok (.iconst 0, 1) := dk_3 (dk_at dksX2_word_1 3 rfl rfl)
theorem dX2_word_27 : decode cX2_word 27 = .ok (.ireturn, 1) := dk_172 (dk_at dksX2_word_1 4 rfl rfl)
theorem dX2_word_28 : decode cX2_word 28 = .ok (.aload_n 0, 1) := dk_42 (dk_at dksX2_word_1 5 rfl rfl)
theorem dX2_word_29 : decode cX2_word 29 = .ok (.invokevirtual 94, 3) := dk_182 0 94 (dk_at dksX2_word_1 6 rfl rfl)
theorem dX2_word_32 : decode cX2_word 32 = .ok (.aload_n 0, 1) := dk_42 (dk_at dksX2_word_1 9 rfl rfl)
theorem dX2_word_33 : decode cX2_word 33 = .ok (.aload_n 0, 1) := dk_42 (dk_at dksX2_word_1 10 rfl rfl)
theorem dX2_word_34 : decode cX2_word 34 = .ok (.getfield 36, 3) := dk_180 0 36 (dk_at dksX2_word_1 11 rfl rfl)
theorem dX2_word_37 : decode cX2_word 37 = .ok (.iload_n 1, 1) := dk_27 (dk_at dksX2_word_1 14 rfl rfl)
theorem dX2_word_38 : decode cX2_word 38 = .ok (.iaload, 1) := dk_46 (dk_at dksX2_word_1 15 rfl rfl)
theorem dX2_word_39 : decode cX2_word 39 = .ok (.invokevirtual 97, 3) := dk_182 0 97 (dk_at dksX2_word_1 16 rfl rfl)
theorem dX2_word_42 : decode cX2_word 42 = .ok (.aload_n 0, 1) := dk_42 (dk_at dksX2_word_1 19 rfl rfl)
theorem dX2_word_43 : decode cX2_word 43 = .ok (.getfield 49, 3) := dk_180 0 49 (dk_at dksX2_word_1 20 rfl rfl)
theorem dX2_word_46 : decode cX2_word 46 = .ok (.ireturn, 1) := dk_172 (dk_at dksX2_word_1 23 rfl rfl)
abbrev cX2_orders : ByteArray := prog_3_method_13_code
def yX2_orders : MethodName := ⟨RX2, "orders", "()V"⟩
def dkwX2_orders_1 : List UInt8 := [180, 0, 36, 42, 180, 0, 39, 27, 46, 27, 79, 132, 1, 1, 167, 255, 222, 177]
abbrev dktX2_orders_1 : List UInt8 := dkwX2_orders_1 ++ []
def dkwX2_orders_0 : List UInt8 := [3, 60, 27, 42, 180, 0, 59, 162, 0, 32, 42, 180, 0, 39, 27, 42, 27, 182, 0, 70, 79, 42]
abbrev dktX2_orders_0 : List UInt8 := dkwX2_orders_0 ++ dktX2_orders_1
theorem dksX2_orders_0 : cX2_orders.data.toList.drop 0 = dktX2_orders_0 := by decide +kernel
theorem dksX2_orders_1 : cX2_orders.data.toList.drop 22 = dktX2_orders_1 := dk_seg dksX2_orders_0 22 rfl rfl
theorem dX2_orders_0 : decode cX2_orders 0 = .ok (.iconst 0, 1) := dk_3 (dk_at dksX2_orders_0 0 rfl rfl)
theorem dX2_orders_1 : decode cX2_orders 1 = .ok (.istore_n 1, 1) := dk_60 (dk_at dksX2_orders_0 1 rfl rfl)
theorem dX2_orders_2 : decode cX2_orders 2 = .ok (.iload_n 1, 1) := dk_27 (dk_at dksX2_orders_0 2 rfl rfl)
theorem dX2_orders_3 : decode cX2_orders 3 = .ok (.aload_n 0, 1) := dk_42 (dk_at dksX2_orders_0 3 rfl rfl)
theorem dX2_orders_4 : decode cX2_orders 4 = .ok (.getfield 59, 3) := dk_180 0 59 (dk_at dksX2_orders_0 4 rfl rfl)
theorem dX2_orders_7 : decode cX2_orders 7 = .ok (.if_icmp .ge 32, 3) := dk_162 0 32 (dk_at dksX2_orders_0 7 rfl rfl)
theorem dX2_orders_10 : decode cX2_orders 10 = .ok (.aload_n 0, 1) := dk_42 (dk_at dksX2_orders_0 10 rfl rfl)
theorem dX2_orders_11 : decode cX2_orders 11 = .ok (.getfield 39, 3) := dk_180 0 39 (dk_at dksX2_orders_0 11 rfl rfl)
theorem dX2_orders_14 : decode cX2_orders 14 = .ok (.iload_n 1, 1) := dk_27 (dk_at dksX2_orders_0 14 rfl rfl)
theorem dX2_orders_15 : decode cX2_orders 15 = .ok (.aload_n 0, 1) := dk_42 (dk_at dksX2_orders_0 15 rfl rfl)
theorem dX2_orders_16 : decode cX2_orders 16 = .ok (.iload_n 1, 1) := dk_27 (dk_at dksX2_orders_0 16 rfl rfl)
theorem dX2_orders_17 : decode cX2_orders 17 = .ok (.invokevirtual 70, 3) := dk_182 0 70 (dk_at dksX2_orders_0 17 rfl rfl)
theorem dX2_orders_20 : decode cX2_orders 20 = .ok (.iastore, 1) := dk_79 (dk_at dksX2_orders_0 20 rfl rfl)
theorem dX2_orders_21 : decode cX2_orders 21 = .ok (.aload_n 0, 1) := dk_42 (dk_at dksX2_orders_0 21 rfl rfl)
theorem dX2_orders_22 : decode cX2_orders 22 = .ok (.getfield 36, 3) := dk_180 0 36 (dk_at dksX2_orders_1 0 rfl rfl)
theorem dX2_orders_25 : decode cX2_orders 25 = .ok (.aload_n 0, 1) := dk_42 (dk_at dksX2_orders_1 3 rfl rfl)
theorem dX2_orders_26 : decode cX2_orders 26 = .ok (.getfield 39, 3) := dk_180 0 39 (dk_at dksX2_orders_1 4 rfl rfl)
theorem dX2_orders_29 : decode cX2_orders 29 = .ok (.iload_n 1, 1) := dk_27 (dk_at dksX2_orders_1 7 rfl rfl)
theorem dX2_orders_30 : decode cX2_orders 30 = .ok (.iaload, 1) := dk_46 (dk_at dksX2_orders_1 8 rfl rfl)
theorem dX2_orders_31 : decode cX2_orders 31 = .ok (.iload_n 1, 1) := dk_27 (dk_at dksX2_orders_1 9 rfl rfl)
theorem dX2_orders_32 : decode cX2_orders 32 = .ok (.iastore, 1) := dk_79 (dk_at dksX2_orders_1 10 rfl rfl)
theorem dX2_orders_33 : decode cX2_orders 33 = .ok (.iinc 1 1, 3) := dk_132 1 1 (dk_at dksX2_orders_1 11 rfl rfl)
theorem dX2_orders_36 : decode cX2_orders 36 = .ok (.goto (-34), 3) := dk_167 255 222 (dk_at dksX2_orders_1 14 rfl rfl)
theorem dX2_orders_39 : decode cX2_orders 39 = .ok (.return_, 1) := dk_177 (dk_at dksX2_orders_1 17 rfl rfl)
abbrev cX2_rankOf : ByteArray := prog_3_method_12_code
def yX2_rankOf : MethodName := ⟨RX2, "rankOf", "(I)I"⟩
def dkwX2_rankOf_1 : List UInt8 := [132, 3, 1, 167, 255, 233, 28, 172]
abbrev dktX2_rankOf_1 : List UInt8 := dkwX2_rankOf_1 ++ []
def dkwX2_rankOf_0 : List UInt8 := [3, 61, 3, 62, 29, 42, 180, 0, 59, 162, 0, 21, 42, 29, 27, 182, 0, 66, 153, 0, 6, 132, 2, 1]
abbrev dktX2_rankOf_0 : List UInt8 := dkwX2_rankOf_0 ++ dktX2_rankOf_1
theorem dksX2_rankOf_0 : cX2_rankOf.data.toList.drop 0 = dktX2_rankOf_0 := by decide +kernel
theorem dksX2_rankOf_1 : cX2_rankOf.data.toList.drop 24 = dktX2_rankOf_1 := dk_seg dksX2_rankOf_0 24 rfl rfl
theorem dX2_rankOf_0 : decode cX2_rankOf 0 = .ok (.iconst 0, 1) := dk_3 (dk_at dksX2_rankOf_0 0 rfl rfl)
theorem dX2_rankOf_1 : decode cX2_rankOf 1 = .ok (.istore_n 2, 1) := dk_61 (dk_at dksX2_rankOf_0 1 rfl rfl)
theorem dX2_rankOf_2 : decode cX2_rankOf 2 = .ok (.iconst 0, 1) := dk_3 (dk_at dksX2_rankOf_0 2 rfl rfl)
theorem dX2_rankOf_3 : decode cX2_rankOf 3 = .ok (.istore_n 3, 1) := dk_62 (dk_at dksX2_rankOf_0 3 rfl rfl)
theorem dX2_rankOf_4 : decode cX2_rankOf 4 = .ok (.iload_n 3, 1) := dk_29 (dk_at dksX2_rankOf_0 4 rfl rfl)
theorem dX2_rankOf_5 : decode cX2_rankOf 5 = .ok (.aload_n 0, 1) := dk_42 (dk_at dksX2_rankOf_0 5 rfl rfl)
theorem dX2_rankOf_6 : decode cX2_rankOf 6 = .ok (.getfield 59, 3) := dk_180 0 59 (dk_at dksX2_rankOf_0 6 rfl rfl)
theorem dX2_rankOf_9 : decode cX2_rankOf 9 = .ok (.if_icmp .ge 21, 3) := dk_162 0 21 (dk_at dksX2_rankOf_0 9 rfl rfl)
theorem dX2_rankOf_12 : decode cX2_rankOf 12 = .ok (.aload_n 0, 1) := dk_42 (dk_at dksX2_rankOf_0 12 rfl rfl)
theorem dX2_rankOf_13 : decode cX2_rankOf 13 = .ok (.iload_n 3, 1) := dk_29 (dk_at dksX2_rankOf_0 13 rfl rfl)
theorem dX2_rankOf_14 : decode cX2_rankOf 14 = .ok (.iload_n 1, 1) := dk_27 (dk_at dksX2_rankOf_0 14 rfl rfl)
theorem dX2_rankOf_15 : decode cX2_rankOf 15 = .ok (.invokevirtual 66, 3) := dk_182 0 66 (dk_at dksX2_rankOf_0 15 rfl rfl)
theorem dX2_rankOf_18 : decode cX2_rankOf 18 = .ok (.ifCond .eq 6, 3) := dk_153 0 6 (dk_at dksX2_rankOf_0 18 rfl rfl)
theorem dX2_rankOf_21 : decode cX2_rankOf 21 = .ok (.iinc 2 1, 3) := dk_132 2 1 (dk_at dksX2_rankOf_0 21 rfl rfl)
theorem dX2_rankOf_24 : decode cX2_rankOf 24 = .ok (.iinc 3 1, 3) := dk_132 3 1 (dk_at dksX2_rankOf_1 0 rfl rfl)
theorem dX2_rankOf_27 : decode cX2_rankOf 27 = .ok (.goto (-23), 3) := dk_167 255 233 (dk_at dksX2_rankOf_1 3 rfl rfl)
theorem dX2_rankOf_30 : decode cX2_rankOf 30 = .ok (.iload_n 2, 1) := dk_28 (dk_at dksX2_rankOf_1 6 rfl rfl)
theorem dX2_rankOf_31 : decode cX2_rankOf 31 = .ok (.ireturn, 1) := dk_172 (dk_at dksX2_rankOf_1 7 rfl rfl)
abbrev cX2_isLess : ByteArray := prog_3_method_9_code
def yX2_isLess : MethodName := ⟨RX2, "isLess", "(II)Z"⟩
def dkwX2_isLess_2 : List UInt8 := [29, 96, 52, 162, 0, 7, 4, 167, 0, 4, 3, 172]
abbrev dktX2_isLess_2 : List UInt8 := dkwX2_isLess_2 ++ []
def dkwX2_isLess_1 : List UInt8 := [27, 46, 159, 0, 28, 42, 180, 0, 17, 16, 10, 27, 104, 29, 96, 52, 42, 180, 0, 17, 16, 10, 28, 104]
abbrev dktX2_isLess_1 : List UInt8 := dkwX2_isLess_1 ++ dktX2_isLess_2
def dkwX2_isLess_0 : List UInt8 := [42, 27, 28, 182, 0, 56, 62, 29, 42, 180, 0, 26, 28, 46, 160, 0, 5, 3, 172, 29, 42, 180, 0, 26]
abbrev dktX2_isLess_0 : List UInt8 := dkwX2_isLess_0 ++ dktX2_isLess_1
theorem dksX2_isLess_0 : cX2_isLess.data.toList.drop 0 = dktX2_isLess_0 := by decide +kernel
theorem dksX2_isLess_1 : cX2_isLess.data.toList.drop 24 = dktX2_isLess_1 := dk_seg dksX2_isLess_0 24 rfl rfl
theorem dksX2_isLess_2 : cX2_isLess.data.toList.drop 48 = dktX2_isLess_2 := dk_seg dksX2_isLess_1 24 rfl rfl
theorem dX2_isLess_0 : decode cX2_isLess 0 = .ok (.aload_n 0, 1) := dk_42 (dk_at dksX2_isLess_0 0 rfl rfl)
theorem dX2_isLess_1 : decode cX2_isLess 1 = .ok (.iload_n 1, 1) := dk_27 (dk_at dksX2_isLess_0 1 rfl rfl)
theorem dX2_isLess_2 : decode cX2_isLess 2 = .ok (.iload_n 2, 1) := dk_28 (dk_at dksX2_isLess_0 2 rfl rfl)
theorem dX2_isLess_3 : decode cX2_isLess 3 = .ok (.invokevirtual 56, 3) := dk_182 0 56 (dk_at dksX2_isLess_0 3 rfl rfl)
theorem dX2_isLess_6 : decode cX2_isLess 6 = .ok (.istore_n 3, 1) := dk_62 (dk_at dksX2_isLess_0 6 rfl rfl)
theorem dX2_isLess_7 : decode cX2_isLess 7 = .ok (.iload_n 3, 1) := dk_29 (dk_at dksX2_isLess_0 7 rfl rfl)
theorem dX2_isLess_8 : decode cX2_isLess 8 = .ok (.aload_n 0, 1) := dk_42 (dk_at dksX2_isLess_0 8 rfl rfl)
theorem dX2_isLess_9 : decode cX2_isLess 9 = .ok (.getfield 26, 3) := dk_180 0 26 (dk_at dksX2_isLess_0 9 rfl rfl)
theorem dX2_isLess_12 : decode cX2_isLess 12 = .ok (.iload_n 2, 1) := dk_28 (dk_at dksX2_isLess_0 12 rfl rfl)
theorem dX2_isLess_13 : decode cX2_isLess 13 = .ok (.iaload, 1) := dk_46 (dk_at dksX2_isLess_0 13 rfl rfl)
theorem dX2_isLess_14 : decode cX2_isLess 14 = .ok (.if_icmp .ne 5, 3) := dk_160 0 5 (dk_at dksX2_isLess_0 14 rfl rfl)
theorem dX2_isLess_17 : decode cX2_isLess 17 = .ok (.iconst 0, 1) := dk_3 (dk_at dksX2_isLess_0 17 rfl rfl)
theorem dX2_isLess_18 : decode cX2_isLess 18 = .ok (.ireturn, 1) := dk_172 (dk_at dksX2_isLess_0 18 rfl rfl)
theorem dX2_isLess_19 : decode cX2_isLess 19 = .ok (.iload_n 3, 1) := dk_29 (dk_at dksX2_isLess_0 19 rfl rfl)
theorem dX2_isLess_20 : decode cX2_isLess 20 = .ok (.aload_n 0, 1) := dk_42 (dk_at dksX2_isLess_0 20 rfl rfl)
theorem dX2_isLess_21 : decode cX2_isLess 21 = .ok (.getfield 26, 3) := dk_180 0 26 (dk_at dksX2_isLess_0 21 rfl rfl)
theorem dX2_isLess_24 : decode cX2_isLess 24 = .ok (.iload_n 1, 1) := dk_27 (dk_at dksX2_isLess_1 0 rfl rfl)
theorem dX2_isLess_25 : decode cX2_isLess 25 = .ok (.iaload, 1) := dk_46 (dk_at dksX2_isLess_1 1 rfl rfl)
theorem dX2_isLess_26 : decode cX2_isLess 26 = .ok (.if_icmp .eq 28, 3) := dk_159 0 28 (dk_at dksX2_isLess_1 2 rfl rfl)
theorem dX2_isLess_29 : decode cX2_isLess 29 = .ok (.aload_n 0, 1) := dk_42 (dk_at dksX2_isLess_1 5 rfl rfl)
theorem dX2_isLess_30 : decode cX2_isLess 30 = .ok (.getfield 17, 3) := dk_180 0 17 (dk_at dksX2_isLess_1 6 rfl rfl)
theorem dX2_isLess_33 : decode cX2_isLess 33 = .ok (.bipush 10, 2) := dk_16 10 (dk_at dksX2_isLess_1 9 rfl rfl)
theorem dX2_isLess_35 : decode cX2_isLess 35 = .ok (.iload_n 1, 1) := dk_27 (dk_at dksX2_isLess_1 11 rfl rfl)
theorem dX2_isLess_36 : decode cX2_isLess 36 = .ok (.imul, 1) := dk_104 (dk_at dksX2_isLess_1 12 rfl rfl)
theorem dX2_isLess_37 : decode cX2_isLess 37 = .ok (.iload_n 3, 1) := dk_29 (dk_at dksX2_isLess_1 13 rfl rfl)
theorem dX2_isLess_38 : decode cX2_isLess 38 = .ok (.iadd, 1) := dk_96 (dk_at dksX2_isLess_1 14 rfl rfl)
theorem dX2_isLess_39 : decode cX2_isLess 39 = .ok (.caload, 1) := dk_52 (dk_at dksX2_isLess_1 15 rfl rfl)
theorem dX2_isLess_40 : decode cX2_isLess 40 = .ok (.aload_n 0, 1) := dk_42 (dk_at dksX2_isLess_1 16 rfl rfl)
theorem dX2_isLess_41 : decode cX2_isLess 41 = .ok (.getfield 17, 3) := dk_180 0 17 (dk_at dksX2_isLess_1 17 rfl rfl)
theorem dX2_isLess_44 : decode cX2_isLess 44 = .ok (.bipush 10, 2) := dk_16 10 (dk_at dksX2_isLess_1 20 rfl rfl)
theorem dX2_isLess_46 : decode cX2_isLess 46 = .ok (.iload_n 2, 1) := dk_28 (dk_at dksX2_isLess_1 22 rfl rfl)
theorem dX2_isLess_47 : decode cX2_isLess 47 = .ok (.imul, 1) := dk_104 (dk_at dksX2_isLess_1 23 rfl rfl)
theorem dX2_isLess_48 : decode cX2_isLess 48 = .ok (.iload_n 3, 1) := dk_29 (dk_at dksX2_isLess_2 0 rfl rfl)
theorem dX2_isLess_49 : decode cX2_isLess 49 = .ok (.iadd, 1) := dk_96 (dk_at dksX2_isLess_2 1 rfl rfl)
theorem dX2_isLess_50 : decode cX2_isLess 50 = .ok (.caload, 1) := dk_52 (dk_at dksX2_isLess_2 2 rfl rfl)
theorem dX2_isLess_51 : decode cX2_isLess 51 = .ok (.if_icmp .ge 7, 3) := dk_162 0 7 (dk_at dksX2_isLess_2 3 rfl rfl)
theorem dX2_isLess_54 : decode cX2_isLess 54 = .ok (.iconst 1, 1) := dk_4 (dk_at dksX2_isLess_2 6 rfl rfl)
theorem dX2_isLess_55 : decode cX2_isLess 55 = .ok (.goto 4, 3) := dk_167 0 4 (dk_at dksX2_isLess_2 7 rfl rfl)
theorem dX2_isLess_58 : decode cX2_isLess 58 = .ok (.iconst 0, 1) := dk_3 (dk_at dksX2_isLess_2 10 rfl rfl)
theorem dX2_isLess_59 : decode cX2_isLess 59 = .ok (.ireturn, 1) := dk_172 (dk_at dksX2_isLess_2 11 rfl rfl)
abbrev cX2_likeWords : ByteArray := prog_3_method_7_code
def yX2_likeWords : MethodName := ⟨RX2, "likeWords", "(II)I"⟩
def dkwX2_likeWords_2 : List UInt8 := [132, 3, 1, 167, 255, 208, 29, 172]
abbrev dktX2_likeWords_2 : List UInt8 := dkwX2_likeWords_2 ++ []
def dkwX2_likeWords_1 : List UInt8 := [180, 0, 17, 16, 10, 27, 104, 29, 96, 52, 42, 180, 0, 17, 16, 10, 28, 104, 29, 96, 52, 160, 0, 9]
abbrev dktX2_likeWords_1 : List UInt8 := dkwX2_likeWords_1 ++ dktX2_likeWords_2
def dkwX2_likeWords_0 : List UInt8 := [3, 62, 29, 42, 180, 0, 26, 27, 46, 162, 0, 44, 29, 42, 180, 0, 26, 28, 46, 162, 0, 34, 42]
abbrev dktX2_likeWords_0 : List UInt8 := dkwX2_likeWords_0 ++ dktX2_likeWords_1
theorem dksX2_likeWords_0 : cX2_likeWords.data.toList.drop 0 = dktX2_likeWords_0 := by decide +kernel
theorem dksX2_likeWords_1 : cX2_likeWords.data.toList.drop 23 = dktX2_likeWords_1 := dk_seg dksX2_likeWords_0 23 rfl rfl
theorem dksX2_likeWords_2 : cX2_likeWords.data.toList.drop 47 = dktX2_likeWords_2 := dk_seg dksX2_likeWords_1 24 rfl rfl
theorem dX2_likeWords_0 : decode cX2_likeWords 0 = .ok (.iconst 0, 1) := dk_3 (dk_at dksX2_likeWords_0 0 rfl rfl)
theorem dX2_likeWords_1 : decode cX2_likeWords 1 = .ok (.istore_n 3, 1) := dk_62 (dk_at dksX2_likeWords_0 1 rfl rfl)
theorem dX2_likeWords_2 : decode cX2_likeWords 2 = .ok (.iload_n 3, 1) := dk_29 (dk_at dksX2_likeWords_0 2 rfl rfl)
theorem dX2_likeWords_3 : decode cX2_likeWords 3 = .ok (.aload_n 0, 1) := dk_42 (dk_at dksX2_likeWords_0 3 rfl rfl)
theorem dX2_likeWords_4 : decode cX2_likeWords 4 = .ok (.getfield 26, 3) := dk_180 0 26 (dk_at dksX2_likeWords_0 4 rfl rfl)
theorem dX2_likeWords_7 : decode cX2_likeWords 7 = .ok (.iload_n 1, 1) := dk_27 (dk_at dksX2_likeWords_0 7 rfl rfl)
theorem dX2_likeWords_8 : decode cX2_likeWords 8 = .ok (.iaload, 1) := dk_46 (dk_at dksX2_likeWords_0 8 rfl rfl)
theorem dX2_likeWords_9 : decode cX2_likeWords 9 = .ok (.if_icmp .ge 44, 3) := dk_162 0 44 (dk_at dksX2_likeWords_0 9 rfl rfl)
theorem dX2_likeWords_12 : decode cX2_likeWords 12 = .ok (.iload_n 3, 1) := dk_29 (dk_at dksX2_likeWords_0 12 rfl rfl)
theorem dX2_likeWords_13 : decode cX2_likeWords 13 = .ok (.aload_n 0, 1) := dk_42 (dk_at dksX2_likeWords_0 13 rfl rfl)
theorem dX2_likeWords_14 : decode cX2_likeWords 14 = .ok (.getfield 26, 3) := dk_180 0 26 (dk_at dksX2_likeWords_0 14 rfl rfl)
theorem dX2_likeWords_17 : decode cX2_likeWords 17 = .ok (.iload_n 2, 1) := dk_28 (dk_at dksX2_likeWords_0 17 rfl rfl)
theorem dX2_likeWords_18 : decode cX2_likeWords 18 = .ok (.iaload, 1) := dk_46 (dk_at dksX2_likeWords_0 18 rfl rfl)
theorem dX2_likeWords_19 : decode cX2_likeWords 19 = .ok (.if_icmp .ge 34, 3) := dk_162 0 34 (dk_at dksX2_likeWords_0 19 rfl rfl)
theorem dX2_likeWords_22 : decode cX2_likeWords 22 = .ok (.aload_n 0, 1) := dk_42 (dk_at dksX2_likeWords_0 22 rfl rfl)
theorem dX2_likeWords_23 : decode cX2_likeWords 23 = .ok (.getfield 17, 3) := dk_180 0 17 (dk_at dksX2_likeWords_1 0 rfl rfl)
theorem dX2_likeWords_26 : decode cX2_likeWords 26 = .ok (.bipush 10, 2) := dk_16 10 (dk_at dksX2_likeWords_1 3 rfl rfl)
theorem dX2_likeWords_28 : decode cX2_likeWords 28 = .ok (.iload_n 1, 1) := dk_27 (dk_at dksX2_likeWords_1 5 rfl rfl)
theorem dX2_likeWords_29 : decode cX2_likeWords 29 = .ok (.imul, 1) := dk_104 (dk_at dksX2_likeWords_1 6 rfl rfl)
theorem dX2_likeWords_30 : decode cX2_likeWords 30 = .ok (.iload_n 3, 1) := dk_29 (dk_at dksX2_likeWords_1 7 rfl rfl)
theorem dX2_likeWords_31 : decode cX2_likeWords 31 = .ok (.iadd, 1) := dk_96 (dk_at dksX2_likeWords_1 8 rfl rfl)
theorem dX2_likeWords_32 : decode cX2_likeWords 32 = .ok (.caload, 1) := dk_52 (dk_at dksX2_likeWords_1 9 rfl rfl)
theorem dX2_likeWords_33 : decode cX2_likeWords 33 = .ok (.aload_n 0, 1) := dk_42 (dk_at dksX2_likeWords_1 10 rfl rfl)
theorem dX2_likeWords_34 : decode cX2_likeWords 34 = .ok (.getfield 17, 3) := dk_180 0 17 (dk_at dksX2_likeWords_1 11 rfl rfl)
theorem dX2_likeWords_37 : decode cX2_likeWords 37 = .ok (.bipush 10, 2) := dk_16 10 (dk_at dksX2_likeWords_1 14 rfl rfl)
theorem dX2_likeWords_39 : decode cX2_likeWords 39 = .ok (.iload_n 2, 1) := dk_28 (dk_at dksX2_likeWords_1 16 rfl rfl)
theorem dX2_likeWords_40 : decode cX2_likeWords 40 = .ok (.imul, 1) := dk_104 (dk_at dksX2_likeWords_1 17 rfl rfl)
theorem dX2_likeWords_41 : decode cX2_likeWords 41 = .ok (.iload_n 3, 1) := dk_29 (dk_at dksX2_likeWords_1 18 rfl rfl)
theorem dX2_likeWords_42 : decode cX2_likeWords 42 = .ok (.iadd, 1) := dk_96 (dk_at dksX2_likeWords_1 19 rfl rfl)
theorem dX2_likeWords_43 : decode cX2_likeWords 43 = .ok (.caload, 1) := dk_52 (dk_at dksX2_likeWords_1 20 rfl rfl)
theorem dX2_likeWords_44 : decode cX2_likeWords 44 = .ok (.if_icmp .ne 9, 3) := dk_160 0 9 (dk_at dksX2_likeWords_1 21 rfl rfl)
theorem dX2_likeWords_47 : decode cX2_likeWords 47 = .ok (.iinc 3 1, 3) := dk_132 3 1 (dk_at dksX2_likeWords_2 0 rfl rfl)
theorem dX2_likeWords_50 : decode cX2_likeWords 50 = .ok (.goto (-48), 3) := dk_167 255 208 (dk_at dksX2_likeWords_2 3 rfl rfl)
theorem dX2_likeWords_53 : decode cX2_likeWords 53 = .ok (.iload_n 3, 1) := dk_29 (dk_at dksX2_likeWords_2 6 rfl rfl)
theorem dX2_likeWords_54 : decode cX2_likeWords 54 = .ok (.ireturn, 1) := dk_172 (dk_at dksX2_likeWords_2 7 rfl rfl)
abbrev cX2_becomes : ByteArray := prog_3_method_14_code
def yX2_becomes : MethodName := ⟨RX2, "becomes", "(I)V"⟩
def dkwX2_becomes_1 : List UInt8 := [28, 42, 180, 0, 17, 16, 10, 27, 104, 28, 96, 52, 85, 132, 2, 1, 167, 255, 228, 177]
abbrev dktX2_becomes_1 : List UInt8 := dkwX2_becomes_1 ++ []
def dkwX2_becomes_0 : List UInt8 := [42, 42, 180, 0, 26, 27, 46, 181, 0, 49, 3, 61, 28, 42, 180, 0, 49, 162, 0, 26, 42, 180, 0, 13]
abbrev dktX2_becomes_0 : List UInt8 := dkwX2_becomes_0 ++ dktX2_becomes_1
theorem dksX2_becomes_0 : cX2_becomes.data.toList.drop 0 = dktX2_becomes_0 := by decide +kernel
theorem dksX2_becomes_1 : cX2_becomes.data.toList.drop 24 = dktX2_becomes_1 := dk_seg dksX2_becomes_0 24 rfl rfl
theorem dX2_becomes_0 : decode cX2_becomes 0 = .ok (.aload_n 0, 1) := dk_42 (dk_at dksX2_becomes_0 0 rfl rfl)
theorem dX2_becomes_1 : decode cX2_becomes 1 = .ok (.aload_n 0, 1) := dk_42 (dk_at dksX2_becomes_0 1 rfl rfl)
theorem dX2_becomes_2 : decode cX2_becomes 2 = .ok (.getfield 26, 3) := dk_180 0 26 (dk_at dksX2_becomes_0 2 rfl rfl)
theorem dX2_becomes_5 : decode cX2_becomes 5 = .ok (.iload_n 1, 1) := dk_27 (dk_at dksX2_becomes_0 5 rfl rfl)
theorem dX2_becomes_6 : decode cX2_becomes 6 = .ok (.iaload, 1) := dk_46 (dk_at dksX2_becomes_0 6 rfl rfl)
theorem dX2_becomes_7 : decode cX2_becomes 7 = .ok (.putfield 49, 3) := dk_181 0 49 (dk_at dksX2_becomes_0 7 rfl rfl)
theorem dX2_becomes_10 : decode cX2_becomes 10 = .ok (.iconst 0, 1) := dk_3 (dk_at dksX2_becomes_0 10 rfl rfl)
theorem dX2_becomes_11 : decode cX2_becomes 11 = .ok (.istore_n 2, 1) := dk_61 (dk_at dksX2_becomes_0 11 rfl rfl)
theorem dX2_becomes_12 : decode cX2_becomes 12 = .ok (.iload_n 2, 1) := dk_28 (dk_at dksX2_becomes_0 12 rfl rfl)
theorem dX2_becomes_13 : decode cX2_becomes 13 = .ok (.aload_n 0, 1) := dk_42 (dk_at dksX2_becomes_0 13 rfl rfl)
theorem dX2_becomes_14 : decode cX2_becomes 14 = .ok (.getfield 49, 3) := dk_180 0 49 (dk_at dksX2_becomes_0 14 rfl rfl)
theorem dX2_becomes_17 : decode cX2_becomes 17 = .ok (.if_icmp .ge 26, 3) := dk_162 0 26 (dk_at dksX2_becomes_0 17 rfl rfl)
theorem dX2_becomes_20 : decode cX2_becomes 20 = .ok (.aload_n 0, 1) := dk_42 (dk_at dksX2_becomes_0 20 rfl rfl)
theorem dX2_becomes_21 : decode cX2_becomes 21 = .ok (.getfield 13, 3) := dk_180 0 13 (dk_at dksX2_becomes_0 21 rfl rfl)
theorem dX2_becomes_24 : decode cX2_becomes 24 = .ok (.iload_n 2, 1) := dk_28 (dk_at dksX2_becomes_1 0 rfl rfl)
theorem dX2_becomes_25 : decode cX2_becomes 25 = .ok (.aload_n 0, 1) := dk_42 (dk_at dksX2_becomes_1 1 rfl rfl)
theorem dX2_becomes_26 : decode cX2_becomes 26 = .ok (.getfield 17, 3) := dk_180 0 17 (dk_at dksX2_becomes_1 2 rfl rfl)
theorem dX2_becomes_29 : decode cX2_becomes 29 = .ok (.bipush 10, 2) := dk_16 10 (dk_at dksX2_becomes_1 5 rfl rfl)
theorem dX2_becomes_31 : decode cX2_becomes 31 = .ok (.iload_n 1, 1) := dk_27 (dk_at dksX2_becomes_1 7 rfl rfl)
theorem dX2_becomes_32 : decode cX2_becomes 32 = .ok (.imul, 1) := dk_104 (dk_at dksX2_becomes_1 8 rfl rfl)
theorem dX2_becomes_33 : decode cX2_becomes 33 = .ok (.iload_n 2, 1) := dk_28 (dk_at dksX2_becomes_1 9 rfl rfl)
theorem dX2_becomes_34 : decode cX2_becomes 34 = .ok (.iadd, 1) := dk_96 (dk_at dksX2_becomes_1 10 rfl rfl)
theorem dX2_becomes_35 : decode cX2_becomes 35 = .ok (.caload, 1) := dk_52 (dk_at dksX2_becomes_1 11 rfl rfl)
theorem dX2_becomes_36 : decode cX2_becomes 36 = .ok (.castore, 1) := dk_85 (dk_at dksX2_becomes_1 12 rfl rfl)
theorem dX2_becomes_37 : decode cX2_becomes 37 = .ok (.iinc 2 1, 3) := dk_132 2 1 (dk_at dksX2_becomes_1 13 rfl rfl)
theorem dX2_becomes_40 : decode cX2_becomes 40 = .ok (.goto (-28), 3) := dk_167 255 228 (dk_at dksX2_becomes_1 16 rfl rfl)
theorem dX2_becomes_43 : decode cX2_becomes 43 = .ok (.return_, 1) := dk_177 (dk_at dksX2_becomes_1 19 rfl rfl)
abbrev cX2_near : ByteArray := prog_3_method_30_code
def yX2_near : MethodName := ⟨RX2, "near", "(C)I"⟩
def dkwX2_near_8 : List UInt8 := [167, 0, 4, 3, 182, 0, 77, 153, 0, 5, 3, 172, 42, 28, 182, 0, 97, 42, 180, 0, 30, 28, 46, 172]
abbrev dktX2_near_8 : List UInt8 := dkwX2_near_8 ++ []
def dkwX2_near_7 : List UInt8 := [159, 0, 19, 27, 16, 108, 159, 0, 13, 27, 16, 104, 159, 0, 7, 4, 167, 0, 12, 28, 156, 0, 7, 5]
abbrev dktX2_near_7 : List UInt8 := dkwX2_near_7 ++ dktX2_near_8
def dkwX2_near_6 : List UInt8 := [182, 0, 66, 153, 0, 5, 29, 61, 132, 3, 1, 167, 255, 113, 42, 27, 16, 102, 159, 0, 25, 27, 16, 99]
abbrev dktX2_near_6 : List UInt8 := dkwX2_near_6 ++ dktX2_near_7
def dkwX2_near_5 : List UInt8 := [155, 0, 29, 21, 6, 153, 0, 15, 42, 28, 29, 182, 0, 66, 153, 0, 17, 167, 0, 12, 42, 29, 28]
abbrev dktX2_near_5 : List UInt8 := dkwX2_near_5 ++ dktX2_near_6
def dkwX2_near_4 : List UInt8 := [159, 0, 9, 27, 16, 108, 160, 0, 7, 4, 167, 0, 4, 3, 54, 6, 21, 5, 153, 0, 35, 28]
abbrev dktX2_near_4 : List UInt8 := dkwX2_near_4 ++ dktX2_near_5
def dkwX2_near_3 : List UInt8 := [167, 0, 17, 3, 167, 0, 13, 21, 4, 158, 0, 7, 4, 167, 0, 4, 3, 54, 5, 27, 16, 102]
abbrev dktX2_near_3 : List UInt8 := dkwX2_near_3 ++ dktX2_near_4
def dkwX2_near_2 : List UInt8 := [155, 0, 7, 4, 167, 0, 36, 3, 167, 0, 32, 27, 16, 108, 160, 0, 16, 21, 4, 156, 0, 7, 4]
abbrev dktX2_near_2 : List UInt8 := dkwX2_near_2 ++ dktX2_near_3
def dkwX2_near_1 : List UInt8 := [160, 0, 16, 21, 4, 157, 0, 7, 4, 167, 0, 55, 3, 167, 0, 51, 27, 16, 99, 160, 0, 16, 21, 4]
abbrev dktX2_near_1 : List UInt8 := dkwX2_near_1 ++ dktX2_near_2
def dkwX2_near_0 : List UInt8 := [2, 61, 3, 62, 29, 42, 180, 0, 59, 162, 0, 141, 42, 29, 182, 0, 62, 54, 4, 27, 16, 102]
abbrev dktX2_near_0 : List UInt8 := dkwX2_near_0 ++ dktX2_near_1
theorem dksX2_near_0 : cX2_near.data.toList.drop 0 = dktX2_near_0 := by decide +kernel
theorem dksX2_near_1 : cX2_near.data.toList.drop 22 = dktX2_near_1 := dk_seg dksX2_near_0 22 rfl rfl
theorem dksX2_near_2 : cX2_near.data.toList.drop 46 = dktX2_near_2 := dk_seg dksX2_near_1 24 rfl rfl
theorem dksX2_near_3 : cX2_near.data.toList.drop 69 = dktX2_near_3 := dk_seg dksX2_near_2 23 rfl rfl
theorem dksX2_near_4 : cX2_near.data.toList.drop 91 = dktX2_near_4 := dk_seg dksX2_near_3 22 rfl rfl
theorem dksX2_near_5 : cX2_near.data.toList.drop 113 = dktX2_near_5 := dk_seg dksX2_near_4 22 rfl rfl
theorem dksX2_near_6 : cX2_near.data.toList.drop 136 = dktX2_near_6 := dk_seg dksX2_near_5 23 rfl rfl
theorem dksX2_near_7 : cX2_near.data.toList.drop 160 = dktX2_near_7 := dk_seg dksX2_near_6 24 rfl rfl
theorem dksX2_near_8 : cX2_near.data.toList.drop 184 = dktX2_near_8 := dk_seg dksX2_near_7 24 rfl rfl
theorem dX2_near_0 : decode cX2_near 0 = .ok (.iconst (-1), 1) := dk_2 (dk_at dksX2_near_0 0 rfl rfl)
theorem dX2_near_1 : decode cX2_near 1 = .ok (.istore_n 2, 1) := dk_61 (dk_at dksX2_near_0 1 rfl rfl)
theorem dX2_near_2 : decode cX2_near 2 = .ok (.iconst 0, 1) := dk_3 (dk_at dksX2_near_0 2 rfl rfl)
theorem dX2_near_3 : decode cX2_near 3 = .ok (.istore_n 3, 1) := dk_62 (dk_at dksX2_near_0 3 rfl rfl)
theorem dX2_near_4 : decode cX2_near 4 = .ok (.iload_n 3, 1) := dk_29 (dk_at dksX2_near_0 4 rfl rfl)
theorem dX2_near_5 : decode cX2_near 5 = .ok (.aload_n 0, 1) := dk_42 (dk_at dksX2_near_0 5 rfl rfl)
theorem dX2_near_6 : decode cX2_near 6 = .ok (.getfield 59, 3) := dk_180 0 59 (dk_at dksX2_near_0 6 rfl rfl)
theorem dX2_near_9 : decode cX2_near 9 = .ok (.if_icmp .ge 141, 3) := dk_162 0 141 (dk_at dksX2_near_0 9 rfl rfl)
theorem dX2_near_12 : decode cX2_near 12 = .ok (.aload_n 0, 1) := dk_42 (dk_at dksX2_near_0 12 rfl rfl)
theorem dX2_near_13 : decode cX2_near 13 = .ok (.iload_n 3, 1) := dk_29 (dk_at dksX2_near_0 13 rfl rfl)
theorem dX2_near_14 : decode cX2_near 14 = .ok (.invokevirtual 62, 3) := dk_182 0 62 (dk_at dksX2_near_0 14 rfl rfl)
theorem dX2_near_17 : decode cX2_near 17 = .ok (.istore 4, 2) := dk_54 4 (dk_at dksX2_near_0 17 rfl rfl)
theorem dX2_near_19 : decode cX2_near 19 = .ok (.iload_n 1, 1) := dk_27 (dk_at dksX2_near_0 19 rfl rfl)
theorem dX2_near_20 : decode cX2_near 20 = .ok (.bipush 102, 2) := dk_16 102 (dk_at dksX2_near_0 20 rfl rfl)
theorem dX2_near_22 : decode cX2_near 22 = .ok (.if_icmp .ne 16, 3) := dk_160 0 16 (dk_at dksX2_near_1 0 rfl rfl)
theorem dX2_near_25 : decode cX2_near 25 = .ok (.iload 4, 2) := dk_21 4 (dk_at dksX2_near_1 3 rfl rfl)
theorem dX2_near_27 : decode cX2_near 27 = .ok (.ifCond .gt 7, 3) := dk_157 0 7 (dk_at dksX2_near_1 5 rfl rfl)
theorem dX2_near_30 : decode cX2_near 30 = .ok (.iconst 1, 1) := dk_4 (dk_at dksX2_near_1 8 rfl rfl)
theorem dX2_near_31 : decode cX2_near 31 = .ok (.goto 55, 3) := dk_167 0 55 (dk_at dksX2_near_1 9 rfl rfl)
theorem dX2_near_34 : decode cX2_near 34 = .ok (.iconst 0, 1) := dk_3 (dk_at dksX2_near_1 12 rfl rfl)
theorem dX2_near_35 : decode cX2_near 35 = .ok (.goto 51, 3) := dk_167 0 51 (dk_at dksX2_near_1 13 rfl rfl)
theorem dX2_near_38 : decode cX2_near 38 = .ok (.iload_n 1, 1) := dk_27 (dk_at dksX2_near_1 16 rfl rfl)
theorem dX2_near_39 : decode cX2_near 39 = .ok (.bipush 99, 2) := dk_16 99 (dk_at dksX2_near_1 17 rfl rfl)
theorem dX2_near_41 : decode cX2_near 41 = .ok (.if_icmp .ne 16, 3) := dk_160 0 16 (dk_at dksX2_near_1 19 rfl rfl)
theorem dX2_near_44 : decode cX2_near 44 = .ok (.iload 4, 2) := dk_21 4 (dk_at dksX2_near_1 22 rfl rfl)
theorem dX2_near_46 : decode cX2_near 46 = .ok (.ifCond .lt 7, 3) := dk_155 0 7 (dk_at dksX2_near_2 0 rfl rfl)
theorem dX2_near_49 : decode cX2_near 49 = .ok (.iconst 1, 1) := dk_4 (dk_at dksX2_near_2 3 rfl rfl)
theorem dX2_near_50 : decode cX2_near 50 = .ok (.goto 36, 3) := dk_167 0 36 (dk_at dksX2_near_2 4 rfl rfl)
theorem dX2_near_53 : decode cX2_near 53 = .ok (.iconst 0, 1) := dk_3 (dk_at dksX2_near_2 7 rfl rfl)
theorem dX2_near_54 : decode cX2_near 54 = .ok (.goto 32, 3) := dk_167 0 32 (dk_at dksX2_near_2 8 rfl rfl)
theorem dX2_near_57 : decode cX2_near 57 = .ok (.iload_n 1, 1) := dk_27 (dk_at dksX2_near_2 11 rfl rfl)
theorem dX2_near_58 : decode cX2_near 58 = .ok (.bipush 108, 2) := dk_16 108 (dk_at dksX2_near_2 12 rfl rfl)
theorem dX2_near_60 : decode cX2_near 60 = .ok (.if_icmp .ne 16, 3) := dk_160 0 16 (dk_at dksX2_near_2 14 rfl rfl)
theorem dX2_near_63 : decode cX2_near 63 = .ok (.iload 4, 2) := dk_21 4 (dk_at dksX2_near_2 17 rfl rfl)
theorem dX2_near_65 : decode cX2_near 65 = .ok (.ifCond .ge 7, 3) := dk_156 0 7 (dk_at dksX2_near_2 19 rfl rfl)
theorem dX2_near_68 : decode cX2_near 68 = .ok (.iconst 1, 1) := dk_4 (dk_at dksX2_near_2 22 rfl rfl)
theorem dX2_near_69 : decode cX2_near 69 = .ok (.goto 17, 3) := dk_167 0 17 (dk_at dksX2_near_3 0 rfl rfl)
theorem dX2_near_72 : decode cX2_near 72 = .ok (.iconst 0, 1) := dk_3 (dk_at dksX2_near_3 3 rfl rfl)
theorem dX2_near_73 : decode cX2_near 73 = .ok (.goto 13, 3) := dk_167 0 13 (dk_at dksX2_near_3 4 rfl rfl)
theorem dX2_near_76 : decode cX2_near 76 = .ok (.iload 4, 2) := dk_21 4 (dk_at dksX2_near_3 7 rfl rfl)
theorem dX2_near_78 : decode cX2_near 78 = .ok (.ifCond .le 7, 3) := dk_158 0 7 (dk_at dksX2_near_3 9 rfl rfl)
theorem dX2_near_81 : decode cX2_near 81 = .ok (.iconst 1, 1) := dk_4 (dk_at dksX2_near_3 12 rfl rfl)
theorem dX2_near_82 : decode cX2_near 82 = .ok (.goto 4, 3) := dk_167 0 4 (dk_at dksX2_near_3 13 rfl rfl)
theorem dX2_near_85 : decode cX2_near 85 = .ok (.iconst 0, 1) := dk_3 (dk_at dksX2_near_3 16 rfl rfl)
theorem dX2_near_86 : decode cX2_near 86 = .ok (.istore 5, 2) := dk_54 5 (dk_at dksX2_near_3 17 rfl rfl)
theorem dX2_near_88 : decode cX2_near 88 = .ok (.iload_n 1, 1) := dk_27 (dk_at dksX2_near_3 19 rfl rfl)
theorem dX2_near_89 : decode cX2_near 89 = .ok (.bipush 102, 2) := dk_16 102 (dk_at dksX2_near_3 20 rfl rfl)
theorem dX2_near_91 : decode cX2_near 91 = .ok (.if_icmp .eq 9, 3) := dk_159 0 9 (dk_at dksX2_near_4 0 rfl rfl)
theorem dX2_near_94 : decode cX2_near 94 = .ok (.iload_n 1, 1) := dk_27 (dk_at dksX2_near_4 3 rfl rfl)
theorem dX2_near_95 : decode cX2_near 95 = .ok (.bipush 108, 2) := dk_16 108 (dk_at dksX2_near_4 4 rfl rfl)
theorem dX2_near_97 : decode cX2_near 97 = .ok (.if_icmp .ne 7, 3) := dk_160 0 7 (dk_at dksX2_near_4 6 rfl rfl)
theorem dX2_near_100 : decode cX2_near 100 = .ok (.iconst 1, 1) := dk_4 (dk_at dksX2_near_4 9 rfl rfl)
theorem dX2_near_101 : decode cX2_near 101 = .ok (.goto 4, 3) := dk_167 0 4 (dk_at dksX2_near_4 10 rfl rfl)
theorem dX2_near_104 : decode cX2_near 104 = .ok (.iconst 0, 1) := dk_3 (dk_at dksX2_near_4 13 rfl rfl)
theorem dX2_near_105 : decode cX2_near 105 = .ok (.istore 6, 2) := dk_54 6 (dk_at dksX2_near_4 14 rfl rfl)
theorem dX2_near_107 : decode cX2_near 107 = .ok (.iload 5, 2) := dk_21 5 (dk_at dksX2_near_4 16 rfl rfl)
theorem dX2_near_109 : decode cX2_near 109 = .ok (.ifCond .eq 35, 3) := dk_153 0 35 (dk_at dksX2_near_4 18 rfl rfl)
theorem dX2_near_112 : decode cX2_near 112 = .ok (.iload_n 2, 1) := dk_28 (dk_at dksX2_near_4 21 rfl rfl)
theorem dX2_near_113 : decode cX2_near 113 = .ok (.ifCond .lt 29, 3) := dk_155 0 29 (dk_at dksX2_near_5 0 rfl rfl)
theorem dX2_near_116 : decode cX2_near 116 = .ok (.iload 6, 2) := dk_21 6 (dk_at dksX2_near_5 3 rfl rfl)
theorem dX2_near_118 : decode cX2_near 118 = .ok (.ifCond .eq 15, 3) := dk_153 0 15 (dk_at dksX2_near_5 5 rfl rfl)
theorem dX2_near_121 : decode cX2_near 121 = .ok (.aload_n 0, 1) := dk_42 (dk_at dksX2_near_5 8 rfl rfl)
theorem dX2_near_122 : decode cX2_near 122 = .ok (.iload_n 2, 1) := dk_28 (dk_at dksX2_near_5 9 rfl rfl)
theorem dX2_near_123 : decode cX2_near 123 = .ok (.iload_n 3, 1) := dk_29 (dk_at dksX2_near_5 10 rfl rfl)
theorem dX2_near_124 : decode cX2_near 124 = .ok (.invokevirtual 66, 3) := dk_182 0 66 (dk_at dksX2_near_5 11 rfl rfl)
theorem dX2_near_127 : decode cX2_near 127 = .ok (.ifCond .eq 17, 3) := dk_153 0 17 (dk_at dksX2_near_5 14 rfl rfl)
theorem dX2_near_130 : decode cX2_near 130 = .ok (.goto 12, 3) := dk_167 0 12 (dk_at dksX2_near_5 17 rfl rfl)
theorem dX2_near_133 : decode cX2_near 133 = .ok (.aload_n 0, 1) := dk_42 (dk_at dksX2_near_5 20 rfl rfl)
theorem dX2_near_134 : decode cX2_near 134 = .ok (.iload_n 3, 1) := dk_29 (dk_at dksX2_near_5 21 rfl rfl)
theorem dX2_near_135 : decode cX2_near 135 = .ok (.iload_n 2, 1) := dk_28 (dk_at dksX2_near_5 22 rfl rfl)
theorem dX2_near_136 : decode cX2_near 136 = .ok (.invokevirtual 66, 3) := dk_182 0 66 (dk_at dksX2_near_6 0 rfl rfl)
theorem dX2_near_139 : decode cX2_near 139 = .ok (.ifCond .eq 5, 3) := dk_153 0 5 (dk_at dksX2_near_6 3 rfl rfl)
theorem dX2_near_142 : decode cX2_near 142 = .ok (.iload_n 3, 1) := dk_29 (dk_at dksX2_near_6 6 rfl rfl)
theorem dX2_near_143 : decode cX2_near 143 = .ok (.istore_n 2, 1) := dk_61 (dk_at dksX2_near_6 7 rfl rfl)
theorem dX2_near_144 : decode cX2_near 144 = .ok (.iinc 3 1, 3) := dk_132 3 1 (dk_at dksX2_near_6 8 rfl rfl)
theorem dX2_near_147 : decode cX2_near 147 = .ok (.goto (-143), 3) := dk_167 255 113 (dk_at dksX2_near_6 11 rfl rfl)
theorem dX2_near_150 : decode cX2_near 150 = .ok (.aload_n 0, 1) := dk_42 (dk_at dksX2_near_6 14 rfl rfl)
theorem dX2_near_151 : decode cX2_near 151 = .ok (.iload_n 1, 1) := dk_27 (dk_at dksX2_near_6 15 rfl rfl)
theorem dX2_near_152 : decode cX2_near 152 = .ok (.bipush 102, 2) := dk_16 102 (dk_at dksX2_near_6 16 rfl rfl)
theorem dX2_near_154 : decode cX2_near 154 = .ok (.if_icmp .eq 25, 3) := dk_159 0 25 (dk_at dksX2_near_6 18 rfl rfl)
theorem dX2_near_157 : decode cX2_near 157 = .ok (.iload_n 1, 1) := dk_27 (dk_at dksX2_near_6 21 rfl rfl)
theorem dX2_near_158 : decode cX2_near 158 = .ok (.bipush 99, 2) := dk_16 99 (dk_at dksX2_near_6 22 rfl rfl)
theorem dX2_near_160 : decode cX2_near 160 = .ok (.if_icmp .eq 19, 3) := dk_159 0 19 (dk_at dksX2_near_7 0 rfl rfl)
theorem dX2_near_163 : decode cX2_near 163 = .ok (.iload_n 1, 1) := dk_27 (dk_at dksX2_near_7 3 rfl rfl)
theorem dX2_near_164 : decode cX2_near 164 = .ok (.bipush 108, 2) := dk_16 108 (dk_at dksX2_near_7 4 rfl rfl)
theorem dX2_near_166 : decode cX2_near 166 = .ok (.if_icmp .eq 13, 3) := dk_159 0 13 (dk_at dksX2_near_7 6 rfl rfl)
theorem dX2_near_169 : decode cX2_near 169 = .ok (.iload_n 1, 1) := dk_27 (dk_at dksX2_near_7 9 rfl rfl)
theorem dX2_near_170 : decode cX2_near 170 = .ok (.bipush 104, 2) := dk_16 104 (dk_at dksX2_near_7 10 rfl rfl)
theorem dX2_near_172 : decode cX2_near 172 = .ok (.if_icmp .eq 7, 3) := dk_159 0 7 (dk_at dksX2_near_7 12 rfl rfl)
theorem dX2_near_175 : decode cX2_near 175 = .ok (.iconst 1, 1) := dk_4 (dk_at dksX2_near_7 15 rfl rfl)
theorem dX2_near_176 : decode cX2_near 176 = .ok (.goto 12, 3) := dk_167 0 12 (dk_at dksX2_near_7 16 rfl rfl)
theorem dX2_near_179 : decode cX2_near 179 = .ok (.iload_n 2, 1) := dk_28 (dk_at dksX2_near_7 19 rfl rfl)
theorem dX2_near_180 : decode cX2_near 180 = .ok (.ifCond .ge 7, 3) := dk_156 0 7 (dk_at dksX2_near_7 20 rfl rfl)
theorem dX2_near_183 : decode cX2_near 183 = .ok (.iconst 2, 1) := dk_5 (dk_at dksX2_near_7 23 rfl rfl)
theorem dX2_near_184 : decode cX2_near 184 = .ok (.goto 4, 3) := dk_167 0 4 (dk_at dksX2_near_8 0 rfl rfl)
theorem dX2_near_187 : decode cX2_near 187 = .ok (.iconst 0, 1) := dk_3 (dk_at dksX2_near_8 3 rfl rfl)
theorem dX2_near_188 : decode cX2_near 188 = .ok (.invokevirtual 77, 3) := dk_182 0 77 (dk_at dksX2_near_8 4 rfl rfl)
theorem dX2_near_191 : decode cX2_near 191 = .ok (.ifCond .eq 5, 3) := dk_153 0 5 (dk_at dksX2_near_8 7 rfl rfl)
theorem dX2_near_194 : decode cX2_near 194 = .ok (.iconst 0, 1) := dk_3 (dk_at dksX2_near_8 10 rfl rfl)
theorem dX2_near_195 : decode cX2_near 195 = .ok (.ireturn, 1) := dk_172 (dk_at dksX2_near_8 11 rfl rfl)
theorem dX2_near_196 : decode cX2_near 196 = .ok (.aload_n 0, 1) := dk_42 (dk_at dksX2_near_8 12 rfl rfl)
theorem dX2_near_197 : decode cX2_near 197 = .ok (.iload_n 2, 1) := dk_28 (dk_at dksX2_near_8 13 rfl rfl)
theorem dX2_near_198 : decode cX2_near 198 = .ok (.invokevirtual 97, 3) := dk_182 0 97 (dk_at dksX2_near_8 14 rfl rfl)
theorem dX2_near_201 : decode cX2_near 201 = .ok (.aload_n 0, 1) := dk_42 (dk_at dksX2_near_8 17 rfl rfl)
theorem dX2_near_202 : decode cX2_near 202 = .ok (.getfield 30, 3) := dk_180 0 30 (dk_at dksX2_near_8 18 rfl rfl)
theorem dX2_near_205 : decode cX2_near 205 = .ok (.iload_n 2, 1) := dk_28 (dk_at dksX2_near_8 21 rfl rfl)
theorem dX2_near_206 : decode cX2_near 206 = .ok (.iaload, 1) := dk_46 (dk_at dksX2_near_8 22 rfl rfl)
theorem dX2_near_207 : decode cX2_near 207 = .ok (.ireturn, 1) := dk_172 (dk_at dksX2_near_8 23 rfl rfl)
abbrev cX2_begun : ByteArray := prog_3_method_31_code
def yX2_begun : MethodName := ⟨RX2, "begun", "()I"⟩
def dkwX2_begun_1 : List UInt8 := [153, 0, 6, 132, 1, 1, 132, 2, 1, 167, 255, 234, 27, 172]
abbrev dktX2_begun_1 : List UInt8 := dkwX2_begun_1 ++ []
def dkwX2_begun_0 : List UInt8 := [42, 3, 181, 0, 1, 3, 60, 3, 61, 28, 42, 180, 0, 59, 162, 0, 20, 42, 28, 182, 0, 100]
abbrev dktX2_begun_0 : List UInt8 := dkwX2_begun_0 ++ dktX2_begun_1
theorem dksX2_begun_0 : cX2_begun.data.toList.drop 0 = dktX2_begun_0 := by decide +kernel
theorem dksX2_begun_1 : cX2_begun.data.toList.drop 22 = dktX2_begun_1 := dk_seg dksX2_begun_0 22 rfl rfl
theorem dX2_begun_0 : decode cX2_begun 0 = .ok (.aload_n 0, 1) := dk_42 (dk_at dksX2_begun_0 0 rfl rfl)
theorem dX2_begun_1 : decode cX2_begun 1 = .ok (.iconst 0, 1) := dk_3 (dk_at dksX2_begun_0 1 rfl rfl)
theorem dX2_begun_2 : decode cX2_begun 2 = .ok (.putfield 1, 3) := dk_181 0 1 (dk_at dksX2_begun_0 2 rfl rfl)
theorem dX2_begun_5 : decode cX2_begun 5 = .ok (.iconst 0, 1) := dk_3 (dk_at dksX2_begun_0 5 rfl rfl)
theorem dX2_begun_6 : decode cX2_begun 6 = .ok (.istore_n 1, 1) := dk_60 (dk_at dksX2_begun_0 6 rfl rfl)
theorem dX2_begun_7 : decode cX2_begun 7 = .ok (.iconst 0, 1) := dk_3 (dk_at dksX2_begun_0 7 rfl rfl)
theorem dX2_begun_8 : decode cX2_begun 8 = .ok (.istore_n 2, 1) := dk_61 (dk_at dksX2_begun_0 8 rfl rfl)
theorem dX2_begun_9 : decode cX2_begun 9 = .ok (.iload_n 2, 1) := dk_28 (dk_at dksX2_begun_0 9 rfl rfl)
theorem dX2_begun_10 : decode cX2_begun 10 = .ok (.aload_n 0, 1) := dk_42 (dk_at dksX2_begun_0 10 rfl rfl)
theorem dX2_begun_11 : decode cX2_begun 11 = .ok (.getfield 59, 3) := dk_180 0 59 (dk_at dksX2_begun_0 11 rfl rfl)
theorem dX2_begun_14 : decode cX2_begun 14 = .ok (.if_icmp .ge 20, 3) := dk_162 0 20 (dk_at dksX2_begun_0 14 rfl rfl)
theorem dX2_begun_17 : decode cX2_begun 17 = .ok (.aload_n 0, 1) := dk_42 (dk_at dksX2_begun_0 17 rfl rfl)
theorem dX2_begun_18 : decode cX2_begun 18 = .ok (.iload_n 2, 1) := dk_28 (dk_at dksX2_begun_0 18 rfl rfl)
theorem dX2_begun_19 : decode cX2_begun 19 = .ok (.invokevirtual 100, 3) := dk_182 0 100 (dk_at dksX2_begun_0 19 rfl rfl)
theorem dX2_begun_22 : decode cX2_begun 22 = .ok (.ifCond .eq 6, 3) := dk_153 0 6 (dk_at dksX2_begun_1 0 rfl rfl)
theorem dX2_begun_25 : decode cX2_begun 25 = .ok (.iinc 1 1, 3) := dk_132 1 1 (dk_at dksX2_begun_1 3 rfl rfl)
theorem dX2_begun_28 : decode cX2_begun 28 = .ok (.iinc 2 1, 3) := dk_132 2 1 (dk_at dksX2_begun_1 6 rfl rfl)
theorem dX2_begun_31 : decode cX2_begun 31 = .ok (.goto (-22), 3) := dk_167 255 234 (dk_at dksX2_begun_1 9 rfl rfl)
theorem dX2_begun_34 : decode cX2_begun 34 = .ok (.iload_n 1, 1) := dk_27 (dk_at dksX2_begun_1 12 rfl rfl)
theorem dX2_begun_35 : decode cX2_begun 35 = .ok (.ireturn, 1) := dk_172 (dk_at dksX2_begun_1 13 rfl rfl)
abbrev cX2_isBegun : ByteArray := prog_3_method_10_code
def yX2_isBegun : MethodName := ⟨RX2, "isBegun", "(I)Z"⟩
def dkwX2_isBegun_0 : List UInt8 := [42, 27, 3, 182, 0, 52, 42, 180, 0, 49, 160, 0, 7, 4, 167, 0, 4, 3, 172]
abbrev dktX2_isBegun_0 : List UInt8 := dkwX2_isBegun_0 ++ []
theorem dksX2_isBegun_0 : cX2_isBegun.data.toList.drop 0 = dktX2_isBegun_0 := by decide +kernel
theorem dX2_isBegun_0 : decode cX2_isBegun 0 = .ok (.aload_n 0, 1) := dk_42 (dk_at dksX2_isBegun_0 0 rfl rfl)
theorem dX2_isBegun_1 : decode cX2_isBegun 1 = .ok (.iload_n 1, 1) := dk_27 (dk_at dksX2_isBegun_0 1 rfl rfl)
theorem dX2_isBegun_2 : decode cX2_isBegun 2 = .ok (.iconst 0, 1) := dk_3 (dk_at dksX2_isBegun_0 2 rfl rfl)
theorem dX2_isBegun_3 : decode cX2_isBegun 3 = .ok (.invokevirtual 52, 3) := dk_182 0 52 (dk_at dksX2_isBegun_0 3 rfl rfl)
theorem dX2_isBegun_6 : decode cX2_isBegun 6 = .ok (.aload_n 0, 1) := dk_42 (dk_at dksX2_isBegun_0 6 rfl rfl)
theorem dX2_isBegun_7 : decode cX2_isBegun 7 = .ok (.getfield 49, 3) := dk_180 0 49 (dk_at dksX2_isBegun_0 7 rfl rfl)
theorem dX2_isBegun_10 : decode cX2_isBegun 10 = .ok (.if_icmp .ne 7, 3) := dk_160 0 7 (dk_at dksX2_isBegun_0 10 rfl rfl)
theorem dX2_isBegun_13 : decode cX2_isBegun 13 = .ok (.iconst 1, 1) := dk_4 (dk_at dksX2_isBegun_0 13 rfl rfl)
theorem dX2_isBegun_14 : decode cX2_isBegun 14 = .ok (.goto 4, 3) := dk_167 0 4 (dk_at dksX2_isBegun_0 14 rfl rfl)
theorem dX2_isBegun_17 : decode cX2_isBegun 17 = .ok (.iconst 0, 1) := dk_3 (dk_at dksX2_isBegun_0 17 rfl rfl)
theorem dX2_isBegun_18 : decode cX2_isBegun 18 = .ok (.ireturn, 1) := dk_172 (dk_at dksX2_isBegun_0 18 rfl rfl)
abbrev cX2_begunAt : ByteArray := prog_3_method_32_code
def yX2_begunAt : MethodName := ⟨RX2, "begunAt", "(I)I"⟩
def dkwX2_begunAt_4 : List UInt8 := [172, 42, 28, 182, 0, 97, 42, 180, 0, 30, 28, 46, 172]
abbrev dktX2_begunAt_4 : List UInt8 := dkwX2_begunAt_4 ++ []
def dkwX2_begunAt_3 : List UInt8 := [61, 132, 3, 1, 167, 255, 186, 42, 28, 156, 0, 7, 4, 167, 0, 4, 3, 182, 0, 77, 153, 0, 5, 3]
abbrev dktX2_begunAt_3 : List UInt8 := dkwX2_begunAt_3 ++ dktX2_begunAt_4
def dkwX2_begunAt_2 : List UInt8 := [132, 4, 1, 132, 5, 1, 167, 255, 222, 42, 29, 182, 0, 100, 153, 0, 11, 21, 4, 27, 160, 0, 5, 29]
abbrev dktX2_begunAt_2 : List UInt8 := dkwX2_begunAt_2 ++ dktX2_begunAt_3
def dkwX2_begunAt_1 : List UInt8 := [162, 0, 31, 42, 21, 5, 182, 0, 100, 153, 0, 16, 42, 21, 5, 29, 182, 0, 66, 153, 0, 6]
abbrev dktX2_begunAt_1 : List UInt8 := dkwX2_begunAt_1 ++ dktX2_begunAt_2
def dkwX2_begunAt_0 : List UInt8 := [2, 61, 3, 62, 29, 42, 180, 0, 59, 162, 0, 68, 3, 54, 4, 3, 54, 5, 21, 5, 42, 180, 0, 59]
abbrev dktX2_begunAt_0 : List UInt8 := dkwX2_begunAt_0 ++ dktX2_begunAt_1
theorem dksX2_begunAt_0 : cX2_begunAt.data.toList.drop 0 = dktX2_begunAt_0 := by decide +kernel
theorem dksX2_begunAt_1 : cX2_begunAt.data.toList.drop 24 = dktX2_begunAt_1 := dk_seg dksX2_begunAt_0 24 rfl rfl
theorem dksX2_begunAt_2 : cX2_begunAt.data.toList.drop 46 = dktX2_begunAt_2 := dk_seg dksX2_begunAt_1 22 rfl rfl
theorem dksX2_begunAt_3 : cX2_begunAt.data.toList.drop 70 = dktX2_begunAt_3 := dk_seg dksX2_begunAt_2 24 rfl rfl
theorem dksX2_begunAt_4 : cX2_begunAt.data.toList.drop 94 = dktX2_begunAt_4 := dk_seg dksX2_begunAt_3 24 rfl rfl
theorem dX2_begunAt_0 : decode cX2_begunAt 0 = .ok (.iconst (-1), 1) := dk_2 (dk_at dksX2_begunAt_0 0 rfl rfl)
theorem dX2_begunAt_1 : decode cX2_begunAt 1 = .ok (.istore_n 2, 1) := dk_61 (dk_at dksX2_begunAt_0 1 rfl rfl)
theorem dX2_begunAt_2 : decode cX2_begunAt 2 = .ok (.iconst 0, 1) := dk_3 (dk_at dksX2_begunAt_0 2 rfl rfl)
theorem dX2_begunAt_3 : decode cX2_begunAt 3 = .ok (.istore_n 3, 1) := dk_62 (dk_at dksX2_begunAt_0 3 rfl rfl)
theorem dX2_begunAt_4 : decode cX2_begunAt 4 = .ok (.iload_n 3, 1) := dk_29 (dk_at dksX2_begunAt_0 4 rfl rfl)
theorem dX2_begunAt_5 : decode cX2_begunAt 5 = .ok (.aload_n 0, 1) := dk_42 (dk_at dksX2_begunAt_0 5 rfl rfl)
theorem dX2_begunAt_6 : decode cX2_begunAt 6 = .ok (.getfield 59, 3) := dk_180 0 59 (dk_at dksX2_begunAt_0 6 rfl rfl)
theorem dX2_begunAt_9 : decode cX2_begunAt 9 = .ok (.if_icmp .ge 68, 3) := dk_162 0 68 (dk_at dksX2_begunAt_0 9 rfl rfl)
theorem dX2_begunAt_12 : decode cX2_begunAt 12 = .ok (.iconst 0, 1) := dk_3 (dk_at dksX2_begunAt_0 12 rfl rfl)
theorem dX2_begunAt_13 : decode cX2_begunAt 13 = .ok (.istore 4, 2) := dk_54 4 (dk_at dksX2_begunAt_0 13 rfl rfl)
theorem dX2_begunAt_15 : decode cX2_begunAt 15 = .ok (.iconst 0, 1) := dk_3 (dk_at dksX2_begunAt_0 15 rfl rfl)
theorem dX2_begunAt_16 : decode cX2_begunAt 16 = .ok (.istore 5, 2) := dk_54 5 (dk_at dksX2_begunAt_0 16 rfl rfl)
theorem dX2_begunAt_18 : decode cX2_begunAt 18 = .ok (.iload 5, 2) := dk_21 5 (dk_at dksX2_begunAt_0 18 rfl rfl)
theorem dX2_begunAt_20 : decode cX2_begunAt 20 = .ok (.aload_n 0, 1) := dk_42 (dk_at dksX2_begunAt_0 20 rfl rfl)
theorem dX2_begunAt_21 : decode cX2_begunAt 21 = .ok (.getfield 59, 3) := dk_180 0 59 (dk_at dksX2_begunAt_0 21 rfl rfl)
theorem dX2_begunAt_24 : decode cX2_begunAt 24 = .ok (.if_icmp .ge 31, 3) := dk_162 0 31 (dk_at dksX2_begunAt_1 0 rfl rfl)
theorem dX2_begunAt_27 : decode cX2_begunAt 27 = .ok (.aload_n 0, 1) := dk_42 (dk_at dksX2_begunAt_1 3 rfl rfl)
theorem dX2_begunAt_28 : decode cX2_begunAt 28 = .ok (.iload 5, 2) := dk_21 5 (dk_at dksX2_begunAt_1 4 rfl rfl)
theorem dX2_begunAt_30 : decode cX2_begunAt 30 = .ok (.invokevirtual 100, 3) := dk_182 0 100 (dk_at dksX2_begunAt_1 6 rfl rfl)
theorem dX2_begunAt_33 : decode cX2_begunAt 33 = .ok (.ifCond .eq 16, 3) := dk_153 0 16 (dk_at dksX2_begunAt_1 9 rfl rfl)
theorem dX2_begunAt_36 : decode cX2_begunAt 36 = .ok (.aload_n 0, 1) := dk_42 (dk_at dksX2_begunAt_1 12 rfl rfl)
theorem dX2_begunAt_37 : decode cX2_begunAt 37 = .ok (.iload 5, 2) := dk_21 5 (dk_at dksX2_begunAt_1 13 rfl rfl)
theorem dX2_begunAt_39 : decode cX2_begunAt 39 = .ok (.iload_n 3, 1) := dk_29 (dk_at dksX2_begunAt_1 15 rfl rfl)
theorem dX2_begunAt_40 : decode cX2_begunAt 40 = .ok (.invokevirtual 66, 3) := dk_182 0 66 (dk_at dksX2_begunAt_1 16 rfl rfl)
theorem dX2_begunAt_43 : decode cX2_begunAt 43 = .ok (.ifCond .eq 6, 3) := dk_153 0 6 (dk_at dksX2_begunAt_1 19 rfl rfl)
theorem dX2_begunAt_46 : decode cX2_begunAt 46 = .ok (.iinc 4 1, 3) := dk_132 4 1 (dk_at dksX2_begunAt_2 0 rfl rfl)
theorem dX2_begunAt_49 : decode cX2_begunAt 49 = .ok (.iinc 5 1, 3) := dk_132 5 1 (dk_at dksX2_begunAt_2 3 rfl rfl)
theorem dX2_begunAt_52 : decode cX2_begunAt 52 = .ok (.goto (-34), 3) := dk_167 255 222 (dk_at dksX2_begunAt_2 6 rfl rfl)
theorem dX2_begunAt_55 : decode cX2_begunAt 55 = .ok (.aload_n 0, 1) := dk_42 (dk_at dksX2_begunAt_2 9 rfl rfl)
theorem dX2_begunAt_56 : decode cX2_begunAt 56 = .ok (.iload_n 3, 1) := dk_29 (dk_at dksX2_begunAt_2 10 rfl rfl)
theorem dX2_begunAt_57 : decode cX2_begunAt 57 = .ok (.invokevirtual 100, 3) := dk_182 0 100 (dk_at dksX2_begunAt_2 11 rfl rfl)
theorem dX2_begunAt_60 : decode cX2_begunAt 60 = .ok (.ifCond .eq 11, 3) := dk_153 0 11 (dk_at dksX2_begunAt_2 14 rfl rfl)
theorem dX2_begunAt_63 : decode cX2_begunAt 63 = .ok (.iload 4, 2) := dk_21 4 (dk_at dksX2_begunAt_2 17 rfl rfl)
theorem dX2_begunAt_65 : decode cX2_begunAt 65 = .ok (.iload_n 1, 1) := dk_27 (dk_at dksX2_begunAt_2 19 rfl rfl)
theorem dX2_begunAt_66 : decode cX2_begunAt 66 = .ok (.if_icmp .ne 5, 3) := dk_160 0 5 (dk_at dksX2_begunAt_2 20 rfl rfl)
theorem dX2_begunAt_69 : decode cX2_begunAt 69 = .ok (.iload_n 3, 1) := dk_29 (dk_at dksX2_begunAt_2 23 rfl rfl)
theorem dX2_begunAt_70 : decode cX2_begunAt 70 = .ok (.istore_n 2, 1) := dk_61 (dk_at dksX2_begunAt_3 0 rfl rfl)
theorem dX2_begunAt_71 : decode cX2_begunAt 71 = .ok (.iinc 3 1, 3) := dk_132 3 1 (dk_at dksX2_begunAt_3 1 rfl rfl)
theorem dX2_begunAt_74 : decode cX2_begunAt 74 = .ok (.goto (-70), 3) := dk_167 255 186 (dk_at dksX2_begunAt_3 4 rfl rfl)
theorem dX2_begunAt_77 : decode cX2_begunAt 77 = .ok (.aload_n 0, 1) := dk_42 (dk_at dksX2_begunAt_3 7 rfl rfl)
theorem dX2_begunAt_78 : decode cX2_begunAt 78 = .ok (.iload_n 2, 1) := dk_28 (dk_at dksX2_begunAt_3 8 rfl rfl)
theorem dX2_begunAt_79 : decode cX2_begunAt 79 = .ok (.ifCond .ge 7, 3) := dk_156 0 7 (dk_at dksX2_begunAt_3 9 rfl rfl)
theorem dX2_begunAt_82 : decode cX2_begunAt 82 = .ok (.iconst 1, 1) := dk_4 (dk_at dksX2_begunAt_3 12 rfl rfl)
theorem dX2_begunAt_83 : decode cX2_begunAt 83 = .ok (.goto 4, 3) := dk_167 0 4 (dk_at dksX2_begunAt_3 13 rfl rfl)
theorem dX2_begunAt_86 : decode cX2_begunAt 86 = .ok (.iconst 0, 1) := dk_3 (dk_at dksX2_begunAt_3 16 rfl rfl)
theorem dX2_begunAt_87 : decode cX2_begunAt 87 = .ok (.invokevirtual 77, 3) := dk_182 0 77 (dk_at dksX2_begunAt_3 17 rfl rfl)
theorem dX2_begunAt_90 : decode cX2_begunAt 90 = .ok (.ifCond .eq 5, 3) := dk_153 0 5 (dk_at dksX2_begunAt_3 20 rfl rfl)
theorem dX2_begunAt_93 : decode cX2_begunAt 93 = .ok (.iconst 0, 1) := dk_3 (dk_at dksX2_begunAt_3 23 rfl rfl)
theorem dX2_begunAt_94 : decode cX2_begunAt 94 = .ok (.ireturn, 1) := dk_172 (dk_at dksX2_begunAt_4 0 rfl rfl)
theorem dX2_begunAt_95 : decode cX2_begunAt 95 = .ok (.aload_n 0, 1) := dk_42 (dk_at dksX2_begunAt_4 1 rfl rfl)
theorem dX2_begunAt_96 : decode cX2_begunAt 96 = .ok (.iload_n 2, 1) := dk_28 (dk_at dksX2_begunAt_4 2 rfl rfl)
theorem dX2_begunAt_97 : decode cX2_begunAt 97 = .ok (.invokevirtual 97, 3) := dk_182 0 97 (dk_at dksX2_begunAt_4 3 rfl rfl)
theorem dX2_begunAt_100 : decode cX2_begunAt 100 = .ok (.aload_n 0, 1) := dk_42 (dk_at dksX2_begunAt_4 6 rfl rfl)
theorem dX2_begunAt_101 : decode cX2_begunAt 101 = .ok (.getfield 30, 3) := dk_180 0 30 (dk_at dksX2_begunAt_4 7 rfl rfl)
theorem dX2_begunAt_104 : decode cX2_begunAt 104 = .ok (.iload_n 2, 1) := dk_28 (dk_at dksX2_begunAt_4 10 rfl rfl)
theorem dX2_begunAt_105 : decode cX2_begunAt 105 = .ok (.iaload, 1) := dk_46 (dk_at dksX2_begunAt_4 11 rfl rfl)
theorem dX2_begunAt_106 : decode cX2_begunAt 106 = .ok (.ireturn, 1) := dk_172 (dk_at dksX2_begunAt_4 12 rfl rfl)
abbrev cX2_sum : ByteArray := prog_3_method_33_code
def yX2_sum : MethodName := ⟨RX2, "sum", "()I"⟩
def dkwX2_sum_1 : List UInt8 := [153, 0, 12, 27, 42, 180, 0, 30, 28, 46, 96, 60, 132, 2, 1, 167, 255, 228, 27, 172]
abbrev dktX2_sum_1 : List UInt8 := dkwX2_sum_1 ++ []
def dkwX2_sum_0 : List UInt8 := [42, 3, 181, 0, 1, 3, 60, 3, 61, 28, 42, 180, 0, 59, 162, 0, 26, 42, 28, 182, 0, 100]
abbrev dktX2_sum_0 : List UInt8 := dkwX2_sum_0 ++ dktX2_sum_1
theorem dksX2_sum_0 : cX2_sum.data.toList.drop 0 = dktX2_sum_0 := by decide +kernel
theorem dksX2_sum_1 : cX2_sum.data.toList.drop 22 = dktX2_sum_1 := dk_seg dksX2_sum_0 22 rfl rfl
theorem dX2_sum_0 : decode cX2_sum 0 = .ok (.aload_n 0, 1) := dk_42 (dk_at dksX2_sum_0 0 rfl rfl)
theorem dX2_sum_1 : decode cX2_sum 1 = .ok (.iconst 0, 1) := dk_3 (dk_at dksX2_sum_0 1 rfl rfl)
theorem dX2_sum_2 : decode cX2_sum 2 = .ok (.putfield 1, 3) := dk_181 0 1 (dk_at dksX2_sum_0 2 rfl rfl)
theorem dX2_sum_5 : decode cX2_sum 5 = .ok (.iconst 0, 1) := dk_3 (dk_at dksX2_sum_0 5 rfl rfl)
theorem dX2_sum_6 : decode cX2_sum 6 = .ok (.istore_n 1, 1) := dk_60 (dk_at dksX2_sum_0 6 rfl rfl)
theorem dX2_sum_7 : decode cX2_sum 7 = .ok (.iconst 0, 1) := dk_3 (dk_at dksX2_sum_0 7 rfl rfl)
theorem dX2_sum_8 : decode cX2_sum 8 = .ok (.istore_n 2, 1) := dk_61 (dk_at dksX2_sum_0 8 rfl rfl)
theorem dX2_sum_9 : decode cX2_sum 9 = .ok (.iload_n 2, 1) := dk_28 (dk_at dksX2_sum_0 9 rfl rfl)
theorem dX2_sum_10 : decode cX2_sum 10 = .ok (.aload_n 0, 1) := dk_42 (dk_at dksX2_sum_0 10 rfl rfl)
theorem dX2_sum_11 : decode cX2_sum 11 = .ok (.getfield 59, 3) := dk_180 0 59 (dk_at dksX2_sum_0 11 rfl rfl)
theorem dX2_sum_14 : decode cX2_sum 14 = .ok (.if_icmp .ge 26, 3) := dk_162 0 26 (dk_at dksX2_sum_0 14 rfl rfl)
theorem dX2_sum_17 : decode cX2_sum 17 = .ok (.aload_n 0, 1) := dk_42 (dk_at dksX2_sum_0 17 rfl rfl)
theorem dX2_sum_18 : decode cX2_sum 18 = .ok (.iload_n 2, 1) := dk_28 (dk_at dksX2_sum_0 18 rfl rfl)
theorem dX2_sum_19 : decode cX2_sum 19 = .ok (.invokevirtual 100, 3) := dk_182 0 100 (dk_at dksX2_sum_0 19 rfl rfl)
theorem dX2_sum_22 : decode cX2_sum 22 = .ok (.ifCond .eq 12, 3) := dk_153 0 12 (dk_at dksX2_sum_1 0 rfl rfl)
theorem dX2_sum_25 : decode cX2_sum 25 = .ok (.iload_n 1, 1) := dk_27 (dk_at dksX2_sum_1 3 rfl rfl)
theorem dX2_sum_26 : decode cX2_sum 26 = .ok (.aload_n 0, 1) := dk_42 (dk_at dksX2_sum_1 4 rfl rfl)
theorem dX2_sum_27 : decode cX2_sum 27 = .ok (.getfield 30, 3) := dk_180 0 30 (dk_at dksX2_sum_1 5 rfl rfl)
theorem dX2_sum_30 : decode cX2_sum 30 = .ok (.iload_n 2, 1) := dk_28 (dk_at dksX2_sum_1 8 rfl rfl)
theorem dX2_sum_31 : decode cX2_sum 31 = .ok (.iaload, 1) := dk_46 (dk_at dksX2_sum_1 9 rfl rfl)
theorem dX2_sum_32 : decode cX2_sum 32 = .ok (.iadd, 1) := dk_96 (dk_at dksX2_sum_1 10 rfl rfl)
theorem dX2_sum_33 : decode cX2_sum 33 = .ok (.istore_n 1, 1) := dk_60 (dk_at dksX2_sum_1 11 rfl rfl)
theorem dX2_sum_34 : decode cX2_sum 34 = .ok (.iinc 2 1, 3) := dk_132 2 1 (dk_at dksX2_sum_1 12 rfl rfl)
theorem dX2_sum_37 : decode cX2_sum 37 = .ok (.goto (-28), 3) := dk_167 255 228 (dk_at dksX2_sum_1 15 rfl rfl)
theorem dX2_sum_40 : decode cX2_sum 40 = .ok (.iload_n 1, 1) := dk_27 (dk_at dksX2_sum_1 18 rfl rfl)
theorem dX2_sum_41 : decode cX2_sum 41 = .ok (.ireturn, 1) := dk_172 (dk_at dksX2_sum_1 19 rfl rfl)
abbrev cX2_gone : ByteArray := prog_3_method_34_code
def yX2_gone : MethodName := ⟨RX2, "gone", "()I"⟩
def dkwX2_gone_1 : List UInt8 := [154, 0, 6, 167, 0, 11, 42, 28, 182, 0, 90, 132, 1, 1, 132, 2, 255, 167, 255, 230, 27, 172]
abbrev dktX2_gone_1 : List UInt8 := dkwX2_gone_1 ++ []
def dkwX2_gone_0 : List UInt8 := [42, 3, 181, 0, 1, 3, 60, 42, 180, 0, 59, 4, 100, 61, 28, 155, 0, 28, 42, 28, 182, 0, 100]
abbrev dktX2_gone_0 : List UInt8 := dkwX2_gone_0 ++ dktX2_gone_1
theorem dksX2_gone_0 : cX2_gone.data.toList.drop 0 = dktX2_gone_0 := by decide +kernel
theorem dksX2_gone_1 : cX2_gone.data.toList.drop 23 = dktX2_gone_1 := dk_seg dksX2_gone_0 23 rfl rfl
theorem dX2_gone_0 : decode cX2_gone 0 = .ok (.aload_n 0, 1) := dk_42 (dk_at dksX2_gone_0 0 rfl rfl)
theorem dX2_gone_1 : decode cX2_gone 1 = .ok (.iconst 0, 1) := dk_3 (dk_at dksX2_gone_0 1 rfl rfl)
theorem dX2_gone_2 : decode cX2_gone 2 = .ok (.putfield 1, 3) := dk_181 0 1 (dk_at dksX2_gone_0 2 rfl rfl)
theorem dX2_gone_5 : decode cX2_gone 5 = .ok (.iconst 0, 1) := dk_3 (dk_at dksX2_gone_0 5 rfl rfl)
theorem dX2_gone_6 : decode cX2_gone 6 = .ok (.istore_n 1, 1) := dk_60 (dk_at dksX2_gone_0 6 rfl rfl)
theorem dX2_gone_7 : decode cX2_gone 7 = .ok (.aload_n 0, 1) := dk_42 (dk_at dksX2_gone_0 7 rfl rfl)
theorem dX2_gone_8 : decode cX2_gone 8 = .ok (.getfield 59, 3) := dk_180 0 59 (dk_at dksX2_gone_0 8 rfl rfl)
theorem dX2_gone_11 : decode cX2_gone 11 = .ok (.iconst 1, 1) := dk_4 (dk_at dksX2_gone_0 11 rfl rfl)
theorem dX2_gone_12 : decode cX2_gone 12 = .ok (.isub, 1) := dk_100 (dk_at dksX2_gone_0 12 rfl rfl)
theorem dX2_gone_13 : decode cX2_gone 13 = .ok (.istore_n 2, 1) := dk_61 (dk_at dksX2_gone_0 13 rfl rfl)
theorem dX2_gone_14 : decode cX2_gone 14 = .ok (.iload_n 2, 1) := dk_28 (dk_at dksX2_gone_0 14 rfl rfl)
theorem dX2_gone_15 : decode cX2_gone 15 = .ok (.ifCond .lt 28, 3) := dk_155 0 28 (dk_at dksX2_gone_0 15 rfl rfl)
theorem dX2_gone_18 : decode cX2_gone 18 = .ok (.aload_n 0, 1) := dk_42 (dk_at dksX2_gone_0 18 rfl rfl)
theorem dX2_gone_19 : decode cX2_gone 19 = .ok (.iload_n 2, 1) := dk_28 (dk_at dksX2_gone_0 19 rfl rfl)
theorem dX2_gone_20 : decode cX2_gone 20 = .ok (.invokevirtual 100, 3) := dk_182 0 100 (dk_at dksX2_gone_0 20 rfl rfl)
theorem dX2_gone_23 : decode cX2_gone 23 = .ok (.ifCond .ne 6, 3) := dk_154 0 6 (dk_at dksX2_gone_1 0 rfl rfl)
theorem dX2_gone_26 : decode cX2_gone 26 = .ok (.goto 11, 3) := dk_167 0 11 (dk_at dksX2_gone_1 3 rfl rfl)
theorem dX2_gone_29 : decode cX2_gone 29 = .ok (.aload_n 0, 1) := dk_42 (dk_at dksX2_gone_1 6 rfl rfl)
theorem dX2_gone_30 : decode cX2_gone 30 = .ok (.iload_n 2, 1) := dk_28 (dk_at dksX2_gone_1 7 rfl rfl)
theorem dX2_gone_31 : decode cX2_gone 31 = .ok (.invokevirtual 90, 3) := dk_182 0 90 (dk_at dksX2_gone_1 8 rfl rfl)
theorem dX2_gone_34 : decode cX2_gone 34 = .ok (.iinc 1 1, 3) := dk_132 1 1 (dk_at dksX2_gone_1 11 rfl rfl)
theorem dX2_gone_37 : decode cX2_gone 37 = .ok (.iinc 2 (-1), 3) := dk_132 2 255 (dk_at dksX2_gone_1 14 rfl rfl)
theorem dX2_gone_40 : decode cX2_gone 40 = .ok (.goto (-26), 3) := dk_167 255 230 (dk_at dksX2_gone_1 17 rfl rfl)
theorem dX2_gone_43 : decode cX2_gone 43 = .ok (.iload_n 1, 1) := dk_27 (dk_at dksX2_gone_1 20 rfl rfl)
theorem dX2_gone_44 : decode cX2_gone 44 = .ok (.ireturn, 1) := dk_172 (dk_at dksX2_gone_1 21 rfl rfl)
abbrev cX2_longest : ByteArray := prog_3_method_36_code
def yX2_longest : MethodName := ⟨RX2, "longest", "(I)I"⟩
def dkwX2_longest_1 : List UInt8 := [3, 167, 0, 8, 42, 27, 182, 0, 103, 172]
abbrev dktX2_longest_1 : List UInt8 := dkwX2_longest_1 ++ []
def dkwX2_longest_0 : List UInt8 := [42, 27, 3, 42, 180, 0, 49, 184, 0, 81, 153, 0, 7, 3, 167, 0, 4, 4, 182, 0, 77, 153, 0, 7]
abbrev dktX2_longest_0 : List UInt8 := dkwX2_longest_0 ++ dktX2_longest_1
theorem dksX2_longest_0 : cX2_longest.data.toList.drop 0 = dktX2_longest_0 := by decide +kernel
theorem dksX2_longest_1 : cX2_longest.data.toList.drop 24 = dktX2_longest_1 := dk_seg dksX2_longest_0 24 rfl rfl
theorem dX2_longest_0 : decode cX2_longest 0 = .ok (.aload_n 0, 1) := dk_42 (dk_at dksX2_longest_0 0 rfl rfl)
theorem dX2_longest_1 : decode cX2_longest 1 = .ok (.iload_n 1, 1) := dk_27 (dk_at dksX2_longest_0 1 rfl rfl)
theorem dX2_longest_2 : decode cX2_longest 2 = .ok (.iconst 0, 1) := dk_3 (dk_at dksX2_longest_0 2 rfl rfl)
theorem dX2_longest_3 : decode cX2_longest 3 = .ok (.aload_n 0, 1) := dk_42 (dk_at dksX2_longest_0 3 rfl rfl)
theorem dX2_longest_4 : decode cX2_longest 4 = .ok (.getfield 49, 3) := dk_180 0 49 (dk_at dksX2_longest_0 4 rfl rfl)
theorem dX2_longest_7 : decode cX2_longest 7 = .ok (.invokestatic 81, 3) := dk_184 0 81 (dk_at dksX2_longest_0 7 rfl rfl)
theorem dX2_longest_10 : decode cX2_longest 10 = .ok (.ifCond .eq 7, 3) := dk_153 0 7 (dk_at dksX2_longest_0 10 rfl rfl)
theorem dX2_longest_13 : decode cX2_longest 13 = .ok (.iconst 0, 1) := dk_3 (dk_at dksX2_longest_0 13 rfl rfl)
theorem dX2_longest_14 : decode cX2_longest 14 = .ok (.goto 4, 3) := dk_167 0 4 (dk_at dksX2_longest_0 14 rfl rfl)
theorem dX2_longest_17 : decode cX2_longest 17 = .ok (.iconst 1, 1) := dk_4 (dk_at dksX2_longest_0 17 rfl rfl)
theorem dX2_longest_18 : decode cX2_longest 18 = .ok (.invokevirtual 77, 3) := dk_182 0 77 (dk_at dksX2_longest_0 18 rfl rfl)
theorem dX2_longest_21 : decode cX2_longest 21 = .ok (.ifCond .eq 7, 3) := dk_153 0 7 (dk_at dksX2_longest_0 21 rfl rfl)
theorem dX2_longest_24 : decode cX2_longest 24 = .ok (.iconst 0, 1) := dk_3 (dk_at dksX2_longest_1 0 rfl rfl)
theorem dX2_longest_25 : decode cX2_longest 25 = .ok (.goto 8, 3) := dk_167 0 8 (dk_at dksX2_longest_1 1 rfl rfl)
theorem dX2_longest_28 : decode cX2_longest 28 = .ok (.aload_n 0, 1) := dk_42 (dk_at dksX2_longest_1 4 rfl rfl)
theorem dX2_longest_29 : decode cX2_longest 29 = .ok (.iload_n 1, 1) := dk_27 (dk_at dksX2_longest_1 5 rfl rfl)
theorem dX2_longest_30 : decode cX2_longest 30 = .ok (.invokevirtual 103, 3) := dk_182 0 103 (dk_at dksX2_longest_1 6 rfl rfl)
theorem dX2_longest_33 : decode cX2_longest 33 = .ok (.ireturn, 1) := dk_172 (dk_at dksX2_longest_1 9 rfl rfl)
abbrev cX2_longestAt : ByteArray := prog_3_method_35_code
def yX2_longestAt : MethodName := ⟨RX2, "longestAt", "(I)I"⟩
def dkwX2_longestAt_2 : List UInt8 := [167, 255, 213, 28, 172]
abbrev dktX2_longestAt_2 : List UInt8 := dkwX2_longestAt_2 ++ []
def dkwX2_longestAt_1 : List UInt8 := [160, 0, 20, 42, 180, 0, 26, 29, 46, 28, 164, 0, 10, 42, 180, 0, 26, 29, 46, 61, 132, 3, 1]
abbrev dktX2_longestAt_1 : List UInt8 := dkwX2_longestAt_1 ++ dktX2_longestAt_2
def dkwX2_longestAt_0 : List UInt8 := [3, 61, 3, 62, 29, 42, 180, 0, 59, 162, 0, 41, 42, 29, 27, 182, 0, 52, 42, 180, 0, 26, 29, 46]
abbrev dktX2_longestAt_0 : List UInt8 := dkwX2_longestAt_0 ++ dktX2_longestAt_1
theorem dksX2_longestAt_0 : cX2_longestAt.data.toList.drop 0 = dktX2_longestAt_0 := by decide +kernel
theorem dksX2_longestAt_1 : cX2_longestAt.data.toList.drop 24 = dktX2_longestAt_1 := dk_seg dksX2_longestAt_0 24 rfl rfl
theorem dksX2_longestAt_2 : cX2_longestAt.data.toList.drop 47 = dktX2_longestAt_2 := dk_seg dksX2_longestAt_1 23 rfl rfl
theorem dX2_longestAt_0 : decode cX2_longestAt 0 = .ok (.iconst 0, 1) := dk_3 (dk_at dksX2_longestAt_0 0 rfl rfl)
theorem dX2_longestAt_1 : decode cX2_longestAt 1 = .ok (.istore_n 2, 1) := dk_61 (dk_at dksX2_longestAt_0 1 rfl rfl)
theorem dX2_longestAt_2 : decode cX2_longestAt 2 = .ok (.iconst 0, 1) := dk_3 (dk_at dksX2_longestAt_0 2 rfl rfl)
theorem dX2_longestAt_3 : decode cX2_longestAt 3 = .ok (.istore_n 3, 1) := dk_62 (dk_at dksX2_longestAt_0 3 rfl rfl)
theorem dX2_longestAt_4 : decode cX2_longestAt 4 = .ok (.iload_n 3, 1) := dk_29 (dk_at dksX2_longestAt_0 4 rfl rfl)
theorem dX2_longestAt_5 : decode cX2_longestAt 5 = .ok (.aload_n 0, 1) := dk_42 (dk_at dksX2_longestAt_0 5 rfl rfl)
theorem dX2_longestAt_6 : decode cX2_longestAt 6 = .ok (.getfield 59, 3) := dk_180 0 59 (dk_at dksX2_longestAt_0 6 rfl rfl)
theorem dX2_longestAt_9 : decode cX2_longestAt 9 = .ok (.if_icmp .ge 41, 3) := dk_162 0 41 (dk_at dksX2_longestAt_0 9 rfl rfl)
theorem dX2_longestAt_12 : decode cX2_longestAt 12 = .ok (.aload_n 0, 1) := dk_42 (dk_at dksX2_longestAt_0 12 rfl rfl)
theorem dX2_longestAt_13 : decode cX2_longestAt 13 = .ok (.iload_n 3, 1) := dk_29 (dk_at dksX2_longestAt_0 13 rfl rfl)
theorem dX2_longestAt_14 : decode cX2_longestAt 14 = .ok (.iload_n 1, 1) := dk_27 (dk_at dksX2_longestAt_0 14 rfl rfl)
theorem dX2_longestAt_15 : decode cX2_longestAt 15 = .ok (.invokevirtual 52, 3) := dk_182 0 52 (dk_at dksX2_longestAt_0 15 rfl rfl)
theorem dX2_longestAt_18 : decode cX2_longestAt 18 = .ok (.aload_n 0, 1) := dk_42 (dk_at dksX2_longestAt_0 18 rfl rfl)
theorem dX2_longestAt_19 : decode cX2_longestAt 19 = .ok (.getfield 26, 3) := dk_180 0 26 (dk_at dksX2_longestAt_0 19 rfl rfl)
theorem dX2_longestAt_22 : decode cX2_longestAt 22 = .ok (.iload_n 3, 1) := dk_29 (dk_at dksX2_longestAt_0 22 rfl rfl)
theorem dX2_longestAt_23 : decode cX2_longestAt 23 = .ok (.iaload, 1) := dk_46 (dk_at dksX2_longestAt_0 23 rfl rfl)
theorem dX2_longestAt_24 : decode cX2_longestAt 24 = .ok (.if_icmp .ne 20, 3) := dk_160 0 20 (dk_at dksX2_longestAt_1 0 rfl rfl)
theorem dX2_longestAt_27 : decode cX2_longestAt 27 = .ok (.aload_n 0, 1) := dk_42 (dk_at dksX2_longestAt_1 3 rfl rfl)
theorem dX2_longestAt_28 : decode cX2_longestAt 28 = .ok (.getfield 26, 3) := dk_180 0 26 (dk_at dksX2_longestAt_1 4 rfl rfl)
theorem dX2_longestAt_31 : decode cX2_longestAt 31 = .ok (.iload_n 3, 1) := dk_29 (dk_at dksX2_longestAt_1 7 rfl rfl)
theorem dX2_longestAt_32 : decode cX2_longestAt 32 = .ok (.iaload, 1) := dk_46 (dk_at dksX2_longestAt_1 8 rfl rfl)
theorem dX2_longestAt_33 : decode cX2_longestAt 33 = .ok (.iload_n 2, 1) := dk_28 (dk_at dksX2_longestAt_1 9 rfl rfl)
theorem dX2_longestAt_34 : decode cX2_longestAt 34 = .ok (.if_icmp .le 10, 3) := dk_164 0 10 (dk_at dksX2_longestAt_1 10 rfl rfl)
theorem dX2_longestAt_37 : decode cX2_longestAt 37 = .ok (.aload_n 0, 1) := dk_42 (dk_at dksX2_longestAt_1 13 rfl rfl)
theorem dX2_longestAt_38 : decode cX2_longestAt 38 = .ok (.getfield 26, 3) := dk_180 0 26 (dk_at dksX2_longestAt_1 14 rfl rfl)
theorem dX2_longestAt_41 : decode cX2_longestAt 41 = .ok (.iload_n 3, 1) := dk_29 (dk_at dksX2_longestAt_1 17 rfl rfl)
theorem dX2_longestAt_42 : decode cX2_longestAt 42 = .ok (.iaload, 1) := dk_46 (dk_at dksX2_longestAt_1 18 rfl rfl)
theorem dX2_longestAt_43 : decode cX2_longestAt 43 = .ok (.istore_n 2, 1) := dk_61 (dk_at dksX2_longestAt_1 19 rfl rfl)
theorem dX2_longestAt_44 : decode cX2_longestAt 44 = .ok (.iinc 3 1, 3) := dk_132 3 1 (dk_at dksX2_longestAt_1 20 rfl rfl)
theorem dX2_longestAt_47 : decode cX2_longestAt 47 = .ok (.goto (-43), 3) := dk_167 255 213 (dk_at dksX2_longestAt_2 0 rfl rfl)
theorem dX2_longestAt_50 : decode cX2_longestAt 50 = .ok (.iload_n 2, 1) := dk_28 (dk_at dksX2_longestAt_2 3 rfl rfl)
theorem dX2_longestAt_51 : decode cX2_longestAt 51 = .ok (.ireturn, 1) := dk_172 (dk_at dksX2_longestAt_2 4 rfl rfl)
abbrev cX2_shared : ByteArray := prog_3_method_37_code
def yX2_shared : MethodName := ⟨RX2, "shared", "()I"⟩
def dkwX2_shared_1 : List UInt8 := [164, 0, 10, 42, 28, 3, 182, 0, 52, 60, 132, 2, 1, 167, 255, 228, 27, 172]
abbrev dktX2_shared_1 : List UInt8 := dkwX2_shared_1 ++ []
def dkwX2_shared_0 : List UInt8 := [42, 3, 181, 0, 1, 3, 60, 3, 61, 28, 42, 180, 0, 59, 162, 0, 26, 42, 28, 3, 182, 0, 52, 27]
abbrev dktX2_shared_0 : List UInt8 := dkwX2_shared_0 ++ dktX2_shared_1
theorem dksX2_shared_0 : cX2_shared.data.toList.drop 0 = dktX2_shared_0 := by decide +kernel
theorem dksX2_shared_1 : cX2_shared.data.toList.drop 24 = dktX2_shared_1 := dk_seg dksX2_shared_0 24 rfl rfl
theorem dX2_shared_0 : decode cX2_shared 0 = .ok (.aload_n 0, 1) := dk_42 (dk_at dksX2_shared_0 0 rfl rfl)
theorem dX2_shared_1 : decode cX2_shared 1 = .ok (.iconst 0, 1) := dk_3 (dk_at dksX2_shared_0 1 rfl rfl)
theorem dX2_shared_2 : decode cX2_shared 2 = .ok (.putfield 1, 3) := dk_181 0 1 (dk_at dksX2_shared_0 2 rfl rfl)
theorem dX2_shared_5 : decode cX2_shared 5 = .ok (.iconst 0, 1) := dk_3 (dk_at dksX2_shared_0 5 rfl rfl)
theorem dX2_shared_6 : decode cX2_shared 6 = .ok (.istore_n 1, 1) := dk_60 (dk_at dksX2_shared_0 6 rfl rfl)
theorem dX2_shared_7 : decode cX2_shared 7 = .ok (.iconst 0, 1) := dk_3 (dk_at dksX2_shared_0 7 rfl rfl)
theorem dX2_shared_8 : decode cX2_shared 8 = .ok (.istore_n 2, 1) := dk_61 (dk_at dksX2_shared_0 8 rfl rfl)
theorem dX2_shared_9 : decode cX2_shared 9 = .ok (.iload_n 2, 1) := dk_28 (dk_at dksX2_shared_0 9 rfl rfl)
theorem dX2_shared_10 : decode cX2_shared 10 = .ok (.aload_n 0, 1) := dk_42 (dk_at dksX2_shared_0 10 rfl rfl)
theorem dX2_shared_11 : decode cX2_shared 11 = .ok (.getfield 59, 3) := dk_180 0 59 (dk_at dksX2_shared_0 11 rfl rfl)
theorem dX2_shared_14 : decode cX2_shared 14 = .ok (.if_icmp .ge 26, 3) := dk_162 0 26 (dk_at dksX2_shared_0 14 rfl rfl)
theorem dX2_shared_17 : decode cX2_shared 17 = .ok (.aload_n 0, 1) := dk_42 (dk_at dksX2_shared_0 17 rfl rfl)
theorem dX2_shared_18 : decode cX2_shared 18 = .ok (.iload_n 2, 1) := dk_28 (dk_at dksX2_shared_0 18 rfl rfl)
theorem dX2_shared_19 : decode cX2_shared 19 = .ok (.iconst 0, 1) := dk_3 (dk_at dksX2_shared_0 19 rfl rfl)
theorem dX2_shared_20 : decode cX2_shared 20 = .ok (.invokevirtual 52, 3) := dk_182 0 52 (dk_at dksX2_shared_0 20 rfl rfl)
theorem dX2_shared_23 : decode cX2_shared 23 = .ok (.iload_n 1, 1) := dk_27 (dk_at dksX2_shared_0 23 rfl rfl)
theorem dX2_shared_24 : decode cX2_shared 24 = .ok (.if_icmp .le 10, 3) := dk_164 0 10 (dk_at dksX2_shared_1 0 rfl rfl)
theorem dX2_shared_27 : decode cX2_shared 27 = .ok (.aload_n 0, 1) := dk_42 (dk_at dksX2_shared_1 3 rfl rfl)
theorem dX2_shared_28 : decode cX2_shared 28 = .ok (.iload_n 2, 1) := dk_28 (dk_at dksX2_shared_1 4 rfl rfl)
theorem dX2_shared_29 : decode cX2_shared 29 = .ok (.iconst 0, 1) := dk_3 (dk_at dksX2_shared_1 5 rfl rfl)
theorem dX2_shared_30 : decode cX2_shared 30 = .ok (.invokevirtual 52, 3) := dk_182 0 52 (dk_at dksX2_shared_1 6 rfl rfl)
theorem dX2_shared_33 : decode cX2_shared 33 = .ok (.istore_n 1, 1) := dk_60 (dk_at dksX2_shared_1 9 rfl rfl)
theorem dX2_shared_34 : decode cX2_shared 34 = .ok (.iinc 2 1, 3) := dk_132 2 1 (dk_at dksX2_shared_1 10 rfl rfl)
theorem dX2_shared_37 : decode cX2_shared 37 = .ok (.goto (-28), 3) := dk_167 255 228 (dk_at dksX2_shared_1 13 rfl rfl)
theorem dX2_shared_40 : decode cX2_shared 40 = .ok (.iload_n 1, 1) := dk_27 (dk_at dksX2_shared_1 16 rfl rfl)
theorem dX2_shared_41 : decode cX2_shared 41 = .ok (.ireturn, 1) := dk_172 (dk_at dksX2_shared_1 17 rfl rfl)
abbrev cX2_twin : ByteArray := prog_3_method_38_code
def yX2_twin : MethodName := ⟨RX2, "twin", "()I"⟩
def dkwX2_twin_2 : List UInt8 := [164, 0, 10, 42, 29, 28, 182, 0, 56, 60, 132, 3, 1, 167, 255, 231, 132, 2, 1, 167, 255, 215, 27, 172]
abbrev dktX2_twin_2 : List UInt8 := dkwX2_twin_2 ++ []
def dkwX2_twin_1 : List UInt8 := [3, 61, 28, 42, 180, 0, 59, 162, 0, 39, 3, 62, 29, 28, 162, 0, 26, 42, 29, 28, 182, 0, 56, 27]
abbrev dktX2_twin_1 : List UInt8 := dkwX2_twin_1 ++ dktX2_twin_2
def dkwX2_twin_0 : List UInt8 := [42, 42, 180, 0, 59, 5, 162, 0, 7, 4, 167, 0, 4, 3, 182, 0, 77, 153, 0, 5, 3, 172, 3, 60]
abbrev dktX2_twin_0 : List UInt8 := dkwX2_twin_0 ++ dktX2_twin_1
theorem dksX2_twin_0 : cX2_twin.data.toList.drop 0 = dktX2_twin_0 := by decide +kernel
theorem dksX2_twin_1 : cX2_twin.data.toList.drop 24 = dktX2_twin_1 := dk_seg dksX2_twin_0 24 rfl rfl
theorem dksX2_twin_2 : cX2_twin.data.toList.drop 48 = dktX2_twin_2 := dk_seg dksX2_twin_1 24 rfl rfl
theorem dX2_twin_0 : decode cX2_twin 0 = .ok (.aload_n 0, 1) := dk_42 (dk_at dksX2_twin_0 0 rfl rfl)
theorem dX2_twin_1 : decode cX2_twin 1 = .ok (.aload_n 0, 1) := dk_42 (dk_at dksX2_twin_0 1 rfl rfl)
theorem dX2_twin_2 : decode cX2_twin 2 = .ok (.getfield 59, 3) := dk_180 0 59 (dk_at dksX2_twin_0 2 rfl rfl)
theorem dX2_twin_5 : decode cX2_twin 5 = .ok (.iconst 2, 1) := dk_5 (dk_at dksX2_twin_0 5 rfl rfl)
theorem dX2_twin_6 : decode cX2_twin 6 = .ok (.if_icmp .ge 7, 3) := dk_162 0 7 (dk_at dksX2_twin_0 6 rfl rfl)
theorem dX2_twin_9 : decode cX2_twin 9 = .ok (.iconst 1, 1) := dk_4 (dk_at dksX2_twin_0 9 rfl rfl)
theorem dX2_twin_10 : decode cX2_twin 10 = .ok (.goto 4, 3) := dk_167 0 4 (dk_at dksX2_twin_0 10 rfl rfl)
theorem dX2_twin_13 : decode cX2_twin 13 = .ok (.iconst 0, 1) := dk_3 (dk_at dksX2_twin_0 13 rfl rfl)
theorem dX2_twin_14 : decode cX2_twin 14 = .ok (.invokevirtual 77, 3) := dk_182 0 77 (dk_at dksX2_twin_0 14 rfl rfl)
theorem dX2_twin_17 : decode cX2_twin 17 = .ok (.ifCond .eq 5, 3) := dk_153 0 5 (dk_at dksX2_twin_0 17 rfl rfl)
theorem dX2_twin_20 : decode cX2_twin 20 = .ok (.iconst 0, 1) := dk_3 (dk_at dksX2_twin_0 20 rfl rfl)
theorem dX2_twin_21 : decode cX2_twin 21 = .ok (.ireturn, 1) := dk_172 (dk_at dksX2_twin_0 21 rfl rfl)
theorem dX2_twin_22 : decode cX2_twin 22 = .ok (.iconst 0, 1) := dk_3 (dk_at dksX2_twin_0 22 rfl rfl)
theorem dX2_twin_23 : decode cX2_twin 23 = .ok (.istore_n 1, 1) := dk_60 (dk_at dksX2_twin_0 23 rfl rfl)
theorem dX2_twin_24 : decode cX2_twin 24 = .ok (.iconst 0, 1) := dk_3 (dk_at dksX2_twin_1 0 rfl rfl)
theorem dX2_twin_25 : decode cX2_twin 25 = .ok (.istore_n 2, 1) := dk_61 (dk_at dksX2_twin_1 1 rfl rfl)
theorem dX2_twin_26 : decode cX2_twin 26 = .ok (.iload_n 2, 1) := dk_28 (dk_at dksX2_twin_1 2 rfl rfl)
theorem dX2_twin_27 : decode cX2_twin 27 = .ok (.aload_n 0, 1) := dk_42 (dk_at dksX2_twin_1 3 rfl rfl)
theorem dX2_twin_28 : decode cX2_twin 28 = .ok (.getfield 59, 3) := dk_180 0 59 (dk_at dksX2_twin_1 4 rfl rfl)
theorem dX2_twin_31 : decode cX2_twin 31 = .ok (.if_icmp .ge 39, 3) := dk_162 0 39 (dk_at dksX2_twin_1 7 rfl rfl)
theorem dX2_twin_34 : decode cX2_twin 34 = .ok (.iconst 0, 1) := dk_3 (dk_at dksX2_twin_1 10 rfl rfl)
theorem dX2_twin_35 : decode cX2_twin 35 = .ok (.istore_n 3, 1) := dk_62 (dk_at dksX2_twin_1 11 rfl rfl)
theorem dX2_twin_36 : decode cX2_twin 36 = .ok (.iload_n 3, 1) := dk_29 (dk_at dksX2_twin_1 12 rfl rfl)
theorem dX2_twin_37 : decode cX2_twin 37 = .ok (.iload_n 2, 1) := dk_28 (dk_at dksX2_twin_1 13 rfl rfl)
theorem dX2_twin_38 : decode cX2_twin 38 = .ok (.if_icmp .ge 26, 3) := dk_162 0 26 (dk_at dksX2_twin_1 14 rfl rfl)
theorem dX2_twin_41 : decode cX2_twin 41 = .ok (.aload_n 0, 1) := dk_42 (dk_at dksX2_twin_1 17 rfl rfl)
theorem dX2_twin_42 : decode cX2_twin 42 = .ok (.iload_n 3, 1) := dk_29 (dk_at dksX2_twin_1 18 rfl rfl)
theorem dX2_twin_43 : decode cX2_twin 43 = .ok (.iload_n 2, 1) := dk_28 (dk_at dksX2_twin_1 19 rfl rfl)
theorem dX2_twin_44 : decode cX2_twin 44 = .ok (.invokevirtual 56, 3) := dk_182 0 56 (dk_at dksX2_twin_1 20 rfl rfl)
theorem dX2_twin_47 : decode cX2_twin 47 = .ok (.iload_n 1, 1) := dk_27 (dk_at dksX2_twin_1 23 rfl rfl)
theorem dX2_twin_48 : decode cX2_twin 48 = .ok (.if_icmp .le 10, 3) := dk_164 0 10 (dk_at dksX2_twin_2 0 rfl rfl)
theorem dX2_twin_51 : decode cX2_twin 51 = .ok (.aload_n 0, 1) := dk_42 (dk_at dksX2_twin_2 3 rfl rfl)
theorem dX2_twin_52 : decode cX2_twin 52 = .ok (.iload_n 3, 1) := dk_29 (dk_at dksX2_twin_2 4 rfl rfl)
theorem dX2_twin_53 : decode cX2_twin 53 = .ok (.iload_n 2, 1) := dk_28 (dk_at dksX2_twin_2 5 rfl rfl)
theorem dX2_twin_54 : decode cX2_twin 54 = .ok (.invokevirtual 56, 3) := dk_182 0 56 (dk_at dksX2_twin_2 6 rfl rfl)
theorem dX2_twin_57 : decode cX2_twin 57 = .ok (.istore_n 1, 1) := dk_60 (dk_at dksX2_twin_2 9 rfl rfl)
theorem dX2_twin_58 : decode cX2_twin 58 = .ok (.iinc 3 1, 3) := dk_132 3 1 (dk_at dksX2_twin_2 10 rfl rfl)
theorem dX2_twin_61 : decode cX2_twin 61 = .ok (.goto (-25), 3) := dk_167 255 231 (dk_at dksX2_twin_2 13 rfl rfl)
theorem dX2_twin_64 : decode cX2_twin 64 = .ok (.iinc 2 1, 3) := dk_132 2 1 (dk_at dksX2_twin_2 16 rfl rfl)
theorem dX2_twin_67 : decode cX2_twin 67 = .ok (.goto (-41), 3) := dk_167 255 215 (dk_at dksX2_twin_2 19 rfl rfl)
theorem dX2_twin_70 : decode cX2_twin 70 = .ok (.iload_n 1, 1) := dk_27 (dk_at dksX2_twin_2 22 rfl rfl)
theorem dX2_twin_71 : decode cX2_twin 71 = .ok (.ireturn, 1) := dk_172 (dk_at dksX2_twin_2 23 rfl rfl)
abbrev cX2_pieces : ByteArray := prog_3_method_39_code
def yX2_pieces : MethodName := ⟨RX2, "pieces", "()I"⟩
def dkwX2_pieces_1 : List UInt8 := [60, 132, 2, 1, 167, 255, 237, 27, 42, 180, 0, 49, 160, 0, 7, 28, 167, 0, 6, 2, 27, 100, 172]
abbrev dktX2_pieces_1 : List UInt8 := dkwX2_pieces_1 ++ []
def dkwX2_pieces_0 : List UInt8 := [42, 3, 181, 0, 1, 3, 60, 3, 61, 42, 27, 182, 0, 103, 158, 0, 17, 27, 42, 27, 182, 0, 103, 96]
abbrev dktX2_pieces_0 : List UInt8 := dkwX2_pieces_0 ++ dktX2_pieces_1
theorem dksX2_pieces_0 : cX2_pieces.data.toList.drop 0 = dktX2_pieces_0 := by decide +kernel
theorem dksX2_pieces_1 : cX2_pieces.data.toList.drop 24 = dktX2_pieces_1 := dk_seg dksX2_pieces_0 24 rfl rfl
theorem dX2_pieces_0 : decode cX2_pieces 0 = .ok (.aload_n 0, 1) := dk_42 (dk_at dksX2_pieces_0 0 rfl rfl)
theorem dX2_pieces_1 : decode cX2_pieces 1 = .ok (.iconst 0, 1) := dk_3 (dk_at dksX2_pieces_0 1 rfl rfl)
theorem dX2_pieces_2 : decode cX2_pieces 2 = .ok (.putfield 1, 3) := dk_181 0 1 (dk_at dksX2_pieces_0 2 rfl rfl)
theorem dX2_pieces_5 : decode cX2_pieces 5 = .ok (.iconst 0, 1) := dk_3 (dk_at dksX2_pieces_0 5 rfl rfl)
theorem dX2_pieces_6 : decode cX2_pieces 6 = .ok (.istore_n 1, 1) := dk_60 (dk_at dksX2_pieces_0 6 rfl rfl)
theorem dX2_pieces_7 : decode cX2_pieces 7 = .ok (.iconst 0, 1) := dk_3 (dk_at dksX2_pieces_0 7 rfl rfl)
theorem dX2_pieces_8 : decode cX2_pieces 8 = .ok (.istore_n 2, 1) := dk_61 (dk_at dksX2_pieces_0 8 rfl rfl)
theorem dX2_pieces_9 : decode cX2_pieces 9 = .ok (.aload_n 0, 1) := dk_42 (dk_at dksX2_pieces_0 9 rfl rfl)
theorem dX2_pieces_10 : decode cX2_pieces 10 = .ok (.iload_n 1, 1) := dk_27 (dk_at dksX2_pieces_0 10 rfl rfl)
theorem dX2_pieces_11 : decode cX2_pieces 11 = .ok (.invokevirtual 103, 3) := dk_182 0 103 (dk_at dksX2_pieces_0 11 rfl rfl)
theorem dX2_pieces_14 : decode cX2_pieces 14 = .ok (.ifCond .le 17, 3) := dk_158 0 17 (dk_at dksX2_pieces_0 14 rfl rfl)
theorem dX2_pieces_17 : decode cX2_pieces 17 = .ok (.iload_n 1, 1) := dk_27 (dk_at dksX2_pieces_0 17 rfl rfl)
theorem dX2_pieces_18 : decode cX2_pieces 18 = .ok (.aload_n 0, 1) := dk_42 (dk_at dksX2_pieces_0 18 rfl rfl)
theorem dX2_pieces_19 : decode cX2_pieces 19 = .ok (.iload_n 1, 1) := dk_27 (dk_at dksX2_pieces_0 19 rfl rfl)
theorem dX2_pieces_20 : decode cX2_pieces 20 = .ok (.invokevirtual 103, 3) := dk_182 0 103 (dk_at dksX2_pieces_0 20 rfl rfl)
theorem dX2_pieces_23 : decode cX2_pieces 23 = .ok (.iadd, 1) := dk_96 (dk_at dksX2_pieces_0 23 rfl rfl)
theorem dX2_pieces_24 : decode cX2_pieces 24 = .ok (.istore_n 1, 1) := dk_60 (dk_at dksX2_pieces_1 0 rfl rfl)
theorem dX2_pieces_25 : decode cX2_pieces 25 = .ok (.iinc 2 1, 3) := dk_132 2 1 (dk_at dksX2_pieces_1 1 rfl rfl)
theorem dX2_pieces_28 : decode cX2_pieces 28 = .ok (.goto (-19), 3) := dk_167 255 237 (dk_at dksX2_pieces_1 4 rfl rfl)
theorem dX2_pieces_31 : decode cX2_pieces 31 = .ok (.iload_n 1, 1) := dk_27 (dk_at dksX2_pieces_1 7 rfl rfl)
theorem dX2_pieces_32 : decode cX2_pieces 32 = .ok (.aload_n 0, 1) := dk_42 (dk_at dksX2_pieces_1 8 rfl rfl)
theorem dX2_pieces_33 : decode cX2_pieces 33 = .ok (.getfield 49, 3) := dk_180 0 49 (dk_at dksX2_pieces_1 9 rfl rfl)
theorem dX2_pieces_36 : decode cX2_pieces 36 = .ok (.if_icmp .ne 7, 3) := dk_160 0 7 (dk_at dksX2_pieces_1 12 rfl rfl)
theorem dX2_pieces_39 : decode cX2_pieces 39 = .ok (.iload_n 2, 1) := dk_28 (dk_at dksX2_pieces_1 15 rfl rfl)
theorem dX2_pieces_40 : decode cX2_pieces 40 = .ok (.goto 6, 3) := dk_167 0 6 (dk_at dksX2_pieces_1 16 rfl rfl)
theorem dX2_pieces_43 : decode cX2_pieces 43 = .ok (.iconst (-1), 1) := dk_2 (dk_at dksX2_pieces_1 19 rfl rfl)
theorem dX2_pieces_44 : decode cX2_pieces 44 = .ok (.iload_n 1, 1) := dk_27 (dk_at dksX2_pieces_1 20 rfl rfl)
theorem dX2_pieces_45 : decode cX2_pieces 45 = .ok (.isub, 1) := dk_100 (dk_at dksX2_pieces_1 21 rfl rfl)
theorem dX2_pieces_46 : decode cX2_pieces 46 = .ok (.ireturn, 1) := dk_172 (dk_at dksX2_pieces_1 22 rfl rfl)
abbrev cX2_piece : ByteArray := prog_3_method_40_code
def yX2_piece : MethodName := ⟨RX2, "piece", "(I)I"⟩
def dkwX2_piece_2 : List UInt8 := [182, 0, 77, 153, 0, 7, 3, 167, 0, 8, 42, 28, 182, 0, 103, 172]
abbrev dktX2_piece_2 : List UInt8 := dkwX2_piece_2 ++ []
def dkwX2_piece_1 : List UInt8 := [132, 3, 255, 167, 255, 233, 42, 29, 154, 0, 11, 42, 28, 182, 0, 103, 154, 0, 7, 4, 167, 0, 4, 3]
abbrev dktX2_piece_1 : List UInt8 := dkwX2_piece_1 ++ dktX2_piece_2
def dkwX2_piece_0 : List UInt8 := [3, 61, 27, 62, 29, 158, 0, 25, 42, 28, 182, 0, 103, 158, 0, 17, 28, 42, 28, 182, 0, 103, 96, 61]
abbrev dktX2_piece_0 : List UInt8 := dkwX2_piece_0 ++ dktX2_piece_1
theorem dksX2_piece_0 : cX2_piece.data.toList.drop 0 = dktX2_piece_0 := by decide +kernel
theorem dksX2_piece_1 : cX2_piece.data.toList.drop 24 = dktX2_piece_1 := dk_seg dksX2_piece_0 24 rfl rfl
theorem dksX2_piece_2 : cX2_piece.data.toList.drop 48 = dktX2_piece_2 := dk_seg dksX2_piece_1 24 rfl rfl
theorem dX2_piece_0 : decode cX2_piece 0 = .ok (.iconst 0, 1) := dk_3 (dk_at dksX2_piece_0 0 rfl rfl)
theorem dX2_piece_1 : decode cX2_piece 1 = .ok (.istore_n 2, 1) := dk_61 (dk_at dksX2_piece_0 1 rfl rfl)
theorem dX2_piece_2 : decode cX2_piece 2 = .ok (.iload_n 1, 1) := dk_27 (dk_at dksX2_piece_0 2 rfl rfl)
theorem dX2_piece_3 : decode cX2_piece 3 = .ok (.istore_n 3, 1) := dk_62 (dk_at dksX2_piece_0 3 rfl rfl)
theorem dX2_piece_4 : decode cX2_piece 4 = .ok (.iload_n 3, 1) := dk_29 (dk_at dksX2_piece_0 4 rfl rfl)
theorem dX2_piece_5 : decode cX2_piece 5 = .ok (.ifCond .le 25, 3) := dk_158 0 25 (dk_at dksX2_piece_0 5 rfl rfl)
theorem dX2_piece_8 : decode cX2_piece 8 = .ok (.aload_n 0, 1) := dk_42 (dk_at dksX2_piece_0 8 rfl rfl)
theorem dX2_piece_9 : decode cX2_piece 9 = .ok (.iload_n 2, 1) := dk_28 (dk_at dksX2_piece_0 9 rfl rfl)
theorem dX2_piece_10 : decode cX2_piece 10 = .ok (.invokevirtual 103, 3) := dk_182 0 103 (dk_at dksX2_piece_0 10 rfl rfl)
theorem dX2_piece_13 : decode cX2_piece 13 = .ok (.ifCond .le 17, 3) := dk_158 0 17 (dk_at dksX2_piece_0 13 rfl rfl)
theorem dX2_piece_16 : decode cX2_piece 16 = .ok (.iload_n 2, 1) := dk_28 (dk_at dksX2_piece_0 16 rfl rfl)
theorem dX2_piece_17 : decode cX2_piece 17 = .ok (.aload_n 0, 1) := dk_42 (dk_at dksX2_piece_0 17 rfl rfl)
theorem dX2_piece_18 : decode cX2_piece 18 = .ok (.iload_n 2, 1) := dk_28 (dk_at dksX2_piece_0 18 rfl rfl)
theorem dX2_piece_19 : decode cX2_piece 19 = .ok (.invokevirtual 103, 3) := dk_182 0 103 (dk_at dksX2_piece_0 19 rfl rfl)
theorem dX2_piece_22 : decode cX2_piece 22 = .ok (.iadd, 1) := dk_96 (dk_at dksX2_piece_0 22 rfl rfl)
theorem dX2_piece_23 : decode cX2_piece 23 = .ok (.istore_n 2, 1) := dk_61 (dk_at dksX2_piece_0 23 rfl rfl)
theorem dX2_piece_24 : decode cX2_piece 24 = .ok (.iinc 3 (-1), 3) := dk_132 3 255 (dk_at dksX2_piece_1 0 rfl rfl)
theorem dX2_piece_27 : decode cX2_piece 27 = .ok (.goto (-23), 3) := dk_167 255 233 (dk_at dksX2_piece_1 3 rfl rfl)
theorem dX2_piece_30 : decode cX2_piece 30 = .ok (.aload_n 0, 1) := dk_42 (dk_at dksX2_piece_1 6 rfl rfl)
theorem dX2_piece_31 : decode cX2_piece 31 = .ok (.iload_n 3, 1) := dk_29 (dk_at dksX2_piece_1 7 rfl rfl)
theorem dX2_piece_32 : decode cX2_piece 32 = .ok (.ifCond .ne 11, 3) := dk_154 0 11 (dk_at dksX2_piece_1 8 rfl rfl)
theorem dX2_piece_35 : decode cX2_piece 35 = .ok (.aload_n 0, 1) := dk_42 (dk_at dksX2_piece_1 11 rfl rfl)
theorem dX2_piece_36 : decode cX2_piece 36 = .ok (.iload_n 2, 1) := dk_28 (dk_at dksX2_piece_1 12 rfl rfl)
theorem dX2_piece_37 : decode cX2_piece 37 = .ok (.invokevirtual 103, 3) := dk_182 0 103 (dk_at dksX2_piece_1 13 rfl rfl)
theorem dX2_piece_40 : decode cX2_piece 40 = .ok (.ifCond .ne 7, 3) := dk_154 0 7 (dk_at dksX2_piece_1 16 rfl rfl)
theorem dX2_piece_43 : decode cX2_piece 43 = .ok (.iconst 1, 1) := dk_4 (dk_at dksX2_piece_1 19 rfl rfl)
theorem dX2_piece_44 : decode cX2_piece 44 = .ok (.goto 4, 3) := dk_167 0 4 (dk_at dksX2_piece_1 20 rfl rfl)
theorem dX2_piece_47 : decode cX2_piece 47 = .ok (.iconst 0, 1) := dk_3 (dk_at dksX2_piece_1 23 rfl rfl)
theorem dX2_piece_48 : decode cX2_piece 48 = .ok (.invokevirtual 77, 3) := dk_182 0 77 (dk_at dksX2_piece_2 0 rfl rfl)
theorem dX2_piece_51 : decode cX2_piece 51 = .ok (.ifCond .eq 7, 3) := dk_153 0 7 (dk_at dksX2_piece_2 3 rfl rfl)
theorem dX2_piece_54 : decode cX2_piece 54 = .ok (.iconst 0, 1) := dk_3 (dk_at dksX2_piece_2 6 rfl rfl)
theorem dX2_piece_55 : decode cX2_piece 55 = .ok (.goto 8, 3) := dk_167 0 8 (dk_at dksX2_piece_2 7 rfl rfl)
theorem dX2_piece_58 : decode cX2_piece 58 = .ok (.aload_n 0, 1) := dk_42 (dk_at dksX2_piece_2 10 rfl rfl)
theorem dX2_piece_59 : decode cX2_piece 59 = .ok (.iload_n 2, 1) := dk_28 (dk_at dksX2_piece_2 11 rfl rfl)
theorem dX2_piece_60 : decode cX2_piece 60 = .ok (.invokevirtual 103, 3) := dk_182 0 103 (dk_at dksX2_piece_2 12 rfl rfl)
theorem dX2_piece_63 : decode cX2_piece 63 = .ok (.ireturn, 1) := dk_172 (dk_at dksX2_piece_2 15 rfl rfl)
abbrev cX2_cuts : ByteArray := prog_3_method_42_code
def yX2_cuts : MethodName := ⟨RX2, "cuts", "()J"⟩
def dkwX2_cuts_0 : List UInt8 := [42, 3, 181, 0, 1, 42, 182, 0, 106, 42, 180, 0, 42, 3, 47, 173]
abbrev dktX2_cuts_0 : List UInt8 := dkwX2_cuts_0 ++ []
theorem dksX2_cuts_0 : cX2_cuts.data.toList.drop 0 = dktX2_cuts_0 := by decide +kernel
theorem dX2_cuts_0 : decode cX2_cuts 0 = .ok (.aload_n 0, 1) := dk_42 (dk_at dksX2_cuts_0 0 rfl rfl)
theorem dX2_cuts_1 : decode cX2_cuts 1 = .ok (.iconst 0, 1) := dk_3 (dk_at dksX2_cuts_0 1 rfl rfl)
theorem dX2_cuts_2 : decode cX2_cuts 2 = .ok (.putfield 1, 3) := dk_181 0 1 (dk_at dksX2_cuts_0 2 rfl rfl)
theorem dX2_cuts_5 : decode cX2_cuts 5 = .ok (.aload_n 0, 1) := dk_42 (dk_at dksX2_cuts_0 5 rfl rfl)
theorem dX2_cuts_6 : decode cX2_cuts 6 = .ok (.invokevirtual 106, 3) := dk_182 0 106 (dk_at dksX2_cuts_0 6 rfl rfl)
theorem dX2_cuts_9 : decode cX2_cuts 9 = .ok (.aload_n 0, 1) := dk_42 (dk_at dksX2_cuts_0 9 rfl rfl)
theorem dX2_cuts_10 : decode cX2_cuts 10 = .ok (.getfield 42, 3) := dk_180 0 42 (dk_at dksX2_cuts_0 10 rfl rfl)
theorem dX2_cuts_13 : decode cX2_cuts 13 = .ok (.iconst 0, 1) := dk_3 (dk_at dksX2_cuts_0 13 rfl rfl)
theorem dX2_cuts_14 : decode cX2_cuts 14 = .ok (.laload, 1) := dk_47 (dk_at dksX2_cuts_0 14 rfl rfl)
theorem dX2_cuts_15 : decode cX2_cuts 15 = .ok (.lreturn, 1) := dk_173 (dk_at dksX2_cuts_0 15 rfl rfl)
abbrev cX2_cutsAll : ByteArray := prog_3_method_41_code
def yX2_cutsAll : MethodName := ⟨RX2, "cutsAll", "()V"⟩
def dkwX2_cutsAll_6 : List UInt8 := [21, 4, 79, 132, 2, 1, 167, 255, 160, 132, 1, 255, 167, 255, 110, 177]
abbrev dktX2_cutsAll_6 : List UInt8 := dkwX2_cutsAll_6 ++ []
def dkwX2_cutsAll_5 : List UInt8 := [180, 0, 46, 27, 46, 155, 0, 14, 21, 4, 42, 180, 0, 46, 27, 46, 162, 0, 11, 42, 180, 0, 46, 27]
abbrev dktX2_cutsAll_5 : List UInt8 := dkwX2_cutsAll_5 ++ dktX2_cutsAll_6
def dkwX2_cutsAll_4 : List UInt8 := [180, 0, 42, 29, 47, 97, 80, 42, 180, 0, 46, 29, 46, 4, 96, 54, 4, 21, 4, 158, 0, 31, 42]
abbrev dktX2_cutsAll_4 : List UInt8 := dkwX2_cutsAll_4 ++ dktX2_cutsAll_5
def dkwX2_cutsAll_3 : List UInt8 := [162, 0, 6, 167, 0, 70, 27, 42, 180, 0, 26, 28, 46, 96, 62, 42, 180, 0, 42, 27, 92, 47, 42]
abbrev dktX2_cutsAll_3 : List UInt8 := dkwX2_cutsAll_3 ++ dktX2_cutsAll_4
def dkwX2_cutsAll_2 : List UInt8 := [3, 61, 28, 42, 180, 0, 59, 162, 0, 94, 42, 28, 27, 182, 0, 52, 42, 180, 0, 26, 28, 46]
abbrev dktX2_cutsAll_2 : List UInt8 := dkwX2_cutsAll_2 ++ dktX2_cutsAll_3
def dkwX2_cutsAll_1 : List UInt8 := [167, 0, 4, 9, 80, 42, 180, 0, 46, 27, 27, 42, 180, 0, 49, 160, 0, 7, 3, 167, 0, 4, 2, 79]
abbrev dktX2_cutsAll_1 : List UInt8 := dkwX2_cutsAll_1 ++ dktX2_cutsAll_2
def dkwX2_cutsAll_0 : List UInt8 := [42, 180, 0, 49, 60, 27, 155, 0, 148, 42, 180, 0, 42, 27, 27, 42, 180, 0, 49, 160, 0, 7, 10]
abbrev dktX2_cutsAll_0 : List UInt8 := dkwX2_cutsAll_0 ++ dktX2_cutsAll_1
theorem dksX2_cutsAll_0 : cX2_cutsAll.data.toList.drop 0 = dktX2_cutsAll_0 := by decide +kernel
theorem dksX2_cutsAll_1 : cX2_cutsAll.data.toList.drop 23 = dktX2_cutsAll_1 := dk_seg dksX2_cutsAll_0 23 rfl rfl
theorem dksX2_cutsAll_2 : cX2_cutsAll.data.toList.drop 47 = dktX2_cutsAll_2 := dk_seg dksX2_cutsAll_1 24 rfl rfl
theorem dksX2_cutsAll_3 : cX2_cutsAll.data.toList.drop 69 = dktX2_cutsAll_3 := dk_seg dksX2_cutsAll_2 22 rfl rfl
theorem dksX2_cutsAll_4 : cX2_cutsAll.data.toList.drop 92 = dktX2_cutsAll_4 := dk_seg dksX2_cutsAll_3 23 rfl rfl
theorem dksX2_cutsAll_5 : cX2_cutsAll.data.toList.drop 115 = dktX2_cutsAll_5 := dk_seg dksX2_cutsAll_4 23 rfl rfl
theorem dksX2_cutsAll_6 : cX2_cutsAll.data.toList.drop 139 = dktX2_cutsAll_6 := dk_seg dksX2_cutsAll_5 24 rfl rfl
theorem dX2_cutsAll_0 : decode cX2_cutsAll 0 = .ok (.aload_n 0, 1) := dk_42 (dk_at dksX2_cutsAll_0 0 rfl rfl)
theorem dX2_cutsAll_1 : decode cX2_cutsAll 1 = .ok (.getfield 49, 3) := dk_180 0 49 (dk_at dksX2_cutsAll_0 1 rfl rfl)
theorem dX2_cutsAll_4 : decode cX2_cutsAll 4 = .ok (.istore_n 1, 1) := dk_60 (dk_at dksX2_cutsAll_0 4 rfl rfl)
theorem dX2_cutsAll_5 : decode cX2_cutsAll 5 = .ok (.iload_n 1, 1) := dk_27 (dk_at dksX2_cutsAll_0 5 rfl rfl)
theorem dX2_cutsAll_6 : decode cX2_cutsAll 6 = .ok (.ifCond .lt 148, 3) := dk_155 0 148 (dk_at dksX2_cutsAll_0 6 rfl rfl)
theorem dX2_cutsAll_9 : decode cX2_cutsAll 9 = .ok (.aload_n 0, 1) := dk_42 (dk_at dksX2_cutsAll_0 9 rfl rfl)
theorem dX2_cutsAll_10 : decode cX2_cutsAll 10 = .ok (.getfield 42, 3) := dk_180 0 42 (dk_at dksX2_cutsAll_0 10 rfl rfl)
theorem dX2_cutsAll_13 : decode cX2_cutsAll 13 = .ok (.iload_n 1, 1) := dk_27 (dk_at dksX2_cutsAll_0 13 rfl rfl)
theorem dX2_cutsAll_14 : decode cX2_cutsAll 14 = .ok (.iload_n 1, 1) := dk_27 (dk_at dksX2_cutsAll_0 14 rfl rfl)
theorem dX2_cutsAll_15 : decode cX2_cutsAll 15 = .ok (.aload_n 0, 1) := dk_42 (dk_at dksX2_cutsAll_0 15 rfl rfl)
theorem dX2_cutsAll_16 : decode cX2_cutsAll 16 = .ok (.getfield 49, 3) := dk_180 0 49 (dk_at dksX2_cutsAll_0 16 rfl rfl)
theorem dX2_cutsAll_19 : decode cX2_cutsAll 19 = .ok (.if_icmp .ne 7, 3) := dk_160 0 7 (dk_at dksX2_cutsAll_0 19 rfl rfl)
theorem dX2_cutsAll_22 : decode cX2_cutsAll 22 = .ok (.lconst 1, 1) := dk_10 (dk_at dksX2_cutsAll_0 22 rfl rfl)
theorem dX2_cutsAll_23 : decode cX2_cutsAll 23 = .ok (.goto 4, 3) := dk_167 0 4 (dk_at dksX2_cutsAll_1 0 rfl rfl)
theorem dX2_cutsAll_26 : decode cX2_cutsAll 26 = .ok (.lconst 0, 1) := dk_9 (dk_at dksX2_cutsAll_1 3 rfl rfl)
theorem dX2_cutsAll_27 : decode cX2_cutsAll 27 = .ok (.lastore, 1) := dk_80 (dk_at dksX2_cutsAll_1 4 rfl rfl)
theorem dX2_cutsAll_28 : decode cX2_cutsAll 28 = .ok (.aload_n 0, 1) := dk_42 (dk_at dksX2_cutsAll_1 5 rfl rfl)
theorem dX2_cutsAll_29 : decode cX2_cutsAll 29 = .ok (.getfield 46, 3) := dk_180 0 46 (dk_at dksX2_cutsAll_1 6 rfl rfl)
theorem dX2_cutsAll_32 : decode cX2_cutsAll 32 = .ok (.iload_n 1, 1) := dk_27 (dk_at dksX2_cutsAll_1 9 rfl rfl)
theorem dX2_cutsAll_33 : decode cX2_cutsAll 33 = .ok (.iload_n 1, 1) := dk_27 (dk_at dksX2_cutsAll_1 10 rfl rfl)
theorem dX2_cutsAll_34 : decode cX2_cutsAll 34 = .ok (.aload_n 0, 1) := dk_42 (dk_at dksX2_cutsAll_1 11 rfl rfl)
theorem dX2_cutsAll_35 : decode cX2_cutsAll 35 = .ok (.getfield 49, 3) := dk_180 0 49 (dk_at dksX2_cutsAll_1 12 rfl rfl)
theorem dX2_cutsAll_38 : decode cX2_cutsAll 38 = .ok (.if_icmp .ne 7, 3) := dk_160 0 7 (dk_at dksX2_cutsAll_1 15 rfl rfl)
theorem dX2_cutsAll_41 : decode cX2_cutsAll 41 = .ok (.iconst 0, 1) := dk_3 (dk_at dksX2_cutsAll_1 18 rfl rfl)
theorem dX2_cutsAll_42 : decode cX2_cutsAll 42 = .ok (.goto 4, 3) := dk_167 0 4 (dk_at dksX2_cutsAll_1 19 rfl rfl)
theorem dX2_cutsAll_45 : decode cX2_cutsAll 45 = .ok (.iconst (-1), 1) := dk_2 (dk_at dksX2_cutsAll_1 22 rfl rfl)
theorem dX2_cutsAll_46 : decode cX2_cutsAll 46 = .ok (.iastore, 1) := dk_79 (dk_at dksX2_cutsAll_1 23 rfl rfl)
theorem dX2_cutsAll_47 : decode cX2_cutsAll 47 = .ok (.iconst 0, 1) := dk_3 (dk_at dksX2_cutsAll_2 0 rfl rfl)
theorem dX2_cutsAll_48 : decode cX2_cutsAll 48 = .ok (.istore_n 2, 1) := dk_61 (dk_at dksX2_cutsAll_2 1 rfl rfl)
theorem dX2_cutsAll_49 : decode cX2_cutsAll 49 = .ok (.iload_n 2, 1) := dk_28 (dk_at dksX2_cutsAll_2 2 rfl rfl)
theorem dX2_cutsAll_50 : decode cX2_cutsAll 50 = .ok (.aload_n 0, 1) := dk_42 (dk_at dksX2_cutsAll_2 3 rfl rfl)
theorem dX2_cutsAll_51 : decode cX2_cutsAll 51 = .ok (.getfield 59, 3) := dk_180 0 59 (dk_at dksX2_cutsAll_2 4 rfl rfl)
theorem dX2_cutsAll_54 : decode cX2_cutsAll 54 = .ok (.if_icmp .ge 94, 3) := dk_162 0 94 (dk_at dksX2_cutsAll_2 7 rfl rfl)
theorem dX2_cutsAll_57 : decode cX2_cutsAll 57 = .ok (.aload_n 0, 1) := dk_42 (dk_at dksX2_cutsAll_2 10 rfl rfl)
theorem dX2_cutsAll_58 : decode cX2_cutsAll 58 = .ok (.iload_n 2, 1) := dk_28 (dk_at dksX2_cutsAll_2 11 rfl rfl)
theorem dX2_cutsAll_59 : decode cX2_cutsAll 59 = .ok (.iload_n 1, 1) := dk_27 (dk_at dksX2_cutsAll_2 12 rfl rfl)
theorem dX2_cutsAll_60 : decode cX2_cutsAll 60 = .ok (.invokevirtual 52, 3) := dk_182 0 52 (dk_at dksX2_cutsAll_2 13 rfl rfl)
theorem dX2_cutsAll_63 : decode cX2_cutsAll 63 = .ok (.aload_n 0, 1) := dk_42 (dk_at dksX2_cutsAll_2 16 rfl rfl)
theorem dX2_cutsAll_64 : decode cX2_cutsAll 64 = .ok (.getfield 26, 3) := dk_180 0 26 (dk_at dksX2_cutsAll_2 17 rfl rfl)
theorem dX2_cutsAll_67 : decode cX2_cutsAll 67 = .ok (.iload_n 2, 1) := dk_28 (dk_at dksX2_cutsAll_2 20 rfl rfl)
theorem dX2_cutsAll_68 : decode cX2_cutsAll 68 = .ok (.iaload, 1) := dk_46 (dk_at dksX2_cutsAll_2 21 rfl rfl)
theorem dX2_cutsAll_69 : decode cX2_cutsAll 69 = .ok (.if_icmp .ge 6, 3) := dk_162 0 6 (dk_at dksX2_cutsAll_3 0 rfl rfl)
theorem dX2_cutsAll_72 : decode cX2_cutsAll 72 = .ok (.goto 70, 3) := dk_167 0 70 (dk_at dksX2_cutsAll_3 3 rfl rfl)
theorem dX2_cutsAll_75 : decode cX2_cutsAll 75 = .ok (.iload_n 1, 1) := dk_27 (dk_at dksX2_cutsAll_3 6 rfl rfl)
theorem dX2_cutsAll_76 : decode cX2_cutsAll 76 = .ok (.aload_n 0, 1) := dk_42 (dk_at dksX2_cutsAll_3 7 rfl rfl)
theorem dX2_cutsAll_77 : decode cX2_cutsAll 77 = .ok (.getfield 26, 3) := dk_180 0 26 (dk_at dksX2_cutsAll_3 8 rfl rfl)
theorem dX2_cutsAll_80 : decode cX2_cutsAll 80 = .ok (.iload_n 2, 1) := dk_28 (dk_at dksX2_cutsAll_3 11 rfl rfl)
theorem dX2_cutsAll_81 : decode cX2_cutsAll 81 = .ok (.iaload, 1) := dk_46 (dk_at dksX2_cutsAll_3 12 rfl rfl)
theorem dX2_cutsAll_82 : decode cX2_cutsAll 82 = .ok (.iadd, 1) := dk_96 (dk_at dksX2_cutsAll_3 13 rfl rfl)
theorem dX2_cutsAll_83 : decode cX2_cutsAll 83 = .ok (.istore_n 3, 1) := dk_62 (dk_at dksX2_cutsAll_3 14 rfl rfl)
theorem dX2_cutsAll_84 : decode cX2_cutsAll 84 = .ok (.aload_n 0, 1) := dk_42 (dk_at dksX2_cutsAll_3 15 rfl rfl)
theorem dX2_cutsAll_85 : decode cX2_cutsAll 85 = .ok (.getfield 42, 3) := dk_180 0 42 (dk_at dksX2_cutsAll_3 16 rfl rfl)
theorem dX2_cutsAll_88 : decode cX2_cutsAll 88 = .ok (.iload_n 1, 1) := dk_27 (dk_at dksX2_cutsAll_3 19 rfl rfl)
theorem dX2_cutsAll_89 : decode cX2_cutsAll 89 = .ok (.dup2, 1) := dk_92 (dk_at dksX2_cutsAll_3 20 rfl rfl)
theorem dX2_cutsAll_90 : decode cX2_cutsAll 90 = .ok (.laload, 1) := dk_47 (dk_at dksX2_cutsAll_3 21 rfl rfl)
theorem dX2_cutsAll_91 : decode cX2_cutsAll 91 = .ok (.aload_n 0, 1) := dk_42 (dk_at dksX2_cutsAll_3 22 rfl rfl)
theorem dX2_cutsAll_92 : decode cX2_cutsAll 92 = .ok (.getfield 42, 3) := dk_180 0 42 (dk_at dksX2_cutsAll_4 0 rfl rfl)
theorem dX2_cutsAll_95 : decode cX2_cutsAll 95 = .ok (.iload_n 3, 1) := dk_29 (dk_at dksX2_cutsAll_4 3 rfl rfl)
theorem dX2_cutsAll_96 : decode cX2_cutsAll 96 = .ok (.laload, 1) := dk_47 (dk_at dksX2_cutsAll_4 4 rfl rfl)
theorem dX2_cutsAll_97 : decode cX2_cutsAll 97 = .ok (.ladd, 1) := dk_97 (dk_at dksX2_cutsAll_4 5 rfl rfl)
theorem dX2_cutsAll_98 : decode cX2_cutsAll 98 = .ok (.lastore, 1) := dk_80 (dk_at dksX2_cutsAll_4 6 rfl rfl)
theorem dX2_cutsAll_99 : decode cX2_cutsAll 99 = .ok (.aload_n 0, 1) := dk_42 (dk_at dksX2_cutsAll_4 7 rfl rfl)
theorem dX2_cutsAll_100 : decode cX2_cutsAll 100 = .ok (.getfield 46, 3) := dk_180 0 46 (dk_at dksX2_cutsAll_4 8 rfl rfl)
theorem dX2_cutsAll_103 : decode cX2_cutsAll 103 = .ok (.iload_n 3, 1) := dk_29 (dk_at dksX2_cutsAll_4 11 rfl rfl)
theorem dX2_cutsAll_104 : decode cX2_cutsAll 104 = .ok (.iaload, 1) := dk_46 (dk_at dksX2_cutsAll_4 12 rfl rfl)
theorem dX2_cutsAll_105 : decode cX2_cutsAll 105 = .ok (.iconst 1, 1) := dk_4 (dk_at dksX2_cutsAll_4 13 rfl rfl)
theorem dX2_cutsAll_106 : decode cX2_cutsAll 106 = .ok (.iadd, 1) := dk_96 (dk_at dksX2_cutsAll_4 14 rfl rfl)
theorem dX2_cutsAll_107 : decode cX2_cutsAll 107 = .ok (.istore 4, 2) := dk_54 4 (dk_at dksX2_cutsAll_4 15 rfl rfl)
theorem dX2_cutsAll_109 : decode cX2_cutsAll 109 = .ok (.iload 4, 2) := dk_21 4 (dk_at dksX2_cutsAll_4 17 rfl rfl)
theorem dX2_cutsAll_111 : decode cX2_cutsAll 111 = .ok (.ifCond .le 31, 3) := dk_158 0 31 (dk_at dksX2_cutsAll_4 19 rfl rfl)
theorem dX2_cutsAll_114 : decode cX2_cutsAll 114 = .ok (.aload_n 0, 1) := dk_42 (dk_at dksX2_cutsAll_4 22 rfl rfl)
theorem dX2_cutsAll_115 : decode cX2_cutsAll 115 = .ok (.getfield 46, 3) := dk_180 0 46 (dk_at dksX2_cutsAll_5 0 rfl rfl)
theorem dX2_cutsAll_118 : decode cX2_cutsAll 118 = .ok (.iload_n 1, 1) := dk_27 (dk_at dksX2_cutsAll_5 3 rfl rfl)
theorem dX2_cutsAll_119 : decode cX2_cutsAll 119 = .ok (.iaload, 1) := dk_46 (dk_at dksX2_cutsAll_5 4 rfl rfl)
theorem dX2_cutsAll_120 : decode cX2_cutsAll 120 = .ok (.ifCond .lt 14, 3) := dk_155 0 14 (dk_at dksX2_cutsAll_5 5 rfl rfl)
theorem dX2_cutsAll_123 : decode cX2_cutsAll 123 = .ok (.iload 4, 2) := dk_21 4 (dk_at dksX2_cutsAll_5 8 rfl rfl)
theorem dX2_cutsAll_125 : decode cX2_cutsAll 125 = .ok (.aload_n 0, 1) := dk_42 (dk_at dksX2_cutsAll_5 10 rfl rfl)
theorem dX2_cutsAll_126 : decode cX2_cutsAll 126 = .ok (.getfield 46, 3) := dk_180 0 46 (dk_at dksX2_cutsAll_5 11 rfl rfl)
theorem dX2_cutsAll_129 : decode cX2_cutsAll 129 = .ok (.iload_n 1, 1) := dk_27 (dk_at dksX2_cutsAll_5 14 rfl rfl)
theorem dX2_cutsAll_130 : decode cX2_cutsAll 130 = .ok (.iaload, 1) := dk_46 (dk_at dksX2_cutsAll_5 15 rfl rfl)
theorem dX2_cutsAll_131 : decode cX2_cutsAll 131 = .ok (.if_icmp .ge 11, 3) := dk_162 0 11 (dk_at dksX2_cutsAll_5 16 rfl rfl)
theorem dX2_cutsAll_134 : decode cX2_cutsAll 134 = .ok (.aload_n 0, 1) := dk_42 (dk_at dksX2_cutsAll_5 19 rfl rfl)
theorem dX2_cutsAll_135 : decode cX2_cutsAll 135 = .ok (.getfield 46, 3) := dk_180 0 46 (dk_at dksX2_cutsAll_5 20 rfl rfl)
theorem dX2_cutsAll_138 : decode cX2_cutsAll 138 = .ok (.iload_n 1, 1) := dk_27 (dk_at dksX2_cutsAll_5 23 rfl rfl)
theorem dX2_cutsAll_139 : decode cX2_cutsAll 139 = .ok (.iload 4, 2) := dk_21 4 (dk_at dksX2_cutsAll_6 0 rfl rfl)
theorem dX2_cutsAll_141 : decode cX2_cutsAll 141 = .ok (.iastore, 1) := dk_79 (dk_at dksX2_cutsAll_6 2 rfl rfl)
theorem dX2_cutsAll_142 : decode cX2_cutsAll 142 = .ok (.iinc 2 1, 3) := dk_132 2 1 (dk_at dksX2_cutsAll_6 3 rfl rfl)
theorem dX2_cutsAll_145 : decode cX2_cutsAll 145 = .ok (.goto (-96), 3) := dk_167 255 160 (dk_at dksX2_cutsAll_6 6 rfl rfl)
theorem dX2_cutsAll_148 : decode cX2_cutsAll 148 = .ok (.iinc 1 (-1), 3) := dk_132 1 255 (dk_at dksX2_cutsAll_6 9 rfl rfl)
theorem dX2_cutsAll_151 : decode cX2_cutsAll 151 = .ok (.goto (-146), 3) := dk_167 255 110 (dk_at dksX2_cutsAll_6 12 rfl rfl)
theorem dX2_cutsAll_154 : decode cX2_cutsAll 154 = .ok (.return_, 1) := dk_177 (dk_at dksX2_cutsAll_6 15 rfl rfl)
abbrev cX2_fewest : ByteArray := prog_3_method_43_code
def yX2_fewest : MethodName := ⟨RX2, "fewest", "()I"⟩
def dkwX2_fewest_0 : List UInt8 := [42, 3, 181, 0, 1, 42, 182, 0, 106, 42, 180, 0, 46, 3, 46, 172]
abbrev dktX2_fewest_0 : List UInt8 := dkwX2_fewest_0 ++ []
theorem dksX2_fewest_0 : cX2_fewest.data.toList.drop 0 = dktX2_fewest_0 := by decide +kernel
theorem dX2_fewest_0 : decode cX2_fewest 0 = .ok (.aload_n 0, 1) := dk_42 (dk_at dksX2_fewest_0 0 rfl rfl)
theorem dX2_fewest_1 : decode cX2_fewest 1 = .ok (.iconst 0, 1) := dk_3 (dk_at dksX2_fewest_0 1 rfl rfl)
theorem dX2_fewest_2 : decode cX2_fewest 2 = .ok (.putfield 1, 3) := dk_181 0 1 (dk_at dksX2_fewest_0 2 rfl rfl)
theorem dX2_fewest_5 : decode cX2_fewest 5 = .ok (.aload_n 0, 1) := dk_42 (dk_at dksX2_fewest_0 5 rfl rfl)
theorem dX2_fewest_6 : decode cX2_fewest 6 = .ok (.invokevirtual 106, 3) := dk_182 0 106 (dk_at dksX2_fewest_0 6 rfl rfl)
theorem dX2_fewest_9 : decode cX2_fewest 9 = .ok (.aload_n 0, 1) := dk_42 (dk_at dksX2_fewest_0 9 rfl rfl)
theorem dX2_fewest_10 : decode cX2_fewest 10 = .ok (.getfield 46, 3) := dk_180 0 46 (dk_at dksX2_fewest_0 10 rfl rfl)
theorem dX2_fewest_13 : decode cX2_fewest 13 = .ok (.iconst 0, 1) := dk_3 (dk_at dksX2_fewest_0 13 rfl rfl)
theorem dX2_fewest_14 : decode cX2_fewest 14 = .ok (.iaload, 1) := dk_46 (dk_at dksX2_fewest_0 14 rfl rfl)
theorem dX2_fewest_15 : decode cX2_fewest 15 = .ok (.ireturn, 1) := dk_172 (dk_at dksX2_fewest_0 15 rfl rfl)
abbrev cX2_code : ByteArray := prog_3_method_44_code
def yX2_code : MethodName := ⟨RX2, "code", "(C)I"⟩
def dkwX2_code_4 : List UInt8 := [172]
abbrev dktX2_code_4 : List UInt8 := dkwX2_code_4 ++ []
def dkwX2_code_3 : List UInt8 := [180, 0, 20, 6, 28, 104, 21, 4, 96, 42, 180, 0, 13, 21, 4, 52, 85, 132, 4, 1, 167, 255, 226, 29]
abbrev dktX2_code_3 : List UInt8 := dkwX2_code_3 ++ dktX2_code_4
def dkwX2_code_2 : List UInt8 := [62, 42, 180, 0, 33, 28, 42, 180, 0, 49, 79, 3, 54, 4, 21, 4, 42, 180, 0, 49, 162, 0, 27, 42]
abbrev dktX2_code_2 : List UInt8 := dkwX2_code_2 ++ dktX2_code_3
def dkwX2_code_1 : List UInt8 := [5, 167, 0, 4, 3, 182, 0, 77, 153, 0, 5, 3, 172, 27, 16, 97, 100, 61, 42, 180, 0, 33, 28, 46]
abbrev dktX2_code_1 : List UInt8 := dkwX2_code_1 ++ dktX2_code_2
def dkwX2_code_0 : List UInt8 := [42, 27, 184, 0, 73, 154, 0, 7, 4, 167, 0, 20, 42, 180, 0, 49, 4, 6, 184, 0, 81, 154, 0, 7]
abbrev dktX2_code_0 : List UInt8 := dkwX2_code_0 ++ dktX2_code_1
theorem dksX2_code_0 : cX2_code.data.toList.drop 0 = dktX2_code_0 := by decide +kernel
theorem dksX2_code_1 : cX2_code.data.toList.drop 24 = dktX2_code_1 := dk_seg dksX2_code_0 24 rfl rfl
theorem dksX2_code_2 : cX2_code.data.toList.drop 48 = dktX2_code_2 := dk_seg dksX2_code_1 24 rfl rfl
theorem dksX2_code_3 : cX2_code.data.toList.drop 72 = dktX2_code_3 := dk_seg dksX2_code_2 24 rfl rfl
theorem dksX2_code_4 : cX2_code.data.toList.drop 96 = dktX2_code_4 := dk_seg dksX2_code_3 24 rfl rfl
theorem dX2_code_0 : decode cX2_code 0 = .ok (.aload_n 0, 1) := dk_42 (dk_at dksX2_code_0 0 rfl rfl)
theorem dX2_code_1 : decode cX2_code 1 = .ok (.iload_n 1, 1) := dk_27 (dk_at dksX2_code_0 1 rfl rfl)
theorem dX2_code_2 : decode cX2_code 2 = .ok (.invokestatic 73, 3) := dk_184 0 73 (dk_at dksX2_code_0 2 rfl rfl)
theorem dX2_code_5 : decode cX2_code 5 = .ok (.ifCond .ne 7, 3) := dk_154 0 7 (dk_at dksX2_code_0 5 rfl rfl)
theorem dX2_code_8 : decode cX2_code 8 = .ok (.iconst 1, 1) := dk_4 (dk_at dksX2_code_0 8 rfl rfl)
theorem dX2_code_9 : decode cX2_code 9 = .ok (.goto 20, 3) := dk_167 0 20 (dk_at dksX2_code_0 9 rfl rfl)
theorem dX2_code_12 : decode cX2_code 12 = .ok (.aload_n 0, 1) := dk_42 (dk_at dksX2_code_0 12 rfl rfl)
theorem dX2_code_13 : decode cX2_code 13 = .ok (.getfield 49, 3) := dk_180 0 49 (dk_at dksX2_code_0 13 rfl rfl)
theorem dX2_code_16 : decode cX2_code 16 = .ok (.iconst 1, 1) := dk_4 (dk_at dksX2_code_0 16 rfl rfl)
theorem dX2_code_17 : decode cX2_code 17 = .ok (.iconst 3, 1) := dk_6 (dk_at dksX2_code_0 17 rfl rfl)
theorem dX2_code_18 : decode cX2_code 18 = .ok (.invokestatic 81, 3) := dk_184 0 81 (dk_at dksX2_code_0 18 rfl rfl)
theorem dX2_code_21 : decode cX2_code 21 = .ok (.ifCond .ne 7, 3) := dk_154 0 7 (dk_at dksX2_code_0 21 rfl rfl)
theorem dX2_code_24 : decode cX2_code 24 = .ok (.iconst 2, 1) := dk_5 (dk_at dksX2_code_1 0 rfl rfl)
theorem dX2_code_25 : decode cX2_code 25 = .ok (.goto 4, 3) := dk_167 0 4 (dk_at dksX2_code_1 1 rfl rfl)
theorem dX2_code_28 : decode cX2_code 28 = .ok (.iconst 0, 1) := dk_3 (dk_at dksX2_code_1 4 rfl rfl)
theorem dX2_code_29 : decode cX2_code 29 = .ok (.invokevirtual 77, 3) := dk_182 0 77 (dk_at dksX2_code_1 5 rfl rfl)
theorem dX2_code_32 : decode cX2_code 32 = .ok (.ifCond .eq 5, 3) := dk_153 0 5 (dk_at dksX2_code_1 8 rfl rfl)
theorem dX2_code_35 : decode cX2_code 35 = .ok (.iconst 0, 1) := dk_3 (dk_at dksX2_code_1 11 rfl rfl)
theorem dX2_code_36 : decode cX2_code 36 = .ok (.ireturn, 1) := dk_172 (dk_at dksX2_code_1 12 rfl rfl)
theorem dX2_code_37 : decode cX2_code 37 = .ok (.iload_n 1, 1) := dk_27 (dk_at dksX2_code_1 13 rfl rfl)
theorem dX2_code_38 : decode cX2_code 38 = .ok (.bipush 97, 2) := dk_16 97 (dk_at dksX2_code_1 14 rfl rfl)
theorem dX2_code_40 : decode cX2_code 40 = .ok (.isub, 1) := dk_100 (dk_at dksX2_code_1 16 rfl rfl)
theorem dX2_code_41 : decode cX2_code 41 = .ok (.istore_n 2, 1) := dk_61 (dk_at dksX2_code_1 17 rfl rfl)
theorem dX2_code_42 : decode cX2_code 42 = .ok (.aload_n 0, 1) := dk_42 (dk_at dksX2_code_1 18 rfl rfl)
theorem dX2_code_43 : decode cX2_code 43 = .ok (.getfield 33, 3) := dk_180 0 33 (dk_at dksX2_code_1 19 rfl rfl)
theorem dX2_code_46 : decode cX2_code 46 = .ok (.iload_n 2, 1) := dk_28 (dk_at dksX2_code_1 22 rfl rfl)
theorem dX2_code_47 : decode cX2_code 47 = .ok (.iaload, 1) := dk_46 (dk_at dksX2_code_1 23 rfl rfl)
theorem dX2_code_48 : decode cX2_code 48 = .ok (.istore_n 3, 1) := dk_62 (dk_at dksX2_code_2 0 rfl rfl)
theorem dX2_code_49 : decode cX2_code 49 = .ok (.aload_n 0, 1) := dk_42 (dk_at dksX2_code_2 1 rfl rfl)
theorem dX2_code_50 : decode cX2_code 50 = .ok (.getfield 33, 3) := dk_180 0 33 (dk_at dksX2_code_2 2 rfl rfl)
theorem dX2_code_53 : decode cX2_code 53 = .ok (.iload_n 2, 1) := dk_28 (dk_at dksX2_code_2 5 rfl rfl)
theorem dX2_code_54 : decode cX2_code 54 = .ok (.aload_n 0, 1) := dk_42 (dk_at dksX2_code_2 6 rfl rfl)
theorem dX2_code_55 : decode cX2_code 55 = .ok (.getfield 49, 3) := dk_180 0 49 (dk_at dksX2_code_2 7 rfl rfl)
theorem dX2_code_58 : decode cX2_code 58 = .ok (.iastore, 1) := dk_79 (dk_at dksX2_code_2 10 rfl rfl)
theorem dX2_code_59 : decode cX2_code 59 = .ok (.iconst 0, 1) := dk_3 (dk_at dksX2_code_2 11 rfl rfl)
theorem dX2_code_60 : decode cX2_code 60 = .ok (.istore 4, 2) := dk_54 4 (dk_at dksX2_code_2 12 rfl rfl)
theorem dX2_code_62 : decode cX2_code 62 = .ok (.iload 4, 2) := dk_21 4 (dk_at dksX2_code_2 14 rfl rfl)
theorem dX2_code_64 : decode cX2_code 64 = .ok (.aload_n 0, 1) := dk_42 (dk_at dksX2_code_2 16 rfl rfl)
theorem dX2_code_65 : decode cX2_code 65 = .ok (.getfield 49, 3) := dk_180 0 49 (dk_at dksX2_code_2 17 rfl rfl)
theorem dX2_code_68 : decode cX2_code 68 = .ok (.if_icmp .ge 27, 3) := dk_162 0 27 (dk_at dksX2_code_2 20 rfl rfl)
theorem dX2_code_71 : decode cX2_code 71 = .ok (.aload_n 0, 1) := dk_42 (dk_at dksX2_code_2 23 rfl rfl)
theorem dX2_code_72 : decode cX2_code 72 = .ok (.getfield 20, 3) := dk_180 0 20 (dk_at dksX2_code_3 0 rfl rfl)
theorem dX2_code_75 : decode cX2_code 75 = .ok (.iconst 3, 1) := dk_6 (dk_at dksX2_code_3 3 rfl rfl)
theorem dX2_code_76 : decode cX2_code 76 = .ok (.iload_n 2, 1) := dk_28 (dk_at dksX2_code_3 4 rfl rfl)
theorem dX2_code_77 : decode cX2_code 77 = .ok (.imul, 1) := dk_104 (dk_at dksX2_code_3 5 rfl rfl)
theorem dX2_code_78 : decode cX2_code 78 = .ok (.iload 4, 2) := dk_21 4 (dk_at dksX2_code_3 6 rfl rfl)
theorem dX2_code_80 : decode cX2_code 80 = .ok (.iadd, 1) := dk_96 (dk_at dksX2_code_3 8 rfl rfl)
theorem dX2_code_81 : decode cX2_code 81 = .ok (.aload_n 0, 1) := dk_42 (dk_at dksX2_code_3 9 rfl rfl)
theorem dX2_code_82 : decode cX2_code 82 = .ok (.getfield 13, 3) := dk_180 0 13 (dk_at dksX2_code_3 10 rfl rfl)
theorem dX2_code_85 : decode cX2_code 85 = .ok (.iload 4, 2) := dk_21 4 (dk_at dksX2_code_3 13 rfl rfl)
theorem dX2_code_87 : decode cX2_code 87 = .ok (.caload, 1) := dk_52 (dk_at dksX2_code_3 15 rfl rfl)
theorem dX2_code_88 : decode cX2_code 88 = .ok (.castore, 1) := dk_85 (dk_at dksX2_code_3 16 rfl rfl)
theorem dX2_code_89 : decode cX2_code 89 = .ok (.iinc 4 1, 3) := dk_132 4 1 (dk_at dksX2_code_3 17 rfl rfl)
theorem dX2_code_92 : decode cX2_code 92 = .ok (.goto (-30), 3) := dk_167 255 226 (dk_at dksX2_code_3 20 rfl rfl)
theorem dX2_code_95 : decode cX2_code 95 = .ok (.iload_n 3, 1) := dk_29 (dk_at dksX2_code_3 23 rfl rfl)
theorem dX2_code_96 : decode cX2_code 96 = .ok (.ireturn, 1) := dk_172 (dk_at dksX2_code_4 0 rfl rfl)
abbrev cX2_write : ByteArray := prog_3_method_48_code
def yX2_write : MethodName := ⟨RX2, "write", "()I"⟩
def dkwX2_write_3 : List UInt8 := [52, 85, 132, 2, 1, 167, 255, 236, 42, 180, 0, 49, 172]
abbrev dktX2_write_3 : List UInt8 := dkwX2_write_3 ++ []
def dkwX2_write_2 : List UInt8 := [3, 172, 42, 27, 181, 0, 49, 3, 61, 28, 27, 162, 0, 21, 42, 180, 0, 13, 28, 42, 180, 0, 23, 28]
abbrev dktX2_write_2 : List UInt8 := dkwX2_write_2 ++ dktX2_write_3
def dkwX2_write_1 : List UInt8 := [132, 2, 1, 167, 255, 233, 42, 27, 16, 24, 164, 0, 7, 4, 167, 0, 4, 3, 182, 0, 77, 153, 0, 5]
abbrev dktX2_write_1 : List UInt8 := dkwX2_write_1 ++ dktX2_write_2
def dkwX2_write_0 : List UInt8 := [3, 60, 3, 61, 28, 42, 180, 0, 49, 162, 0, 21, 42, 27, 42, 180, 0, 13, 28, 52, 182, 0, 112, 60]
abbrev dktX2_write_0 : List UInt8 := dkwX2_write_0 ++ dktX2_write_1
theorem dksX2_write_0 : cX2_write.data.toList.drop 0 = dktX2_write_0 := by decide +kernel
theorem dksX2_write_1 : cX2_write.data.toList.drop 24 = dktX2_write_1 := dk_seg dksX2_write_0 24 rfl rfl
theorem dksX2_write_2 : cX2_write.data.toList.drop 48 = dktX2_write_2 := dk_seg dksX2_write_1 24 rfl rfl
theorem dksX2_write_3 : cX2_write.data.toList.drop 72 = dktX2_write_3 := dk_seg dksX2_write_2 24 rfl rfl
theorem dX2_write_0 : decode cX2_write 0 = .ok (.iconst 0, 1) := dk_3 (dk_at dksX2_write_0 0 rfl rfl)
theorem dX2_write_1 : decode cX2_write 1 = .ok (.istore_n 1, 1) := dk_60 (dk_at dksX2_write_0 1 rfl rfl)
theorem dX2_write_2 : decode cX2_write 2 = .ok (.iconst 0, 1) := dk_3 (dk_at dksX2_write_0 2 rfl rfl)
theorem dX2_write_3 : decode cX2_write 3 = .ok (.istore_n 2, 1) := dk_61 (dk_at dksX2_write_0 3 rfl rfl)
theorem dX2_write_4 : decode cX2_write 4 = .ok (.iload_n 2, 1) := dk_28 (dk_at dksX2_write_0 4 rfl rfl)
theorem dX2_write_5 : decode cX2_write 5 = .ok (.aload_n 0, 1) := dk_42 (dk_at dksX2_write_0 5 rfl rfl)
theorem dX2_write_6 : decode cX2_write 6 = .ok (.getfield 49, 3) := dk_180 0 49 (dk_at dksX2_write_0 6 rfl rfl)
theorem dX2_write_9 : decode cX2_write 9 = .ok (.if_icmp .ge 21, 3) := dk_162 0 21 (dk_at dksX2_write_0 9 rfl rfl)
theorem dX2_write_12 : decode cX2_write 12 = .ok (.aload_n 0, 1) := dk_42 (dk_at dksX2_write_0 12 rfl rfl)
theorem dX2_write_13 : decode cX2_write 13 = .ok (.iload_n 1, 1) := dk_27 (dk_at dksX2_write_0 13 rfl rfl)
theorem dX2_write_14 : decode cX2_write 14 = .ok (.aload_n 0, 1) := dk_42 (dk_at dksX2_write_0 14 rfl rfl)
theorem dX2_write_15 : decode cX2_write 15 = .ok (.getfield 13, 3) := dk_180 0 13 (dk_at dksX2_write_0 15 rfl rfl)
theorem dX2_write_18 : decode cX2_write 18 = .ok (.iload_n 2, 1) := dk_28 (dk_at dksX2_write_0 18 rfl rfl)
theorem dX2_write_19 : decode cX2_write 19 = .ok (.caload, 1) := dk_52 (dk_at dksX2_write_0 19 rfl rfl)
theorem dX2_write_20 : decode cX2_write 20 = .ok (.invokevirtual 112, 3) := dk_182 0 112 (dk_at dksX2_write_0 20 rfl rfl)
theorem dX2_write_23 : decode cX2_write 23 = .ok (.istore_n 1, 1) := dk_60 (dk_at dksX2_write_0 23 rfl rfl)
theorem dX2_write_24 : decode cX2_write 24 = .ok (.iinc 2 1, 3) := dk_132 2 1 (dk_at dksX2_write_1 0 rfl rfl)
theorem dX2_write_27 : decode cX2_write 27 = .ok (.goto (-23), 3) := dk_167 255 233 (dk_at dksX2_write_1 3 rfl rfl)
theorem dX2_write_30 : decode cX2_write 30 = .ok (.aload_n 0, 1) := dk_42 (dk_at dksX2_write_1 6 rfl rfl)
theorem dX2_write_31 : decode cX2_write 31 = .ok (.iload_n 1, 1) := dk_27 (dk_at dksX2_write_1 7 rfl rfl)
theorem dX2_write_32 : decode cX2_write 32 = .ok (.bipush 24, 2) := dk_16 24 (dk_at dksX2_write_1 8 rfl rfl)
theorem dX2_write_34 : decode cX2_write 34 = .ok (.if_icmp .le 7, 3) := dk_164 0 7 (dk_at dksX2_write_1 10 rfl rfl)
theorem dX2_write_37 : decode cX2_write 37 = .ok (.iconst 1, 1) := dk_4 (dk_at dksX2_write_1 13 rfl rfl)
theorem dX2_write_38 : decode cX2_write 38 = .ok (.goto 4, 3) := dk_167 0 4 (dk_at dksX2_write_1 14 rfl rfl)
theorem dX2_write_41 : decode cX2_write 41 = .ok (.iconst 0, 1) := dk_3 (dk_at dksX2_write_1 17 rfl rfl)
theorem dX2_write_42 : decode cX2_write 42 = .ok (.invokevirtual 77, 3) := dk_182 0 77 (dk_at dksX2_write_1 18 rfl rfl)
theorem dX2_write_45 : decode cX2_write 45 = .ok (.ifCond .eq 5, 3) := dk_153 0 5 (dk_at dksX2_write_1 21 rfl rfl)
theorem dX2_write_48 : decode cX2_write 48 = .ok (.iconst 0, 1) := dk_3 (dk_at dksX2_write_2 0 rfl rfl)
theorem dX2_write_49 : decode cX2_write 49 = .ok (.ireturn, 1) := dk_172 (dk_at dksX2_write_2 1 rfl rfl)
theorem dX2_write_50 : decode cX2_write 50 = .ok (.aload_n 0, 1) := dk_42 (dk_at dksX2_write_2 2 rfl rfl)
theorem dX2_write_51 : decode cX2_write 51 = .ok (.iload_n 1, 1) := dk_27 (dk_at dksX2_write_2 3 rfl rfl)
theorem dX2_write_52 : decode cX2_write 52 = .ok (.putfield 49, 3) := dk_181 0 49 (dk_at dksX2_write_2 4 rfl rfl)
theorem dX2_write_55 : decode cX2_write 55 = .ok (.iconst 0, 1) := dk_3 (dk_at dksX2_write_2 7 rfl rfl)
theorem dX2_write_56 : decode cX2_write 56 = .ok (.istore_n 2, 1) := dk_61 (dk_at dksX2_write_2 8 rfl rfl)
theorem dX2_write_57 : decode cX2_write 57 = .ok (.iload_n 2, 1) := dk_28 (dk_at dksX2_write_2 9 rfl rfl)
theorem dX2_write_58 : decode cX2_write 58 = .ok (.iload_n 1, 1) := dk_27 (dk_at dksX2_write_2 10 rfl rfl)
theorem dX2_write_59 : decode cX2_write 59 = .ok (.if_icmp .ge 21, 3) := dk_162 0 21 (dk_at dksX2_write_2 11 rfl rfl)
theorem dX2_write_62 : decode cX2_write 62 = .ok (.aload_n 0, 1) := dk_42 (dk_at dksX2_write_2 14 rfl rfl)
theorem dX2_write_63 : decode cX2_write 63 = .ok (.getfield 13, 3) := dk_180 0 13 (dk_at dksX2_write_2 15 rfl rfl)
theorem dX2_write_66 : decode cX2_write 66 = .ok (.iload_n 2, 1) := dk_28 (dk_at dksX2_write_2 18 rfl rfl)
theorem dX2_write_67 : decode cX2_write 67 = .ok (.aload_n 0, 1) := dk_42 (dk_at dksX2_write_2 19 rfl rfl)
theorem dX2_write_68 : decode cX2_write 68 = .ok (.getfield 23, 3) := dk_180 0 23 (dk_at dksX2_write_2 20 rfl rfl)
theorem dX2_write_71 : decode cX2_write 71 = .ok (.iload_n 2, 1) := dk_28 (dk_at dksX2_write_2 23 rfl rfl)
theorem dX2_write_72 : decode cX2_write 72 = .ok (.caload, 1) := dk_52 (dk_at dksX2_write_3 0 rfl rfl)
theorem dX2_write_73 : decode cX2_write 73 = .ok (.castore, 1) := dk_85 (dk_at dksX2_write_3 1 rfl rfl)
theorem dX2_write_74 : decode cX2_write 74 = .ok (.iinc 2 1, 3) := dk_132 2 1 (dk_at dksX2_write_3 2 rfl rfl)
theorem dX2_write_77 : decode cX2_write 77 = .ok (.goto (-20), 3) := dk_167 255 236 (dk_at dksX2_write_3 5 rfl rfl)
theorem dX2_write_80 : decode cX2_write 80 = .ok (.aload_n 0, 1) := dk_42 (dk_at dksX2_write_3 8 rfl rfl)
theorem dX2_write_81 : decode cX2_write 81 = .ok (.getfield 49, 3) := dk_180 0 49 (dk_at dksX2_write_3 9 rfl rfl)
theorem dX2_write_84 : decode cX2_write 84 = .ok (.ireturn, 1) := dk_172 (dk_at dksX2_write_3 12 rfl rfl)
abbrev cX2_puts : ByteArray := prog_3_method_47_code
def yX2_puts : MethodName := ⟨RX2, "puts", "(IC)I"⟩
def dkwX2_puts_2 : List UInt8 := [180, 0, 33, 29, 46, 96, 172]
abbrev dktX2_puts_2 : List UInt8 := dkwX2_puts_2 ++ []
def dkwX2_puts_1 : List UInt8 := [21, 4, 96, 42, 180, 0, 20, 6, 29, 104, 21, 4, 96, 52, 85, 132, 4, 1, 167, 255, 222, 27, 42]
abbrev dktX2_puts_1 : List UInt8 := dkwX2_puts_1 ++ dktX2_puts_2
def dkwX2_puts_0 : List UInt8 := [28, 16, 97, 100, 62, 3, 54, 4, 21, 4, 42, 180, 0, 33, 29, 46, 162, 0, 29, 42, 180, 0, 23, 27]
abbrev dktX2_puts_0 : List UInt8 := dkwX2_puts_0 ++ dktX2_puts_1
theorem dksX2_puts_0 : cX2_puts.data.toList.drop 0 = dktX2_puts_0 := by decide +kernel
theorem dksX2_puts_1 : cX2_puts.data.toList.drop 24 = dktX2_puts_1 := dk_seg dksX2_puts_0 24 rfl rfl
theorem dksX2_puts_2 : cX2_puts.data.toList.drop 47 = dktX2_puts_2 := dk_seg dksX2_puts_1 23 rfl rfl
theorem dX2_puts_0 : decode cX2_puts 0 = .ok (.iload_n 2, 1) := dk_28 (dk_at dksX2_puts_0 0 rfl rfl)
theorem dX2_puts_1 : decode cX2_puts 1 = .ok (.bipush 97, 2) := dk_16 97 (dk_at dksX2_puts_0 1 rfl rfl)
theorem dX2_puts_3 : decode cX2_puts 3 = .ok (.isub, 1) := dk_100 (dk_at dksX2_puts_0 3 rfl rfl)
theorem dX2_puts_4 : decode cX2_puts 4 = .ok (.istore_n 3, 1) := dk_62 (dk_at dksX2_puts_0 4 rfl rfl)
theorem dX2_puts_5 : decode cX2_puts 5 = .ok (.iconst 0, 1) := dk_3 (dk_at dksX2_puts_0 5 rfl rfl)
theorem dX2_puts_6 : decode cX2_puts 6 = .ok (.istore 4, 2) := dk_54 4 (dk_at dksX2_puts_0 6 rfl rfl)
theorem dX2_puts_8 : decode cX2_puts 8 = .ok (.iload 4, 2) := dk_21 4 (dk_at dksX2_puts_0 8 rfl rfl)
theorem dX2_puts_10 : decode cX2_puts 10 = .ok (.aload_n 0, 1) := dk_42 (dk_at dksX2_puts_0 10 rfl rfl)
theorem dX2_puts_11 : decode cX2_puts 11 = .ok (.getfield 33, 3) := dk_180 0 33 (dk_at dksX2_puts_0 11 rfl rfl)
theorem dX2_puts_14 : decode cX2_puts 14 = .ok (.iload_n 3, 1) := dk_29 (dk_at dksX2_puts_0 14 rfl rfl)
theorem dX2_puts_15 : decode cX2_puts 15 = .ok (.iaload, 1) := dk_46 (dk_at dksX2_puts_0 15 rfl rfl)
theorem dX2_puts_16 : decode cX2_puts 16 = .ok (.if_icmp .ge 29, 3) := dk_162 0 29 (dk_at dksX2_puts_0 16 rfl rfl)
theorem dX2_puts_19 : decode cX2_puts 19 = .ok (.aload_n 0, 1) := dk_42 (dk_at dksX2_puts_0 19 rfl rfl)
theorem dX2_puts_20 : decode cX2_puts 20 = .ok (.getfield 23, 3) := dk_180 0 23 (dk_at dksX2_puts_0 20 rfl rfl)
theorem dX2_puts_23 : decode cX2_puts 23 = .ok (.iload_n 1, 1) := dk_27 (dk_at dksX2_puts_0 23 rfl rfl)
theorem dX2_puts_24 : decode cX2_puts 24 = .ok (.iload 4, 2) := dk_21 4 (dk_at dksX2_puts_1 0 rfl rfl)
theorem dX2_puts_26 : decode cX2_puts 26 = .ok (.iadd, 1) := dk_96 (dk_at dksX2_puts_1 2 rfl rfl)
theorem dX2_puts_27 : decode cX2_puts 27 = .ok (.aload_n 0, 1) := dk_42 (dk_at dksX2_puts_1 3 rfl rfl)
theorem dX2_puts_28 : decode cX2_puts 28 = .ok (.getfield 20, 3) := dk_180 0 20 (dk_at dksX2_puts_1 4 rfl rfl)
theorem dX2_puts_31 : decode cX2_puts 31 = .ok (.iconst 3, 1) := dk_6 (dk_at dksX2_puts_1 7 rfl rfl)
theorem dX2_puts_32 : decode cX2_puts 32 = .ok (.iload_n 3, 1) := dk_29 (dk_at dksX2_puts_1 8 rfl rfl)
theorem dX2_puts_33 : decode cX2_puts 33 = .ok (.imul, 1) := dk_104 (dk_at dksX2_puts_1 9 rfl rfl)
theorem dX2_puts_34 : decode cX2_puts 34 = .ok (.iload 4, 2) := dk_21 4 (dk_at dksX2_puts_1 10 rfl rfl)
theorem dX2_puts_36 : decode cX2_puts 36 = .ok (.iadd, 1) := dk_96 (dk_at dksX2_puts_1 12 rfl rfl)
theorem dX2_puts_37 : decode cX2_puts 37 = .ok (.caload, 1) := dk_52 (dk_at dksX2_puts_1 13 rfl rfl)
theorem dX2_puts_38 : decode cX2_puts 38 = .ok (.castore, 1) := dk_85 (dk_at dksX2_puts_1 14 rfl rfl)
theorem dX2_puts_39 : decode cX2_puts 39 = .ok (.iinc 4 1, 3) := dk_132 4 1 (dk_at dksX2_puts_1 15 rfl rfl)
theorem dX2_puts_42 : decode cX2_puts 42 = .ok (.goto (-34), 3) := dk_167 255 222 (dk_at dksX2_puts_1 18 rfl rfl)
theorem dX2_puts_45 : decode cX2_puts 45 = .ok (.iload_n 1, 1) := dk_27 (dk_at dksX2_puts_1 21 rfl rfl)
theorem dX2_puts_46 : decode cX2_puts 46 = .ok (.aload_n 0, 1) := dk_42 (dk_at dksX2_puts_1 22 rfl rfl)
theorem dX2_puts_47 : decode cX2_puts 47 = .ok (.getfield 33, 3) := dk_180 0 33 (dk_at dksX2_puts_2 0 rfl rfl)
theorem dX2_puts_50 : decode cX2_puts 50 = .ok (.iload_n 3, 1) := dk_29 (dk_at dksX2_puts_2 3 rfl rfl)
theorem dX2_puts_51 : decode cX2_puts 51 = .ok (.iaload, 1) := dk_46 (dk_at dksX2_puts_2 4 rfl rfl)
theorem dX2_puts_52 : decode cX2_puts 52 = .ok (.iadd, 1) := dk_96 (dk_at dksX2_puts_2 5 rfl rfl)
theorem dX2_puts_53 : decode cX2_puts 53 = .ok (.ireturn, 1) := dk_172 (dk_at dksX2_puts_2 6 rfl rfl)
abbrev cX2_read : ByteArray := prog_3_method_50_code
def yX2_read : MethodName := ⟨RX2, "read", "()I"⟩
def dkwX2_read_5 : List UInt8 := [180, 0, 49, 172]
abbrev dktX2_read_5 : List UInt8 := dkwX2_read_5 ++ []
def dkwX2_read_4 : List UInt8 := [28, 162, 0, 21, 42, 180, 0, 13, 29, 42, 180, 0, 23, 29, 52, 85, 132, 3, 1, 167, 255, 236, 42]
abbrev dktX2_read_4 : List UInt8 := dkwX2_read_4 ++ dktX2_read_5
def dkwX2_read_3 : List UInt8 := [162, 0, 7, 5, 167, 0, 4, 3, 182, 0, 77, 153, 0, 5, 3, 172, 42, 28, 181, 0, 49, 3, 62, 29]
abbrev dktX2_read_3 : List UInt8 := dkwX2_read_3 ++ dktX2_read_4
def dkwX2_read_2 : List UInt8 := [46, 96, 60, 167, 255, 211, 42, 42, 182, 0, 119, 154, 0, 7, 4, 167, 0, 16, 27, 42, 180, 0, 49]
abbrev dktX2_read_2 : List UInt8 := dkwX2_read_2 ++ dktX2_read_3
def dkwX2_read_1 : List UInt8 := [182, 0, 116, 62, 42, 180, 0, 23, 28, 16, 97, 29, 96, 146, 85, 132, 2, 1, 27, 42, 180, 0, 33, 29]
abbrev dktX2_read_1 : List UInt8 := dkwX2_read_1 ++ dktX2_read_2
def dkwX2_read_0 : List UInt8 := [3, 60, 3, 61, 27, 42, 180, 0, 49, 162, 0, 43, 42, 27, 182, 0, 116, 155, 0, 35, 42, 27]
abbrev dktX2_read_0 : List UInt8 := dkwX2_read_0 ++ dktX2_read_1
theorem dksX2_read_0 : cX2_read.data.toList.drop 0 = dktX2_read_0 := by decide +kernel
theorem dksX2_read_1 : cX2_read.data.toList.drop 22 = dktX2_read_1 := dk_seg dksX2_read_0 22 rfl rfl
theorem dksX2_read_2 : cX2_read.data.toList.drop 46 = dktX2_read_2 := dk_seg dksX2_read_1 24 rfl rfl
theorem dksX2_read_3 : cX2_read.data.toList.drop 69 = dktX2_read_3 := dk_seg dksX2_read_2 23 rfl rfl
theorem dksX2_read_4 : cX2_read.data.toList.drop 93 = dktX2_read_4 := dk_seg dksX2_read_3 24 rfl rfl
theorem dksX2_read_5 : cX2_read.data.toList.drop 116 = dktX2_read_5 := dk_seg dksX2_read_4 23 rfl rfl
theorem dX2_read_0 : decode cX2_read 0 = .ok (.iconst 0, 1) := dk_3 (dk_at dksX2_read_0 0 rfl rfl)
theorem dX2_read_1 : decode cX2_read 1 = .ok (.istore_n 1, 1) := dk_60 (dk_at dksX2_read_0 1 rfl rfl)
theorem dX2_read_2 : decode cX2_read 2 = .ok (.iconst 0, 1) := dk_3 (dk_at dksX2_read_0 2 rfl rfl)
theorem dX2_read_3 : decode cX2_read 3 = .ok (.istore_n 2, 1) := dk_61 (dk_at dksX2_read_0 3 rfl rfl)
theorem dX2_read_4 : decode cX2_read 4 = .ok (.iload_n 1, 1) := dk_27 (dk_at dksX2_read_0 4 rfl rfl)
theorem dX2_read_5 : decode cX2_read 5 = .ok (.aload_n 0, 1) := dk_42 (dk_at dksX2_read_0 5 rfl rfl)
theorem dX2_read_6 : decode cX2_read 6 = .ok (.getfield 49, 3) := dk_180 0 49 (dk_at dksX2_read_0 6 rfl rfl)
theorem dX2_read_9 : decode cX2_read 9 = .ok (.if_icmp .ge 43, 3) := dk_162 0 43 (dk_at dksX2_read_0 9 rfl rfl)
theorem dX2_read_12 : decode cX2_read 12 = .ok (.aload_n 0, 1) := dk_42 (dk_at dksX2_read_0 12 rfl rfl)
theorem dX2_read_13 : decode cX2_read 13 = .ok (.iload_n 1, 1) := dk_27 (dk_at dksX2_read_0 13 rfl rfl)
theorem dX2_read_14 : decode cX2_read 14 = .ok (.invokevirtual 116, 3) := dk_182 0 116 (dk_at dksX2_read_0 14 rfl rfl)
theorem dX2_read_17 : decode cX2_read 17 = .ok (.ifCond .lt 35, 3) := dk_155 0 35 (dk_at dksX2_read_0 17 rfl rfl)
theorem dX2_read_20 : decode cX2_read 20 = .ok (.aload_n 0, 1) := dk_42 (dk_at dksX2_read_0 20 rfl rfl)
theorem dX2_read_21 : decode cX2_read 21 = .ok (.iload_n 1, 1) := dk_27 (dk_at dksX2_read_0 21 rfl rfl)
theorem dX2_read_22 : decode cX2_read 22 = .ok (.invokevirtual 116, 3) := dk_182 0 116 (dk_at dksX2_read_1 0 rfl rfl)
theorem dX2_read_25 : decode cX2_read 25 = .ok (.istore_n 3, 1) := dk_62 (dk_at dksX2_read_1 3 rfl rfl)
theorem dX2_read_26 : decode cX2_read 26 = .ok (.aload_n 0, 1) := dk_42 (dk_at dksX2_read_1 4 rfl rfl)
theorem dX2_read_27 : decode cX2_read 27 = .ok (.getfield 23, 3) := dk_180 0 23 (dk_at dksX2_read_1 5 rfl rfl)
theorem dX2_read_30 : decode cX2_read 30 = .ok (.iload_n 2, 1) := dk_28 (dk_at dksX2_read_1 8 rfl rfl)
theorem dX2_read_31 : decode cX2_read 31 = .ok (.bipush 97, 2) := dk_16 97 (dk_at dksX2_read_1 9 rfl rfl)
theorem dX2_read_33 : decode cX2_read 33 = .ok (.iload_n 3, 1) := dk_29 (dk_at dksX2_read_1 11 rfl rfl)
theorem dX2_read_34 : decode cX2_read 34 = .ok (.iadd, 1) := dk_96 (dk_at dksX2_read_1 12 rfl rfl)
theorem dX2_read_35 : decode cX2_read 35 = .ok (.i2c, 1) := dk_146 (dk_at dksX2_read_1 13 rfl rfl)
theorem dX2_read_36 : decode cX2_read 36 = .ok (.castore, 1) := dk_85 (dk_at dksX2_read_1 14 rfl rfl)
theorem dX2_read_37 : decode cX2_read 37 = .ok (.iinc 2 1, 3) := dk_132 2 1 (dk_at dksX2_read_1 15 rfl rfl)
theorem dX2_read_40 : decode cX2_read 40 = .ok (.iload_n 1, 1) := dk_27 (dk_at dksX2_read_1 18 rfl rfl)
theorem dX2_read_41 : decode cX2_read 41 = .ok (.aload_n 0, 1) := dk_42 (dk_at dksX2_read_1 19 rfl rfl)
theorem dX2_read_42 : decode cX2_read 42 = .ok (.getfield 33, 3) := dk_180 0 33 (dk_at dksX2_read_1 20 rfl rfl)
theorem dX2_read_45 : decode cX2_read 45 = .ok (.iload_n 3, 1) := dk_29 (dk_at dksX2_read_1 23 rfl rfl)
theorem dX2_read_46 : decode cX2_read 46 = .ok (.iaload, 1) := dk_46 (dk_at dksX2_read_2 0 rfl rfl)
theorem dX2_read_47 : decode cX2_read 47 = .ok (.iadd, 1) := dk_96 (dk_at dksX2_read_2 1 rfl rfl)
theorem dX2_read_48 : decode cX2_read 48 = .ok (.istore_n 1, 1) := dk_60 (dk_at dksX2_read_2 2 rfl rfl)
theorem dX2_read_49 : decode cX2_read 49 = .ok (.goto (-45), 3) := dk_167 255 211 (dk_at dksX2_read_2 3 rfl rfl)
theorem dX2_read_52 : decode cX2_read 52 = .ok (.aload_n 0, 1) := dk_42 (dk_at dksX2_read_2 6 rfl rfl)
theorem dX2_read_53 : decode cX2_read 53 = .ok (.aload_n 0, 1) := dk_42 (dk_at dksX2_read_2 7 rfl rfl)
theorem dX2_read_54 : decode cX2_read 54 = .ok (.invokevirtual 119, 3) := dk_182 0 119 (dk_at dksX2_read_2 8 rfl rfl)
theorem dX2_read_57 : decode cX2_read 57 = .ok (.ifCond .ne 7, 3) := dk_154 0 7 (dk_at dksX2_read_2 11 rfl rfl)
theorem dX2_read_60 : decode cX2_read 60 = .ok (.iconst 1, 1) := dk_4 (dk_at dksX2_read_2 14 rfl rfl)
theorem dX2_read_61 : decode cX2_read 61 = .ok (.goto 16, 3) := dk_167 0 16 (dk_at dksX2_read_2 15 rfl rfl)
theorem dX2_read_64 : decode cX2_read 64 = .ok (.iload_n 1, 1) := dk_27 (dk_at dksX2_read_2 18 rfl rfl)
theorem dX2_read_65 : decode cX2_read 65 = .ok (.aload_n 0, 1) := dk_42 (dk_at dksX2_read_2 19 rfl rfl)
theorem dX2_read_66 : decode cX2_read 66 = .ok (.getfield 49, 3) := dk_180 0 49 (dk_at dksX2_read_2 20 rfl rfl)
theorem dX2_read_69 : decode cX2_read 69 = .ok (.if_icmp .ge 7, 3) := dk_162 0 7 (dk_at dksX2_read_3 0 rfl rfl)
theorem dX2_read_72 : decode cX2_read 72 = .ok (.iconst 2, 1) := dk_5 (dk_at dksX2_read_3 3 rfl rfl)
theorem dX2_read_73 : decode cX2_read 73 = .ok (.goto 4, 3) := dk_167 0 4 (dk_at dksX2_read_3 4 rfl rfl)
theorem dX2_read_76 : decode cX2_read 76 = .ok (.iconst 0, 1) := dk_3 (dk_at dksX2_read_3 7 rfl rfl)
theorem dX2_read_77 : decode cX2_read 77 = .ok (.invokevirtual 77, 3) := dk_182 0 77 (dk_at dksX2_read_3 8 rfl rfl)
theorem dX2_read_80 : decode cX2_read 80 = .ok (.ifCond .eq 5, 3) := dk_153 0 5 (dk_at dksX2_read_3 11 rfl rfl)
theorem dX2_read_83 : decode cX2_read 83 = .ok (.iconst 0, 1) := dk_3 (dk_at dksX2_read_3 14 rfl rfl)
theorem dX2_read_84 : decode cX2_read 84 = .ok (.ireturn, 1) := dk_172 (dk_at dksX2_read_3 15 rfl rfl)
theorem dX2_read_85 : decode cX2_read 85 = .ok (.aload_n 0, 1) := dk_42 (dk_at dksX2_read_3 16 rfl rfl)
theorem dX2_read_86 : decode cX2_read 86 = .ok (.iload_n 2, 1) := dk_28 (dk_at dksX2_read_3 17 rfl rfl)
theorem dX2_read_87 : decode cX2_read 87 = .ok (.putfield 49, 3) := dk_181 0 49 (dk_at dksX2_read_3 18 rfl rfl)
theorem dX2_read_90 : decode cX2_read 90 = .ok (.iconst 0, 1) := dk_3 (dk_at dksX2_read_3 21 rfl rfl)
theorem dX2_read_91 : decode cX2_read 91 = .ok (.istore_n 3, 1) := dk_62 (dk_at dksX2_read_3 22 rfl rfl)
theorem dX2_read_92 : decode cX2_read 92 = .ok (.iload_n 3, 1) := dk_29 (dk_at dksX2_read_3 23 rfl rfl)
theorem dX2_read_93 : decode cX2_read 93 = .ok (.iload_n 2, 1) := dk_28 (dk_at dksX2_read_4 0 rfl rfl)
theorem dX2_read_94 : decode cX2_read 94 = .ok (.if_icmp .ge 21, 3) := dk_162 0 21 (dk_at dksX2_read_4 1 rfl rfl)
theorem dX2_read_97 : decode cX2_read 97 = .ok (.aload_n 0, 1) := dk_42 (dk_at dksX2_read_4 4 rfl rfl)
theorem dX2_read_98 : decode cX2_read 98 = .ok (.getfield 13, 3) := dk_180 0 13 (dk_at dksX2_read_4 5 rfl rfl)
theorem dX2_read_101 : decode cX2_read 101 = .ok (.iload_n 3, 1) := dk_29 (dk_at dksX2_read_4 8 rfl rfl)
theorem dX2_read_102 : decode cX2_read 102 = .ok (.aload_n 0, 1) := dk_42 (dk_at dksX2_read_4 9 rfl rfl)
theorem dX2_read_103 : decode cX2_read 103 = .ok (.getfield 23, 3) := dk_180 0 23 (dk_at dksX2_read_4 10 rfl rfl)
theorem dX2_read_106 : decode cX2_read 106 = .ok (.iload_n 3, 1) := dk_29 (dk_at dksX2_read_4 13 rfl rfl)
theorem dX2_read_107 : decode cX2_read 107 = .ok (.caload, 1) := dk_52 (dk_at dksX2_read_4 14 rfl rfl)
theorem dX2_read_108 : decode cX2_read 108 = .ok (.castore, 1) := dk_85 (dk_at dksX2_read_4 15 rfl rfl)
theorem dX2_read_109 : decode cX2_read 109 = .ok (.iinc 3 1, 3) := dk_132 3 1 (dk_at dksX2_read_4 16 rfl rfl)
theorem dX2_read_112 : decode cX2_read 112 = .ok (.goto (-20), 3) := dk_167 255 236 (dk_at dksX2_read_4 19 rfl rfl)
theorem dX2_read_115 : decode cX2_read 115 = .ok (.aload_n 0, 1) := dk_42 (dk_at dksX2_read_4 22 rfl rfl)
theorem dX2_read_116 : decode cX2_read 116 = .ok (.getfield 49, 3) := dk_180 0 49 (dk_at dksX2_read_5 0 rfl rfl)
theorem dX2_read_119 : decode cX2_read 119 = .ok (.ireturn, 1) := dk_172 (dk_at dksX2_read_5 3 rfl rfl)
abbrev cX2_codeAt : ByteArray := prog_3_method_49_code
def yX2_codeAt : MethodName := ⟨RX2, "codeAt", "(I)I"⟩
def dkwX2_codeAt_3 : List UInt8 := [167, 255, 186, 2, 172]
abbrev dktX2_codeAt_3 : List UInt8 := dkwX2_codeAt_3 ++ []
def dkwX2_codeAt_2 : List UInt8 := [160, 0, 9, 132, 3, 1, 167, 255, 212, 29, 42, 180, 0, 33, 28, 46, 160, 0, 5, 28, 172, 132, 2, 1]
abbrev dktX2_codeAt_2 : List UInt8 := dkwX2_codeAt_2 ++ dktX2_codeAt_3
def dkwX2_codeAt_1 : List UInt8 := [180, 0, 49, 162, 0, 30, 42, 180, 0, 20, 6, 28, 104, 29, 96, 52, 42, 180, 0, 13, 27, 29, 96, 52]
abbrev dktX2_codeAt_1 : List UInt8 := dkwX2_codeAt_1 ++ dktX2_codeAt_2
def dkwX2_codeAt_0 : List UInt8 := [3, 61, 28, 16, 6, 162, 0, 70, 3, 62, 29, 42, 180, 0, 33, 28, 46, 162, 0, 40, 27, 29, 96, 42]
abbrev dktX2_codeAt_0 : List UInt8 := dkwX2_codeAt_0 ++ dktX2_codeAt_1
theorem dksX2_codeAt_0 : cX2_codeAt.data.toList.drop 0 = dktX2_codeAt_0 := by decide +kernel
theorem dksX2_codeAt_1 : cX2_codeAt.data.toList.drop 24 = dktX2_codeAt_1 := dk_seg dksX2_codeAt_0 24 rfl rfl
theorem dksX2_codeAt_2 : cX2_codeAt.data.toList.drop 48 = dktX2_codeAt_2 := dk_seg dksX2_codeAt_1 24 rfl rfl
theorem dksX2_codeAt_3 : cX2_codeAt.data.toList.drop 72 = dktX2_codeAt_3 := dk_seg dksX2_codeAt_2 24 rfl rfl
theorem dX2_codeAt_0 : decode cX2_codeAt 0 = .ok (.iconst 0, 1) := dk_3 (dk_at dksX2_codeAt_0 0 rfl rfl)
theorem dX2_codeAt_1 : decode cX2_codeAt 1 = .ok (.istore_n 2, 1) := dk_61 (dk_at dksX2_codeAt_0 1 rfl rfl)
theorem dX2_codeAt_2 : decode cX2_codeAt 2 = .ok (.iload_n 2, 1) := dk_28 (dk_at dksX2_codeAt_0 2 rfl rfl)
theorem dX2_codeAt_3 : decode cX2_codeAt 3 = .ok (.bipush 6, 2) := dk_16 6 (dk_at dksX2_codeAt_0 3 rfl rfl)
theorem dX2_codeAt_5 : decode cX2_codeAt 5 = .ok (.if_icmp .ge 70, 3) := dk_162 0 70 (dk_at dksX2_codeAt_0 5 rfl rfl)
theorem dX2_codeAt_8 : decode cX2_codeAt 8 = .ok (.iconst 0, 1) := dk_3 (dk_at dksX2_codeAt_0 8 rfl rfl)
theorem dX2_codeAt_9 : decode cX2_codeAt 9 = .ok (.istore_n 3, 1) := dk_62 (dk_at dksX2_codeAt_0 9 rfl rfl)
theorem dX2_codeAt_10 : decode cX2_codeAt 10 = .ok (.iload_n 3, 1) := dk_29 (dk_at dksX2_codeAt_0 10 rfl rfl)
theorem dX2_codeAt_11 : decode cX2_codeAt 11 = .ok (.aload_n 0, 1) := dk_42 (dk_at dksX2_codeAt_0 11 rfl rfl)
theorem dX2_codeAt_12 : decode cX2_codeAt 12 = .ok (.getfield 33, 3) := dk_180 0 33 (dk_at dksX2_codeAt_0 12 rfl rfl)
theorem dX2_codeAt_15 : decode cX2_codeAt 15 = .ok (.iload_n 2, 1) := dk_28 (dk_at dksX2_codeAt_0 15 rfl rfl)
theorem dX2_codeAt_16 : decode cX2_codeAt 16 = .ok (.iaload, 1) := dk_46 (dk_at dksX2_codeAt_0 16 rfl rfl)
theorem dX2_codeAt_17 : decode cX2_codeAt 17 = .ok (.if_icmp .ge 40, 3) := dk_162 0 40 (dk_at dksX2_codeAt_0 17 rfl rfl)
theorem dX2_codeAt_20 : decode cX2_codeAt 20 = .ok (.iload_n 1, 1) := dk_27 (dk_at dksX2_codeAt_0 20 rfl rfl)
theorem dX2_codeAt_21 : decode cX2_codeAt 21 = .ok (.iload_n 3, 1) := dk_29 (dk_at dksX2_codeAt_0 21 rfl rfl)
theorem dX2_codeAt_22 : decode cX2_codeAt 22 = .ok (.iadd, 1) := dk_96 (dk_at dksX2_codeAt_0 22 rfl rfl)
theorem dX2_codeAt_23 : decode cX2_codeAt 23 = .ok (.aload_n 0, 1) := dk_42 (dk_at dksX2_codeAt_0 23 rfl rfl)
theorem dX2_codeAt_24 : decode cX2_codeAt 24 = .ok (.getfield 49, 3) := dk_180 0 49 (dk_at dksX2_codeAt_1 0 rfl rfl)
theorem dX2_codeAt_27 : decode cX2_codeAt 27 = .ok (.if_icmp .ge 30, 3) := dk_162 0 30 (dk_at dksX2_codeAt_1 3 rfl rfl)
theorem dX2_codeAt_30 : decode cX2_codeAt 30 = .ok (.aload_n 0, 1) := dk_42 (dk_at dksX2_codeAt_1 6 rfl rfl)
theorem dX2_codeAt_31 : decode cX2_codeAt 31 = .ok (.getfield 20, 3) := dk_180 0 20 (dk_at dksX2_codeAt_1 7 rfl rfl)
theorem dX2_codeAt_34 : decode cX2_codeAt 34 = .ok (.iconst 3, 1) := dk_6 (dk_at dksX2_codeAt_1 10 rfl rfl)
theorem dX2_codeAt_35 : decode cX2_codeAt 35 = .ok (.iload_n 2, 1) := dk_28 (dk_at dksX2_codeAt_1 11 rfl rfl)
theorem dX2_codeAt_36 : decode cX2_codeAt 36 = .ok (.imul, 1) := dk_104 (dk_at dksX2_codeAt_1 12 rfl rfl)
theorem dX2_codeAt_37 : decode cX2_codeAt 37 = .ok (.iload_n 3, 1) := dk_29 (dk_at dksX2_codeAt_1 13 rfl rfl)
theorem dX2_codeAt_38 : decode cX2_codeAt 38 = .ok (.iadd, 1) := dk_96 (dk_at dksX2_codeAt_1 14 rfl rfl)
theorem dX2_codeAt_39 : decode cX2_codeAt 39 = .ok (.caload, 1) := dk_52 (dk_at dksX2_codeAt_1 15 rfl rfl)
theorem dX2_codeAt_40 : decode cX2_codeAt 40 = .ok (.aload_n 0, 1) := dk_42 (dk_at dksX2_codeAt_1 16 rfl rfl)
theorem dX2_codeAt_41 : decode cX2_codeAt 41 = .ok (.getfield 13, 3) := dk_180 0 13 (dk_at dksX2_codeAt_1 17 rfl rfl)
theorem dX2_codeAt_44 : decode cX2_codeAt 44 = .ok (.iload_n 1, 1) := dk_27 (dk_at dksX2_codeAt_1 20 rfl rfl)
theorem dX2_codeAt_45 : decode cX2_codeAt 45 = .ok (.iload_n 3, 1) := dk_29 (dk_at dksX2_codeAt_1 21 rfl rfl)
theorem dX2_codeAt_46 : decode cX2_codeAt 46 = .ok (.iadd, 1) := dk_96 (dk_at dksX2_codeAt_1 22 rfl rfl)
theorem dX2_codeAt_47 : decode cX2_codeAt 47 = .ok (.caload, 1) := dk_52 (dk_at dksX2_codeAt_1 23 rfl rfl)
theorem dX2_codeAt_48 : decode cX2_codeAt 48 = .ok (.if_icmp .ne 9, 3) := dk_160 0 9 (dk_at dksX2_codeAt_2 0 rfl rfl)
theorem dX2_codeAt_51 : decode cX2_codeAt 51 = .ok (.iinc 3 1, 3) := dk_132 3 1 (dk_at dksX2_codeAt_2 3 rfl rfl)
theorem dX2_codeAt_54 : decode cX2_codeAt 54 = .ok (.goto (-44), 3) := dk_167 255 212 (dk_at dksX2_codeAt_2 6 rfl rfl)
theorem dX2_codeAt_57 : decode cX2_codeAt 57 = .ok (.iload_n 3, 1) := dk_29 (dk_at dksX2_codeAt_2 9 rfl rfl)
theorem dX2_codeAt_58 : decode cX2_codeAt 58 = .ok (.aload_n 0, 1) := dk_42 (dk_at dksX2_codeAt_2 10 rfl rfl)
theorem dX2_codeAt_59 : decode cX2_codeAt 59 = .ok (.getfield 33, 3) := dk_180 0 33 (dk_at dksX2_codeAt_2 11 rfl rfl)
theorem dX2_codeAt_62 : decode cX2_codeAt 62 = .ok (.iload_n 2, 1) := dk_28 (dk_at dksX2_codeAt_2 14 rfl rfl)
theorem dX2_codeAt_63 : decode cX2_codeAt 63 = .ok (.iaload, 1) := dk_46 (dk_at dksX2_codeAt_2 15 rfl rfl)
theorem dX2_codeAt_64 : decode cX2_codeAt 64 = .ok (.if_icmp .ne 5, 3) := dk_160 0 5 (dk_at dksX2_codeAt_2 16 rfl rfl)
theorem dX2_codeAt_67 : decode cX2_codeAt 67 = .ok (.iload_n 2, 1) := dk_28 (dk_at dksX2_codeAt_2 19 rfl rfl)
theorem dX2_codeAt_68 : decode cX2_codeAt 68 = .ok (.ireturn, 1) := dk_172 (dk_at dksX2_codeAt_2 20 rfl rfl)
theorem dX2_codeAt_69 : decode cX2_codeAt 69 = .ok (.iinc 2 1, 3) := dk_132 2 1 (dk_at dksX2_codeAt_2 21 rfl rfl)
theorem dX2_codeAt_72 : decode cX2_codeAt 72 = .ok (.goto (-70), 3) := dk_167 255 186 (dk_at dksX2_codeAt_3 0 rfl rfl)
theorem dX2_codeAt_75 : decode cX2_codeAt 75 = .ok (.iconst (-1), 1) := dk_2 (dk_at dksX2_codeAt_3 3 rfl rfl)
theorem dX2_codeAt_76 : decode cX2_codeAt 76 = .ok (.ireturn, 1) := dk_172 (dk_at dksX2_codeAt_3 4 rfl rfl)
abbrev cX2_areOrderly : ByteArray := prog_3_method_46_code
def yX2_areOrderly : MethodName := ⟨RX2, "areOrderly", "()Z"⟩
def dkwX2_areOrderly_1 : List UInt8 := [3, 172, 132, 2, 1, 167, 255, 237, 132, 1, 1, 167, 255, 223, 4, 172]
abbrev dktX2_areOrderly_1 : List UInt8 := dkwX2_areOrderly_1 ++ []
def dkwX2_areOrderly_0 : List UInt8 := [3, 60, 27, 16, 6, 162, 0, 33, 3, 61, 28, 27, 162, 0, 20, 42, 28, 27, 182, 0, 109, 154, 0, 5]
abbrev dktX2_areOrderly_0 : List UInt8 := dkwX2_areOrderly_0 ++ dktX2_areOrderly_1
theorem dksX2_areOrderly_0 : cX2_areOrderly.data.toList.drop 0 = dktX2_areOrderly_0 := by decide +kernel
theorem dksX2_areOrderly_1 : cX2_areOrderly.data.toList.drop 24 = dktX2_areOrderly_1 := dk_seg dksX2_areOrderly_0 24 rfl rfl
theorem dX2_areOrderly_0 : decode cX2_areOrderly 0 = .ok (.iconst 0, 1) := dk_3 (dk_at dksX2_areOrderly_0 0 rfl rfl)
theorem dX2_areOrderly_1 : decode cX2_areOrderly 1 = .ok (.istore_n 1, 1) := dk_60 (dk_at dksX2_areOrderly_0 1 rfl rfl)
theorem dX2_areOrderly_2 : decode cX2_areOrderly 2 = .ok (.iload_n 1, 1) := dk_27 (dk_at dksX2_areOrderly_0 2 rfl rfl)
theorem dX2_areOrderly_3 : decode cX2_areOrderly 3 = .ok (.bipush 6, 2) := dk_16 6 (dk_at dksX2_areOrderly_0 3 rfl rfl)
theorem dX2_areOrderly_5 : decode cX2_areOrderly 5 = .ok (.if_icmp .ge 33, 3) := dk_162 0 33 (dk_at dksX2_areOrderly_0 5 rfl rfl)
theorem dX2_areOrderly_8 : decode cX2_areOrderly 8 = .ok (.iconst 0, 1) := dk_3 (dk_at dksX2_areOrderly_0 8 rfl rfl)
theorem dX2_areOrderly_9 : decode cX2_areOrderly 9 = .ok (.istore_n 2, 1) := dk_61 (dk_at dksX2_areOrderly_0 9 rfl rfl)
theorem dX2_areOrderly_10 : decode cX2_areOrderly 10 = .ok (.iload_n 2, 1) := dk_28 (dk_at dksX2_areOrderly_0 10 rfl rfl)
theorem dX2_areOrderly_11 : decode cX2_areOrderly 11 = .ok (.iload_n 1, 1) := dk_27 (dk_at dksX2_areOrderly_0 11 rfl rfl)
theorem dX2_areOrderly_12 : decode cX2_areOrderly 12 = .ok (.if_icmp .ge 20, 3) := dk_162 0 20 (dk_at dksX2_areOrderly_0 12 rfl rfl)
theorem dX2_areOrderly_15 : decode cX2_areOrderly 15 = .ok (.aload_n 0, 1) := dk_42 (dk_at dksX2_areOrderly_0 15 rfl rfl)
theorem dX2_areOrderly_16 : decode cX2_areOrderly 16 = .ok (.iload_n 2, 1) := dk_28 (dk_at dksX2_areOrderly_0 16 rfl rfl)
theorem dX2_areOrderly_17 : decode cX2_areOrderly 17 = .ok (.iload_n 1, 1) := dk_27 (dk_at dksX2_areOrderly_0 17 rfl rfl)
theorem dX2_areOrderly_18 : decode cX2_areOrderly 18 = .ok (.invokevirtual 109, 3) := dk_182 0 109 (dk_at dksX2_areOrderly_0 18 rfl rfl)
theorem dX2_areOrderly_21 : decode cX2_areOrderly 21 = .ok (.ifCond .ne 5, 3) := dk_154 0 5 (dk_at dksX2_areOrderly_0 21 rfl rfl)
theorem dX2_areOrderly_24 : decode cX2_areOrderly 24 = .ok (.iconst 0, 1) := dk_3 (dk_at dksX2_areOrderly_1 0 rfl rfl)
theorem dX2_areOrderly_25 : decode cX2_areOrderly 25 = .ok (.ireturn, 1) := dk_172 (dk_at dksX2_areOrderly_1 1 rfl rfl)
theorem dX2_areOrderly_26 : decode cX2_areOrderly 26 = .ok (.iinc 2 1, 3) := dk_132 2 1 (dk_at dksX2_areOrderly_1 2 rfl rfl)
theorem dX2_areOrderly_29 : decode cX2_areOrderly 29 = .ok (.goto (-19), 3) := dk_167 255 237 (dk_at dksX2_areOrderly_1 5 rfl rfl)
theorem dX2_areOrderly_32 : decode cX2_areOrderly 32 = .ok (.iinc 1 1, 3) := dk_132 1 1 (dk_at dksX2_areOrderly_1 8 rfl rfl)
theorem dX2_areOrderly_35 : decode cX2_areOrderly 35 = .ok (.goto (-33), 3) := dk_167 255 223 (dk_at dksX2_areOrderly_1 11 rfl rfl)
theorem dX2_areOrderly_38 : decode cX2_areOrderly 38 = .ok (.iconst 1, 1) := dk_4 (dk_at dksX2_areOrderly_1 14 rfl rfl)
theorem dX2_areOrderly_39 : decode cX2_areOrderly 39 = .ok (.ireturn, 1) := dk_172 (dk_at dksX2_areOrderly_1 15 rfl rfl)
abbrev cX2_isAhead : ByteArray := prog_3_method_45_code
def yX2_isAhead : MethodName := ⟨RX2, "isAhead", "(II)Z"⟩
def dkwX2_isAhead_4 : List UInt8 := [162, 0, 7, 4, 167, 0, 4, 3, 172]
abbrev dktX2_isAhead_4 : List UInt8 := dkwX2_isAhead_4 ++ []
def dkwX2_isAhead_3 : List UInt8 := [162, 0, 30, 42, 180, 0, 20, 6, 27, 104, 29, 96, 52, 42, 180, 0, 20, 6, 28, 104, 29, 96, 52]
abbrev dktX2_isAhead_3 : List UInt8 := dkwX2_isAhead_3 ++ dktX2_isAhead_4
def dkwX2_isAhead_2 : List UInt8 := [132, 3, 1, 167, 255, 210, 29, 42, 180, 0, 33, 27, 46, 162, 0, 40, 29, 42, 180, 0, 33, 28, 46]
abbrev dktX2_isAhead_2 : List UInt8 := dkwX2_isAhead_2 ++ dktX2_isAhead_3
def dkwX2_isAhead_1 : List UInt8 := [180, 0, 20, 6, 27, 104, 29, 96, 52, 42, 180, 0, 20, 6, 28, 104, 29, 96, 52, 160, 0, 9]
abbrev dktX2_isAhead_1 : List UInt8 := dkwX2_isAhead_1 ++ dktX2_isAhead_2
def dkwX2_isAhead_0 : List UInt8 := [3, 62, 29, 42, 180, 0, 33, 27, 46, 162, 0, 42, 29, 42, 180, 0, 33, 28, 46, 162, 0, 32, 42]
abbrev dktX2_isAhead_0 : List UInt8 := dkwX2_isAhead_0 ++ dktX2_isAhead_1
theorem dksX2_isAhead_0 : cX2_isAhead.data.toList.drop 0 = dktX2_isAhead_0 := by decide +kernel
theorem dksX2_isAhead_1 : cX2_isAhead.data.toList.drop 23 = dktX2_isAhead_1 := dk_seg dksX2_isAhead_0 23 rfl rfl
theorem dksX2_isAhead_2 : cX2_isAhead.data.toList.drop 45 = dktX2_isAhead_2 := dk_seg dksX2_isAhead_1 22 rfl rfl
theorem dksX2_isAhead_3 : cX2_isAhead.data.toList.drop 68 = dktX2_isAhead_3 := dk_seg dksX2_isAhead_2 23 rfl rfl
theorem dksX2_isAhead_4 : cX2_isAhead.data.toList.drop 91 = dktX2_isAhead_4 := dk_seg dksX2_isAhead_3 23 rfl rfl
theorem dX2_isAhead_0 : decode cX2_isAhead 0 = .ok (.iconst 0, 1) := dk_3 (dk_at dksX2_isAhead_0 0 rfl rfl)
theorem dX2_isAhead_1 : decode cX2_isAhead 1 = .ok (.istore_n 3, 1) := dk_62 (dk_at dksX2_isAhead_0 1 rfl rfl)
theorem dX2_isAhead_2 : decode cX2_isAhead 2 = .ok (.iload_n 3, 1) := dk_29 (dk_at dksX2_isAhead_0 2 rfl rfl)
theorem dX2_isAhead_3 : decode cX2_isAhead 3 = .ok (.aload_n 0, 1) := dk_42 (dk_at dksX2_isAhead_0 3 rfl rfl)
theorem dX2_isAhead_4 : decode cX2_isAhead 4 = .ok (.getfield 33, 3) := dk_180 0 33 (dk_at dksX2_isAhead_0 4 rfl rfl)
theorem dX2_isAhead_7 : decode cX2_isAhead 7 = .ok (.iload_n 1, 1) := dk_27 (dk_at dksX2_isAhead_0 7 rfl rfl)
theorem dX2_isAhead_8 : decode cX2_isAhead 8 = .ok (.iaload, 1) := dk_46 (dk_at dksX2_isAhead_0 8 rfl rfl)
theorem dX2_isAhead_9 : decode cX2_isAhead 9 = .ok (.if_icmp .ge 42, 3) := dk_162 0 42 (dk_at dksX2_isAhead_0 9 rfl rfl)
theorem dX2_isAhead_12 : decode cX2_isAhead 12 = .ok (.iload_n 3, 1) := dk_29 (dk_at dksX2_isAhead_0 12 rfl rfl)
theorem dX2_isAhead_13 : decode cX2_isAhead 13 = .ok (.aload_n 0, 1) := dk_42 (dk_at dksX2_isAhead_0 13 rfl rfl)
theorem dX2_isAhead_14 : decode cX2_isAhead 14 = .ok (.getfield 33, 3) := dk_180 0 33 (dk_at dksX2_isAhead_0 14 rfl rfl)
theorem dX2_isAhead_17 : decode cX2_isAhead 17 = .ok (.iload_n 2, 1) := dk_28 (dk_at dksX2_isAhead_0 17 rfl rfl)
theorem dX2_isAhead_18 : decode cX2_isAhead 18 = .ok (.iaload, 1) := dk_46 (dk_at dksX2_isAhead_0 18 rfl rfl)
theorem dX2_isAhead_19 : decode cX2_isAhead 19 = .ok (.if_icmp .ge 32, 3) := dk_162 0 32 (dk_at dksX2_isAhead_0 19 rfl rfl)
theorem dX2_isAhead_22 : decode cX2_isAhead 22 = .ok (.aload_n 0, 1) := dk_42 (dk_at dksX2_isAhead_0 22 rfl rfl)
theorem dX2_isAhead_23 : decode cX2_isAhead 23 = .ok (.getfield 20, 3) := dk_180 0 20 (dk_at dksX2_isAhead_1 0 rfl rfl)
theorem dX2_isAhead_26 : decode cX2_isAhead 26 = .ok (.iconst 3, 1) := dk_6 (dk_at dksX2_isAhead_1 3 rfl rfl)
theorem dX2_isAhead_27 : decode cX2_isAhead 27 = .ok (.iload_n 1, 1) := dk_27 (dk_at dksX2_isAhead_1 4 rfl rfl)
theorem dX2_isAhead_28 : decode cX2_isAhead 28 = .ok (.imul, 1) := dk_104 (dk_at dksX2_isAhead_1 5 rfl rfl)
theorem dX2_isAhead_29 : decode cX2_isAhead 29 = .ok (.iload_n 3, 1) := dk_29 (dk_at dksX2_isAhead_1 6 rfl rfl)
theorem dX2_isAhead_30 : decode cX2_isAhead 30 = .ok (.iadd, 1) := dk_96 (dk_at dksX2_isAhead_1 7 rfl rfl)
theorem dX2_isAhead_31 : decode cX2_isAhead 31 = .ok (.caload, 1) := dk_52 (dk_at dksX2_isAhead_1 8 rfl rfl)
theorem dX2_isAhead_32 : decode cX2_isAhead 32 = .ok (.aload_n 0, 1) := dk_42 (dk_at dksX2_isAhead_1 9 rfl rfl)
theorem dX2_isAhead_33 : decode cX2_isAhead 33 = .ok (.getfield 20, 3) := dk_180 0 20 (dk_at dksX2_isAhead_1 10 rfl rfl)
theorem dX2_isAhead_36 : decode cX2_isAhead 36 = .ok (.iconst 3, 1) := dk_6 (dk_at dksX2_isAhead_1 13 rfl rfl)
theorem dX2_isAhead_37 : decode cX2_isAhead 37 = .ok (.iload_n 2, 1) := dk_28 (dk_at dksX2_isAhead_1 14 rfl rfl)
theorem dX2_isAhead_38 : decode cX2_isAhead 38 = .ok (.imul, 1) := dk_104 (dk_at dksX2_isAhead_1 15 rfl rfl)
theorem dX2_isAhead_39 : decode cX2_isAhead 39 = .ok (.iload_n 3, 1) := dk_29 (dk_at dksX2_isAhead_1 16 rfl rfl)
theorem dX2_isAhead_40 : decode cX2_isAhead 40 = .ok (.iadd, 1) := dk_96 (dk_at dksX2_isAhead_1 17 rfl rfl)
theorem dX2_isAhead_41 : decode cX2_isAhead 41 = .ok (.caload, 1) := dk_52 (dk_at dksX2_isAhead_1 18 rfl rfl)
theorem dX2_isAhead_42 : decode cX2_isAhead 42 = .ok (.if_icmp .ne 9, 3) := dk_160 0 9 (dk_at dksX2_isAhead_1 19 rfl rfl)
theorem dX2_isAhead_45 : decode cX2_isAhead 45 = .ok (.iinc 3 1, 3) := dk_132 3 1 (dk_at dksX2_isAhead_2 0 rfl rfl)
theorem dX2_isAhead_48 : decode cX2_isAhead 48 = .ok (.goto (-46), 3) := dk_167 255 210 (dk_at dksX2_isAhead_2 3 rfl rfl)
theorem dX2_isAhead_51 : decode cX2_isAhead 51 = .ok (.iload_n 3, 1) := dk_29 (dk_at dksX2_isAhead_2 6 rfl rfl)
theorem dX2_isAhead_52 : decode cX2_isAhead 52 = .ok (.aload_n 0, 1) := dk_42 (dk_at dksX2_isAhead_2 7 rfl rfl)
theorem dX2_isAhead_53 : decode cX2_isAhead 53 = .ok (.getfield 33, 3) := dk_180 0 33 (dk_at dksX2_isAhead_2 8 rfl rfl)
theorem dX2_isAhead_56 : decode cX2_isAhead 56 = .ok (.iload_n 1, 1) := dk_27 (dk_at dksX2_isAhead_2 11 rfl rfl)
theorem dX2_isAhead_57 : decode cX2_isAhead 57 = .ok (.iaload, 1) := dk_46 (dk_at dksX2_isAhead_2 12 rfl rfl)
theorem dX2_isAhead_58 : decode cX2_isAhead 58 = .ok (.if_icmp .ge 40, 3) := dk_162 0 40 (dk_at dksX2_isAhead_2 13 rfl rfl)
theorem dX2_isAhead_61 : decode cX2_isAhead 61 = .ok (.iload_n 3, 1) := dk_29 (dk_at dksX2_isAhead_2 16 rfl rfl)
theorem dX2_isAhead_62 : decode cX2_isAhead 62 = .ok (.aload_n 0, 1) := dk_42 (dk_at dksX2_isAhead_2 17 rfl rfl)
theorem dX2_isAhead_63 : decode cX2_isAhead 63 = .ok (.getfield 33, 3) := dk_180 0 33 (dk_at dksX2_isAhead_2 18 rfl rfl)
theorem dX2_isAhead_66 : decode cX2_isAhead 66 = .ok (.iload_n 2, 1) := dk_28 (dk_at dksX2_isAhead_2 21 rfl rfl)
theorem dX2_isAhead_67 : decode cX2_isAhead 67 = .ok (.iaload, 1) := dk_46 (dk_at dksX2_isAhead_2 22 rfl rfl)
theorem dX2_isAhead_68 : decode cX2_isAhead 68 = .ok (.if_icmp .ge 30, 3) := dk_162 0 30 (dk_at dksX2_isAhead_3 0 rfl rfl)
theorem dX2_isAhead_71 : decode cX2_isAhead 71 = .ok (.aload_n 0, 1) := dk_42 (dk_at dksX2_isAhead_3 3 rfl rfl)
theorem dX2_isAhead_72 : decode cX2_isAhead 72 = .ok (.getfield 20, 3) := dk_180 0 20 (dk_at dksX2_isAhead_3 4 rfl rfl)
theorem dX2_isAhead_75 : decode cX2_isAhead 75 = .ok (.iconst 3, 1) := dk_6 (dk_at dksX2_isAhead_3 7 rfl rfl)
theorem dX2_isAhead_76 : decode cX2_isAhead 76 = .ok (.iload_n 1, 1) := dk_27 (dk_at dksX2_isAhead_3 8 rfl rfl)
theorem dX2_isAhead_77 : decode cX2_isAhead 77 = .ok (.imul, 1) := dk_104 (dk_at dksX2_isAhead_3 9 rfl rfl)
theorem dX2_isAhead_78 : decode cX2_isAhead 78 = .ok (.iload_n 3, 1) := dk_29 (dk_at dksX2_isAhead_3 10 rfl rfl)
theorem dX2_isAhead_79 : decode cX2_isAhead 79 = .ok (.iadd, 1) := dk_96 (dk_at dksX2_isAhead_3 11 rfl rfl)
theorem dX2_isAhead_80 : decode cX2_isAhead 80 = .ok (.caload, 1) := dk_52 (dk_at dksX2_isAhead_3 12 rfl rfl)
theorem dX2_isAhead_81 : decode cX2_isAhead 81 = .ok (.aload_n 0, 1) := dk_42 (dk_at dksX2_isAhead_3 13 rfl rfl)
theorem dX2_isAhead_82 : decode cX2_isAhead 82 = .ok (.getfield 20, 3) := dk_180 0 20 (dk_at dksX2_isAhead_3 14 rfl rfl)
theorem dX2_isAhead_85 : decode cX2_isAhead 85 = .ok (.iconst 3, 1) := dk_6 (dk_at dksX2_isAhead_3 17 rfl rfl)
theorem dX2_isAhead_86 : decode cX2_isAhead 86 = .ok (.iload_n 2, 1) := dk_28 (dk_at dksX2_isAhead_3 18 rfl rfl)
theorem dX2_isAhead_87 : decode cX2_isAhead 87 = .ok (.imul, 1) := dk_104 (dk_at dksX2_isAhead_3 19 rfl rfl)
theorem dX2_isAhead_88 : decode cX2_isAhead 88 = .ok (.iload_n 3, 1) := dk_29 (dk_at dksX2_isAhead_3 20 rfl rfl)
theorem dX2_isAhead_89 : decode cX2_isAhead 89 = .ok (.iadd, 1) := dk_96 (dk_at dksX2_isAhead_3 21 rfl rfl)
theorem dX2_isAhead_90 : decode cX2_isAhead 90 = .ok (.caload, 1) := dk_52 (dk_at dksX2_isAhead_3 22 rfl rfl)
theorem dX2_isAhead_91 : decode cX2_isAhead 91 = .ok (.if_icmp .ge 7, 3) := dk_162 0 7 (dk_at dksX2_isAhead_4 0 rfl rfl)
theorem dX2_isAhead_94 : decode cX2_isAhead 94 = .ok (.iconst 1, 1) := dk_4 (dk_at dksX2_isAhead_4 3 rfl rfl)
theorem dX2_isAhead_95 : decode cX2_isAhead 95 = .ok (.goto 4, 3) := dk_167 0 4 (dk_at dksX2_isAhead_4 4 rfl rfl)
theorem dX2_isAhead_98 : decode cX2_isAhead 98 = .ok (.iconst 0, 1) := dk_3 (dk_at dksX2_isAhead_4 7 rfl rfl)
theorem dX2_isAhead_99 : decode cX2_isAhead 99 = .ok (.ireturn, 1) := dk_172 (dk_at dksX2_isAhead_4 8 rfl rfl)
abbrev cX2_writeAll : ByteArray := prog_3_method_52_code
def yX2_writeAll : MethodName := ⟨RX2, "writeAll", "()I"⟩
def dkwX2_writeAll_6 : List UInt8 := [132, 3, 1, 167, 255, 181, 28, 172]
abbrev dktX2_writeAll_6 : List UInt8 := dkwX2_writeAll_6 ++ []
def dkwX2_writeAll_5 : List UInt8 := [180, 0, 17, 16, 10, 29, 104, 21, 5, 96, 42, 180, 0, 23, 21, 5, 52, 85, 132, 5, 1, 167, 255, 227]
abbrev dktX2_writeAll_5 : List UInt8 := dkwX2_writeAll_5 ++ dktX2_writeAll_6
def dkwX2_writeAll_4 : List UInt8 := [132, 2, 1, 42, 180, 0, 26, 29, 21, 4, 79, 3, 54, 5, 21, 5, 21, 4, 162, 0, 28, 42]
abbrev dktX2_writeAll_4 : List UInt8 := dkwX2_writeAll_4 ++ dktX2_writeAll_5
def dkwX2_writeAll_3 : List UInt8 := [180, 0, 59, 162, 0, 73, 42, 29, 182, 0, 123, 54, 4, 21, 4, 42, 180, 0, 26, 29, 46, 164, 0, 6]
abbrev dktX2_writeAll_3 : List UInt8 := dkwX2_writeAll_3 ++ dktX2_writeAll_4
def dkwX2_writeAll_2 : List UInt8 := [27, 153, 0, 7, 5, 167, 0, 4, 3, 182, 0, 77, 153, 0, 5, 3, 172, 3, 61, 3, 62, 29, 42]
abbrev dktX2_writeAll_2 : List UInt8 := dkwX2_writeAll_2 ++ dktX2_writeAll_3
def dkwX2_writeAll_1 : List UInt8 := [167, 0, 4, 3, 128, 60, 132, 2, 1, 167, 255, 227, 42, 42, 182, 0, 119, 154, 0, 7, 4, 167, 0, 12]
abbrev dktX2_writeAll_1 : List UInt8 := dkwX2_writeAll_1 ++ dktX2_writeAll_2
def dkwX2_writeAll_0 : List UInt8 := [3, 60, 3, 61, 28, 42, 180, 0, 59, 162, 0, 27, 27, 42, 28, 182, 0, 123, 16, 10, 164, 0, 7, 4]
abbrev dktX2_writeAll_0 : List UInt8 := dkwX2_writeAll_0 ++ dktX2_writeAll_1
theorem dksX2_writeAll_0 : cX2_writeAll.data.toList.drop 0 = dktX2_writeAll_0 := by decide +kernel
theorem dksX2_writeAll_1 : cX2_writeAll.data.toList.drop 24 = dktX2_writeAll_1 := dk_seg dksX2_writeAll_0 24 rfl rfl
theorem dksX2_writeAll_2 : cX2_writeAll.data.toList.drop 48 = dktX2_writeAll_2 := dk_seg dksX2_writeAll_1 24 rfl rfl
theorem dksX2_writeAll_3 : cX2_writeAll.data.toList.drop 71 = dktX2_writeAll_3 := dk_seg dksX2_writeAll_2 23 rfl rfl
theorem dksX2_writeAll_4 : cX2_writeAll.data.toList.drop 95 = dktX2_writeAll_4 := dk_seg dksX2_writeAll_3 24 rfl rfl
theorem dksX2_writeAll_5 : cX2_writeAll.data.toList.drop 117 = dktX2_writeAll_5 := dk_seg dksX2_writeAll_4 22 rfl rfl
theorem dksX2_writeAll_6 : cX2_writeAll.data.toList.drop 141 = dktX2_writeAll_6 := dk_seg dksX2_writeAll_5 24 rfl rfl
theorem dX2_writeAll_0 : decode cX2_writeAll 0 = .ok (.iconst 0, 1) := dk_3 (dk_at dksX2_writeAll_0 0 rfl rfl)
theorem dX2_writeAll_1 : decode cX2_writeAll 1 = .ok (.istore_n 1, 1) := dk_60 (dk_at dksX2_writeAll_0 1 rfl rfl)
theorem dX2_writeAll_2 : decode cX2_writeAll 2 = .ok (.iconst 0, 1) := dk_3 (dk_at dksX2_writeAll_0 2 rfl rfl)
theorem dX2_writeAll_3 : decode cX2_writeAll 3 = .ok (.istore_n 2, 1) := dk_61 (dk_at dksX2_writeAll_0 3 rfl rfl)
theorem dX2_writeAll_4 : decode cX2_writeAll 4 = .ok (.iload_n 2, 1) := dk_28 (dk_at dksX2_writeAll_0 4 rfl rfl)
theorem dX2_writeAll_5 : decode cX2_writeAll 5 = .ok (.aload_n 0, 1) := dk_42 (dk_at dksX2_writeAll_0 5 rfl rfl)
theorem dX2_writeAll_6 : decode cX2_writeAll 6 = .ok (.getfield 59, 3) := dk_180 0 59 (dk_at dksX2_writeAll_0 6 rfl rfl)
theorem dX2_writeAll_9 : decode cX2_writeAll 9 = .ok (.if_icmp .ge 27, 3) := dk_162 0 27 (dk_at dksX2_writeAll_0 9 rfl rfl)
theorem dX2_writeAll_12 : decode cX2_writeAll 12 = .ok (.iload_n 1, 1) := dk_27 (dk_at dksX2_writeAll_0 12 rfl rfl)
theorem dX2_writeAll_13 : decode cX2_writeAll 13 = .ok (.aload_n 0, 1) := dk_42 (dk_at dksX2_writeAll_0 13 rfl rfl)
theorem dX2_writeAll_14 : decode cX2_writeAll 14 = .ok (.iload_n 2, 1) := dk_28 (dk_at dksX2_writeAll_0 14 rfl rfl)
theorem dX2_writeAll_15 : decode cX2_writeAll 15 = .ok (.invokevirtual 123, 3) := dk_182 0 123 (dk_at dksX2_writeAll_0 15 rfl rfl)
theorem dX2_writeAll_18 : decode cX2_writeAll 18 = .ok (.bipush 10, 2) := dk_16 10 (dk_at dksX2_writeAll_0 18 rfl rfl)
theorem dX2_writeAll_20 : decode cX2_writeAll 20 = .ok (.if_icmp .le 7, 3) := dk_164 0 7 (dk_at dksX2_writeAll_0 20 rfl rfl)
theorem dX2_writeAll_23 : decode cX2_writeAll 23 = .ok (.iconst 1, 1) := dk_4 (dk_at dksX2_writeAll_0 23 rfl rfl)
theorem dX2_writeAll_24 : decode cX2_writeAll 24 = .ok (.goto 4, 3) := dk_167 0 4 (dk_at dksX2_writeAll_1 0 rfl rfl)
theorem dX2_writeAll_27 : decode cX2_writeAll 27 = .ok (.iconst 0, 1) := dk_3 (dk_at dksX2_writeAll_1 3 rfl rfl)
theorem dX2_writeAll_28 : decode cX2_writeAll 28 = .ok (.ior, 1) := dk_128 (dk_at dksX2_writeAll_1 4 rfl rfl)
theorem dX2_writeAll_29 : decode cX2_writeAll 29 = .ok (.istore_n 1, 1) := dk_60 (dk_at dksX2_writeAll_1 5 rfl rfl)
theorem dX2_writeAll_30 : decode cX2_writeAll 30 = .ok (.iinc 2 1, 3) := dk_132 2 1 (dk_at dksX2_writeAll_1 6 rfl rfl)
theorem dX2_writeAll_33 : decode cX2_writeAll 33 = .ok (.goto (-29), 3) := dk_167 255 227 (dk_at dksX2_writeAll_1 9 rfl rfl)
theorem dX2_writeAll_36 : decode cX2_writeAll 36 = .ok (.aload_n 0, 1) := dk_42 (dk_at dksX2_writeAll_1 12 rfl rfl)
theorem dX2_writeAll_37 : decode cX2_writeAll 37 = .ok (.aload_n 0, 1) := dk_42 (dk_at dksX2_writeAll_1 13 rfl rfl)
theorem dX2_writeAll_38 : decode cX2_writeAll 38 = .ok (.invokevirtual 119, 3) := dk_182 0 119 (dk_at dksX2_writeAll_1 14 rfl rfl)
theorem dX2_writeAll_41 : decode cX2_writeAll 41 = .ok (.ifCond .ne 7, 3) := dk_154 0 7 (dk_at dksX2_writeAll_1 17 rfl rfl)
theorem dX2_writeAll_44 : decode cX2_writeAll 44 = .ok (.iconst 1, 1) := dk_4 (dk_at dksX2_writeAll_1 20 rfl rfl)
theorem dX2_writeAll_45 : decode cX2_writeAll 45 = .ok (.goto 12, 3) := dk_167 0 12 (dk_at dksX2_writeAll_1 21 rfl rfl)
theorem dX2_writeAll_48 : decode cX2_writeAll 48 = .ok (.iload_n 1, 1) := dk_27 (dk_at dksX2_writeAll_2 0 rfl rfl)
theorem dX2_writeAll_49 : decode cX2_writeAll 49 = .ok (.ifCond .eq 7, 3) := dk_153 0 7 (dk_at dksX2_writeAll_2 1 rfl rfl)
theorem dX2_writeAll_52 : decode cX2_writeAll 52 = .ok (.iconst 2, 1) := dk_5 (dk_at dksX2_writeAll_2 4 rfl rfl)
theorem dX2_writeAll_53 : decode cX2_writeAll 53 = .ok (.goto 4, 3) := dk_167 0 4 (dk_at dksX2_writeAll_2 5 rfl rfl)
theorem dX2_writeAll_56 : decode cX2_writeAll 56 = .ok (.iconst 0, 1) := dk_3 (dk_at dksX2_writeAll_2 8 rfl rfl)
theorem dX2_writeAll_57 : decode cX2_writeAll 57 = .ok (.invokevirtual 77, 3) := dk_182 0 77 (dk_at dksX2_writeAll_2 9 rfl rfl)
theorem dX2_writeAll_60 : decode cX2_writeAll 60 = .ok (.ifCond .eq 5, 3) := dk_153 0 5 (dk_at dksX2_writeAll_2 12 rfl rfl)
theorem dX2_writeAll_63 : decode cX2_writeAll 63 = .ok (.iconst 0, 1) := dk_3 (dk_at dksX2_writeAll_2 15 rfl rfl)
theorem dX2_writeAll_64 : decode cX2_writeAll 64 = .ok (.ireturn, 1) := dk_172 (dk_at dksX2_writeAll_2 16 rfl rfl)
theorem dX2_writeAll_65 : decode cX2_writeAll 65 = .ok (.iconst 0, 1) := dk_3 (dk_at dksX2_writeAll_2 17 rfl rfl)
theorem dX2_writeAll_66 : decode cX2_writeAll 66 = .ok (.istore_n 2, 1) := dk_61 (dk_at dksX2_writeAll_2 18 rfl rfl)
theorem dX2_writeAll_67 : decode cX2_writeAll 67 = .ok (.iconst 0, 1) := dk_3 (dk_at dksX2_writeAll_2 19 rfl rfl)
theorem dX2_writeAll_68 : decode cX2_writeAll 68 = .ok (.istore_n 3, 1) := dk_62 (dk_at dksX2_writeAll_2 20 rfl rfl)
theorem dX2_writeAll_69 : decode cX2_writeAll 69 = .ok (.iload_n 3, 1) := dk_29 (dk_at dksX2_writeAll_2 21 rfl rfl)
theorem dX2_writeAll_70 : decode cX2_writeAll 70 = .ok (.aload_n 0, 1) := dk_42 (dk_at dksX2_writeAll_2 22 rfl rfl)
theorem dX2_writeAll_71 : decode cX2_writeAll 71 = .ok (.getfield 59, 3) := dk_180 0 59 (dk_at dksX2_writeAll_3 0 rfl rfl)
theorem dX2_writeAll_74 : decode cX2_writeAll 74 = .ok (.if_icmp .ge 73, 3) := dk_162 0 73 (dk_at dksX2_writeAll_3 3 rfl rfl)
theorem dX2_writeAll_77 : decode cX2_writeAll 77 = .ok (.aload_n 0, 1) := dk_42 (dk_at dksX2_writeAll_3 6 rfl rfl)
theorem dX2_writeAll_78 : decode cX2_writeAll 78 = .ok (.iload_n 3, 1) := dk_29 (dk_at dksX2_writeAll_3 7 rfl rfl)
theorem dX2_writeAll_79 : decode cX2_writeAll 79 = .ok (.invokevirtual 123, 3) := dk_182 0 123 (dk_at dksX2_writeAll_3 8 rfl rfl)
theorem dX2_writeAll_82 : decode cX2_writeAll 82 = .ok (.istore 4, 2) := dk_54 4 (dk_at dksX2_writeAll_3 11 rfl rfl)
theorem dX2_writeAll_84 : decode cX2_writeAll 84 = .ok (.iload 4, 2) := dk_21 4 (dk_at dksX2_writeAll_3 13 rfl rfl)
theorem dX2_writeAll_86 : decode cX2_writeAll 86 = .ok (.aload_n 0, 1) := dk_42 (dk_at dksX2_writeAll_3 15 rfl rfl)
theorem dX2_writeAll_87 : decode cX2_writeAll 87 = .ok (.getfield 26, 3) := dk_180 0 26 (dk_at dksX2_writeAll_3 16 rfl rfl)
theorem dX2_writeAll_90 : decode cX2_writeAll 90 = .ok (.iload_n 3, 1) := dk_29 (dk_at dksX2_writeAll_3 19 rfl rfl)
theorem dX2_writeAll_91 : decode cX2_writeAll 91 = .ok (.iaload, 1) := dk_46 (dk_at dksX2_writeAll_3 20 rfl rfl)
theorem dX2_writeAll_92 : decode cX2_writeAll 92 = .ok (.if_icmp .le 6, 3) := dk_164 0 6 (dk_at dksX2_writeAll_3 21 rfl rfl)
theorem dX2_writeAll_95 : decode cX2_writeAll 95 = .ok (.iinc 2 1, 3) := dk_132 2 1 (dk_at dksX2_writeAll_4 0 rfl rfl)
theorem dX2_writeAll_98 : decode cX2_writeAll 98 = .ok (.aload_n 0, 1) := dk_42 (dk_at dksX2_writeAll_4 3 rfl rfl)
theorem dX2_writeAll_99 : decode cX2_writeAll 99 = .ok (.getfield 26, 3) := dk_180 0 26 (dk_at dksX2_writeAll_4 4 rfl rfl)
theorem dX2_writeAll_102 : decode cX2_writeAll 102 = .ok (.iload_n 3, 1) := dk_29 (dk_at dksX2_writeAll_4 7 rfl rfl)
theorem dX2_writeAll_103 : decode cX2_writeAll 103 = .ok (.iload 4, 2) := dk_21 4 (dk_at dksX2_writeAll_4 8 rfl rfl)
theorem dX2_writeAll_105 : decode cX2_writeAll 105 = .ok (.iastore, 1) := dk_79 (dk_at dksX2_writeAll_4 10 rfl rfl)
theorem dX2_writeAll_106 : decode cX2_writeAll 106 = .ok (.iconst 0, 1) := dk_3 (dk_at dksX2_writeAll_4 11 rfl rfl)
theorem dX2_writeAll_107 : decode cX2_writeAll 107 = .ok (.istore 5, 2) := dk_54 5 (dk_at dksX2_writeAll_4 12 rfl rfl)
theorem dX2_writeAll_109 : decode cX2_writeAll 109 = .ok (.iload 5, 2) := dk_21 5 (dk_at dksX2_writeAll_4 14 rfl rfl)
theorem dX2_writeAll_111 : decode cX2_writeAll 111 = .ok (.iload 4, 2) := dk_21 4 (dk_at dksX2_writeAll_4 16 rfl rfl)
theorem dX2_writeAll_113 : decode cX2_writeAll 113 = .ok (.if_icmp .ge 28, 3) := dk_162 0 28 (dk_at dksX2_writeAll_4 18 rfl rfl)
theorem dX2_writeAll_116 : decode cX2_writeAll 116 = .ok (.aload_n 0, 1) := dk_42 (dk_at dksX2_writeAll_4 21 rfl rfl)
theorem dX2_writeAll_117 : decode cX2_writeAll 117 = .ok (.getfield 17, 3) := dk_180 0 17 (dk_at dksX2_writeAll_5 0 rfl rfl)
theorem dX2_writeAll_120 : decode cX2_writeAll 120 = .ok (.bipush 10, 2) := dk_16 10 (dk_at dksX2_writeAll_5 3 rfl rfl)
theorem dX2_writeAll_122 : decode cX2_writeAll 122 = .ok (.iload_n 3, 1) := dk_29 (dk_at dksX2_writeAll_5 5 rfl rfl)
theorem dX2_writeAll_123 : decode cX2_writeAll 123 = .ok (.imul, 1) := dk_104 (dk_at dksX2_writeAll_5 6 rfl rfl)
theorem dX2_writeAll_124 : decode cX2_writeAll 124 = .ok (.iload 5, 2) := dk_21 5 (dk_at dksX2_writeAll_5 7 rfl rfl)
theorem dX2_writeAll_126 : decode cX2_writeAll 126 = .ok (.iadd, 1) := dk_96 (dk_at dksX2_writeAll_5 9 rfl rfl)
theorem dX2_writeAll_127 : decode cX2_writeAll 127 = .ok (.aload_n 0, 1) := dk_42 (dk_at dksX2_writeAll_5 10 rfl rfl)
theorem dX2_writeAll_128 : decode cX2_writeAll 128 = .ok (.getfield 23, 3) := dk_180 0 23 (dk_at dksX2_writeAll_5 11 rfl rfl)
theorem dX2_writeAll_131 : decode cX2_writeAll 131 = .ok (.iload 5, 2) := dk_21 5 (dk_at dksX2_writeAll_5 14 rfl rfl)
theorem dX2_writeAll_133 : decode cX2_writeAll 133 = .ok (.caload, 1) := dk_52 (dk_at dksX2_writeAll_5 16 rfl rfl)
theorem dX2_writeAll_134 : decode cX2_writeAll 134 = .ok (.castore, 1) := dk_85 (dk_at dksX2_writeAll_5 17 rfl rfl)
theorem dX2_writeAll_135 : decode cX2_writeAll 135 = .ok (.iinc 5 1, 3) := dk_132 5 1 (dk_at dksX2_writeAll_5 18 rfl rfl)
theorem dX2_writeAll_138 : decode cX2_writeAll 138 = .ok (.goto (-29), 3) := dk_167 255 227 (dk_at dksX2_writeAll_5 21 rfl rfl)
theorem dX2_writeAll_141 : decode cX2_writeAll 141 = .ok (.iinc 3 1, 3) := dk_132 3 1 (dk_at dksX2_writeAll_6 0 rfl rfl)
theorem dX2_writeAll_144 : decode cX2_writeAll 144 = .ok (.goto (-75), 3) := dk_167 255 181 (dk_at dksX2_writeAll_6 3 rfl rfl)
theorem dX2_writeAll_147 : decode cX2_writeAll 147 = .ok (.iload_n 2, 1) := dk_28 (dk_at dksX2_writeAll_6 6 rfl rfl)
theorem dX2_writeAll_148 : decode cX2_writeAll 148 = .ok (.ireturn, 1) := dk_172 (dk_at dksX2_writeAll_6 7 rfl rfl)
abbrev cX2_written : ByteArray := prog_3_method_51_code
def yX2_written : MethodName := ⟨RX2, "written", "(I)I"⟩
def dkwX2_written_1 : List UInt8 := [29, 96, 52, 182, 0, 112, 61, 132, 3, 1, 167, 255, 226, 28, 172]
abbrev dktX2_written_1 : List UInt8 := dkwX2_written_1 ++ []
def dkwX2_written_0 : List UInt8 := [3, 61, 3, 62, 29, 42, 180, 0, 26, 27, 46, 162, 0, 26, 42, 28, 42, 180, 0, 17, 16, 10, 27, 104]
abbrev dktX2_written_0 : List UInt8 := dkwX2_written_0 ++ dktX2_written_1
theorem dksX2_written_0 : cX2_written.data.toList.drop 0 = dktX2_written_0 := by decide +kernel
theorem dksX2_written_1 : cX2_written.data.toList.drop 24 = dktX2_written_1 := dk_seg dksX2_written_0 24 rfl rfl
theorem dX2_written_0 : decode cX2_written 0 = .ok (.iconst 0, 1) := dk_3 (dk_at dksX2_written_0 0 rfl rfl)
theorem dX2_written_1 : decode cX2_written 1 = .ok (.istore_n 2, 1) := dk_61 (dk_at dksX2_written_0 1 rfl rfl)
theorem dX2_written_2 : decode cX2_written 2 = .ok (.iconst 0, 1) := dk_3 (dk_at dksX2_written_0 2 rfl rfl)
theorem dX2_written_3 : decode cX2_written 3 = .ok (.istore_n 3, 1) := dk_62 (dk_at dksX2_written_0 3 rfl rfl)
theorem dX2_written_4 : decode cX2_written 4 = .ok (.iload_n 3, 1) := dk_29 (dk_at dksX2_written_0 4 rfl rfl)
theorem dX2_written_5 : decode cX2_written 5 = .ok (.aload_n 0, 1) := dk_42 (dk_at dksX2_written_0 5 rfl rfl)
theorem dX2_written_6 : decode cX2_written 6 = .ok (.getfield 26, 3) := dk_180 0 26 (dk_at dksX2_written_0 6 rfl rfl)
theorem dX2_written_9 : decode cX2_written 9 = .ok (.iload_n 1, 1) := dk_27 (dk_at dksX2_written_0 9 rfl rfl)
theorem dX2_written_10 : decode cX2_written 10 = .ok (.iaload, 1) := dk_46 (dk_at dksX2_written_0 10 rfl rfl)
theorem dX2_written_11 : decode cX2_written 11 = .ok (.if_icmp .ge 26, 3) := dk_162 0 26 (dk_at dksX2_written_0 11 rfl rfl)
theorem dX2_written_14 : decode cX2_written 14 = .ok (.aload_n 0, 1) := dk_42 (dk_at dksX2_written_0 14 rfl rfl)
theorem dX2_written_15 : decode cX2_written 15 = .ok (.iload_n 2, 1) := dk_28 (dk_at dksX2_written_0 15 rfl rfl)
theorem dX2_written_16 : decode cX2_written 16 = .ok (.aload_n 0, 1) := dk_42 (dk_at dksX2_written_0 16 rfl rfl)
theorem dX2_written_17 : decode cX2_written 17 = .ok (.getfield 17, 3) := dk_180 0 17 (dk_at dksX2_written_0 17 rfl rfl)
theorem dX2_written_20 : decode cX2_written 20 = .ok (.bipush 10, 2) := dk_16 10 (dk_at dksX2_written_0 20 rfl rfl)
theorem dX2_written_22 : decode cX2_written 22 = .ok (.iload_n 1, 1) := dk_27 (dk_at dksX2_written_0 22 rfl rfl)
theorem dX2_written_23 : decode cX2_written 23 = .ok (.imul, 1) := dk_104 (dk_at dksX2_written_0 23 rfl rfl)
theorem dX2_written_24 : decode cX2_written 24 = .ok (.iload_n 3, 1) := dk_29 (dk_at dksX2_written_1 0 rfl rfl)
theorem dX2_written_25 : decode cX2_written 25 = .ok (.iadd, 1) := dk_96 (dk_at dksX2_written_1 1 rfl rfl)
theorem dX2_written_26 : decode cX2_written 26 = .ok (.caload, 1) := dk_52 (dk_at dksX2_written_1 2 rfl rfl)
theorem dX2_written_27 : decode cX2_written 27 = .ok (.invokevirtual 112, 3) := dk_182 0 112 (dk_at dksX2_written_1 3 rfl rfl)
theorem dX2_written_30 : decode cX2_written 30 = .ok (.istore_n 2, 1) := dk_61 (dk_at dksX2_written_1 6 rfl rfl)
theorem dX2_written_31 : decode cX2_written 31 = .ok (.iinc 3 1, 3) := dk_132 3 1 (dk_at dksX2_written_1 7 rfl rfl)
theorem dX2_written_34 : decode cX2_written 34 = .ok (.goto (-30), 3) := dk_167 255 226 (dk_at dksX2_written_1 10 rfl rfl)
theorem dX2_written_37 : decode cX2_written 37 = .ok (.iload_n 2, 1) := dk_28 (dk_at dksX2_written_1 13 rfl rfl)
theorem dX2_written_38 : decode cX2_written 38 = .ok (.ireturn, 1) := dk_172 (dk_at dksX2_written_1 14 rfl rfl)
abbrev cX2_isTrue : ByteArray := prog_3_method_55_code
def yX2_isTrue : MethodName := ⟨RX2, "isTrue", "()Z"⟩
def dkwX2_isTrue_1 : List UInt8 := [163, 0, 19, 42, 27, 182, 0, 126, 154, 0, 5, 3, 172, 132, 1, 1, 167, 255, 229, 42, 182, 0, 129, 172]
abbrev dktX2_isTrue_1 : List UInt8 := dkwX2_isTrue_1 ++ []
def dkwX2_isTrue_0 : List UInt8 := [42, 3, 181, 0, 1, 42, 182, 0, 94, 3, 60, 27, 42, 180, 0, 49, 163, 0, 25, 27, 16, 10]
abbrev dktX2_isTrue_0 : List UInt8 := dkwX2_isTrue_0 ++ dktX2_isTrue_1
theorem dksX2_isTrue_0 : cX2_isTrue.data.toList.drop 0 = dktX2_isTrue_0 := by decide +kernel
theorem dksX2_isTrue_1 : cX2_isTrue.data.toList.drop 22 = dktX2_isTrue_1 := dk_seg dksX2_isTrue_0 22 rfl rfl
theorem dX2_isTrue_0 : decode cX2_isTrue 0 = .ok (.aload_n 0, 1) := dk_42 (dk_at dksX2_isTrue_0 0 rfl rfl)
theorem dX2_isTrue_1 : decode cX2_isTrue 1 = .ok (.iconst 0, 1) := dk_3 (dk_at dksX2_isTrue_0 1 rfl rfl)
theorem dX2_isTrue_2 : decode cX2_isTrue 2 = .ok (.putfield 1, 3) := dk_181 0 1 (dk_at dksX2_isTrue_0 2 rfl rfl)
theorem dX2_isTrue_5 : decode cX2_isTrue 5 = .ok (.aload_n 0, 1) := dk_42 (dk_at dksX2_isTrue_0 5 rfl rfl)
theorem dX2_isTrue_6 : decode cX2_isTrue 6 = .ok (.invokevirtual 94, 3) := dk_182 0 94 (dk_at dksX2_isTrue_0 6 rfl rfl)
theorem dX2_isTrue_9 : decode cX2_isTrue 9 = .ok (.iconst 0, 1) := dk_3 (dk_at dksX2_isTrue_0 9 rfl rfl)
theorem dX2_isTrue_10 : decode cX2_isTrue 10 = .ok (.istore_n 1, 1) := dk_60 (dk_at dksX2_isTrue_0 10 rfl rfl)
theorem dX2_isTrue_11 : decode cX2_isTrue 11 = .ok (.iload_n 1, 1) := dk_27 (dk_at dksX2_isTrue_0 11 rfl rfl)
theorem dX2_isTrue_12 : decode cX2_isTrue 12 = .ok (.aload_n 0, 1) := dk_42 (dk_at dksX2_isTrue_0 12 rfl rfl)
theorem dX2_isTrue_13 : decode cX2_isTrue 13 = .ok (.getfield 49, 3) := dk_180 0 49 (dk_at dksX2_isTrue_0 13 rfl rfl)
theorem dX2_isTrue_16 : decode cX2_isTrue 16 = .ok (.if_icmp .gt 25, 3) := dk_163 0 25 (dk_at dksX2_isTrue_0 16 rfl rfl)
theorem dX2_isTrue_19 : decode cX2_isTrue 19 = .ok (.iload_n 1, 1) := dk_27 (dk_at dksX2_isTrue_0 19 rfl rfl)
theorem dX2_isTrue_20 : decode cX2_isTrue 20 = .ok (.bipush 10, 2) := dk_16 10 (dk_at dksX2_isTrue_0 20 rfl rfl)
theorem dX2_isTrue_22 : decode cX2_isTrue 22 = .ok (.if_icmp .gt 19, 3) := dk_163 0 19 (dk_at dksX2_isTrue_1 0 rfl rfl)
theorem dX2_isTrue_25 : decode cX2_isTrue 25 = .ok (.aload_n 0, 1) := dk_42 (dk_at dksX2_isTrue_1 3 rfl rfl)
theorem dX2_isTrue_26 : decode cX2_isTrue 26 = .ok (.iload_n 1, 1) := dk_27 (dk_at dksX2_isTrue_1 4 rfl rfl)
theorem dX2_isTrue_27 : decode cX2_isTrue 27 = .ok (.invokevirtual 126, 3) := dk_182 0 126 (dk_at dksX2_isTrue_1 5 rfl rfl)
theorem dX2_isTrue_30 : decode cX2_isTrue 30 = .ok (.ifCond .ne 5, 3) := dk_154 0 5 (dk_at dksX2_isTrue_1 8 rfl rfl)
theorem dX2_isTrue_33 : decode cX2_isTrue 33 = .ok (.iconst 0, 1) := dk_3 (dk_at dksX2_isTrue_1 11 rfl rfl)
theorem dX2_isTrue_34 : decode cX2_isTrue 34 = .ok (.ireturn, 1) := dk_172 (dk_at dksX2_isTrue_1 12 rfl rfl)
theorem dX2_isTrue_35 : decode cX2_isTrue 35 = .ok (.iinc 1 1, 3) := dk_132 1 1 (dk_at dksX2_isTrue_1 13 rfl rfl)
theorem dX2_isTrue_38 : decode cX2_isTrue 38 = .ok (.goto (-27), 3) := dk_167 255 229 (dk_at dksX2_isTrue_1 16 rfl rfl)
theorem dX2_isTrue_41 : decode cX2_isTrue 41 = .ok (.aload_n 0, 1) := dk_42 (dk_at dksX2_isTrue_1 19 rfl rfl)
theorem dX2_isTrue_42 : decode cX2_isTrue 42 = .ok (.invokevirtual 129, 3) := dk_182 0 129 (dk_at dksX2_isTrue_1 20 rfl rfl)
theorem dX2_isTrue_45 : decode cX2_isTrue 45 = .ok (.ireturn, 1) := dk_172 (dk_at dksX2_isTrue_1 23 rfl rfl)
abbrev cX2_isSideBySide : ByteArray := prog_3_method_53_code
def yX2_isSideBySide : MethodName := ⟨RX2, "isSideBySide", "(I)Z"⟩
def dkwX2_isSideBySide_8 : List UInt8 := [28, 21, 5, 160, 0, 7, 4, 167, 0, 4, 3, 172]
abbrev dktX2_isSideBySide_8 : List UInt8 := dkwX2_isSideBySide_8 ++ []
def dkwX2_isSideBySide_7 : List UInt8 := [132, 5, 1, 132, 6, 1, 167, 255, 102, 21, 4, 153, 0, 19, 29, 28, 100, 4, 96, 21, 4, 160, 0, 13]
abbrev dktX2_isSideBySide_7 : List UInt8 := dkwX2_isSideBySide_7 ++ dktX2_isSideBySide_8
def dkwX2_isSideBySide_6 : List UInt8 := [42, 21, 6, 3, 182, 0, 52, 96, 52, 42, 180, 0, 13, 42, 21, 6, 3, 182, 0, 52, 52, 162, 0, 6]
abbrev dktX2_isSideBySide_6 : List UInt8 := dkwX2_isSideBySide_6 ++ dktX2_isSideBySide_7
def dkwX2_isSideBySide_5 : List UInt8 := [46, 159, 0, 47, 42, 21, 6, 3, 182, 0, 52, 27, 162, 0, 39, 42, 180, 0, 17, 16, 10, 21, 6, 104]
abbrev dktX2_isSideBySide_5 : List UInt8 := dkwX2_isSideBySide_5 ++ dktX2_isSideBySide_6
def dkwX2_isSideBySide_4 : List UInt8 := [42, 180, 0, 39, 21, 6, 46, 62, 167, 0, 67, 42, 21, 6, 3, 182, 0, 52, 42, 180, 0, 26, 21, 6]
abbrev dktX2_isSideBySide_4 : List UInt8 := dkwX2_isSideBySide_4 ++ dktX2_isSideBySide_5
def dkwX2_isSideBySide_3 : List UInt8 := [46, 28, 162, 0, 11, 42, 180, 0, 39, 21, 6, 46, 61, 42, 180, 0, 39, 21, 6, 46, 29, 164, 0, 78]
abbrev dktX2_isSideBySide_3 : List UInt8 := dkwX2_isSideBySide_3 ++ dktX2_isSideBySide_4
def dkwX2_isSideBySide_2 : List UInt8 := [161, 0, 7, 4, 167, 0, 4, 3, 54, 7, 21, 7, 153, 0, 47, 132, 4, 1, 42, 180, 0, 39, 21, 6]
abbrev dktX2_isSideBySide_2 : List UInt8 := dkwX2_isSideBySide_2 ++ dktX2_isSideBySide_3
def dkwX2_isSideBySide_1 : List UInt8 := [162, 0, 151, 42, 180, 0, 26, 21, 6, 46, 27, 161, 0, 18, 42, 21, 6, 3, 182, 0, 52, 27]
abbrev dktX2_isSideBySide_1 : List UInt8 := dkwX2_isSideBySide_1 ++ dktX2_isSideBySide_2
def dkwX2_isSideBySide_0 : List UInt8 := [42, 180, 0, 59, 61, 2, 62, 3, 54, 4, 3, 54, 5, 3, 54, 6, 21, 6, 42, 180, 0, 59]
abbrev dktX2_isSideBySide_0 : List UInt8 := dkwX2_isSideBySide_0 ++ dktX2_isSideBySide_1
theorem dksX2_isSideBySide_0 : cX2_isSideBySide.data.toList.drop 0 = dktX2_isSideBySide_0 := by decide +kernel
theorem dksX2_isSideBySide_1 : cX2_isSideBySide.data.toList.drop 22 = dktX2_isSideBySide_1 := dk_seg dksX2_isSideBySide_0 22 rfl rfl
theorem dksX2_isSideBySide_2 : cX2_isSideBySide.data.toList.drop 44 = dktX2_isSideBySide_2 := dk_seg dksX2_isSideBySide_1 22 rfl rfl
theorem dksX2_isSideBySide_3 : cX2_isSideBySide.data.toList.drop 68 = dktX2_isSideBySide_3 := dk_seg dksX2_isSideBySide_2 24 rfl rfl
theorem dksX2_isSideBySide_4 : cX2_isSideBySide.data.toList.drop 92 = dktX2_isSideBySide_4 := dk_seg dksX2_isSideBySide_3 24 rfl rfl
theorem dksX2_isSideBySide_5 : cX2_isSideBySide.data.toList.drop 116 = dktX2_isSideBySide_5 := dk_seg dksX2_isSideBySide_4 24 rfl rfl
theorem dksX2_isSideBySide_6 : cX2_isSideBySide.data.toList.drop 140 = dktX2_isSideBySide_6 := dk_seg dksX2_isSideBySide_5 24 rfl rfl
theorem dksX2_isSideBySide_7 : cX2_isSideBySide.data.toList.drop 164 = dktX2_isSideBySide_7 := dk_seg dksX2_isSideBySide_6 24 rfl rfl
theorem dksX2_isSideBySide_8 : cX2_isSideBySide.data.toList.drop 188 = dktX2_isSideBySide_8 := dk_seg dksX2_isSideBySide_7 24 rfl rfl
theorem dX2_isSideBySide_0 : decode cX2_isSideBySide 0 = .ok (.aload_n 0, 1) := dk_42 (dk_at dksX2_isSideBySide_0 0 rfl rfl)
theorem dX2_isSideBySide_1 : decode cX2_isSideBySide 1 = .ok (.getfield 59, 3) := dk_180 0 59 (dk_at dksX2_isSideBySide_0 1 rfl rfl)
theorem dX2_isSideBySide_4 : decode cX2_isSideBySide 4 = .ok (.istore_n 2, 1) := dk_61 (dk_at dksX2_isSideBySide_0 4 rfl rfl)
theorem dX2_isSideBySide_5 : decode cX2_isSideBySide 5 = .ok (.iconst (-1), 1) := dk_2 (dk_at dksX2_isSideBySide_0 5 rfl rfl)
theorem dX2_isSideBySide_6 : decode cX2_isSideBySide 6 = .ok (.istore_n 3, 1) := dk_62 (dk_at dksX2_isSideBySide_0 6 rfl rfl)
theorem dX2_isSideBySide_7 : decode cX2_isSideBySide 7 = .ok (.iconst 0, 1) := dk_3 (dk_at dksX2_isSideBySide_0 7 rfl rfl)
theorem dX2_isSideBySide_8 : decode cX2_isSideBySide 8 = .ok (.istore 4, 2) := dk_54 4 (dk_at dksX2_isSideBySide_0 8 rfl rfl)
theorem dX2_isSideBySide_10 : decode cX2_isSideBySide 10 = .ok (.iconst 0, 1) := dk_3 (dk_at dksX2_isSideBySide_0 10 rfl rfl)
theorem dX2_isSideBySide_11 : decode cX2_isSideBySide 11 = .ok (.istore 5, 2) := dk_54 5 (dk_at dksX2_isSideBySide_0 11 rfl rfl)
theorem dX2_isSideBySide_13 : decode cX2_isSideBySide 13 = .ok (.iconst 0, 1) := dk_3 (dk_at dksX2_isSideBySide_0 13 rfl rfl)
theorem dX2_isSideBySide_14 : decode cX2_isSideBySide 14 = .ok (.istore 6, 2) := dk_54 6 (dk_at dksX2_isSideBySide_0 14 rfl rfl)
theorem dX2_isSideBySide_16 : decode cX2_isSideBySide 16 = .ok (.iload 6, 2) := dk_21 6 (dk_at dksX2_isSideBySide_0 16 rfl rfl)
theorem dX2_isSideBySide_18 : decode cX2_isSideBySide 18 = .ok (.aload_n 0, 1) := dk_42 (dk_at dksX2_isSideBySide_0 18 rfl rfl)
theorem dX2_isSideBySide_19 : decode cX2_isSideBySide 19 = .ok (.getfield 59, 3) := dk_180 0 59 (dk_at dksX2_isSideBySide_0 19 rfl rfl)
theorem dX2_isSideBySide_22 : decode cX2_isSideBySide 22 = .ok (.if_icmp .ge 151, 3) := dk_162 0 151 (dk_at dksX2_isSideBySide_1 0 rfl rfl)
theorem dX2_isSideBySide_25 : decode cX2_isSideBySide 25 = .ok (.aload_n 0, 1) := dk_42 (dk_at dksX2_isSideBySide_1 3 rfl rfl)
theorem dX2_isSideBySide_26 : decode cX2_isSideBySide 26 = .ok (.getfield 26, 3) := dk_180 0 26 (dk_at dksX2_isSideBySide_1 4 rfl rfl)
theorem dX2_isSideBySide_29 : decode cX2_isSideBySide 29 = .ok (.iload 6, 2) := dk_21 6 (dk_at dksX2_isSideBySide_1 7 rfl rfl)
theorem dX2_isSideBySide_31 : decode cX2_isSideBySide 31 = .ok (.iaload, 1) := dk_46 (dk_at dksX2_isSideBySide_1 9 rfl rfl)
theorem dX2_isSideBySide_32 : decode cX2_isSideBySide 32 = .ok (.iload_n 1, 1) := dk_27 (dk_at dksX2_isSideBySide_1 10 rfl rfl)
theorem dX2_isSideBySide_33 : decode cX2_isSideBySide 33 = .ok (.if_icmp .lt 18, 3) := dk_161 0 18 (dk_at dksX2_isSideBySide_1 11 rfl rfl)
theorem dX2_isSideBySide_36 : decode cX2_isSideBySide 36 = .ok (.aload_n 0, 1) := dk_42 (dk_at dksX2_isSideBySide_1 14 rfl rfl)
theorem dX2_isSideBySide_37 : decode cX2_isSideBySide 37 = .ok (.iload 6, 2) := dk_21 6 (dk_at dksX2_isSideBySide_1 15 rfl rfl)
theorem dX2_isSideBySide_39 : decode cX2_isSideBySide 39 = .ok (.iconst 0, 1) := dk_3 (dk_at dksX2_isSideBySide_1 17 rfl rfl)
theorem dX2_isSideBySide_40 : decode cX2_isSideBySide 40 = .ok (.invokevirtual 52, 3) := dk_182 0 52 (dk_at dksX2_isSideBySide_1 18 rfl rfl)
theorem dX2_isSideBySide_43 : decode cX2_isSideBySide 43 = .ok (.iload_n 1, 1) := dk_27 (dk_at dksX2_isSideBySide_1 21 rfl rfl)
theorem dX2_isSideBySide_44 : decode cX2_isSideBySide 44 = .ok (.if_icmp .lt 7, 3) := dk_161 0 7 (dk_at dksX2_isSideBySide_2 0 rfl rfl)
theorem dX2_isSideBySide_47 : decode cX2_isSideBySide 47 = .ok (.iconst 1, 1) := dk_4 (dk_at dksX2_isSideBySide_2 3 rfl rfl)
theorem dX2_isSideBySide_48 : decode cX2_isSideBySide 48 = .ok (.goto 4, 3) := dk_167 0 4 (dk_at dksX2_isSideBySide_2 4 rfl rfl)
theorem dX2_isSideBySide_51 : decode cX2_isSideBySide 51 = .ok (.iconst 0, 1) := dk_3 (dk_at dksX2_isSideBySide_2 7 rfl rfl)
theorem dX2_isSideBySide_52 : decode cX2_isSideBySide 52 = .ok (.istore 7, 2) := dk_54 7 (dk_at dksX2_isSideBySide_2 8 rfl rfl)
theorem dX2_isSideBySide_54 : decode cX2_isSideBySide 54 = .ok (.iload 7, 2) := dk_21 7 (dk_at dksX2_isSideBySide_2 10 rfl rfl)
theorem dX2_isSideBySide_56 : decode cX2_isSideBySide 56 = .ok (.ifCond .eq 47, 3) := dk_153 0 47 (dk_at dksX2_isSideBySide_2 12 rfl rfl)
theorem dX2_isSideBySide_59 : decode cX2_isSideBySide 59 = .ok (.iinc 4 1, 3) := dk_132 4 1 (dk_at dksX2_isSideBySide_2 15 rfl rfl)
theorem dX2_isSideBySide_62 : decode cX2_isSideBySide 62 = .ok (.aload_n 0, 1) := dk_42 (dk_at dksX2_isSideBySide_2 18 rfl rfl)
theorem dX2_isSideBySide_63 : decode cX2_isSideBySide 63 = .ok (.getfield 39, 3) := dk_180 0 39 (dk_at dksX2_isSideBySide_2 19 rfl rfl)
theorem dX2_isSideBySide_66 : decode cX2_isSideBySide 66 = .ok (.iload 6, 2) := dk_21 6 (dk_at dksX2_isSideBySide_2 22 rfl rfl)
theorem dX2_isSideBySide_68 : decode cX2_isSideBySide 68 = .ok (.iaload, 1) := dk_46 (dk_at dksX2_isSideBySide_3 0 rfl rfl)
theorem dX2_isSideBySide_69 : decode cX2_isSideBySide 69 = .ok (.iload_n 2, 1) := dk_28 (dk_at dksX2_isSideBySide_3 1 rfl rfl)
theorem dX2_isSideBySide_70 : decode cX2_isSideBySide 70 = .ok (.if_icmp .ge 11, 3) := dk_162 0 11 (dk_at dksX2_isSideBySide_3 2 rfl rfl)
theorem dX2_isSideBySide_73 : decode cX2_isSideBySide 73 = .ok (.aload_n 0, 1) := dk_42 (dk_at dksX2_isSideBySide_3 5 rfl rfl)
theorem dX2_isSideBySide_74 : decode cX2_isSideBySide 74 = .ok (.getfield 39, 3) := dk_180 0 39 (dk_at dksX2_isSideBySide_3 6 rfl rfl)
theorem dX2_isSideBySide_77 : decode cX2_isSideBySide 77 = .ok (.iload 6, 2) := dk_21 6 (dk_at dksX2_isSideBySide_3 9 rfl rfl)
theorem dX2_isSideBySide_79 : decode cX2_isSideBySide 79 = .ok (.iaload, 1) := dk_46 (dk_at dksX2_isSideBySide_3 11 rfl rfl)
theorem dX2_isSideBySide_80 : decode cX2_isSideBySide 80 = .ok (.istore_n 2, 1) := dk_61 (dk_at dksX2_isSideBySide_3 12 rfl rfl)
theorem dX2_isSideBySide_81 : decode cX2_isSideBySide 81 = .ok (.aload_n 0, 1) := dk_42 (dk_at dksX2_isSideBySide_3 13 rfl rfl)
theorem dX2_isSideBySide_82 : decode cX2_isSideBySide 82 = .ok (.getfield 39, 3) := dk_180 0 39 (dk_at dksX2_isSideBySide_3 14 rfl rfl)
theorem dX2_isSideBySide_85 : decode cX2_isSideBySide 85 = .ok (.iload 6, 2) := dk_21 6 (dk_at dksX2_isSideBySide_3 17 rfl rfl)
theorem dX2_isSideBySide_87 : decode cX2_isSideBySide 87 = .ok (.iaload, 1) := dk_46 (dk_at dksX2_isSideBySide_3 19 rfl rfl)
theorem dX2_isSideBySide_88 : decode cX2_isSideBySide 88 = .ok (.iload_n 3, 1) := dk_29 (dk_at dksX2_isSideBySide_3 20 rfl rfl)
theorem dX2_isSideBySide_89 : decode cX2_isSideBySide 89 = .ok (.if_icmp .le 78, 3) := dk_164 0 78 (dk_at dksX2_isSideBySide_3 21 rfl rfl)
theorem dX2_isSideBySide_92 : decode cX2_isSideBySide 92 = .ok (.aload_n 0, 1) := dk_42 (dk_at dksX2_isSideBySide_4 0 rfl rfl)
theorem dX2_isSideBySide_93 : decode cX2_isSideBySide 93 = .ok (.getfield 39, 3) := dk_180 0 39 (dk_at dksX2_isSideBySide_4 1 rfl rfl)
theorem dX2_isSideBySide_96 : decode cX2_isSideBySide 96 = .ok (.iload 6, 2) := dk_21 6 (dk_at dksX2_isSideBySide_4 4 rfl rfl)
theorem dX2_isSideBySide_98 : decode cX2_isSideBySide 98 = .ok (.iaload, 1) := dk_46 (dk_at dksX2_isSideBySide_4 6 rfl rfl)
theorem dX2_isSideBySide_99 : decode cX2_isSideBySide 99 = .ok (.istore_n 3, 1) := dk_62 (dk_at dksX2_isSideBySide_4 7 rfl rfl)
theorem dX2_isSideBySide_100 : decode cX2_isSideBySide 100 = .ok (.goto 67, 3) := dk_167 0 67 (dk_at dksX2_isSideBySide_4 8 rfl rfl)
theorem dX2_isSideBySide_103 : decode cX2_isSideBySide 103 = .ok (.aload_n 0, 1) := dk_42 (dk_at dksX2_isSideBySide_4 11 rfl rfl)
theorem dX2_isSideBySide_104 : decode cX2_isSideBySide 104 = .ok (.iload 6, 2) := dk_21 6 (dk_at dksX2_isSideBySide_4 12 rfl rfl)
theorem dX2_isSideBySide_106 : decode cX2_isSideBySide 106 = .ok (.iconst 0, 1) := dk_3 (dk_at dksX2_isSideBySide_4 14 rfl rfl)
theorem dX2_isSideBySide_107 : decode cX2_isSideBySide 107 = .ok (.invokevirtual 52, 3) := dk_182 0 52 (dk_at dksX2_isSideBySide_4 15 rfl rfl)
theorem dX2_isSideBySide_110 : decode cX2_isSideBySide 110 = .ok (.aload_n 0, 1) := dk_42 (dk_at dksX2_isSideBySide_4 18 rfl rfl)
theorem dX2_isSideBySide_111 : decode cX2_isSideBySide 111 = .ok (.getfield 26, 3) := dk_180 0 26 (dk_at dksX2_isSideBySide_4 19 rfl rfl)
theorem dX2_isSideBySide_114 : decode cX2_isSideBySide 114 = .ok (.iload 6, 2) := dk_21 6 (dk_at dksX2_isSideBySide_4 22 rfl rfl)
theorem dX2_isSideBySide_116 : decode cX2_isSideBySide 116 = .ok (.iaload, 1) := dk_46 (dk_at dksX2_isSideBySide_5 0 rfl rfl)
theorem dX2_isSideBySide_117 : decode cX2_isSideBySide 117 = .ok (.if_icmp .eq 47, 3) := dk_159 0 47 (dk_at dksX2_isSideBySide_5 1 rfl rfl)
theorem dX2_isSideBySide_120 : decode cX2_isSideBySide 120 = .ok (.aload_n 0, 1) := dk_42 (dk_at dksX2_isSideBySide_5 4 rfl rfl)
theorem dX2_isSideBySide_121 : decode cX2_isSideBySide 121 = .ok (.iload 6, 2) := dk_21 6 (dk_at dksX2_isSideBySide_5 5 rfl rfl)
theorem dX2_isSideBySide_123 : decode cX2_isSideBySide 123 = .ok (.iconst 0, 1) := dk_3 (dk_at dksX2_isSideBySide_5 7 rfl rfl)
theorem dX2_isSideBySide_124 : decode cX2_isSideBySide 124 = .ok (.invokevirtual 52, 3) := dk_182 0 52 (dk_at dksX2_isSideBySide_5 8 rfl rfl)
theorem dX2_isSideBySide_127 : decode cX2_isSideBySide 127 = .ok (.iload_n 1, 1) := dk_27 (dk_at dksX2_isSideBySide_5 11 rfl rfl)
theorem dX2_isSideBySide_128 : decode cX2_isSideBySide 128 = .ok (.if_icmp .ge 39, 3) := dk_162 0 39 (dk_at dksX2_isSideBySide_5 12 rfl rfl)
theorem dX2_isSideBySide_131 : decode cX2_isSideBySide 131 = .ok (.aload_n 0, 1) := dk_42 (dk_at dksX2_isSideBySide_5 15 rfl rfl)
theorem dX2_isSideBySide_132 : decode cX2_isSideBySide 132 = .ok (.getfield 17, 3) := dk_180 0 17 (dk_at dksX2_isSideBySide_5 16 rfl rfl)
theorem dX2_isSideBySide_135 : decode cX2_isSideBySide 135 = .ok (.bipush 10, 2) := dk_16 10 (dk_at dksX2_isSideBySide_5 19 rfl rfl)
theorem dX2_isSideBySide_137 : decode cX2_isSideBySide 137 = .ok (.iload 6, 2) := dk_21 6 (dk_at dksX2_isSideBySide_5 21 rfl rfl)
theorem dX2_isSideBySide_139 : decode cX2_isSideBySide 139 = .ok (.imul, 1) := dk_104 (dk_at dksX2_isSideBySide_5 23 rfl rfl)
theorem dX2_isSideBySide_140 : decode cX2_isSideBySide 140 = .ok (.aload_n 0, 1) := dk_42 (dk_at dksX2_isSideBySide_6 0 rfl rfl)
theorem dX2_isSideBySide_141 : decode cX2_isSideBySide 141 = .ok (.iload 6, 2) := dk_21 6 (dk_at dksX2_isSideBySide_6 1 rfl rfl)
theorem dX2_isSideBySide_143 : decode cX2_isSideBySide 143 = .ok (.iconst 0, 1) := dk_3 (dk_at dksX2_isSideBySide_6 3 rfl rfl)
theorem dX2_isSideBySide_144 : decode cX2_isSideBySide 144 = .ok (.invokevirtual 52, 3) := dk_182 0 52 (dk_at dksX2_isSideBySide_6 4 rfl rfl)
theorem dX2_isSideBySide_147 : decode cX2_isSideBySide 147 = .ok (.iadd, 1) := dk_96 (dk_at dksX2_isSideBySide_6 7 rfl rfl)
theorem dX2_isSideBySide_148 : decode cX2_isSideBySide 148 = .ok (.caload, 1) := dk_52 (dk_at dksX2_isSideBySide_6 8 rfl rfl)
theorem dX2_isSideBySide_149 : decode cX2_isSideBySide 149 = .ok (.aload_n 0, 1) := dk_42 (dk_at dksX2_isSideBySide_6 9 rfl rfl)
theorem dX2_isSideBySide_150 : decode cX2_isSideBySide 150 = .ok (.getfield 13, 3) := dk_180 0 13 (dk_at dksX2_isSideBySide_6 10 rfl rfl)
theorem dX2_isSideBySide_153 : decode cX2_isSideBySide 153 = .ok (.aload_n 0, 1) := dk_42 (dk_at dksX2_isSideBySide_6 13 rfl rfl)
theorem dX2_isSideBySide_154 : decode cX2_isSideBySide 154 = .ok (.iload 6, 2) := dk_21 6 (dk_at dksX2_isSideBySide_6 14 rfl rfl)
theorem dX2_isSideBySide_156 : decode cX2_isSideBySide 156 = .ok (.iconst 0, 1) := dk_3 (dk_at dksX2_isSideBySide_6 16 rfl rfl)
theorem dX2_isSideBySide_157 : decode cX2_isSideBySide 157 = .ok (.invokevirtual 52, 3) := dk_182 0 52 (dk_at dksX2_isSideBySide_6 17 rfl rfl)
theorem dX2_isSideBySide_160 : decode cX2_isSideBySide 160 = .ok (.caload, 1) := dk_52 (dk_at dksX2_isSideBySide_6 20 rfl rfl)
theorem dX2_isSideBySide_161 : decode cX2_isSideBySide 161 = .ok (.if_icmp .ge 6, 3) := dk_162 0 6 (dk_at dksX2_isSideBySide_6 21 rfl rfl)
theorem dX2_isSideBySide_164 : decode cX2_isSideBySide 164 = .ok (.iinc 5 1, 3) := dk_132 5 1 (dk_at dksX2_isSideBySide_7 0 rfl rfl)
theorem dX2_isSideBySide_167 : decode cX2_isSideBySide 167 = .ok (.iinc 6 1, 3) := dk_132 6 1 (dk_at dksX2_isSideBySide_7 3 rfl rfl)
theorem dX2_isSideBySide_170 : decode cX2_isSideBySide 170 = .ok (.goto (-154), 3) := dk_167 255 102 (dk_at dksX2_isSideBySide_7 6 rfl rfl)
theorem dX2_isSideBySide_173 : decode cX2_isSideBySide 173 = .ok (.iload 4, 2) := dk_21 4 (dk_at dksX2_isSideBySide_7 9 rfl rfl)
theorem dX2_isSideBySide_175 : decode cX2_isSideBySide 175 = .ok (.ifCond .eq 19, 3) := dk_153 0 19 (dk_at dksX2_isSideBySide_7 11 rfl rfl)
theorem dX2_isSideBySide_178 : decode cX2_isSideBySide 178 = .ok (.iload_n 3, 1) := dk_29 (dk_at dksX2_isSideBySide_7 14 rfl rfl)
theorem dX2_isSideBySide_179 : decode cX2_isSideBySide 179 = .ok (.iload_n 2, 1) := dk_28 (dk_at dksX2_isSideBySide_7 15 rfl rfl)
theorem dX2_isSideBySide_180 : decode cX2_isSideBySide 180 = .ok (.isub, 1) := dk_100 (dk_at dksX2_isSideBySide_7 16 rfl rfl)
theorem dX2_isSideBySide_181 : decode cX2_isSideBySide 181 = .ok (.iconst 1, 1) := dk_4 (dk_at dksX2_isSideBySide_7 17 rfl rfl)
theorem dX2_isSideBySide_182 : decode cX2_isSideBySide 182 = .ok (.iadd, 1) := dk_96 (dk_at dksX2_isSideBySide_7 18 rfl rfl)
theorem dX2_isSideBySide_183 : decode cX2_isSideBySide 183 = .ok (.iload 4, 2) := dk_21 4 (dk_at dksX2_isSideBySide_7 19 rfl rfl)
theorem dX2_isSideBySide_185 : decode cX2_isSideBySide 185 = .ok (.if_icmp .ne 13, 3) := dk_160 0 13 (dk_at dksX2_isSideBySide_7 21 rfl rfl)
theorem dX2_isSideBySide_188 : decode cX2_isSideBySide 188 = .ok (.iload_n 2, 1) := dk_28 (dk_at dksX2_isSideBySide_8 0 rfl rfl)
theorem dX2_isSideBySide_189 : decode cX2_isSideBySide 189 = .ok (.iload 5, 2) := dk_21 5 (dk_at dksX2_isSideBySide_8 1 rfl rfl)
theorem dX2_isSideBySide_191 : decode cX2_isSideBySide 191 = .ok (.if_icmp .ne 7, 3) := dk_160 0 7 (dk_at dksX2_isSideBySide_8 3 rfl rfl)
theorem dX2_isSideBySide_194 : decode cX2_isSideBySide 194 = .ok (.iconst 1, 1) := dk_4 (dk_at dksX2_isSideBySide_8 6 rfl rfl)
theorem dX2_isSideBySide_195 : decode cX2_isSideBySide 195 = .ok (.goto 4, 3) := dk_167 0 4 (dk_at dksX2_isSideBySide_8 7 rfl rfl)
theorem dX2_isSideBySide_198 : decode cX2_isSideBySide 198 = .ok (.iconst 0, 1) := dk_3 (dk_at dksX2_isSideBySide_8 10 rfl rfl)
theorem dX2_isSideBySide_199 : decode cX2_isSideBySide 199 = .ok (.ireturn, 1) := dk_172 (dk_at dksX2_isSideBySide_8 11 rfl rfl)
abbrev cX2_areTwins : ByteArray := prog_3_method_54_code
def yX2_areTwins : MethodName := ⟨RX2, "areTwins", "()Z"⟩
def dkwX2_areTwins_5 : List UInt8 := [132, 3, 1, 167, 255, 204, 27, 28, 160, 0, 7, 4, 167, 0, 4, 3, 172]
abbrev dktX2_areTwins_5 : List UInt8 := dkwX2_areTwins_5 ++ []
def dkwX2_areTwins_4 : List UInt8 := [164, 0, 22, 42, 42, 180, 0, 36, 29, 4, 100, 46, 42, 180, 0, 36, 29, 46, 182, 0, 56, 61]
abbrev dktX2_areTwins_4 : List UInt8 := dkwX2_areTwins_4 ++ dktX2_areTwins_5
def dkwX2_areTwins_3 : List UInt8 := [162, 0, 50, 42, 42, 180, 0, 36, 29, 4, 100, 46, 42, 180, 0, 36, 29, 46, 182, 0, 56, 28]
abbrev dktX2_areTwins_3 : List UInt8 := dkwX2_areTwins_3 ++ dktX2_areTwins_4
def dkwX2_areTwins_2 : List UInt8 := [182, 0, 56, 60, 132, 4, 1, 167, 255, 228, 132, 3, 1, 167, 255, 211, 4, 62, 29, 42, 180, 0, 59]
abbrev dktX2_areTwins_2 : List UInt8 := dkwX2_areTwins_2 ++ dktX2_areTwins_3
def dkwX2_areTwins_1 : List UInt8 := [3, 54, 4, 21, 4, 29, 162, 0, 28, 42, 21, 4, 29, 182, 0, 56, 27, 164, 0, 11, 42, 21, 4, 29]
abbrev dktX2_areTwins_1 : List UInt8 := dkwX2_areTwins_1 ++ dktX2_areTwins_2
def dkwX2_areTwins_0 : List UInt8 := [42, 180, 0, 59, 5, 162, 0, 5, 4, 172, 3, 60, 3, 61, 3, 62, 29, 42, 180, 0, 59, 162, 0, 43]
abbrev dktX2_areTwins_0 : List UInt8 := dkwX2_areTwins_0 ++ dktX2_areTwins_1
theorem dksX2_areTwins_0 : cX2_areTwins.data.toList.drop 0 = dktX2_areTwins_0 := by decide +kernel
theorem dksX2_areTwins_1 : cX2_areTwins.data.toList.drop 24 = dktX2_areTwins_1 := dk_seg dksX2_areTwins_0 24 rfl rfl
theorem dksX2_areTwins_2 : cX2_areTwins.data.toList.drop 48 = dktX2_areTwins_2 := dk_seg dksX2_areTwins_1 24 rfl rfl
theorem dksX2_areTwins_3 : cX2_areTwins.data.toList.drop 71 = dktX2_areTwins_3 := dk_seg dksX2_areTwins_2 23 rfl rfl
theorem dksX2_areTwins_4 : cX2_areTwins.data.toList.drop 93 = dktX2_areTwins_4 := dk_seg dksX2_areTwins_3 22 rfl rfl
theorem dksX2_areTwins_5 : cX2_areTwins.data.toList.drop 115 = dktX2_areTwins_5 := dk_seg dksX2_areTwins_4 22 rfl rfl
theorem dX2_areTwins_0 : decode cX2_areTwins 0 = .ok (.aload_n 0, 1) := dk_42 (dk_at dksX2_areTwins_0 0 rfl rfl)
theorem dX2_areTwins_1 : decode cX2_areTwins 1 = .ok (.getfield 59, 3) := dk_180 0 59 (dk_at dksX2_areTwins_0 1 rfl rfl)
theorem dX2_areTwins_4 : decode cX2_areTwins 4 = .ok (.iconst 2, 1) := dk_5 (dk_at dksX2_areTwins_0 4 rfl rfl)
theorem dX2_areTwins_5 : decode cX2_areTwins 5 = .ok (.if_icmp .ge 5, 3) := dk_162 0 5 (dk_at dksX2_areTwins_0 5 rfl rfl)
theorem dX2_areTwins_8 : decode cX2_areTwins 8 = .ok (.iconst 1, 1) := dk_4 (dk_at dksX2_areTwins_0 8 rfl rfl)
theorem dX2_areTwins_9 : decode cX2_areTwins 9 = .ok (.ireturn, 1) := dk_172 (dk_at dksX2_areTwins_0 9 rfl rfl)
theorem dX2_areTwins_10 : decode cX2_areTwins 10 = .ok (.iconst 0, 1) := dk_3 (dk_at dksX2_areTwins_0 10 rfl rfl)
theorem dX2_areTwins_11 : decode cX2_areTwins 11 = .ok (.istore_n 1, 1) := dk_60 (dk_at dksX2_areTwins_0 11 rfl rfl)
theorem dX2_areTwins_12 : decode cX2_areTwins 12 = .ok (.iconst 0, 1) := dk_3 (dk_at dksX2_areTwins_0 12 rfl rfl)
theorem dX2_areTwins_13 : decode cX2_areTwins 13 = .ok (.istore_n 2, 1) := dk_61 (dk_at dksX2_areTwins_0 13 rfl rfl)
theorem dX2_areTwins_14 : decode cX2_areTwins 14 = .ok (.iconst 0, 1) := dk_3 (dk_at dksX2_areTwins_0 14 rfl rfl)
theorem dX2_areTwins_15 : decode cX2_areTwins 15 = .ok (.istore_n 3, 1) := dk_62 (dk_at dksX2_areTwins_0 15 rfl rfl)
theorem dX2_areTwins_16 : decode cX2_areTwins 16 = .ok (.iload_n 3, 1) := dk_29 (dk_at dksX2_areTwins_0 16 rfl rfl)
theorem dX2_areTwins_17 : decode cX2_areTwins 17 = .ok (.aload_n 0, 1) := dk_42 (dk_at dksX2_areTwins_0 17 rfl rfl)
theorem dX2_areTwins_18 : decode cX2_areTwins 18 = .ok (.getfield 59, 3) := dk_180 0 59 (dk_at dksX2_areTwins_0 18 rfl rfl)
theorem dX2_areTwins_21 : decode cX2_areTwins 21 = .ok (.if_icmp .ge 43, 3) := dk_162 0 43 (dk_at dksX2_areTwins_0 21 rfl rfl)
theorem dX2_areTwins_24 : decode cX2_areTwins 24 = .ok (.iconst 0, 1) := dk_3 (dk_at dksX2_areTwins_1 0 rfl rfl)
theorem dX2_areTwins_25 : decode cX2_areTwins 25 = .ok (.istore 4, 2) := dk_54 4 (dk_at dksX2_areTwins_1 1 rfl rfl)
theorem dX2_areTwins_27 : decode cX2_areTwins 27 = .ok (.iload 4, 2) := dk_21 4 (dk_at dksX2_areTwins_1 3 rfl rfl)
theorem dX2_areTwins_29 : decode cX2_areTwins 29 = .ok (.iload_n 3, 1) := dk_29 (dk_at dksX2_areTwins_1 5 rfl rfl)
theorem dX2_areTwins_30 : decode cX2_areTwins 30 = .ok (.if_icmp .ge 28, 3) := dk_162 0 28 (dk_at dksX2_areTwins_1 6 rfl rfl)
theorem dX2_areTwins_33 : decode cX2_areTwins 33 = .ok (.aload_n 0, 1) := dk_42 (dk_at dksX2_areTwins_1 9 rfl rfl)
theorem dX2_areTwins_34 : decode cX2_areTwins 34 = .ok (.iload 4, 2) := dk_21 4 (dk_at dksX2_areTwins_1 10 rfl rfl)
theorem dX2_areTwins_36 : decode cX2_areTwins 36 = .ok (.iload_n 3, 1) := dk_29 (dk_at dksX2_areTwins_1 12 rfl rfl)
theorem dX2_areTwins_37 : decode cX2_areTwins 37 = .ok (.invokevirtual 56, 3) := dk_182 0 56 (dk_at dksX2_areTwins_1 13 rfl rfl)
theorem dX2_areTwins_40 : decode cX2_areTwins 40 = .ok (.iload_n 1, 1) := dk_27 (dk_at dksX2_areTwins_1 16 rfl rfl)
theorem dX2_areTwins_41 : decode cX2_areTwins 41 = .ok (.if_icmp .le 11, 3) := dk_164 0 11 (dk_at dksX2_areTwins_1 17 rfl rfl)
theorem dX2_areTwins_44 : decode cX2_areTwins 44 = .ok (.aload_n 0, 1) := dk_42 (dk_at dksX2_areTwins_1 20 rfl rfl)
theorem dX2_areTwins_45 : decode cX2_areTwins 45 = .ok (.iload 4, 2) := dk_21 4 (dk_at dksX2_areTwins_1 21 rfl rfl)
theorem dX2_areTwins_47 : decode cX2_areTwins 47 = .ok (.iload_n 3, 1) := dk_29 (dk_at dksX2_areTwins_1 23 rfl rfl)
theorem dX2_areTwins_48 : decode cX2_areTwins 48 = .ok (.invokevirtual 56, 3) := dk_182 0 56 (dk_at dksX2_areTwins_2 0 rfl rfl)
theorem dX2_areTwins_51 : decode cX2_areTwins 51 = .ok (.istore_n 1, 1) := dk_60 (dk_at dksX2_areTwins_2 3 rfl rfl)
theorem dX2_areTwins_52 : decode cX2_areTwins 52 = .ok (.iinc 4 1, 3) := dk_132 4 1 (dk_at dksX2_areTwins_2 4 rfl rfl)
theorem dX2_areTwins_55 : decode cX2_areTwins 55 = .ok (.goto (-28), 3) := dk_167 255 228 (dk_at dksX2_areTwins_2 7 rfl rfl)
theorem dX2_areTwins_58 : decode cX2_areTwins 58 = .ok (.iinc 3 1, 3) := dk_132 3 1 (dk_at dksX2_areTwins_2 10 rfl rfl)
theorem dX2_areTwins_61 : decode cX2_areTwins 61 = .ok (.goto (-45), 3) := dk_167 255 211 (dk_at dksX2_areTwins_2 13 rfl rfl)
theorem dX2_areTwins_64 : decode cX2_areTwins 64 = .ok (.iconst 1, 1) := dk_4 (dk_at dksX2_areTwins_2 16 rfl rfl)
theorem dX2_areTwins_65 : decode cX2_areTwins 65 = .ok (.istore_n 3, 1) := dk_62 (dk_at dksX2_areTwins_2 17 rfl rfl)
theorem dX2_areTwins_66 : decode cX2_areTwins 66 = .ok (.iload_n 3, 1) := dk_29 (dk_at dksX2_areTwins_2 18 rfl rfl)
theorem dX2_areTwins_67 : decode cX2_areTwins 67 = .ok (.aload_n 0, 1) := dk_42 (dk_at dksX2_areTwins_2 19 rfl rfl)
theorem dX2_areTwins_68 : decode cX2_areTwins 68 = .ok (.getfield 59, 3) := dk_180 0 59 (dk_at dksX2_areTwins_2 20 rfl rfl)
theorem dX2_areTwins_71 : decode cX2_areTwins 71 = .ok (.if_icmp .ge 50, 3) := dk_162 0 50 (dk_at dksX2_areTwins_3 0 rfl rfl)
theorem dX2_areTwins_74 : decode cX2_areTwins 74 = .ok (.aload_n 0, 1) := dk_42 (dk_at dksX2_areTwins_3 3 rfl rfl)
theorem dX2_areTwins_75 : decode cX2_areTwins 75 = .ok (.aload_n 0, 1) := dk_42 (dk_at dksX2_areTwins_3 4 rfl rfl)
theorem dX2_areTwins_76 : decode cX2_areTwins 76 = .ok (.getfield 36, 3) := dk_180 0 36 (dk_at dksX2_areTwins_3 5 rfl rfl)
theorem dX2_areTwins_79 : decode cX2_areTwins 79 = .ok (.iload_n 3, 1) := dk_29 (dk_at dksX2_areTwins_3 8 rfl rfl)
theorem dX2_areTwins_80 : decode cX2_areTwins 80 = .ok (.iconst 1, 1) := dk_4 (dk_at dksX2_areTwins_3 9 rfl rfl)
theorem dX2_areTwins_81 : decode cX2_areTwins 81 = .ok (.isub, 1) := dk_100 (dk_at dksX2_areTwins_3 10 rfl rfl)
theorem dX2_areTwins_82 : decode cX2_areTwins 82 = .ok (.iaload, 1) := dk_46 (dk_at dksX2_areTwins_3 11 rfl rfl)
theorem dX2_areTwins_83 : decode cX2_areTwins 83 = .ok (.aload_n 0, 1) := dk_42 (dk_at dksX2_areTwins_3 12 rfl rfl)
theorem dX2_areTwins_84 : decode cX2_areTwins 84 = .ok (.getfield 36, 3) := dk_180 0 36 (dk_at dksX2_areTwins_3 13 rfl rfl)
theorem dX2_areTwins_87 : decode cX2_areTwins 87 = .ok (.iload_n 3, 1) := dk_29 (dk_at dksX2_areTwins_3 16 rfl rfl)
theorem dX2_areTwins_88 : decode cX2_areTwins 88 = .ok (.iaload, 1) := dk_46 (dk_at dksX2_areTwins_3 17 rfl rfl)
theorem dX2_areTwins_89 : decode cX2_areTwins 89 = .ok (.invokevirtual 56, 3) := dk_182 0 56 (dk_at dksX2_areTwins_3 18 rfl rfl)
theorem dX2_areTwins_92 : decode cX2_areTwins 92 = .ok (.iload_n 2, 1) := dk_28 (dk_at dksX2_areTwins_3 21 rfl rfl)
theorem dX2_areTwins_93 : decode cX2_areTwins 93 = .ok (.if_icmp .le 22, 3) := dk_164 0 22 (dk_at dksX2_areTwins_4 0 rfl rfl)
theorem dX2_areTwins_96 : decode cX2_areTwins 96 = .ok (.aload_n 0, 1) := dk_42 (dk_at dksX2_areTwins_4 3 rfl rfl)
theorem dX2_areTwins_97 : decode cX2_areTwins 97 = .ok (.aload_n 0, 1) := dk_42 (dk_at dksX2_areTwins_4 4 rfl rfl)
theorem dX2_areTwins_98 : decode cX2_areTwins 98 = .ok (.getfield 36, 3) := dk_180 0 36 (dk_at dksX2_areTwins_4 5 rfl rfl)
theorem dX2_areTwins_101 : decode cX2_areTwins 101 = .ok (.iload_n 3, 1) := dk_29 (dk_at dksX2_areTwins_4 8 rfl rfl)
theorem dX2_areTwins_102 : decode cX2_areTwins 102 = .ok (.iconst 1, 1) := dk_4 (dk_at dksX2_areTwins_4 9 rfl rfl)
theorem dX2_areTwins_103 : decode cX2_areTwins 103 = .ok (.isub, 1) := dk_100 (dk_at dksX2_areTwins_4 10 rfl rfl)
theorem dX2_areTwins_104 : decode cX2_areTwins 104 = .ok (.iaload, 1) := dk_46 (dk_at dksX2_areTwins_4 11 rfl rfl)
theorem dX2_areTwins_105 : decode cX2_areTwins 105 = .ok (.aload_n 0, 1) := dk_42 (dk_at dksX2_areTwins_4 12 rfl rfl)
theorem dX2_areTwins_106 : decode cX2_areTwins 106 = .ok (.getfield 36, 3) := dk_180 0 36 (dk_at dksX2_areTwins_4 13 rfl rfl)
theorem dX2_areTwins_109 : decode cX2_areTwins 109 = .ok (.iload_n 3, 1) := dk_29 (dk_at dksX2_areTwins_4 16 rfl rfl)
theorem dX2_areTwins_110 : decode cX2_areTwins 110 = .ok (.iaload, 1) := dk_46 (dk_at dksX2_areTwins_4 17 rfl rfl)
theorem dX2_areTwins_111 : decode cX2_areTwins 111 = .ok (.invokevirtual 56, 3) := dk_182 0 56 (dk_at dksX2_areTwins_4 18 rfl rfl)
theorem dX2_areTwins_114 : decode cX2_areTwins 114 = .ok (.istore_n 2, 1) := dk_61 (dk_at dksX2_areTwins_4 21 rfl rfl)
theorem dX2_areTwins_115 : decode cX2_areTwins 115 = .ok (.iinc 3 1, 3) := dk_132 3 1 (dk_at dksX2_areTwins_5 0 rfl rfl)
theorem dX2_areTwins_118 : decode cX2_areTwins 118 = .ok (.goto (-52), 3) := dk_167 255 204 (dk_at dksX2_areTwins_5 3 rfl rfl)
theorem dX2_areTwins_121 : decode cX2_areTwins 121 = .ok (.iload_n 1, 1) := dk_27 (dk_at dksX2_areTwins_5 6 rfl rfl)
theorem dX2_areTwins_122 : decode cX2_areTwins 122 = .ok (.iload_n 2, 1) := dk_28 (dk_at dksX2_areTwins_5 7 rfl rfl)
theorem dX2_areTwins_123 : decode cX2_areTwins 123 = .ok (.if_icmp .ne 7, 3) := dk_160 0 7 (dk_at dksX2_areTwins_5 8 rfl rfl)
theorem dX2_areTwins_126 : decode cX2_areTwins 126 = .ok (.iconst 1, 1) := dk_4 (dk_at dksX2_areTwins_5 11 rfl rfl)
theorem dX2_areTwins_127 : decode cX2_areTwins 127 = .ok (.goto 4, 3) := dk_167 0 4 (dk_at dksX2_areTwins_5 12 rfl rfl)
theorem dX2_areTwins_130 : decode cX2_areTwins 130 = .ok (.iconst 0, 1) := dk_3 (dk_at dksX2_areTwins_5 15 rfl rfl)
theorem dX2_areTwins_131 : decode cX2_areTwins 131 = .ok (.ireturn, 1) := dk_172 (dk_at dksX2_areTwins_5 16 rfl rfl)
abbrev cX2_checksum : ByteArray := prog_3_method_56_code
def yX2_checksum : MethodName := ⟨RX2, "checksum", "()J"⟩
def dkwX2_checksum_8 : List UInt8 := [167, 255, 194, 31, 173]
abbrev dktX2_checksum_8 : List UInt8 := dkwX2_checksum_8 ++ []
def dkwX2_checksum_7 : List UInt8 := [180, 0, 20, 6, 29, 104, 21, 4, 96, 52, 133, 97, 64, 132, 4, 1, 167, 255, 223, 132, 3, 1]
abbrev dktX2_checksum_7 : List UInt8 := dkwX2_checksum_7 ++ dktX2_checksum_8
def dkwX2_checksum_6 : List UInt8 := [46, 133, 97, 64, 3, 54, 4, 21, 4, 42, 180, 0, 33, 29, 46, 162, 0, 28, 20, 0, 134, 31, 105, 42]
abbrev dktX2_checksum_6 : List UInt8 := dkwX2_checksum_6 ++ dktX2_checksum_7
def dkwX2_checksum_5 : List UInt8 := [132, 3, 1, 167, 255, 180, 3, 62, 29, 16, 6, 162, 0, 62, 20, 0, 134, 31, 105, 42, 180, 0, 33, 29]
abbrev dktX2_checksum_5 : List UInt8 := dkwX2_checksum_5 ++ dktX2_checksum_6
def dkwX2_checksum_4 : List UInt8 := [133, 97, 64, 132, 5, 1, 167, 255, 220, 20, 0, 134, 31, 105, 42, 180, 0, 30, 21, 4, 46, 133, 97, 64]
abbrev dktX2_checksum_4 : List UInt8 := dkwX2_checksum_4 ++ dktX2_checksum_5
def dkwX2_checksum_3 : List UInt8 := [21, 4, 46, 162, 0, 30, 20, 0, 134, 31, 105, 42, 180, 0, 17, 16, 10, 21, 4, 104, 21, 5, 96, 52]
abbrev dktX2_checksum_3 : List UInt8 := dkwX2_checksum_3 ++ dktX2_checksum_4
def dkwX2_checksum_2 : List UInt8 := [180, 0, 59, 162, 0, 74, 42, 180, 0, 36, 29, 46, 54, 4, 3, 54, 5, 21, 5, 42, 180, 0, 26]
abbrev dktX2_checksum_2 : List UInt8 := dkwX2_checksum_2 ++ dktX2_checksum_3
def dkwX2_checksum_1 : List UInt8 := [42, 180, 0, 13, 29, 52, 133, 97, 64, 132, 3, 1, 167, 255, 231, 42, 182, 0, 94, 3, 62, 29, 42]
abbrev dktX2_checksum_1 : List UInt8 := dkwX2_checksum_1 ++ dktX2_checksum_2
def dkwX2_checksum_0 : List UInt8 := [42, 3, 181, 0, 1, 20, 0, 132, 64, 3, 62, 29, 42, 180, 0, 49, 162, 0, 23, 20, 0, 134, 31, 105]
abbrev dktX2_checksum_0 : List UInt8 := dkwX2_checksum_0 ++ dktX2_checksum_1
theorem dksX2_checksum_0 : cX2_checksum.data.toList.drop 0 = dktX2_checksum_0 := by decide +kernel
theorem dksX2_checksum_1 : cX2_checksum.data.toList.drop 24 = dktX2_checksum_1 := dk_seg dksX2_checksum_0 24 rfl rfl
theorem dksX2_checksum_2 : cX2_checksum.data.toList.drop 47 = dktX2_checksum_2 := dk_seg dksX2_checksum_1 23 rfl rfl
theorem dksX2_checksum_3 : cX2_checksum.data.toList.drop 70 = dktX2_checksum_3 := dk_seg dksX2_checksum_2 23 rfl rfl
theorem dksX2_checksum_4 : cX2_checksum.data.toList.drop 94 = dktX2_checksum_4 := dk_seg dksX2_checksum_3 24 rfl rfl
theorem dksX2_checksum_5 : cX2_checksum.data.toList.drop 118 = dktX2_checksum_5 := dk_seg dksX2_checksum_4 24 rfl rfl
theorem dksX2_checksum_6 : cX2_checksum.data.toList.drop 142 = dktX2_checksum_6 := dk_seg dksX2_checksum_5 24 rfl rfl
theorem dksX2_checksum_7 : cX2_checksum.data.toList.drop 166 = dktX2_checksum_7 := dk_seg dksX2_checksum_6 24 rfl rfl
theorem dksX2_checksum_8 : cX2_checksum.data.toList.drop 188 = dktX2_checksum_8 := dk_seg dksX2_checksum_7 22 rfl rfl
theorem dX2_checksum_0 : decode cX2_checksum 0 = .ok (.aload_n 0, 1) := dk_42 (dk_at dksX2_checksum_0 0 rfl rfl)
theorem dX2_checksum_1 : decode cX2_checksum 1 = .ok (.iconst 0, 1) := dk_3 (dk_at dksX2_checksum_0 1 rfl rfl)
theorem dX2_checksum_2 : decode cX2_checksum 2 = .ok (.putfield 1, 3) := dk_181 0 1 (dk_at dksX2_checksum_0 2 rfl rfl)
theorem dX2_checksum_5 : decode cX2_checksum 5 = .ok (.ldc2_w 132, 3) := dk_20 0 132 (dk_at dksX2_checksum_0 5 rfl rfl)
theorem dX2_checksum_8 : decode cX2_checksum 8 = .ok (.lstore_n 1, 1) := dk_64 (dk_at dksX2_checksum_0 8 rfl rfl)
theorem dX2_checksum_9 : decode cX2_checksum 9 = .ok (.iconst 0, 1) := dk_3 (dk_at dksX2_checksum_0 9 rfl rfl)
theorem dX2_checksum_10 : decode cX2_checksum 10 = .ok (.istore_n 3, 1) := dk_62 (dk_at dksX2_checksum_0 10 rfl rfl)
theorem dX2_checksum_11 : decode cX2_checksum 11 = .ok (.iload_n 3, 1) := dk_29 (dk_at dksX2_checksum_0 11 rfl rfl)
theorem dX2_checksum_12 : decode cX2_checksum 12 = .ok (.aload_n 0, 1) := dk_42 (dk_at dksX2_checksum_0 12 rfl rfl)
theorem dX2_checksum_13 : decode cX2_checksum 13 = .ok (.getfield 49, 3) := dk_180 0 49 (dk_at dksX2_checksum_0 13 rfl rfl)
theorem dX2_checksum_16 : decode cX2_checksum 16 = .ok (.if_icmp .ge 23, 3) := dk_162 0 23 (dk_at dksX2_checksum_0 16 rfl rfl)
theorem dX2_checksum_19 : decode cX2_checksum 19 = .ok (.ldc2_w 134, 3) := dk_20 0 134 (dk_at dksX2_checksum_0 19 rfl rfl)
theorem dX2_checksum_22 : decode cX2_checksum 22 = .ok (.lload_n 1, 1) := dk_31 (dk_at dksX2_checksum_0 22 rfl rfl)
theorem dX2_checksum_23 : decode cX2_checksum 23 = .ok (.lmul, 1) := dk_105 (dk_at dksX2_checksum_0 23 rfl rfl)
theorem dX2_checksum_24 : decode cX2_checksum 24 = .ok (.aload_n 0, 1) := dk_42 (dk_at dksX2_checksum_1 0 rfl rfl)
theorem dX2_checksum_25 : decode cX2_checksum 25 = .ok (.getfield 13, 3) := dk_180 0 13 (dk_at dksX2_checksum_1 1 rfl rfl)
theorem dX2_checksum_28 : decode cX2_checksum 28 = .ok (.iload_n 3, 1) := dk_29 (dk_at dksX2_checksum_1 4 rfl rfl)
theorem dX2_checksum_29 : decode cX2_checksum 29 = .ok (.caload, 1) := dk_52 (dk_at dksX2_checksum_1 5 rfl rfl)
theorem dX2_checksum_30 : decode cX2_checksum 30 = .ok (.i2l, 1) := dk_133 (dk_at dksX2_checksum_1 6 rfl rfl)
theorem dX2_checksum_31 : decode cX2_checksum 31 = .ok (.ladd, 1) := dk_97 (dk_at dksX2_checksum_1 7 rfl rfl)
theorem dX2_checksum_32 : decode cX2_checksum 32 = .ok (.lstore_n 1, 1) := dk_64 (dk_at dksX2_checksum_1 8 rfl rfl)
theorem dX2_checksum_33 : decode cX2_checksum 33 = .ok (.iinc 3 1, 3) := dk_132 3 1 (dk_at dksX2_checksum_1 9 rfl rfl)
theorem dX2_checksum_36 : decode cX2_checksum 36 = .ok (.goto (-25), 3) := dk_167 255 231 (dk_at dksX2_checksum_1 12 rfl rfl)
theorem dX2_checksum_39 : decode cX2_checksum 39 = .ok (.aload_n 0, 1) := dk_42 (dk_at dksX2_checksum_1 15 rfl rfl)
theorem dX2_checksum_40 : decode cX2_checksum 40 = .ok (.invokevirtual 94, 3) := dk_182 0 94 (dk_at dksX2_checksum_1 16 rfl rfl)
theorem dX2_checksum_43 : decode cX2_checksum 43 = .ok (.iconst 0, 1) := dk_3 (dk_at dksX2_checksum_1 19 rfl rfl)
theorem dX2_checksum_44 : decode cX2_checksum 44 = .ok (.istore_n 3, 1) := dk_62 (dk_at dksX2_checksum_1 20 rfl rfl)
theorem dX2_checksum_45 : decode cX2_checksum 45 = .ok (.iload_n 3, 1) := dk_29 (dk_at dksX2_checksum_1 21 rfl rfl)
theorem dX2_checksum_46 : decode cX2_checksum 46 = .ok (.aload_n 0, 1) := dk_42 (dk_at dksX2_checksum_1 22 rfl rfl)
theorem dX2_checksum_47 : decode cX2_checksum 47 = .ok (.getfield 59, 3) := dk_180 0 59 (dk_at dksX2_checksum_2 0 rfl rfl)
theorem dX2_checksum_50 : decode cX2_checksum 50 = .ok (.if_icmp .ge 74, 3) := dk_162 0 74 (dk_at dksX2_checksum_2 3 rfl rfl)
theorem dX2_checksum_53 : decode cX2_checksum 53 = .ok (.aload_n 0, 1) := dk_42 (dk_at dksX2_checksum_2 6 rfl rfl)
theorem dX2_checksum_54 : decode cX2_checksum 54 = .ok (.getfield 36, 3) := dk_180 0 36 (dk_at dksX2_checksum_2 7 rfl rfl)
theorem dX2_checksum_57 : decode cX2_checksum 57 = .ok (.iload_n 3, 1) := dk_29 (dk_at dksX2_checksum_2 10 rfl rfl)
theorem dX2_checksum_58 : decode cX2_checksum 58 = .ok (.iaload, 1) := dk_46 (dk_at dksX2_checksum_2 11 rfl rfl)
theorem dX2_checksum_59 : decode cX2_checksum 59 = .ok (.istore 4, 2) := dk_54 4 (dk_at dksX2_checksum_2 12 rfl rfl)
theorem dX2_checksum_61 : decode cX2_checksum 61 = .ok (.iconst 0, 1) := dk_3 (dk_at dksX2_checksum_2 14 rfl rfl)
theorem dX2_checksum_62 : decode cX2_checksum 62 = .ok (.istore 5, 2) := dk_54 5 (dk_at dksX2_checksum_2 15 rfl rfl)
theorem dX2_checksum_64 : decode cX2_checksum 64 = .ok (.iload 5, 2) := dk_21 5 (dk_at dksX2_checksum_2 17 rfl rfl)
theorem dX2_checksum_66 : decode cX2_checksum 66 = .ok (.aload_n 0, 1) := dk_42 (dk_at dksX2_checksum_2 19 rfl rfl)
theorem dX2_checksum_67 : decode cX2_checksum 67 = .ok (.getfield 26, 3) := dk_180 0 26 (dk_at dksX2_checksum_2 20 rfl rfl)
theorem dX2_checksum_70 : decode cX2_checksum 70 = .ok (.iload 4, 2) := dk_21 4 (dk_at dksX2_checksum_3 0 rfl rfl)
theorem dX2_checksum_72 : decode cX2_checksum 72 = .ok (.iaload, 1) := dk_46 (dk_at dksX2_checksum_3 2 rfl rfl)
theorem dX2_checksum_73 : decode cX2_checksum 73 = .ok (.if_icmp .ge 30, 3) := dk_162 0 30 (dk_at dksX2_checksum_3 3 rfl rfl)
theorem dX2_checksum_76 : decode cX2_checksum 76 = .ok (.ldc2_w 134, 3) := dk_20 0 134 (dk_at dksX2_checksum_3 6 rfl rfl)
theorem dX2_checksum_79 : decode cX2_checksum 79 = .ok (.lload_n 1, 1) := dk_31 (dk_at dksX2_checksum_3 9 rfl rfl)
theorem dX2_checksum_80 : decode cX2_checksum 80 = .ok (.lmul, 1) := dk_105 (dk_at dksX2_checksum_3 10 rfl rfl)
theorem dX2_checksum_81 : decode cX2_checksum 81 = .ok (.aload_n 0, 1) := dk_42 (dk_at dksX2_checksum_3 11 rfl rfl)
theorem dX2_checksum_82 : decode cX2_checksum 82 = .ok (.getfield 17, 3) := dk_180 0 17 (dk_at dksX2_checksum_3 12 rfl rfl)
theorem dX2_checksum_85 : decode cX2_checksum 85 = .ok (.bipush 10, 2) := dk_16 10 (dk_at dksX2_checksum_3 15 rfl rfl)
theorem dX2_checksum_87 : decode cX2_checksum 87 = .ok (.iload 4, 2) := dk_21 4 (dk_at dksX2_checksum_3 17 rfl rfl)
theorem dX2_checksum_89 : decode cX2_checksum 89 = .ok (.imul, 1) := dk_104 (dk_at dksX2_checksum_3 19 rfl rfl)
theorem dX2_checksum_90 : decode cX2_checksum 90 = .ok (.iload 5, 2) := dk_21 5 (dk_at dksX2_checksum_3 20 rfl rfl)
theorem dX2_checksum_92 : decode cX2_checksum 92 = .ok (.iadd, 1) := dk_96 (dk_at dksX2_checksum_3 22 rfl rfl)
theorem dX2_checksum_93 : decode cX2_checksum 93 = .ok (.caload, 1) := dk_52 (dk_at dksX2_checksum_3 23 rfl rfl)
theorem dX2_checksum_94 : decode cX2_checksum 94 = .ok (.i2l, 1) := dk_133 (dk_at dksX2_checksum_4 0 rfl rfl)
theorem dX2_checksum_95 : decode cX2_checksum 95 = .ok (.ladd, 1) := dk_97 (dk_at dksX2_checksum_4 1 rfl rfl)
theorem dX2_checksum_96 : decode cX2_checksum 96 = .ok (.lstore_n 1, 1) := dk_64 (dk_at dksX2_checksum_4 2 rfl rfl)
theorem dX2_checksum_97 : decode cX2_checksum 97 = .ok (.iinc 5 1, 3) := dk_132 5 1 (dk_at dksX2_checksum_4 3 rfl rfl)
theorem dX2_checksum_100 : decode cX2_checksum 100 = .ok (.goto (-36), 3) := dk_167 255 220 (dk_at dksX2_checksum_4 6 rfl rfl)
theorem dX2_checksum_103 : decode cX2_checksum 103 = .ok (.ldc2_w 134, 3) := dk_20 0 134 (dk_at dksX2_checksum_4 9 rfl rfl)
theorem dX2_checksum_106 : decode cX2_checksum 106 = .ok (.lload_n 1, 1) := dk_31 (dk_at dksX2_checksum_4 12 rfl rfl)
theorem dX2_checksum_107 : decode cX2_checksum 107 = .ok (.lmul, 1) := dk_105 (dk_at dksX2_checksum_4 13 rfl rfl)
theorem dX2_checksum_108 : decode cX2_checksum 108 = .ok (.aload_n 0, 1) := dk_42 (dk_at dksX2_checksum_4 14 rfl rfl)
theorem dX2_checksum_109 : decode cX2_checksum 109 = .ok (.getfield 30, 3) := dk_180 0 30 (dk_at dksX2_checksum_4 15 rfl rfl)
theorem dX2_checksum_112 : decode cX2_checksum 112 = .ok (.iload 4, 2) := dk_21 4 (dk_at dksX2_checksum_4 18 rfl rfl)
theorem dX2_checksum_114 : decode cX2_checksum 114 = .ok (.iaload, 1) := dk_46 (dk_at dksX2_checksum_4 20 rfl rfl)
theorem dX2_checksum_115 : decode cX2_checksum 115 = .ok (.i2l, 1) := dk_133 (dk_at dksX2_checksum_4 21 rfl rfl)
theorem dX2_checksum_116 : decode cX2_checksum 116 = .ok (.ladd, 1) := dk_97 (dk_at dksX2_checksum_4 22 rfl rfl)
theorem dX2_checksum_117 : decode cX2_checksum 117 = .ok (.lstore_n 1, 1) := dk_64 (dk_at dksX2_checksum_4 23 rfl rfl)
theorem dX2_checksum_118 : decode cX2_checksum 118 = .ok (.iinc 3 1, 3) := dk_132 3 1 (dk_at dksX2_checksum_5 0 rfl rfl)
theorem dX2_checksum_121 : decode cX2_checksum 121 = .ok (.goto (-76), 3) := dk_167 255 180 (dk_at dksX2_checksum_5 3 rfl rfl)
theorem dX2_checksum_124 : decode cX2_checksum 124 = .ok (.iconst 0, 1) := dk_3 (dk_at dksX2_checksum_5 6 rfl rfl)
theorem dX2_checksum_125 : decode cX2_checksum 125 = .ok (.istore_n 3, 1) := dk_62 (dk_at dksX2_checksum_5 7 rfl rfl)
theorem dX2_checksum_126 : decode cX2_checksum 126 = .ok (.iload_n 3, 1) := dk_29 (dk_at dksX2_checksum_5 8 rfl rfl)
theorem dX2_checksum_127 : decode cX2_checksum 127 = .ok (.bipush 6, 2) := dk_16 6 (dk_at dksX2_checksum_5 9 rfl rfl)
theorem dX2_checksum_129 : decode cX2_checksum 129 = .ok (.if_icmp .ge 62, 3) := dk_162 0 62 (dk_at dksX2_checksum_5 11 rfl rfl)
theorem dX2_checksum_132 : decode cX2_checksum 132 = .ok (.ldc2_w 134, 3) := dk_20 0 134 (dk_at dksX2_checksum_5 14 rfl rfl)
theorem dX2_checksum_135 : decode cX2_checksum 135 = .ok (.lload_n 1, 1) := dk_31 (dk_at dksX2_checksum_5 17 rfl rfl)
theorem dX2_checksum_136 : decode cX2_checksum 136 = .ok (.lmul, 1) := dk_105 (dk_at dksX2_checksum_5 18 rfl rfl)
theorem dX2_checksum_137 : decode cX2_checksum 137 = .ok (.aload_n 0, 1) := dk_42 (dk_at dksX2_checksum_5 19 rfl rfl)
theorem dX2_checksum_138 : decode cX2_checksum 138 = .ok (.getfield 33, 3) := dk_180 0 33 (dk_at dksX2_checksum_5 20 rfl rfl)
theorem dX2_checksum_141 : decode cX2_checksum 141 = .ok (.iload_n 3, 1) := dk_29 (dk_at dksX2_checksum_5 23 rfl rfl)
theorem dX2_checksum_142 : decode cX2_checksum 142 = .ok (.iaload, 1) := dk_46 (dk_at dksX2_checksum_6 0 rfl rfl)
theorem dX2_checksum_143 : decode cX2_checksum 143 = .ok (.i2l, 1) := dk_133 (dk_at dksX2_checksum_6 1 rfl rfl)
theorem dX2_checksum_144 : decode cX2_checksum 144 = .ok (.ladd, 1) := dk_97 (dk_at dksX2_checksum_6 2 rfl rfl)
theorem dX2_checksum_145 : decode cX2_checksum 145 = .ok (.lstore_n 1, 1) := dk_64 (dk_at dksX2_checksum_6 3 rfl rfl)
theorem dX2_checksum_146 : decode cX2_checksum 146 = .ok (.iconst 0, 1) := dk_3 (dk_at dksX2_checksum_6 4 rfl rfl)
theorem dX2_checksum_147 : decode cX2_checksum 147 = .ok (.istore 4, 2) := dk_54 4 (dk_at dksX2_checksum_6 5 rfl rfl)
theorem dX2_checksum_149 : decode cX2_checksum 149 = .ok (.iload 4, 2) := dk_21 4 (dk_at dksX2_checksum_6 7 rfl rfl)
theorem dX2_checksum_151 : decode cX2_checksum 151 = .ok (.aload_n 0, 1) := dk_42 (dk_at dksX2_checksum_6 9 rfl rfl)
theorem dX2_checksum_152 : decode cX2_checksum 152 = .ok (.getfield 33, 3) := dk_180 0 33 (dk_at dksX2_checksum_6 10 rfl rfl)
theorem dX2_checksum_155 : decode cX2_checksum 155 = .ok (.iload_n 3, 1) := dk_29 (dk_at dksX2_checksum_6 13 rfl rfl)
theorem dX2_checksum_156 : decode cX2_checksum 156 = .ok (.iaload, 1) := dk_46 (dk_at dksX2_checksum_6 14 rfl rfl)
theorem dX2_checksum_157 : decode cX2_checksum 157 = .ok (.if_icmp .ge 28, 3) := dk_162 0 28 (dk_at dksX2_checksum_6 15 rfl rfl)
theorem dX2_checksum_160 : decode cX2_checksum 160 = .ok (.ldc2_w 134, 3) := dk_20 0 134 (dk_at dksX2_checksum_6 18 rfl rfl)
theorem dX2_checksum_163 : decode cX2_checksum 163 = .ok (.lload_n 1, 1) := dk_31 (dk_at dksX2_checksum_6 21 rfl rfl)
theorem dX2_checksum_164 : decode cX2_checksum 164 = .ok (.lmul, 1) := dk_105 (dk_at dksX2_checksum_6 22 rfl rfl)
theorem dX2_checksum_165 : decode cX2_checksum 165 = .ok (.aload_n 0, 1) := dk_42 (dk_at dksX2_checksum_6 23 rfl rfl)
theorem dX2_checksum_166 : decode cX2_checksum 166 = .ok (.getfield 20, 3) := dk_180 0 20 (dk_at dksX2_checksum_7 0 rfl rfl)
theorem dX2_checksum_169 : decode cX2_checksum 169 = .ok (.iconst 3, 1) := dk_6 (dk_at dksX2_checksum_7 3 rfl rfl)
theorem dX2_checksum_170 : decode cX2_checksum 170 = .ok (.iload_n 3, 1) := dk_29 (dk_at dksX2_checksum_7 4 rfl rfl)
theorem dX2_checksum_171 : decode cX2_checksum 171 = .ok (.imul, 1) := dk_104 (dk_at dksX2_checksum_7 5 rfl rfl)
theorem dX2_checksum_172 : decode cX2_checksum 172 = .ok (.iload 4, 2) := dk_21 4 (dk_at dksX2_checksum_7 6 rfl rfl)
theorem dX2_checksum_174 : decode cX2_checksum 174 = .ok (.iadd, 1) := dk_96 (dk_at dksX2_checksum_7 8 rfl rfl)
theorem dX2_checksum_175 : decode cX2_checksum 175 = .ok (.caload, 1) := dk_52 (dk_at dksX2_checksum_7 9 rfl rfl)
theorem dX2_checksum_176 : decode cX2_checksum 176 = .ok (.i2l, 1) := dk_133 (dk_at dksX2_checksum_7 10 rfl rfl)
theorem dX2_checksum_177 : decode cX2_checksum 177 = .ok (.ladd, 1) := dk_97 (dk_at dksX2_checksum_7 11 rfl rfl)
theorem dX2_checksum_178 : decode cX2_checksum 178 = .ok (.lstore_n 1, 1) := dk_64 (dk_at dksX2_checksum_7 12 rfl rfl)
theorem dX2_checksum_179 : decode cX2_checksum 179 = .ok (.iinc 4 1, 3) := dk_132 4 1 (dk_at dksX2_checksum_7 13 rfl rfl)
theorem dX2_checksum_182 : decode cX2_checksum 182 = .ok (.goto (-33), 3) := dk_167 255 223 (dk_at dksX2_checksum_7 16 rfl rfl)
theorem dX2_checksum_185 : decode cX2_checksum 185 = .ok (.iinc 3 1, 3) := dk_132 3 1 (dk_at dksX2_checksum_7 19 rfl rfl)
theorem dX2_checksum_188 : decode cX2_checksum 188 = .ok (.goto (-62), 3) := dk_167 255 194 (dk_at dksX2_checksum_8 0 rfl rfl)
theorem dX2_checksum_191 : decode cX2_checksum 191 = .ok (.lload_n 1, 1) := dk_31 (dk_at dksX2_checksum_8 3 rfl rfl)
theorem dX2_checksum_192 : decode cX2_checksum 192 = .ok (.lreturn, 1) := dk_173 (dk_at dksX2_checksum_8 4 rfl rfl)
theorem q60 : (Jvm.Cond.initialized "StemspanModel") ∈ lw_all := lw_g (lw_at lw_m1 20 rfl) rfl
theorem q2089 : (Jvm.Cond.selects "StemspanModel" ({ cls := "java/lang/Object", name := "equals", desc := "(Ljava/lang/Object;)Z" } : Jvm.MethodName) ({ cls := "java/lang/Object", name := "equals", desc := "(Ljava/lang/Object;)Z" } : Jvm.MethodName)) ∈ lw_all := lw_g (lw_at lw_m9 129 rfl) rfl
theorem q2172 : (Jvm.Cond.instanceMethod ({ cls := "StemspanModel", name := "thrown", desc := "()I" } : Jvm.MethodName)) ∈ lw_all := lw_g (lw_at lw_m9 212 rfl) rfl
theorem q2173 : (Jvm.Cond.selects "StemspanModel" ({ cls := "StemspanModel", name := "thrown", desc := "()I" } : Jvm.MethodName) ({ cls := "StemspanModel", name := "thrown", desc := "()I" } : Jvm.MethodName)) ∈ lw_all := lw_g (lw_at lw_m9 213 rfl) rfl
theorem q2174 : (Jvm.Cond.code ({ cls := "StemspanModel", name := "thrown", desc := "()I" } : Jvm.MethodName) prog_3_method_1_code (1 : Nat) (Option.some Jvm.ClassFile.FieldType.int)) ∈ lw_all := lw_g (lw_at lw_m9 214 rfl) rfl
theorem q2176 : (Jvm.Cond.instantiable "StemspanModel" (14 : Nat)) ∈ lw_all := lw_g (lw_at lw_m9 216 rfl) rfl
theorem q2178 : (Jvm.Cond.instanceMethod ({ cls := "StemspanModel", name := "<init>", desc := "()V" } : Jvm.MethodName)) ∈ lw_all := lw_g (lw_at lw_m9 218 rfl) rfl
theorem q2179 : (Jvm.Cond.code ({ cls := "StemspanModel", name := "<init>", desc := "()V" } : Jvm.MethodName) prog_3_method_4_code (2 : Nat) (Option.none : Option Jvm.ClassFile.FieldType)) ∈ lw_all := lw_g (lw_at lw_m9 219 rfl) rfl
theorem q2180 : (Jvm.Cond.methodLink "StemspanModel" (7 : Nat) ({ cls := "java/lang/Object", name := "<init>", desc := "()V" } : Jvm.MethodName)) ∈ lw_all := lw_g (lw_at lw_m9 220 rfl) rfl
theorem q2181 : (Jvm.Cond.fieldLink "StemspanModel" (1 : Nat) "StemspanModel" "code" "I") ∈ lw_all := lw_g (lw_at lw_m9 221 rfl) rfl
theorem q2182 : (Jvm.Cond.fieldLink "StemspanModel" (13 : Nat) "StemspanModel" "text" "[C") ∈ lw_all := lw_g (lw_at lw_m9 222 rfl) rfl
theorem q2183 : (Jvm.Cond.fieldLink "StemspanModel" (17 : Nat) "StemspanModel" "word" "[C") ∈ lw_all := lw_g (lw_at lw_m9 223 rfl) rfl
theorem q2184 : (Jvm.Cond.fieldLink "StemspanModel" (20 : Nat) "StemspanModel" "codes" "[C") ∈ lw_all := lw_g (lw_at lw_m9 224 rfl) rfl
theorem q2185 : (Jvm.Cond.fieldLink "StemspanModel" (23 : Nat) "StemspanModel" "made" "[C") ∈ lw_all := lw_g (lw_at lw_m9 225 rfl) rfl
theorem q2186 : (Jvm.Cond.fieldLink "StemspanModel" (26 : Nat) "StemspanModel" "wordLength" "[I") ∈ lw_all := lw_g (lw_at lw_m9 226 rfl) rfl
theorem q2187 : (Jvm.Cond.fieldLink "StemspanModel" (30 : Nat) "StemspanModel" "number" "[I") ∈ lw_all := lw_g (lw_at lw_m9 227 rfl) rfl
theorem q2188 : (Jvm.Cond.fieldLink "StemspanModel" (33 : Nat) "StemspanModel" "codeLength" "[I") ∈ lw_all := lw_g (lw_at lw_m9 228 rfl) rfl
theorem q2189 : (Jvm.Cond.fieldLink "StemspanModel" (49 : Nat) "StemspanModel" "length" "I") ∈ lw_all := lw_g (lw_at lw_m9 229 rfl) rfl
theorem q2190 : (Jvm.Cond.fieldLink "StemspanModel" (59 : Nat) "StemspanModel" "many" "I") ∈ lw_all := lw_g (lw_at lw_m9 230 rfl) rfl
theorem q2191 : (Jvm.Cond.fieldLink "StemspanModel" (36 : Nat) "StemspanModel" "order" "[I") ∈ lw_all := lw_g (lw_at lw_m9 231 rfl) rfl
theorem q2192 : (Jvm.Cond.fieldLink "StemspanModel" (39 : Nat) "StemspanModel" "ranks" "[I") ∈ lw_all := lw_g (lw_at lw_m9 232 rfl) rfl
theorem q2193 : (Jvm.Cond.fieldLink "StemspanModel" (42 : Nat) "StemspanModel" "waysFrom" "[J") ∈ lw_all := lw_g (lw_at lw_m9 233 rfl) rfl
theorem q2194 : (Jvm.Cond.fieldLink "StemspanModel" (46 : Nat) "StemspanModel" "fewestFrom" "[I") ∈ lw_all := lw_g (lw_at lw_m9 234 rfl) rfl
theorem q2195 : (Jvm.Cond.lays "StemspanModel" "StemspanModel" "code" "I") ∈ lw_all := lw_g (lw_at lw_m9 235 rfl) rfl
theorem q2196 : (Jvm.Cond.soleField "StemspanModel" "code") ∈ lw_all := lw_g (lw_at lw_m9 236 rfl) rfl
theorem q2197 : (Jvm.Cond.laysFinal "StemspanModel" "StemspanModel" "text" "[C") ∈ lw_all := lw_g (lw_at lw_m9 237 rfl) rfl
theorem q2198 : (Jvm.Cond.soleField "StemspanModel" "text") ∈ lw_all := lw_g (lw_at lw_m9 238 rfl) rfl
theorem q2199 : (Jvm.Cond.laysFinal "StemspanModel" "StemspanModel" "word" "[C") ∈ lw_all := lw_g (lw_at lw_m9 239 rfl) rfl
theorem q2200 : (Jvm.Cond.soleField "StemspanModel" "word") ∈ lw_all := lw_g (lw_at lw_m10 0 rfl) rfl
theorem q2201 : (Jvm.Cond.laysFinal "StemspanModel" "StemspanModel" "codes" "[C") ∈ lw_all := lw_g (lw_at lw_m10 1 rfl) rfl
theorem q2202 : (Jvm.Cond.soleField "StemspanModel" "codes") ∈ lw_all := lw_g (lw_at lw_m10 2 rfl) rfl
theorem q2203 : (Jvm.Cond.laysFinal "StemspanModel" "StemspanModel" "made" "[C") ∈ lw_all := lw_g (lw_at lw_m10 3 rfl) rfl
theorem q2204 : (Jvm.Cond.soleField "StemspanModel" "made") ∈ lw_all := lw_g (lw_at lw_m10 4 rfl) rfl
theorem q2205 : (Jvm.Cond.laysFinal "StemspanModel" "StemspanModel" "wordLength" "[I") ∈ lw_all := lw_g (lw_at lw_m10 5 rfl) rfl
theorem q2206 : (Jvm.Cond.soleField "StemspanModel" "wordLength") ∈ lw_all := lw_g (lw_at lw_m10 6 rfl) rfl
theorem q2207 : (Jvm.Cond.laysFinal "StemspanModel" "StemspanModel" "number" "[I") ∈ lw_all := lw_g (lw_at lw_m10 7 rfl) rfl
theorem q2208 : (Jvm.Cond.soleField "StemspanModel" "number") ∈ lw_all := lw_g (lw_at lw_m10 8 rfl) rfl
theorem q2209 : (Jvm.Cond.laysFinal "StemspanModel" "StemspanModel" "codeLength" "[I") ∈ lw_all := lw_g (lw_at lw_m10 9 rfl) rfl
theorem q2210 : (Jvm.Cond.soleField "StemspanModel" "codeLength") ∈ lw_all := lw_g (lw_at lw_m10 10 rfl) rfl
theorem q2211 : (Jvm.Cond.lays "StemspanModel" "StemspanModel" "length" "I") ∈ lw_all := lw_g (lw_at lw_m10 11 rfl) rfl
theorem q2212 : (Jvm.Cond.soleField "StemspanModel" "length") ∈ lw_all := lw_g (lw_at lw_m10 12 rfl) rfl
theorem q2213 : (Jvm.Cond.lays "StemspanModel" "StemspanModel" "many" "I") ∈ lw_all := lw_g (lw_at lw_m10 13 rfl) rfl
theorem q2214 : (Jvm.Cond.soleField "StemspanModel" "many") ∈ lw_all := lw_g (lw_at lw_m10 14 rfl) rfl
theorem q2215 : (Jvm.Cond.laysFinal "StemspanModel" "StemspanModel" "order" "[I") ∈ lw_all := lw_g (lw_at lw_m10 15 rfl) rfl
theorem q2216 : (Jvm.Cond.soleField "StemspanModel" "order") ∈ lw_all := lw_g (lw_at lw_m10 16 rfl) rfl
theorem q2217 : (Jvm.Cond.laysFinal "StemspanModel" "StemspanModel" "ranks" "[I") ∈ lw_all := lw_g (lw_at lw_m10 17 rfl) rfl
theorem q2218 : (Jvm.Cond.soleField "StemspanModel" "ranks") ∈ lw_all := lw_g (lw_at lw_m10 18 rfl) rfl
theorem q2219 : (Jvm.Cond.laysFinal "StemspanModel" "StemspanModel" "waysFrom" "[J") ∈ lw_all := lw_g (lw_at lw_m10 19 rfl) rfl
theorem q2220 : (Jvm.Cond.soleField "StemspanModel" "waysFrom") ∈ lw_all := lw_g (lw_at lw_m10 20 rfl) rfl
theorem q2221 : (Jvm.Cond.laysFinal "StemspanModel" "StemspanModel" "fewestFrom" "[I") ∈ lw_all := lw_g (lw_at lw_m10 21 rfl) rfl
theorem q2222 : (Jvm.Cond.soleField "StemspanModel" "fewestFrom") ∈ lw_all := lw_g (lw_at lw_m10 22 rfl) rfl
theorem q2223 : (Jvm.Cond.superclass "StemspanModel" "java/lang/Object") ∈ lw_all := lw_g (lw_at lw_m10 23 rfl) rfl
theorem q2226 : (Jvm.Cond.instanceMethod ({ cls := "StemspanModel", name := "type", desc := "(C)I" } : Jvm.MethodName)) ∈ lw_all := lw_g (lw_at lw_m10 26 rfl) rfl
theorem q2227 : (Jvm.Cond.selects "StemspanModel" ({ cls := "StemspanModel", name := "type", desc := "(C)I" } : Jvm.MethodName) ({ cls := "StemspanModel", name := "type", desc := "(C)I" } : Jvm.MethodName)) ∈ lw_all := lw_g (lw_at lw_m10 27 rfl) rfl
theorem q2228 : (Jvm.Cond.code ({ cls := "StemspanModel", name := "type", desc := "(C)I" } : Jvm.MethodName) prog_3_method_16_code (2 : Nat) (Option.some Jvm.ClassFile.FieldType.int)) ∈ lw_all := lw_g (lw_at lw_m10 28 rfl) rfl
theorem q2229 : (Jvm.Cond.methodLink "StemspanModel" (73 : Nat) ({ cls := "StemspanModel", name := "isSign", desc := "(C)Z" } : Jvm.MethodName)) ∈ lw_all := lw_g (lw_at lw_m10 29 rfl) rfl
theorem q2230 : (Jvm.Cond.static ({ cls := "StemspanModel", name := "isSign", desc := "(C)Z" } : Jvm.MethodName)) ∈ lw_all := lw_g (lw_at lw_m10 30 rfl) rfl
theorem q2231 : (Jvm.Cond.code ({ cls := "StemspanModel", name := "isSign", desc := "(C)Z" } : Jvm.MethodName) prog_3_method_5_code (1 : Nat) (Option.some Jvm.ClassFile.FieldType.boolean)) ∈ lw_all := lw_g (lw_at lw_m10 31 rfl) rfl
theorem q2232 : (Jvm.Cond.methodLink "StemspanModel" (77 : Nat) ({ cls := "StemspanModel", name := "fails", desc := "(I)Z" } : Jvm.MethodName)) ∈ lw_all := lw_g (lw_at lw_m10 32 rfl) rfl
theorem q2233 : (Jvm.Cond.privateMethod ({ cls := "StemspanModel", name := "fails", desc := "(I)Z" } : Jvm.MethodName)) ∈ lw_tbl := lw_at lw_m10 33 rfl
theorem q2234 : (Jvm.Cond.instanceMethod ({ cls := "StemspanModel", name := "fails", desc := "(I)Z" } : Jvm.MethodName)) ∈ lw_all := lw_g (lw_at lw_m10 34 rfl) rfl
theorem q2235 : (Jvm.Cond.code ({ cls := "StemspanModel", name := "fails", desc := "(I)Z" } : Jvm.MethodName) prog_3_method_2_code (2 : Nat) (Option.some Jvm.ClassFile.FieldType.boolean)) ∈ lw_all := lw_g (lw_at lw_m10 35 rfl) rfl
theorem q2237 : (Jvm.Cond.instanceMethod ({ cls := "StemspanModel", name := "typeMore", desc := "(II)I" } : Jvm.MethodName)) ∈ lw_all := lw_g (lw_at lw_m10 37 rfl) rfl
theorem q2238 : (Jvm.Cond.selects "StemspanModel" ({ cls := "StemspanModel", name := "typeMore", desc := "(II)I" } : Jvm.MethodName) ({ cls := "StemspanModel", name := "typeMore", desc := "(II)I" } : Jvm.MethodName)) ∈ lw_all := lw_g (lw_at lw_m10 38 rfl) rfl
theorem q2239 : (Jvm.Cond.code ({ cls := "StemspanModel", name := "typeMore", desc := "(II)I" } : Jvm.MethodName) prog_3_method_17_code (5 : Nat) (Option.some Jvm.ClassFile.FieldType.int)) ∈ lw_all := lw_g (lw_at lw_m10 39 rfl) rfl
theorem q2240 : (Jvm.Cond.methodLink "StemspanModel" (81 : Nat) ({ cls := "StemspanModel", name := "in", desc := "(III)Z" } : Jvm.MethodName)) ∈ lw_all := lw_g (lw_at lw_m10 40 rfl) rfl
theorem q2241 : (Jvm.Cond.static ({ cls := "StemspanModel", name := "in", desc := "(III)Z" } : Jvm.MethodName)) ∈ lw_all := lw_g (lw_at lw_m10 41 rfl) rfl
theorem q2242 : (Jvm.Cond.code ({ cls := "StemspanModel", name := "in", desc := "(III)Z" } : Jvm.MethodName) prog_3_method_3_code (3 : Nat) (Option.some Jvm.ClassFile.FieldType.boolean)) ∈ lw_all := lw_g (lw_at lw_m10 42 rfl) rfl
theorem q2243 : (Jvm.Cond.constant "StemspanModel" (85 : Nat) (1679615 : Int32)) ∈ lw_all := lw_g (lw_at lw_m10 43 rfl) rfl
theorem q2245 : (Jvm.Cond.instanceMethod ({ cls := "StemspanModel", name := "typeAt", desc := "(IC)I" } : Jvm.MethodName)) ∈ lw_all := lw_g (lw_at lw_m10 45 rfl) rfl
theorem q2246 : (Jvm.Cond.selects "StemspanModel" ({ cls := "StemspanModel", name := "typeAt", desc := "(IC)I" } : Jvm.MethodName) ({ cls := "StemspanModel", name := "typeAt", desc := "(IC)I" } : Jvm.MethodName)) ∈ lw_all := lw_g (lw_at lw_m10 46 rfl) rfl
theorem q2247 : (Jvm.Cond.code ({ cls := "StemspanModel", name := "typeAt", desc := "(IC)I" } : Jvm.MethodName) prog_3_method_18_code (4 : Nat) (Option.some Jvm.ClassFile.FieldType.int)) ∈ lw_all := lw_g (lw_at lw_m10 47 rfl) rfl
theorem q2249 : (Jvm.Cond.instanceMethod ({ cls := "StemspanModel", name := "drop", desc := "()I" } : Jvm.MethodName)) ∈ lw_all := lw_g (lw_at lw_m10 49 rfl) rfl
theorem q2250 : (Jvm.Cond.selects "StemspanModel" ({ cls := "StemspanModel", name := "drop", desc := "()I" } : Jvm.MethodName) ({ cls := "StemspanModel", name := "drop", desc := "()I" } : Jvm.MethodName)) ∈ lw_all := lw_g (lw_at lw_m10 50 rfl) rfl
theorem q2251 : (Jvm.Cond.code ({ cls := "StemspanModel", name := "drop", desc := "()I" } : Jvm.MethodName) prog_3_method_19_code (1 : Nat) (Option.some Jvm.ClassFile.FieldType.int)) ∈ lw_all := lw_g (lw_at lw_m10 51 rfl) rfl
theorem q2253 : (Jvm.Cond.instanceMethod ({ cls := "StemspanModel", name := "clip", desc := "(II)I" } : Jvm.MethodName)) ∈ lw_all := lw_g (lw_at lw_m10 53 rfl) rfl
theorem q2254 : (Jvm.Cond.selects "StemspanModel" ({ cls := "StemspanModel", name := "clip", desc := "(II)I" } : Jvm.MethodName) ({ cls := "StemspanModel", name := "clip", desc := "(II)I" } : Jvm.MethodName)) ∈ lw_all := lw_g (lw_at lw_m10 54 rfl) rfl
theorem q2255 : (Jvm.Cond.code ({ cls := "StemspanModel", name := "clip", desc := "(II)I" } : Jvm.MethodName) prog_3_method_20_code (4 : Nat) (Option.some Jvm.ClassFile.FieldType.int)) ∈ lw_all := lw_g (lw_at lw_m10 55 rfl) rfl
theorem q2257 : (Jvm.Cond.instanceMethod ({ cls := "StemspanModel", name := "wipe", desc := "()I" } : Jvm.MethodName)) ∈ lw_all := lw_g (lw_at lw_m10 57 rfl) rfl
theorem q2258 : (Jvm.Cond.selects "StemspanModel" ({ cls := "StemspanModel", name := "wipe", desc := "()I" } : Jvm.MethodName) ({ cls := "StemspanModel", name := "wipe", desc := "()I" } : Jvm.MethodName)) ∈ lw_all := lw_g (lw_at lw_m10 58 rfl) rfl
theorem q2259 : (Jvm.Cond.code ({ cls := "StemspanModel", name := "wipe", desc := "()I" } : Jvm.MethodName) prog_3_method_21_code (2 : Nat) (Option.some Jvm.ClassFile.FieldType.int)) ∈ lw_all := lw_g (lw_at lw_m10 59 rfl) rfl
theorem q2261 : (Jvm.Cond.instanceMethod ({ cls := "StemspanModel", name := "turn", desc := "()Z" } : Jvm.MethodName)) ∈ lw_all := lw_g (lw_at lw_m10 61 rfl) rfl
theorem q2262 : (Jvm.Cond.selects "StemspanModel" ({ cls := "StemspanModel", name := "turn", desc := "()Z" } : Jvm.MethodName) ({ cls := "StemspanModel", name := "turn", desc := "()Z" } : Jvm.MethodName)) ∈ lw_all := lw_g (lw_at lw_m10 62 rfl) rfl
theorem q2263 : (Jvm.Cond.code ({ cls := "StemspanModel", name := "turn", desc := "()Z" } : Jvm.MethodName) prog_3_method_22_code (3 : Nat) (Option.some Jvm.ClassFile.FieldType.boolean)) ∈ lw_all := lw_g (lw_at lw_m10 63 rfl) rfl
theorem q2265 : (Jvm.Cond.instanceMethod ({ cls := "StemspanModel", name := "signAt", desc := "(I)C" } : Jvm.MethodName)) ∈ lw_all := lw_g (lw_at lw_m10 65 rfl) rfl
theorem q2266 : (Jvm.Cond.selects "StemspanModel" ({ cls := "StemspanModel", name := "signAt", desc := "(I)C" } : Jvm.MethodName) ({ cls := "StemspanModel", name := "signAt", desc := "(I)C" } : Jvm.MethodName)) ∈ lw_all := lw_g (lw_at lw_m10 66 rfl) rfl
theorem q2267 : (Jvm.Cond.code ({ cls := "StemspanModel", name := "signAt", desc := "(I)C" } : Jvm.MethodName) prog_3_method_23_code (2 : Nat) (Option.some Jvm.ClassFile.FieldType.char)) ∈ lw_all := lw_g (lw_at lw_m10 67 rfl) rfl
theorem q2269 : (Jvm.Cond.instanceMethod ({ cls := "StemspanModel", name := "put", desc := "(I)I" } : Jvm.MethodName)) ∈ lw_all := lw_g (lw_at lw_m10 69 rfl) rfl
theorem q2270 : (Jvm.Cond.selects "StemspanModel" ({ cls := "StemspanModel", name := "put", desc := "(I)I" } : Jvm.MethodName) ({ cls := "StemspanModel", name := "put", desc := "(I)I" } : Jvm.MethodName)) ∈ lw_all := lw_g (lw_at lw_m10 70 rfl) rfl
theorem q2271 : (Jvm.Cond.code ({ cls := "StemspanModel", name := "put", desc := "(I)I" } : Jvm.MethodName) prog_3_method_24_code (5 : Nat) (Option.some Jvm.ClassFile.FieldType.int)) ∈ lw_all := lw_g (lw_at lw_m10 71 rfl) rfl
theorem q2272 : (Jvm.Cond.methodLink "StemspanModel" (86 : Nat) ({ cls := "StemspanModel", name := "own", desc := "()I" } : Jvm.MethodName)) ∈ lw_all := lw_g (lw_at lw_m10 72 rfl) rfl
theorem q2273 : (Jvm.Cond.privateMethod ({ cls := "StemspanModel", name := "own", desc := "()I" } : Jvm.MethodName)) ∈ lw_tbl := lw_at lw_m10 73 rfl
theorem q2274 : (Jvm.Cond.instanceMethod ({ cls := "StemspanModel", name := "own", desc := "()I" } : Jvm.MethodName)) ∈ lw_all := lw_g (lw_at lw_m10 74 rfl) rfl
theorem q2275 : (Jvm.Cond.code ({ cls := "StemspanModel", name := "own", desc := "()I" } : Jvm.MethodName) prog_3_method_11_code (2 : Nat) (Option.some Jvm.ClassFile.FieldType.int)) ∈ lw_all := lw_g (lw_at lw_m10 75 rfl) rfl
theorem q2276 : (Jvm.Cond.methodLink "StemspanModel" (62 : Nat) ({ cls := "StemspanModel", name := "beside", desc := "(I)I" } : Jvm.MethodName)) ∈ lw_all := lw_g (lw_at lw_m10 76 rfl) rfl
theorem q2277 : (Jvm.Cond.privateMethod ({ cls := "StemspanModel", name := "beside", desc := "(I)I" } : Jvm.MethodName)) ∈ lw_tbl := lw_at lw_m10 77 rfl
theorem q2278 : (Jvm.Cond.instanceMethod ({ cls := "StemspanModel", name := "beside", desc := "(I)I" } : Jvm.MethodName)) ∈ lw_all := lw_g (lw_at lw_m10 78 rfl) rfl
theorem q2279 : (Jvm.Cond.code ({ cls := "StemspanModel", name := "beside", desc := "(I)I" } : Jvm.MethodName) prog_3_method_8_code (3 : Nat) (Option.some Jvm.ClassFile.FieldType.int)) ∈ lw_all := lw_g (lw_at lw_m10 79 rfl) rfl
theorem q2280 : (Jvm.Cond.methodLink "StemspanModel" (52 : Nat) ({ cls := "StemspanModel", name := "like", desc := "(II)I" } : Jvm.MethodName)) ∈ lw_all := lw_g (lw_at lw_m10 80 rfl) rfl
theorem q2281 : (Jvm.Cond.privateMethod ({ cls := "StemspanModel", name := "like", desc := "(II)I" } : Jvm.MethodName)) ∈ lw_tbl := lw_at lw_m10 81 rfl
theorem q2282 : (Jvm.Cond.instanceMethod ({ cls := "StemspanModel", name := "like", desc := "(II)I" } : Jvm.MethodName)) ∈ lw_all := lw_g (lw_at lw_m10 82 rfl) rfl
theorem q2283 : (Jvm.Cond.code ({ cls := "StemspanModel", name := "like", desc := "(II)I" } : Jvm.MethodName) prog_3_method_6_code (4 : Nat) (Option.some Jvm.ClassFile.FieldType.int)) ∈ lw_all := lw_g (lw_at lw_m10 83 rfl) rfl
theorem q2285 : (Jvm.Cond.instanceMethod ({ cls := "StemspanModel", name := "take", desc := "()I" } : Jvm.MethodName)) ∈ lw_all := lw_g (lw_at lw_m10 85 rfl) rfl
theorem q2286 : (Jvm.Cond.selects "StemspanModel" ({ cls := "StemspanModel", name := "take", desc := "()I" } : Jvm.MethodName) ({ cls := "StemspanModel", name := "take", desc := "()I" } : Jvm.MethodName)) ∈ lw_all := lw_g (lw_at lw_m10 86 rfl) rfl
theorem q2287 : (Jvm.Cond.code ({ cls := "StemspanModel", name := "take", desc := "()I" } : Jvm.MethodName) prog_3_method_25_code (3 : Nat) (Option.some Jvm.ClassFile.FieldType.int)) ∈ lw_all := lw_g (lw_at lw_m10 87 rfl) rfl
theorem q2288 : (Jvm.Cond.methodLink "StemspanModel" (90 : Nat) ({ cls := "StemspanModel", name := "goes", desc := "(I)V" } : Jvm.MethodName)) ∈ lw_all := lw_g (lw_at lw_m10 88 rfl) rfl
theorem q2289 : (Jvm.Cond.privateMethod ({ cls := "StemspanModel", name := "goes", desc := "(I)V" } : Jvm.MethodName)) ∈ lw_tbl := lw_at lw_m10 89 rfl
theorem q2290 : (Jvm.Cond.instanceMethod ({ cls := "StemspanModel", name := "goes", desc := "(I)V" } : Jvm.MethodName)) ∈ lw_all := lw_g (lw_at lw_m10 90 rfl) rfl
theorem q2291 : (Jvm.Cond.code ({ cls := "StemspanModel", name := "goes", desc := "(I)V" } : Jvm.MethodName) prog_3_method_15_code (3 : Nat) (Option.none : Option Jvm.ClassFile.FieldType)) ∈ lw_all := lw_g (lw_at lw_m10 91 rfl) rfl
theorem q2293 : (Jvm.Cond.instanceMethod ({ cls := "StemspanModel", name := "number", desc := "()I" } : Jvm.MethodName)) ∈ lw_all := lw_g (lw_at lw_m10 93 rfl) rfl
theorem q2294 : (Jvm.Cond.selects "StemspanModel" ({ cls := "StemspanModel", name := "number", desc := "()I" } : Jvm.MethodName) ({ cls := "StemspanModel", name := "number", desc := "()I" } : Jvm.MethodName)) ∈ lw_all := lw_g (lw_at lw_m10 94 rfl) rfl
theorem q2295 : (Jvm.Cond.code ({ cls := "StemspanModel", name := "number", desc := "()I" } : Jvm.MethodName) prog_3_method_26_code (2 : Nat) (Option.some Jvm.ClassFile.FieldType.int)) ∈ lw_all := lw_g (lw_at lw_m10 95 rfl) rfl
theorem q2297 : (Jvm.Cond.instanceMethod ({ cls := "StemspanModel", name := "words", desc := "()I" } : Jvm.MethodName)) ∈ lw_all := lw_g (lw_at lw_m10 97 rfl) rfl
theorem q2298 : (Jvm.Cond.selects "StemspanModel" ({ cls := "StemspanModel", name := "words", desc := "()I" } : Jvm.MethodName) ({ cls := "StemspanModel", name := "words", desc := "()I" } : Jvm.MethodName)) ∈ lw_all := lw_g (lw_at lw_m10 98 rfl) rfl
theorem q2299 : (Jvm.Cond.code ({ cls := "StemspanModel", name := "words", desc := "()I" } : Jvm.MethodName) prog_3_method_27_code (1 : Nat) (Option.some Jvm.ClassFile.FieldType.int)) ∈ lw_all := lw_g (lw_at lw_m10 99 rfl) rfl
theorem q2301 : (Jvm.Cond.instanceMethod ({ cls := "StemspanModel", name := "rank", desc := "()I" } : Jvm.MethodName)) ∈ lw_all := lw_g (lw_at lw_m10 101 rfl) rfl
theorem q2302 : (Jvm.Cond.selects "StemspanModel" ({ cls := "StemspanModel", name := "rank", desc := "()I" } : Jvm.MethodName) ({ cls := "StemspanModel", name := "rank", desc := "()I" } : Jvm.MethodName)) ∈ lw_all := lw_g (lw_at lw_m10 102 rfl) rfl
theorem q2303 : (Jvm.Cond.code ({ cls := "StemspanModel", name := "rank", desc := "()I" } : Jvm.MethodName) prog_3_method_28_code (3 : Nat) (Option.some Jvm.ClassFile.FieldType.int)) ∈ lw_all := lw_g (lw_at lw_m10 103 rfl) rfl
theorem q2305 : (Jvm.Cond.instanceMethod ({ cls := "StemspanModel", name := "word", desc := "(I)I" } : Jvm.MethodName)) ∈ lw_all := lw_g (lw_at lw_m10 105 rfl) rfl
theorem q2306 : (Jvm.Cond.selects "StemspanModel" ({ cls := "StemspanModel", name := "word", desc := "(I)I" } : Jvm.MethodName) ({ cls := "StemspanModel", name := "word", desc := "(I)I" } : Jvm.MethodName)) ∈ lw_all := lw_g (lw_at lw_m10 106 rfl) rfl
theorem q2307 : (Jvm.Cond.code ({ cls := "StemspanModel", name := "word", desc := "(I)I" } : Jvm.MethodName) prog_3_method_29_code (2 : Nat) (Option.some Jvm.ClassFile.FieldType.int)) ∈ lw_all := lw_g (lw_at lw_m10 107 rfl) rfl
theorem q2308 : (Jvm.Cond.methodLink "StemspanModel" (94 : Nat) ({ cls := "StemspanModel", name := "orders", desc := "()V" } : Jvm.MethodName)) ∈ lw_all := lw_g (lw_at lw_m10 108 rfl) rfl
theorem q2309 : (Jvm.Cond.privateMethod ({ cls := "StemspanModel", name := "orders", desc := "()V" } : Jvm.MethodName)) ∈ lw_tbl := lw_at lw_m10 109 rfl
theorem q2310 : (Jvm.Cond.instanceMethod ({ cls := "StemspanModel", name := "orders", desc := "()V" } : Jvm.MethodName)) ∈ lw_all := lw_g (lw_at lw_m10 110 rfl) rfl
theorem q2311 : (Jvm.Cond.code ({ cls := "StemspanModel", name := "orders", desc := "()V" } : Jvm.MethodName) prog_3_method_13_code (2 : Nat) (Option.none : Option Jvm.ClassFile.FieldType)) ∈ lw_all := lw_g (lw_at lw_m10 111 rfl) rfl
theorem q2312 : (Jvm.Cond.methodLink "StemspanModel" (70 : Nat) ({ cls := "StemspanModel", name := "rankOf", desc := "(I)I" } : Jvm.MethodName)) ∈ lw_all := lw_g (lw_at lw_m10 112 rfl) rfl
theorem q2313 : (Jvm.Cond.privateMethod ({ cls := "StemspanModel", name := "rankOf", desc := "(I)I" } : Jvm.MethodName)) ∈ lw_tbl := lw_at lw_m10 113 rfl
theorem q2314 : (Jvm.Cond.instanceMethod ({ cls := "StemspanModel", name := "rankOf", desc := "(I)I" } : Jvm.MethodName)) ∈ lw_all := lw_g (lw_at lw_m10 114 rfl) rfl
theorem q2315 : (Jvm.Cond.code ({ cls := "StemspanModel", name := "rankOf", desc := "(I)I" } : Jvm.MethodName) prog_3_method_12_code (4 : Nat) (Option.some Jvm.ClassFile.FieldType.int)) ∈ lw_all := lw_g (lw_at lw_m10 115 rfl) rfl
theorem q2316 : (Jvm.Cond.methodLink "StemspanModel" (66 : Nat) ({ cls := "StemspanModel", name := "isLess", desc := "(II)Z" } : Jvm.MethodName)) ∈ lw_all := lw_g (lw_at lw_m10 116 rfl) rfl
theorem q2317 : (Jvm.Cond.privateMethod ({ cls := "StemspanModel", name := "isLess", desc := "(II)Z" } : Jvm.MethodName)) ∈ lw_tbl := lw_at lw_m10 117 rfl
theorem q2318 : (Jvm.Cond.instanceMethod ({ cls := "StemspanModel", name := "isLess", desc := "(II)Z" } : Jvm.MethodName)) ∈ lw_all := lw_g (lw_at lw_m10 118 rfl) rfl
theorem q2319 : (Jvm.Cond.code ({ cls := "StemspanModel", name := "isLess", desc := "(II)Z" } : Jvm.MethodName) prog_3_method_9_code (4 : Nat) (Option.some Jvm.ClassFile.FieldType.boolean)) ∈ lw_all := lw_g (lw_at lw_m10 119 rfl) rfl
theorem q2320 : (Jvm.Cond.methodLink "StemspanModel" (56 : Nat) ({ cls := "StemspanModel", name := "likeWords", desc := "(II)I" } : Jvm.MethodName)) ∈ lw_all := lw_g (lw_at lw_m10 120 rfl) rfl
theorem q2321 : (Jvm.Cond.privateMethod ({ cls := "StemspanModel", name := "likeWords", desc := "(II)I" } : Jvm.MethodName)) ∈ lw_tbl := lw_at lw_m10 121 rfl
theorem q2322 : (Jvm.Cond.instanceMethod ({ cls := "StemspanModel", name := "likeWords", desc := "(II)I" } : Jvm.MethodName)) ∈ lw_all := lw_g (lw_at lw_m10 122 rfl) rfl
theorem q2323 : (Jvm.Cond.code ({ cls := "StemspanModel", name := "likeWords", desc := "(II)I" } : Jvm.MethodName) prog_3_method_7_code (4 : Nat) (Option.some Jvm.ClassFile.FieldType.int)) ∈ lw_all := lw_g (lw_at lw_m10 123 rfl) rfl
theorem q2324 : (Jvm.Cond.methodLink "StemspanModel" (97 : Nat) ({ cls := "StemspanModel", name := "becomes", desc := "(I)V" } : Jvm.MethodName)) ∈ lw_all := lw_g (lw_at lw_m10 124 rfl) rfl
theorem q2325 : (Jvm.Cond.privateMethod ({ cls := "StemspanModel", name := "becomes", desc := "(I)V" } : Jvm.MethodName)) ∈ lw_tbl := lw_at lw_m10 125 rfl
theorem q2326 : (Jvm.Cond.instanceMethod ({ cls := "StemspanModel", name := "becomes", desc := "(I)V" } : Jvm.MethodName)) ∈ lw_all := lw_g (lw_at lw_m10 126 rfl) rfl
theorem q2327 : (Jvm.Cond.code ({ cls := "StemspanModel", name := "becomes", desc := "(I)V" } : Jvm.MethodName) prog_3_method_14_code (3 : Nat) (Option.none : Option Jvm.ClassFile.FieldType)) ∈ lw_all := lw_g (lw_at lw_m10 127 rfl) rfl
theorem q2329 : (Jvm.Cond.instanceMethod ({ cls := "StemspanModel", name := "near", desc := "(C)I" } : Jvm.MethodName)) ∈ lw_all := lw_g (lw_at lw_m10 129 rfl) rfl
theorem q2330 : (Jvm.Cond.selects "StemspanModel" ({ cls := "StemspanModel", name := "near", desc := "(C)I" } : Jvm.MethodName) ({ cls := "StemspanModel", name := "near", desc := "(C)I" } : Jvm.MethodName)) ∈ lw_all := lw_g (lw_at lw_m10 130 rfl) rfl
theorem q2331 : (Jvm.Cond.code ({ cls := "StemspanModel", name := "near", desc := "(C)I" } : Jvm.MethodName) prog_3_method_30_code (7 : Nat) (Option.some Jvm.ClassFile.FieldType.int)) ∈ lw_all := lw_g (lw_at lw_m10 131 rfl) rfl
theorem q2333 : (Jvm.Cond.instanceMethod ({ cls := "StemspanModel", name := "begun", desc := "()I" } : Jvm.MethodName)) ∈ lw_all := lw_g (lw_at lw_m10 133 rfl) rfl
theorem q2334 : (Jvm.Cond.selects "StemspanModel" ({ cls := "StemspanModel", name := "begun", desc := "()I" } : Jvm.MethodName) ({ cls := "StemspanModel", name := "begun", desc := "()I" } : Jvm.MethodName)) ∈ lw_all := lw_g (lw_at lw_m10 134 rfl) rfl
theorem q2335 : (Jvm.Cond.code ({ cls := "StemspanModel", name := "begun", desc := "()I" } : Jvm.MethodName) prog_3_method_31_code (3 : Nat) (Option.some Jvm.ClassFile.FieldType.int)) ∈ lw_all := lw_g (lw_at lw_m10 135 rfl) rfl
theorem q2336 : (Jvm.Cond.methodLink "StemspanModel" (100 : Nat) ({ cls := "StemspanModel", name := "isBegun", desc := "(I)Z" } : Jvm.MethodName)) ∈ lw_all := lw_g (lw_at lw_m10 136 rfl) rfl
theorem q2337 : (Jvm.Cond.privateMethod ({ cls := "StemspanModel", name := "isBegun", desc := "(I)Z" } : Jvm.MethodName)) ∈ lw_tbl := lw_at lw_m10 137 rfl
theorem q2338 : (Jvm.Cond.instanceMethod ({ cls := "StemspanModel", name := "isBegun", desc := "(I)Z" } : Jvm.MethodName)) ∈ lw_all := lw_g (lw_at lw_m10 138 rfl) rfl
theorem q2339 : (Jvm.Cond.code ({ cls := "StemspanModel", name := "isBegun", desc := "(I)Z" } : Jvm.MethodName) prog_3_method_10_code (2 : Nat) (Option.some Jvm.ClassFile.FieldType.boolean)) ∈ lw_all := lw_g (lw_at lw_m10 139 rfl) rfl
theorem q2341 : (Jvm.Cond.instanceMethod ({ cls := "StemspanModel", name := "begunAt", desc := "(I)I" } : Jvm.MethodName)) ∈ lw_all := lw_g (lw_at lw_m10 141 rfl) rfl
theorem q2342 : (Jvm.Cond.selects "StemspanModel" ({ cls := "StemspanModel", name := "begunAt", desc := "(I)I" } : Jvm.MethodName) ({ cls := "StemspanModel", name := "begunAt", desc := "(I)I" } : Jvm.MethodName)) ∈ lw_all := lw_g (lw_at lw_m10 142 rfl) rfl
theorem q2343 : (Jvm.Cond.code ({ cls := "StemspanModel", name := "begunAt", desc := "(I)I" } : Jvm.MethodName) prog_3_method_32_code (6 : Nat) (Option.some Jvm.ClassFile.FieldType.int)) ∈ lw_all := lw_g (lw_at lw_m10 143 rfl) rfl
theorem q2345 : (Jvm.Cond.instanceMethod ({ cls := "StemspanModel", name := "sum", desc := "()I" } : Jvm.MethodName)) ∈ lw_all := lw_g (lw_at lw_m10 145 rfl) rfl
theorem q2346 : (Jvm.Cond.selects "StemspanModel" ({ cls := "StemspanModel", name := "sum", desc := "()I" } : Jvm.MethodName) ({ cls := "StemspanModel", name := "sum", desc := "()I" } : Jvm.MethodName)) ∈ lw_all := lw_g (lw_at lw_m10 146 rfl) rfl
theorem q2347 : (Jvm.Cond.code ({ cls := "StemspanModel", name := "sum", desc := "()I" } : Jvm.MethodName) prog_3_method_33_code (3 : Nat) (Option.some Jvm.ClassFile.FieldType.int)) ∈ lw_all := lw_g (lw_at lw_m10 147 rfl) rfl
theorem q2349 : (Jvm.Cond.instanceMethod ({ cls := "StemspanModel", name := "gone", desc := "()I" } : Jvm.MethodName)) ∈ lw_all := lw_g (lw_at lw_m10 149 rfl) rfl
theorem q2350 : (Jvm.Cond.selects "StemspanModel" ({ cls := "StemspanModel", name := "gone", desc := "()I" } : Jvm.MethodName) ({ cls := "StemspanModel", name := "gone", desc := "()I" } : Jvm.MethodName)) ∈ lw_all := lw_g (lw_at lw_m10 150 rfl) rfl
theorem q2351 : (Jvm.Cond.code ({ cls := "StemspanModel", name := "gone", desc := "()I" } : Jvm.MethodName) prog_3_method_34_code (3 : Nat) (Option.some Jvm.ClassFile.FieldType.int)) ∈ lw_all := lw_g (lw_at lw_m10 151 rfl) rfl
theorem q2353 : (Jvm.Cond.instanceMethod ({ cls := "StemspanModel", name := "longest", desc := "(I)I" } : Jvm.MethodName)) ∈ lw_all := lw_g (lw_at lw_m10 153 rfl) rfl
theorem q2354 : (Jvm.Cond.selects "StemspanModel" ({ cls := "StemspanModel", name := "longest", desc := "(I)I" } : Jvm.MethodName) ({ cls := "StemspanModel", name := "longest", desc := "(I)I" } : Jvm.MethodName)) ∈ lw_all := lw_g (lw_at lw_m10 154 rfl) rfl
theorem q2355 : (Jvm.Cond.code ({ cls := "StemspanModel", name := "longest", desc := "(I)I" } : Jvm.MethodName) prog_3_method_36_code (2 : Nat) (Option.some Jvm.ClassFile.FieldType.int)) ∈ lw_all := lw_g (lw_at lw_m10 155 rfl) rfl
theorem q2356 : (Jvm.Cond.methodLink "StemspanModel" (103 : Nat) ({ cls := "StemspanModel", name := "longestAt", desc := "(I)I" } : Jvm.MethodName)) ∈ lw_all := lw_g (lw_at lw_m10 156 rfl) rfl
theorem q2357 : (Jvm.Cond.privateMethod ({ cls := "StemspanModel", name := "longestAt", desc := "(I)I" } : Jvm.MethodName)) ∈ lw_tbl := lw_at lw_m10 157 rfl
theorem q2358 : (Jvm.Cond.instanceMethod ({ cls := "StemspanModel", name := "longestAt", desc := "(I)I" } : Jvm.MethodName)) ∈ lw_all := lw_g (lw_at lw_m10 158 rfl) rfl
theorem q2359 : (Jvm.Cond.code ({ cls := "StemspanModel", name := "longestAt", desc := "(I)I" } : Jvm.MethodName) prog_3_method_35_code (4 : Nat) (Option.some Jvm.ClassFile.FieldType.int)) ∈ lw_all := lw_g (lw_at lw_m10 159 rfl) rfl
theorem q2361 : (Jvm.Cond.instanceMethod ({ cls := "StemspanModel", name := "shared", desc := "()I" } : Jvm.MethodName)) ∈ lw_all := lw_g (lw_at lw_m10 161 rfl) rfl
theorem q2362 : (Jvm.Cond.selects "StemspanModel" ({ cls := "StemspanModel", name := "shared", desc := "()I" } : Jvm.MethodName) ({ cls := "StemspanModel", name := "shared", desc := "()I" } : Jvm.MethodName)) ∈ lw_all := lw_g (lw_at lw_m10 162 rfl) rfl
theorem q2363 : (Jvm.Cond.code ({ cls := "StemspanModel", name := "shared", desc := "()I" } : Jvm.MethodName) prog_3_method_37_code (3 : Nat) (Option.some Jvm.ClassFile.FieldType.int)) ∈ lw_all := lw_g (lw_at lw_m10 163 rfl) rfl
theorem q2365 : (Jvm.Cond.instanceMethod ({ cls := "StemspanModel", name := "twin", desc := "()I" } : Jvm.MethodName)) ∈ lw_all := lw_g (lw_at lw_m10 165 rfl) rfl
theorem q2366 : (Jvm.Cond.selects "StemspanModel" ({ cls := "StemspanModel", name := "twin", desc := "()I" } : Jvm.MethodName) ({ cls := "StemspanModel", name := "twin", desc := "()I" } : Jvm.MethodName)) ∈ lw_all := lw_g (lw_at lw_m10 166 rfl) rfl
theorem q2367 : (Jvm.Cond.code ({ cls := "StemspanModel", name := "twin", desc := "()I" } : Jvm.MethodName) prog_3_method_38_code (4 : Nat) (Option.some Jvm.ClassFile.FieldType.int)) ∈ lw_all := lw_g (lw_at lw_m10 167 rfl) rfl
theorem q2369 : (Jvm.Cond.instanceMethod ({ cls := "StemspanModel", name := "pieces", desc := "()I" } : Jvm.MethodName)) ∈ lw_all := lw_g (lw_at lw_m10 169 rfl) rfl
theorem q2370 : (Jvm.Cond.selects "StemspanModel" ({ cls := "StemspanModel", name := "pieces", desc := "()I" } : Jvm.MethodName) ({ cls := "StemspanModel", name := "pieces", desc := "()I" } : Jvm.MethodName)) ∈ lw_all := lw_g (lw_at lw_m10 170 rfl) rfl
theorem q2371 : (Jvm.Cond.code ({ cls := "StemspanModel", name := "pieces", desc := "()I" } : Jvm.MethodName) prog_3_method_39_code (3 : Nat) (Option.some Jvm.ClassFile.FieldType.int)) ∈ lw_all := lw_g (lw_at lw_m10 171 rfl) rfl
theorem q2373 : (Jvm.Cond.instanceMethod ({ cls := "StemspanModel", name := "piece", desc := "(I)I" } : Jvm.MethodName)) ∈ lw_all := lw_g (lw_at lw_m10 173 rfl) rfl
theorem q2374 : (Jvm.Cond.selects "StemspanModel" ({ cls := "StemspanModel", name := "piece", desc := "(I)I" } : Jvm.MethodName) ({ cls := "StemspanModel", name := "piece", desc := "(I)I" } : Jvm.MethodName)) ∈ lw_all := lw_g (lw_at lw_m10 174 rfl) rfl
theorem q2375 : (Jvm.Cond.code ({ cls := "StemspanModel", name := "piece", desc := "(I)I" } : Jvm.MethodName) prog_3_method_40_code (4 : Nat) (Option.some Jvm.ClassFile.FieldType.int)) ∈ lw_all := lw_g (lw_at lw_m10 175 rfl) rfl
theorem q2377 : (Jvm.Cond.instanceMethod ({ cls := "StemspanModel", name := "cuts", desc := "()J" } : Jvm.MethodName)) ∈ lw_all := lw_g (lw_at lw_m10 177 rfl) rfl
theorem q2378 : (Jvm.Cond.selects "StemspanModel" ({ cls := "StemspanModel", name := "cuts", desc := "()J" } : Jvm.MethodName) ({ cls := "StemspanModel", name := "cuts", desc := "()J" } : Jvm.MethodName)) ∈ lw_all := lw_g (lw_at lw_m10 178 rfl) rfl
theorem q2379 : (Jvm.Cond.code ({ cls := "StemspanModel", name := "cuts", desc := "()J" } : Jvm.MethodName) prog_3_method_42_code (1 : Nat) (Option.some Jvm.ClassFile.FieldType.long)) ∈ lw_all := lw_g (lw_at lw_m10 179 rfl) rfl
theorem q2380 : (Jvm.Cond.methodLink "StemspanModel" (106 : Nat) ({ cls := "StemspanModel", name := "cutsAll", desc := "()V" } : Jvm.MethodName)) ∈ lw_all := lw_g (lw_at lw_m10 180 rfl) rfl
theorem q2381 : (Jvm.Cond.privateMethod ({ cls := "StemspanModel", name := "cutsAll", desc := "()V" } : Jvm.MethodName)) ∈ lw_tbl := lw_at lw_m10 181 rfl
theorem q2382 : (Jvm.Cond.instanceMethod ({ cls := "StemspanModel", name := "cutsAll", desc := "()V" } : Jvm.MethodName)) ∈ lw_all := lw_g (lw_at lw_m10 182 rfl) rfl
theorem q2383 : (Jvm.Cond.code ({ cls := "StemspanModel", name := "cutsAll", desc := "()V" } : Jvm.MethodName) prog_3_method_41_code (5 : Nat) (Option.none : Option Jvm.ClassFile.FieldType)) ∈ lw_all := lw_g (lw_at lw_m10 183 rfl) rfl
theorem q2385 : (Jvm.Cond.instanceMethod ({ cls := "StemspanModel", name := "fewest", desc := "()I" } : Jvm.MethodName)) ∈ lw_all := lw_g (lw_at lw_m10 185 rfl) rfl
theorem q2386 : (Jvm.Cond.selects "StemspanModel" ({ cls := "StemspanModel", name := "fewest", desc := "()I" } : Jvm.MethodName) ({ cls := "StemspanModel", name := "fewest", desc := "()I" } : Jvm.MethodName)) ∈ lw_all := lw_g (lw_at lw_m10 186 rfl) rfl
theorem q2387 : (Jvm.Cond.code ({ cls := "StemspanModel", name := "fewest", desc := "()I" } : Jvm.MethodName) prog_3_method_43_code (1 : Nat) (Option.some Jvm.ClassFile.FieldType.int)) ∈ lw_all := lw_g (lw_at lw_m10 187 rfl) rfl
theorem q2389 : (Jvm.Cond.instanceMethod ({ cls := "StemspanModel", name := "code", desc := "(C)I" } : Jvm.MethodName)) ∈ lw_all := lw_g (lw_at lw_m10 189 rfl) rfl
theorem q2390 : (Jvm.Cond.selects "StemspanModel" ({ cls := "StemspanModel", name := "code", desc := "(C)I" } : Jvm.MethodName) ({ cls := "StemspanModel", name := "code", desc := "(C)I" } : Jvm.MethodName)) ∈ lw_all := lw_g (lw_at lw_m10 190 rfl) rfl
theorem q2391 : (Jvm.Cond.code ({ cls := "StemspanModel", name := "code", desc := "(C)I" } : Jvm.MethodName) prog_3_method_44_code (5 : Nat) (Option.some Jvm.ClassFile.FieldType.int)) ∈ lw_all := lw_g (lw_at lw_m10 191 rfl) rfl
theorem q2393 : (Jvm.Cond.instanceMethod ({ cls := "StemspanModel", name := "write", desc := "()I" } : Jvm.MethodName)) ∈ lw_all := lw_g (lw_at lw_m10 193 rfl) rfl
theorem q2394 : (Jvm.Cond.selects "StemspanModel" ({ cls := "StemspanModel", name := "write", desc := "()I" } : Jvm.MethodName) ({ cls := "StemspanModel", name := "write", desc := "()I" } : Jvm.MethodName)) ∈ lw_all := lw_g (lw_at lw_m10 194 rfl) rfl
theorem q2395 : (Jvm.Cond.code ({ cls := "StemspanModel", name := "write", desc := "()I" } : Jvm.MethodName) prog_3_method_48_code (3 : Nat) (Option.some Jvm.ClassFile.FieldType.int)) ∈ lw_all := lw_g (lw_at lw_m10 195 rfl) rfl
theorem q2396 : (Jvm.Cond.methodLink "StemspanModel" (112 : Nat) ({ cls := "StemspanModel", name := "puts", desc := "(IC)I" } : Jvm.MethodName)) ∈ lw_all := lw_g (lw_at lw_m10 196 rfl) rfl
theorem q2397 : (Jvm.Cond.privateMethod ({ cls := "StemspanModel", name := "puts", desc := "(IC)I" } : Jvm.MethodName)) ∈ lw_tbl := lw_at lw_m10 197 rfl
theorem q2398 : (Jvm.Cond.instanceMethod ({ cls := "StemspanModel", name := "puts", desc := "(IC)I" } : Jvm.MethodName)) ∈ lw_all := lw_g (lw_at lw_m10 198 rfl) rfl
theorem q2399 : (Jvm.Cond.code ({ cls := "StemspanModel", name := "puts", desc := "(IC)I" } : Jvm.MethodName) prog_3_method_47_code (5 : Nat) (Option.some Jvm.ClassFile.FieldType.int)) ∈ lw_all := lw_g (lw_at lw_m10 199 rfl) rfl
theorem q2401 : (Jvm.Cond.instanceMethod ({ cls := "StemspanModel", name := "read", desc := "()I" } : Jvm.MethodName)) ∈ lw_all := lw_g (lw_at lw_m10 201 rfl) rfl
theorem q2402 : (Jvm.Cond.selects "StemspanModel" ({ cls := "StemspanModel", name := "read", desc := "()I" } : Jvm.MethodName) ({ cls := "StemspanModel", name := "read", desc := "()I" } : Jvm.MethodName)) ∈ lw_all := lw_g (lw_at lw_m10 202 rfl) rfl
theorem q2403 : (Jvm.Cond.code ({ cls := "StemspanModel", name := "read", desc := "()I" } : Jvm.MethodName) prog_3_method_50_code (4 : Nat) (Option.some Jvm.ClassFile.FieldType.int)) ∈ lw_all := lw_g (lw_at lw_m10 203 rfl) rfl
theorem q2404 : (Jvm.Cond.methodLink "StemspanModel" (116 : Nat) ({ cls := "StemspanModel", name := "codeAt", desc := "(I)I" } : Jvm.MethodName)) ∈ lw_all := lw_g (lw_at lw_m10 204 rfl) rfl
theorem q2405 : (Jvm.Cond.privateMethod ({ cls := "StemspanModel", name := "codeAt", desc := "(I)I" } : Jvm.MethodName)) ∈ lw_tbl := lw_at lw_m10 205 rfl
theorem q2406 : (Jvm.Cond.instanceMethod ({ cls := "StemspanModel", name := "codeAt", desc := "(I)I" } : Jvm.MethodName)) ∈ lw_all := lw_g (lw_at lw_m10 206 rfl) rfl
theorem q2407 : (Jvm.Cond.code ({ cls := "StemspanModel", name := "codeAt", desc := "(I)I" } : Jvm.MethodName) prog_3_method_49_code (4 : Nat) (Option.some Jvm.ClassFile.FieldType.int)) ∈ lw_all := lw_g (lw_at lw_m10 207 rfl) rfl
theorem q2408 : (Jvm.Cond.methodLink "StemspanModel" (119 : Nat) ({ cls := "StemspanModel", name := "areOrderly", desc := "()Z" } : Jvm.MethodName)) ∈ lw_all := lw_g (lw_at lw_m10 208 rfl) rfl
theorem q2409 : (Jvm.Cond.privateMethod ({ cls := "StemspanModel", name := "areOrderly", desc := "()Z" } : Jvm.MethodName)) ∈ lw_tbl := lw_at lw_m10 209 rfl
theorem q2410 : (Jvm.Cond.instanceMethod ({ cls := "StemspanModel", name := "areOrderly", desc := "()Z" } : Jvm.MethodName)) ∈ lw_all := lw_g (lw_at lw_m10 210 rfl) rfl
theorem q2411 : (Jvm.Cond.code ({ cls := "StemspanModel", name := "areOrderly", desc := "()Z" } : Jvm.MethodName) prog_3_method_46_code (3 : Nat) (Option.some Jvm.ClassFile.FieldType.boolean)) ∈ lw_all := lw_g (lw_at lw_m10 211 rfl) rfl
theorem q2412 : (Jvm.Cond.methodLink "StemspanModel" (109 : Nat) ({ cls := "StemspanModel", name := "isAhead", desc := "(II)Z" } : Jvm.MethodName)) ∈ lw_all := lw_g (lw_at lw_m10 212 rfl) rfl
theorem q2413 : (Jvm.Cond.privateMethod ({ cls := "StemspanModel", name := "isAhead", desc := "(II)Z" } : Jvm.MethodName)) ∈ lw_tbl := lw_at lw_m10 213 rfl
theorem q2414 : (Jvm.Cond.instanceMethod ({ cls := "StemspanModel", name := "isAhead", desc := "(II)Z" } : Jvm.MethodName)) ∈ lw_all := lw_g (lw_at lw_m10 214 rfl) rfl
theorem q2415 : (Jvm.Cond.code ({ cls := "StemspanModel", name := "isAhead", desc := "(II)Z" } : Jvm.MethodName) prog_3_method_45_code (4 : Nat) (Option.some Jvm.ClassFile.FieldType.boolean)) ∈ lw_all := lw_g (lw_at lw_m10 215 rfl) rfl
theorem q2417 : (Jvm.Cond.instanceMethod ({ cls := "StemspanModel", name := "writeAll", desc := "()I" } : Jvm.MethodName)) ∈ lw_all := lw_g (lw_at lw_m10 217 rfl) rfl
theorem q2418 : (Jvm.Cond.selects "StemspanModel" ({ cls := "StemspanModel", name := "writeAll", desc := "()I" } : Jvm.MethodName) ({ cls := "StemspanModel", name := "writeAll", desc := "()I" } : Jvm.MethodName)) ∈ lw_all := lw_g (lw_at lw_m10 218 rfl) rfl
theorem q2419 : (Jvm.Cond.code ({ cls := "StemspanModel", name := "writeAll", desc := "()I" } : Jvm.MethodName) prog_3_method_52_code (6 : Nat) (Option.some Jvm.ClassFile.FieldType.int)) ∈ lw_all := lw_g (lw_at lw_m10 219 rfl) rfl
theorem q2420 : (Jvm.Cond.methodLink "StemspanModel" (123 : Nat) ({ cls := "StemspanModel", name := "written", desc := "(I)I" } : Jvm.MethodName)) ∈ lw_all := lw_g (lw_at lw_m10 220 rfl) rfl
theorem q2421 : (Jvm.Cond.privateMethod ({ cls := "StemspanModel", name := "written", desc := "(I)I" } : Jvm.MethodName)) ∈ lw_tbl := lw_at lw_m10 221 rfl
theorem q2422 : (Jvm.Cond.instanceMethod ({ cls := "StemspanModel", name := "written", desc := "(I)I" } : Jvm.MethodName)) ∈ lw_all := lw_g (lw_at lw_m10 222 rfl) rfl
theorem q2423 : (Jvm.Cond.code ({ cls := "StemspanModel", name := "written", desc := "(I)I" } : Jvm.MethodName) prog_3_method_51_code (4 : Nat) (Option.some Jvm.ClassFile.FieldType.int)) ∈ lw_all := lw_g (lw_at lw_m10 223 rfl) rfl
theorem q2425 : (Jvm.Cond.instanceMethod ({ cls := "StemspanModel", name := "isTrue", desc := "()Z" } : Jvm.MethodName)) ∈ lw_all := lw_g (lw_at lw_m10 225 rfl) rfl
theorem q2426 : (Jvm.Cond.selects "StemspanModel" ({ cls := "StemspanModel", name := "isTrue", desc := "()Z" } : Jvm.MethodName) ({ cls := "StemspanModel", name := "isTrue", desc := "()Z" } : Jvm.MethodName)) ∈ lw_all := lw_g (lw_at lw_m10 226 rfl) rfl
theorem q2427 : (Jvm.Cond.code ({ cls := "StemspanModel", name := "isTrue", desc := "()Z" } : Jvm.MethodName) prog_3_method_55_code (2 : Nat) (Option.some Jvm.ClassFile.FieldType.boolean)) ∈ lw_all := lw_g (lw_at lw_m10 227 rfl) rfl
theorem q2428 : (Jvm.Cond.methodLink "StemspanModel" (126 : Nat) ({ cls := "StemspanModel", name := "isSideBySide", desc := "(I)Z" } : Jvm.MethodName)) ∈ lw_all := lw_g (lw_at lw_m10 228 rfl) rfl
theorem q2429 : (Jvm.Cond.privateMethod ({ cls := "StemspanModel", name := "isSideBySide", desc := "(I)Z" } : Jvm.MethodName)) ∈ lw_tbl := lw_at lw_m10 229 rfl
theorem q2430 : (Jvm.Cond.instanceMethod ({ cls := "StemspanModel", name := "isSideBySide", desc := "(I)Z" } : Jvm.MethodName)) ∈ lw_all := lw_g (lw_at lw_m10 230 rfl) rfl
theorem q2431 : (Jvm.Cond.code ({ cls := "StemspanModel", name := "isSideBySide", desc := "(I)Z" } : Jvm.MethodName) prog_3_method_53_code (8 : Nat) (Option.some Jvm.ClassFile.FieldType.boolean)) ∈ lw_all := lw_g (lw_at lw_m10 231 rfl) rfl
theorem q2432 : (Jvm.Cond.methodLink "StemspanModel" (129 : Nat) ({ cls := "StemspanModel", name := "areTwins", desc := "()Z" } : Jvm.MethodName)) ∈ lw_all := lw_g (lw_at lw_m10 232 rfl) rfl
theorem q2433 : (Jvm.Cond.privateMethod ({ cls := "StemspanModel", name := "areTwins", desc := "()Z" } : Jvm.MethodName)) ∈ lw_tbl := lw_at lw_m10 233 rfl
theorem q2434 : (Jvm.Cond.instanceMethod ({ cls := "StemspanModel", name := "areTwins", desc := "()Z" } : Jvm.MethodName)) ∈ lw_all := lw_g (lw_at lw_m10 234 rfl) rfl
theorem q2435 : (Jvm.Cond.code ({ cls := "StemspanModel", name := "areTwins", desc := "()Z" } : Jvm.MethodName) prog_3_method_54_code (5 : Nat) (Option.some Jvm.ClassFile.FieldType.boolean)) ∈ lw_all := lw_g (lw_at lw_m10 235 rfl) rfl
theorem q2437 : (Jvm.Cond.instanceMethod ({ cls := "StemspanModel", name := "checksum", desc := "()J" } : Jvm.MethodName)) ∈ lw_all := lw_g (lw_at lw_m10 237 rfl) rfl
theorem q2438 : (Jvm.Cond.selects "StemspanModel" ({ cls := "StemspanModel", name := "checksum", desc := "()J" } : Jvm.MethodName) ({ cls := "StemspanModel", name := "checksum", desc := "()J" } : Jvm.MethodName)) ∈ lw_all := lw_g (lw_at lw_m10 238 rfl) rfl
theorem q2439 : (Jvm.Cond.code ({ cls := "StemspanModel", name := "checksum", desc := "()J" } : Jvm.MethodName) prog_3_method_56_code (6 : Nat) (Option.some Jvm.ClassFile.FieldType.long)) ∈ lw_all := lw_g (lw_at lw_m10 239 rfl) rfl
theorem q2440 : (Jvm.Cond.constantLong "StemspanModel" (132 : Nat) (7 : Int64)) ∈ lw_all := lw_g (lw_at lw_m11 0 rfl) rfl
theorem q2441 : (Jvm.Cond.constantLong "StemspanModel" (134 : Nat) (31 : Int64)) ∈ lw_all := lw_g (lw_at lw_m11 1 rfl) rfl
theorem q2486 : (Jvm.Cond.castable "StemspanModel" "java/lang/Object") ∈ lw_tbl := lw_at lw_m11 46 rfl
theorem in_X2 : ∀ w ∈ wsX20, w ∈ lw_all := lw_in wsX20 [2195, 2197, 2199, 2201, 2203, 2205, 2207, 2209, 2211, 2213, 2215, 2217, 2219, 2221] (by decide +kernel) (by decide +kernel)
