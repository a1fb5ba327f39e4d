/-! java/util/AbstractMap -/
set_option maxRecDepth 100000
def RJ4 : String := "java/util/AbstractMap"
abbrev cJ4_init : ByteArray := prog_35_method_1_code
def yJ4_init : MethodName := ⟨RJ4, "<init>", "()V"⟩
theorem dJ4_init_0 : decode cJ4_init 0 = .ok (.aload_n 0, 1) := by decide +kernel
theorem dJ4_init_1 : decode cJ4_init 1 = .ok (.invokespecial 1, 3) := by decide +kernel
theorem dJ4_init_4 : decode cJ4_init 4 = .ok (.return_, 1) := by decide +kernel
abbrev cJ4_values : ByteArray := prog_35_method_12_code
def yJ4_values : MethodName := ⟨RJ4, "values", "()Ljava/util/Collection;"⟩
def dkwJ4_values_1 : List UInt8 := [176]
abbrev dktJ4_values_1 : List UInt8 := dkwJ4_values_1 ++ []
def dkwJ4_values_0 : List UInt8 := [42, 180, 0, 71, 76, 43, 199, 0, 17, 187, 0, 75, 89, 42, 183, 0, 77, 76, 42, 43, 181, 0, 71, 43]
abbrev dktJ4_values_0 : List UInt8 := dkwJ4_values_0 ++ dktJ4_values_1
theorem dksJ4_values_0 : cJ4_values.data.toList.drop 0 = dktJ4_values_0 := by decide +kernel
theorem dksJ4_values_1 : cJ4_values.data.toList.drop 24 = dktJ4_values_1 := dk_seg dksJ4_values_0 24 rfl rfl
theorem dJ4_values_0 : decode cJ4_values 0 = .ok (.aload_n 0, 1) := dk_42 (dk_at dksJ4_values_0 0 rfl rfl)
theorem dJ4_values_1 : decode cJ4_values 1 = .ok (.getfield 71, 3) := dk_180 0 71 (dk_at dksJ4_values_0 1 rfl rfl)
theorem dJ4_values_4 : decode cJ4_values 4 = .ok (.astore_n 1, 1) := dk_76 (dk_at dksJ4_values_0 4 rfl rfl)
theorem dJ4_values_5 : decode cJ4_values 5 = .ok (.aload_n 1, 1) := dk_43 (dk_at dksJ4_values_0 5 rfl rfl)
theorem dJ4_values_6 : decode cJ4_values 6 = .ok (.ifnonnull 17, 3) := dk_199 0 17 (dk_at dksJ4_values_0 6 rfl rfl)
theorem dJ4_values_9 : decode cJ4_values 9 = .ok (.new 75, 3) := dk_187 0 75 (dk_at dksJ4_values_0 9 rfl rfl)
theorem dJ4_values_12 : decode cJ4_values 12 = .ok (.dup, 1) := dk_89 (dk_at dksJ4_values_0 12 rfl rfl)
theorem dJ4_values_13 : decode cJ4_values 13 = .ok (.aload_n 0, 1) := dk_42 (dk_at dksJ4_values_0 13 rfl rfl)
theorem dJ4_values_14 : decode cJ4_values 14 = .ok (.invokespecial 77, 3) := dk_183 0 77 (dk_at dksJ4_values_0 14 rfl rfl)
theorem dJ4_values_17 : decode cJ4_values 17 = .ok (.astore_n 1, 1) := dk_76 (dk_at dksJ4_values_0 17 rfl rfl)
theorem dJ4_values_18 : decode cJ4_values 18 = .ok (.aload_n 0, 1) := dk_42 (dk_at dksJ4_values_0 18 rfl rfl)
theorem dJ4_values_19 : decode cJ4_values 19 = .ok (.aload_n 1, 1) := dk_43 (dk_at dksJ4_values_0 19 rfl rfl)
theorem dJ4_values_20 : decode cJ4_values 20 = .ok (.putfield 71, 3) := dk_181 0 71 (dk_at dksJ4_values_0 20 rfl rfl)
theorem dJ4_values_23 : decode cJ4_values 23 = .ok (.aload_n 1, 1) := dk_43 (dk_at dksJ4_values_0 23 rfl rfl)
theorem dJ4_values_24 : decode cJ4_values 24 = .ok (.areturn, 1) := dk_176 (dk_at dksJ4_values_1 0 rfl rfl)
abbrev cJ4_clear : ByteArray := prog_35_method_10_code
def yJ4_clear : MethodName := ⟨RJ4, "clear", "()V"⟩
def dkwJ4_clear_0 : List UInt8 := [42, 182, 0, 7, 185, 0, 59, 1, 0, 177]
abbrev dktJ4_clear_0 : List UInt8 := dkwJ4_clear_0 ++ []
theorem dksJ4_clear_0 : cJ4_clear.data.toList.drop 0 = dktJ4_clear_0 := by decide +kernel
theorem dJ4_clear_0 : decode cJ4_clear 0 = .ok (.aload_n 0, 1) := dk_42 (dk_at dksJ4_clear_0 0 rfl rfl)
theorem dJ4_clear_1 : decode cJ4_clear 1 = .ok (.invokevirtual 7, 3) := dk_182 0 7 (dk_at dksJ4_clear_0 1 rfl rfl)
theorem dJ4_clear_4 : decode cJ4_clear 4 = .ok (.invokeinterface 59 1, 5) := by decide +kernel
theorem dJ4_clear_9 : decode cJ4_clear 9 = .ok (.return_, 1) := dk_177 (dk_at dksJ4_clear_0 9 rfl rfl)
abbrev cJ4_putAll : ByteArray := prog_35_method_9_code
def yJ4_putAll : MethodName := ⟨RJ4, "putAll", "(Ljava/util/Map;)V"⟩
def dkwJ4_putAll_2 : List UInt8 := [182, 0, 55, 87, 167, 255, 220, 177]
abbrev dktJ4_putAll_2 : List UInt8 := dkwJ4_putAll_2 ++ []
def dkwJ4_putAll_1 : List UInt8 := [185, 0, 30, 1, 0, 192, 0, 34, 78, 42, 45, 185, 0, 43, 1, 0, 45, 185, 0, 36, 1, 0]
abbrev dktJ4_putAll_1 : List UInt8 := dkwJ4_putAll_1 ++ dktJ4_putAll_2
def dkwJ4_putAll_0 : List UInt8 := [43, 185, 0, 52, 1, 0, 185, 0, 20, 1, 0, 77, 44, 185, 0, 24, 1, 0, 153, 0, 33, 44]
abbrev dktJ4_putAll_0 : List UInt8 := dkwJ4_putAll_0 ++ dktJ4_putAll_1
theorem dksJ4_putAll_0 : cJ4_putAll.data.toList.drop 0 = dktJ4_putAll_0 := by decide +kernel
theorem dksJ4_putAll_1 : cJ4_putAll.data.toList.drop 22 = dktJ4_putAll_1 := dk_seg dksJ4_putAll_0 22 rfl rfl
theorem dksJ4_putAll_2 : cJ4_putAll.data.toList.drop 44 = dktJ4_putAll_2 := dk_seg dksJ4_putAll_1 22 rfl rfl
theorem dJ4_putAll_0 : decode cJ4_putAll 0 = .ok (.aload_n 1, 1) := dk_43 (dk_at dksJ4_putAll_0 0 rfl rfl)
theorem dJ4_putAll_1 : decode cJ4_putAll 1 = .ok (.invokeinterface 52 1, 5) := by decide +kernel
theorem dJ4_putAll_6 : decode cJ4_putAll 6 = .ok (.invokeinterface 20 1, 5) := by decide +kernel
theorem dJ4_putAll_11 : decode cJ4_putAll 11 = .ok (.astore_n 2, 1) := dk_77 (dk_at dksJ4_putAll_0 11 rfl rfl)
theorem dJ4_putAll_12 : decode cJ4_putAll 12 = .ok (.aload_n 2, 1) := dk_44 (dk_at dksJ4_putAll_0 12 rfl rfl)
theorem dJ4_putAll_13 : decode cJ4_putAll 13 = .ok (.invokeinterface 24 1, 5) := by decide +kernel
theorem dJ4_putAll_18 : decode cJ4_putAll 18 = .ok (.ifCond .eq 33, 3) := dk_153 0 33 (dk_at dksJ4_putAll_0 18 rfl rfl)
theorem dJ4_putAll_21 : decode cJ4_putAll 21 = .ok (.aload_n 2, 1) := dk_44 (dk_at dksJ4_putAll_0 21 rfl rfl)
theorem dJ4_putAll_22 : decode cJ4_putAll 22 = .ok (.invokeinterface 30 1, 5) := by decide +kernel
theorem dJ4_putAll_27 : decode cJ4_putAll 27 = .ok (.checkcast 34, 3) := dk_192 0 34 (dk_at dksJ4_putAll_1 5 rfl rfl)
theorem dJ4_putAll_30 : decode cJ4_putAll 30 = .ok (.astore_n 3, 1) := dk_78 (dk_at dksJ4_putAll_1 8 rfl rfl)
theorem dJ4_putAll_31 : decode cJ4_putAll 31 = .ok (.aload_n 0, 1) := dk_42 (dk_at dksJ4_putAll_1 9 rfl rfl)
theorem dJ4_putAll_32 : decode cJ4_putAll 32 = .ok (.aload_n 3, 1) := dk_45 (dk_at dksJ4_putAll_1 10 rfl rfl)
theorem dJ4_putAll_33 : decode cJ4_putAll 33 = .ok (.invokeinterface 43 1, 5) := by decide +kernel
theorem dJ4_putAll_38 : decode cJ4_putAll 38 = .ok (.aload_n 3, 1) := dk_45 (dk_at dksJ4_putAll_1 16 rfl rfl)
theorem dJ4_putAll_39 : decode cJ4_putAll 39 = .ok (.invokeinterface 36 1, 5) := by decide +kernel
theorem dJ4_putAll_44 : decode cJ4_putAll 44 = .ok (.invokevirtual 55, 3) := dk_182 0 55 (dk_at dksJ4_putAll_2 0 rfl rfl)
theorem dJ4_putAll_47 : decode cJ4_putAll 47 = .ok (.pop, 1) := dk_87 (dk_at dksJ4_putAll_2 3 rfl rfl)
theorem dJ4_putAll_48 : decode cJ4_putAll 48 = .ok (.goto (-36), 3) := dk_167 255 220 (dk_at dksJ4_putAll_2 4 rfl rfl)
theorem dJ4_putAll_51 : decode cJ4_putAll 51 = .ok (.return_, 1) := dk_177 (dk_at dksJ4_putAll_2 7 rfl rfl)
theorem q46 : (Jvm.Cond.initialized "java/util/AbstractMap") ∈ lw_all := lw_g (lw_at lw_m1 6 rfl) rfl
theorem q140 : (Jvm.Cond.instanceMethod ({ cls := "java/util/AbstractMap", name := "<init>", desc := "()V" } : Jvm.MethodName)) ∈ lw_all := lw_g (lw_at lw_m1 100 rfl) rfl
theorem q141 : (Jvm.Cond.code ({ cls := "java/util/AbstractMap", name := "<init>", desc := "()V" } : Jvm.MethodName) prog_35_method_1_code (1 : Nat) (Option.none : Option Jvm.ClassFile.FieldType)) ∈ lw_all := lw_g (lw_at lw_m1 101 rfl) rfl
theorem q142 : (Jvm.Cond.methodLink "java/util/AbstractMap" (1 : Nat) ({ cls := "java/lang/Object", name := "<init>", desc := "()V" } : Jvm.MethodName)) ∈ lw_all := lw_g (lw_at lw_m1 102 rfl) rfl
theorem q152 : (Jvm.Cond.fieldLink "java/util/AbstractMap" (71 : Nat) "java/util/AbstractMap" "values" "Ljava/util/Collection;") ∈ lw_all := lw_g (lw_at lw_m1 112 rfl) rfl
theorem q170 : (Jvm.Cond.soleField "java/util/AbstractMap" "keySet") ∈ lw_all := lw_g (lw_at lw_m1 130 rfl) rfl
theorem q172 : (Jvm.Cond.soleField "java/util/AbstractMap" "values") ∈ lw_all := lw_g (lw_at lw_m1 132 rfl) rfl
theorem q895 : (Jvm.Cond.declares ({ cls := "java/util/AbstractMap", name := "entrySet", desc := "()Ljava/util/Set;" } : Jvm.MethodName)) ∈ lw_tbl := lw_at lw_m4 135 rfl
theorem q1226 : (Jvm.Cond.instanceMethod ({ cls := "java/util/AbstractMap", name := "values", desc := "()Ljava/util/Collection;" } : Jvm.MethodName)) ∈ lw_all := lw_g (lw_at lw_m5 226 rfl) rfl
theorem q1227 : (Jvm.Cond.publicMethod ({ cls := "java/util/AbstractMap", name := "values", desc := "()Ljava/util/Collection;" } : Jvm.MethodName)) ∈ lw_tbl := lw_at lw_m5 227 rfl
theorem q1228 : (Jvm.Cond.code ({ cls := "java/util/AbstractMap", name := "values", desc := "()Ljava/util/Collection;" } : Jvm.MethodName) prog_35_method_12_code (2 : Nat) (Option.some (Jvm.ClassFile.FieldType.object "java/util/Collection"))) ∈ lw_all := lw_g (lw_at lw_m5 228 rfl) rfl
theorem q1229 : (Jvm.Cond.classLink "java/util/AbstractMap" (75 : Nat) "java/util/AbstractMap$2") ∈ lw_all := lw_g (lw_at lw_m5 229 rfl) rfl
theorem q1231 : (Jvm.Cond.methodLink "java/util/AbstractMap" (77 : Nat) ({ cls := "java/util/AbstractMap$2", name := "<init>", desc := "(Ljava/util/AbstractMap;)V" } : Jvm.MethodName)) ∈ lw_all := lw_g (lw_at lw_m5 231 rfl) rfl
theorem q1404 : (Jvm.Cond.instanceMethod ({ cls := "java/util/AbstractMap", name := "clear", desc := "()V" } : Jvm.MethodName)) ∈ lw_all := lw_g (lw_at lw_m6 164 rfl) rfl
theorem q1405 : (Jvm.Cond.publicMethod ({ cls := "java/util/AbstractMap", name := "clear", desc := "()V" } : Jvm.MethodName)) ∈ lw_tbl := lw_at lw_m6 165 rfl
theorem q1406 : (Jvm.Cond.code ({ cls := "java/util/AbstractMap", name := "clear", desc := "()V" } : Jvm.MethodName) prog_35_method_10_code (1 : Nat) (Option.none : Option Jvm.ClassFile.FieldType)) ∈ lw_all := lw_g (lw_at lw_m6 166 rfl) rfl
theorem q1407 : (Jvm.Cond.methodLink "java/util/AbstractMap" (7 : Nat) ({ cls := "java/util/AbstractMap", name := "entrySet", desc := "()Ljava/util/Set;" } : Jvm.MethodName)) ∈ lw_all := lw_g (lw_at lw_m6 167 rfl) rfl
theorem q1408 : (Jvm.Cond.interfaceEntry "java/util/AbstractMap" (59 : Nat)) ∈ lw_tbl := lw_at lw_m6 168 rfl
theorem q1409 : (Jvm.Cond.methodLink "java/util/AbstractMap" (59 : Nat) ({ cls := "java/util/Set", name := "clear", desc := "()V" } : Jvm.MethodName)) ∈ lw_all := lw_g (lw_at lw_m6 169 rfl) rfl
theorem q2136 : (Jvm.Cond.instanceMethod ({ cls := "java/util/AbstractMap", name := "putAll", desc := "(Ljava/util/Map;)V" } : Jvm.MethodName)) ∈ lw_all := lw_g (lw_at lw_m9 176 rfl) rfl
theorem q2137 : (Jvm.Cond.code ({ cls := "java/util/AbstractMap", name := "putAll", desc := "(Ljava/util/Map;)V" } : Jvm.MethodName) prog_35_method_9_code (4 : Nat) (Option.none : Option Jvm.ClassFile.FieldType)) ∈ lw_all := lw_g (lw_at lw_m9 177 rfl) rfl
theorem q2138 : (Jvm.Cond.interfaceEntry "java/util/AbstractMap" (52 : Nat)) ∈ lw_tbl := lw_at lw_m9 178 rfl
theorem q2139 : (Jvm.Cond.methodLink "java/util/AbstractMap" (52 : Nat) ({ cls := "java/util/Map", name := "entrySet", desc := "()Ljava/util/Set;" } : Jvm.MethodName)) ∈ lw_all := lw_g (lw_at lw_m9 179 rfl) rfl
theorem q2140 : (Jvm.Cond.interfaceEntry "java/util/AbstractMap" (20 : Nat)) ∈ lw_tbl := lw_at lw_m9 180 rfl
theorem q2141 : (Jvm.Cond.methodLink "java/util/AbstractMap" (20 : Nat) ({ cls := "java/util/Set", name := "iterator", desc := "()Ljava/util/Iterator;" } : Jvm.MethodName)) ∈ lw_all := lw_g (lw_at lw_m9 181 rfl) rfl
theorem q2142 : (Jvm.Cond.interfaceEntry "java/util/AbstractMap" (24 : Nat)) ∈ lw_tbl := lw_at lw_m9 182 rfl
theorem q2143 : (Jvm.Cond.methodLink "java/util/AbstractMap" (24 : Nat) ({ cls := "java/util/Iterator", name := "hasNext", desc := "()Z" } : Jvm.MethodName)) ∈ lw_all := lw_g (lw_at lw_m9 183 rfl) rfl
theorem q2144 : (Jvm.Cond.interfaceEntry "java/util/AbstractMap" (30 : Nat)) ∈ lw_tbl := lw_at lw_m9 184 rfl
theorem q2145 : (Jvm.Cond.methodLink "java/util/AbstractMap" (30 : Nat) ({ cls := "java/util/Iterator", name := "next", desc := "()Ljava/lang/Object;" } : Jvm.MethodName)) ∈ lw_all := lw_g (lw_at lw_m9 185 rfl) rfl
theorem q2146 : (Jvm.Cond.classLink "java/util/AbstractMap" (34 : Nat) "java/util/Map$Entry") ∈ lw_all := lw_g (lw_at lw_m9 186 rfl) rfl
theorem q2147 : (Jvm.Cond.interfaceEntry "java/util/AbstractMap" (43 : Nat)) ∈ lw_tbl := lw_at lw_m9 187 rfl
theorem q2148 : (Jvm.Cond.methodLink "java/util/AbstractMap" (43 : Nat) ({ cls := "java/util/Map$Entry", name := "getKey", desc := "()Ljava/lang/Object;" } : Jvm.MethodName)) ∈ lw_all := lw_g (lw_at lw_m9 188 rfl) rfl
theorem q2149 : (Jvm.Cond.interfaceEntry "java/util/AbstractMap" (36 : Nat)) ∈ lw_tbl := lw_at lw_m9 189 rfl
theorem q2150 : (Jvm.Cond.methodLink "java/util/AbstractMap" (36 : Nat) ({ cls := "java/util/Map$Entry", name := "getValue", desc := "()Ljava/lang/Object;" } : Jvm.MethodName)) ∈ lw_all := lw_g (lw_at lw_m9 190 rfl) rfl
theorem q2151 : (Jvm.Cond.methodLink "java/util/AbstractMap" (55 : Nat) ({ cls := "java/util/AbstractMap", name := "put", desc := "(Ljava/lang/Object;Ljava/lang/Object;)Ljava/lang/Object;" } : Jvm.MethodName)) ∈ lw_all := lw_g (lw_at lw_m9 191 rfl) rfl
theorem q2152 : (Jvm.Cond.instanceMethod ({ cls := "java/util/AbstractMap", name := "put", desc := "(Ljava/lang/Object;Ljava/lang/Object;)Ljava/lang/Object;" } : Jvm.MethodName)) ∈ lw_all := lw_g (lw_at lw_m9 192 rfl) rfl
theorem q2153 : (Jvm.Cond.sameMethod "java/util/AbstractMap" "java/util/AbstractMap" "put" "(Ljava/lang/Object;Ljava/lang/Object;)Ljava/lang/Object;") ∈ lw_all := lw_g (lw_at lw_m9 193 rfl) rfl
theorem q2170 : (Jvm.Cond.declares ({ cls := "java/util/AbstractMap", name := "put", desc := "(Ljava/lang/Object;Ljava/lang/Object;)Ljava/lang/Object;" } : Jvm.MethodName)) ∈ lw_tbl := lw_at lw_m9 210 rfl
theorem q2456 : (Jvm.Cond.sameMethod "java/util/AbstractMap" "java/util/AbstractMap" "entrySet" "()Ljava/util/Set;") ∈ lw_all := lw_g (lw_at lw_m11 16 rfl) rfl
theorem q2475 : (Jvm.Cond.sameMethod "java/util/AbstractMap" "java/util/AbstractMap" "putAll" "(Ljava/util/Map;)V") ∈ lw_all := lw_g (lw_at lw_m11 35 rfl) rfl
/-! java/util/TreeMap$Entry -/
set_option maxRecDepth 100000
def RJ27 : String := "java/util/TreeMap$Entry"
def TJ27 : u_T := fun k => match k with
  | 0 => ("java/util/TreeMap$Entry", "key", "Ljava/lang/Object;", false)
  | 1 => ("java/util/TreeMap$Entry", "value", "Ljava/lang/Object;", false)
  | 2 => ("java/util/TreeMap$Entry", "left", "Ljava/util/TreeMap$Entry;", false)
  | 3 => ("java/util/TreeMap$Entry", "right", "Ljava/util/TreeMap$Entry;", false)
  | 4 => ("java/util/TreeMap$Entry", "parent", "Ljava/util/TreeMap$Entry;", false)
  | _ => ("java/util/TreeMap$Entry", "color", "Z", false)
def tyJ27 : Nat → FieldType := fun k => match k with
  | 0 => .object "java/lang/Object"
  | 1 => .object "java/lang/Object"
  | 2 => .object "java/util/TreeMap$Entry"
  | 3 => .object "java/util/TreeMap$Entry"
  | 4 => .object "java/util/TreeMap$Entry"
  | _ => .boolean
abbrev wsJ270 : List Cond := u_ws RJ27 TJ27 6
theorem nmJ27 : ∀ a, a < 6 → ∀ b, b < 6 → a ≠ b → (TJ27 a).2.1 ≠ (TJ27 b).2.1 := by decide +kernel
theorem tyJ27_ok : ∀ k, k < 6 → parseFieldDescriptor (TJ27 k).2.2.1 = some (tyJ27 k) := by decide +kernel
abbrev cJ27_getValue : ByteArray := prog_63_method_3_code
def yJ27_getValue : MethodName := ⟨RJ27, "getValue", "()Ljava/lang/Object;"⟩
theorem dJ27_getValue_0 : decode cJ27_getValue 0 = .ok (.aload_n 0, 1) := by decide +kernel
theorem dJ27_getValue_1 : decode cJ27_getValue 1 = .ok (.getfield 19, 3) := by decide +kernel
theorem dJ27_getValue_4 : decode cJ27_getValue 4 = .ok (.areturn, 1) := by decide +kernel
abbrev cJ27_getKey : ByteArray := prog_63_method_2_code
def yJ27_getKey : MethodName := ⟨RJ27, "getKey", "()Ljava/lang/Object;"⟩
theorem dJ27_getKey_0 : decode cJ27_getKey 0 = .ok (.aload_n 0, 1) := by decide +kernel
theorem dJ27_getKey_1 : decode cJ27_getKey 1 = .ok (.getfield 15, 3) := by decide +kernel
theorem dJ27_getKey_4 : decode cJ27_getKey 4 = .ok (.areturn, 1) := by decide +kernel
abbrev cJ27_init : ByteArray := prog_63_method_1_code
def yJ27_init : MethodName := ⟨RJ27, "<init>", "(Ljava/lang/Object;Ljava/lang/Object;Ljava/util/TreeMap$Entry;)V"⟩
def dkwJ27_init_1 : List UInt8 := [177]
abbrev dktJ27_init_1 : List UInt8 := dkwJ27_init_1 ++ []
def dkwJ27_init_0 : List UInt8 := [42, 183, 0, 3, 42, 4, 181, 0, 9, 42, 43, 181, 0, 15, 42, 44, 181, 0, 19, 42, 45, 181, 0, 22]
abbrev dktJ27_init_0 : List UInt8 := dkwJ27_init_0 ++ dktJ27_init_1
theorem dksJ27_init_0 : cJ27_init.data.toList.drop 0 = dktJ27_init_0 := by decide +kernel
theorem dksJ27_init_1 : cJ27_init.data.toList.drop 24 = dktJ27_init_1 := dk_seg dksJ27_init_0 24 rfl rfl
theorem dJ27_init_0 : decode cJ27_init 0 = .ok (.aload_n 0, 1) := dk_42 (dk_at dksJ27_init_0 0 rfl rfl)
theorem dJ27_init_1 : decode cJ27_init 1 = .ok (.invokespecial 3, 3) := dk_183 0 3 (dk_at dksJ27_init_0 1 rfl rfl)
theorem dJ27_init_4 : decode cJ27_init 4 = .ok (.aload_n 0, 1) := dk_42 (dk_at dksJ27_init_0 4 rfl rfl)
theorem dJ27_init_5 : decode cJ27_init 5 = .ok (.iconst 1, 1) := dk_4 (dk_at dksJ27_init_0 5 rfl rfl)
theorem dJ27_init_6 : decode cJ27_init 6 = .ok (.putfield 9, 3) := dk_181 0 9 (dk_at dksJ27_init_0 6 rfl rfl)
theorem dJ27_init_9 : decode cJ27_init 9 = .ok (.aload_n 0, 1) := dk_42 (dk_at dksJ27_init_0 9 rfl rfl)
theorem dJ27_init_10 : decode cJ27_init 10 = .ok (.aload_n 1, 1) := dk_43 (dk_at dksJ27_init_0 10 rfl rfl)
theorem dJ27_init_11 : decode cJ27_init 11 = .ok (.putfield 15, 3) := dk_181 0 15 (dk_at dksJ27_init_0 11 rfl rfl)
theorem dJ27_init_14 : decode cJ27_init 14 = .ok (.aload_n 0, 1) := dk_42 (dk_at dksJ27_init_0 14 rfl rfl)
theorem dJ27_init_15 : decode cJ27_init 15 = .ok (.aload_n 2, 1) := dk_44 (dk_at dksJ27_init_0 15 rfl rfl)
theorem dJ27_init_16 : decode cJ27_init 16 = .ok (.putfield 19, 3) := dk_181 0 19 (dk_at dksJ27_init_0 16 rfl rfl)
theorem dJ27_init_19 : decode cJ27_init 19 = .ok (.aload_n 0, 1) := dk_42 (dk_at dksJ27_init_0 19 rfl rfl)
theorem dJ27_init_20 : decode cJ27_init 20 = .ok (.aload_n 3, 1) := dk_45 (dk_at dksJ27_init_0 20 rfl rfl)
theorem dJ27_init_21 : decode cJ27_init 21 = .ok (.putfield 22, 3) := dk_181 0 22 (dk_at dksJ27_init_0 21 rfl rfl)
theorem dJ27_init_24 : decode cJ27_init 24 = .ok (.return_, 1) := dk_177 (dk_at dksJ27_init_1 0 rfl rfl)
theorem q73 : (Jvm.Cond.initialized "java/util/TreeMap$Entry") ∈ lw_all := lw_g (lw_at lw_m1 33 rfl) rfl
theorem q1137 : (Jvm.Cond.castable "java/util/TreeMap$Entry" "java/util/Map$Entry") ∈ lw_tbl := lw_at lw_m5 137 rfl
theorem q1138 : (Jvm.Cond.selects "java/util/TreeMap$Entry" ({ cls := "java/util/Map$Entry", name := "getValue", desc := "()Ljava/lang/Object;" } : Jvm.MethodName) ({ cls := "java/util/TreeMap$Entry", name := "getValue", desc := "()Ljava/lang/Object;" } : Jvm.MethodName)) ∈ lw_all := lw_g (lw_at lw_m5 138 rfl) rfl
theorem q1139 : (Jvm.Cond.unhidden "java/util/TreeMap$Entry" "getValue" "()Ljava/lang/Object;") ∈ lw_tbl := lw_at lw_m5 139 rfl
theorem q1140 : (Jvm.Cond.instanceMethod ({ cls := "java/util/TreeMap$Entry", name := "getValue", desc := "()Ljava/lang/Object;" } : Jvm.MethodName)) ∈ lw_all := lw_g (lw_at lw_m5 140 rfl) rfl
theorem q1141 : (Jvm.Cond.publicMethod ({ cls := "java/util/TreeMap$Entry", name := "getValue", desc := "()Ljava/lang/Object;" } : Jvm.MethodName)) ∈ lw_tbl := lw_at lw_m5 141 rfl
theorem q1142 : (Jvm.Cond.code ({ cls := "java/util/TreeMap$Entry", name := "getValue", desc := "()Ljava/lang/Object;" } : Jvm.MethodName) prog_63_method_3_code (1 : Nat) (Option.some (Jvm.ClassFile.FieldType.object "java/lang/Object"))) ∈ lw_all := lw_g (lw_at lw_m5 142 rfl) rfl
theorem q1712 : (Jvm.Cond.selects "java/util/TreeMap$Entry" ({ cls := "java/util/Map$Entry", name := "getKey", desc := "()Ljava/lang/Object;" } : Jvm.MethodName) ({ cls := "java/util/TreeMap$Entry", name := "getKey", desc := "()Ljava/lang/Object;" } : Jvm.MethodName)) ∈ lw_all := lw_g (lw_at lw_m7 232 rfl) rfl
theorem q1713 : (Jvm.Cond.unhidden "java/util/TreeMap$Entry" "getKey" "()Ljava/lang/Object;") ∈ lw_tbl := lw_at lw_m7 233 rfl
theorem q1714 : (Jvm.Cond.instanceMethod ({ cls := "java/util/TreeMap$Entry", name := "getKey", desc := "()Ljava/lang/Object;" } : Jvm.MethodName)) ∈ lw_all := lw_g (lw_at lw_m7 234 rfl) rfl
theorem q1715 : (Jvm.Cond.publicMethod ({ cls := "java/util/TreeMap$Entry", name := "getKey", desc := "()Ljava/lang/Object;" } : Jvm.MethodName)) ∈ lw_tbl := lw_at lw_m7 235 rfl
theorem q1716 : (Jvm.Cond.code ({ cls := "java/util/TreeMap$Entry", name := "getKey", desc := "()Ljava/lang/Object;" } : Jvm.MethodName) prog_63_method_2_code (1 : Nat) (Option.some (Jvm.ClassFile.FieldType.object "java/lang/Object"))) ∈ lw_all := lw_g (lw_at lw_m7 236 rfl) rfl
theorem q1875 : (Jvm.Cond.instantiable "java/util/TreeMap$Entry" (6 : Nat)) ∈ lw_all := lw_g (lw_at lw_m8 155 rfl) rfl
theorem q1877 : (Jvm.Cond.instanceMethod ({ cls := "java/util/TreeMap$Entry", name := "<init>", desc := "(Ljava/lang/Object;Ljava/lang/Object;Ljava/util/TreeMap$Entry;)V" } : Jvm.MethodName)) ∈ lw_all := lw_g (lw_at lw_m8 157 rfl) rfl
theorem q1878 : (Jvm.Cond.code ({ cls := "java/util/TreeMap$Entry", name := "<init>", desc := "(Ljava/lang/Object;Ljava/lang/Object;Ljava/util/TreeMap$Entry;)V" } : Jvm.MethodName) prog_63_method_1_code (4 : Nat) (Option.none : Option Jvm.ClassFile.FieldType)) ∈ lw_all := lw_g (lw_at lw_m8 158 rfl) rfl
theorem q1879 : (Jvm.Cond.methodLink "java/util/TreeMap$Entry" (3 : Nat) ({ cls := "java/lang/Object", name := "<init>", desc := "()V" } : Jvm.MethodName)) ∈ lw_all := lw_g (lw_at lw_m8 159 rfl) rfl
theorem q1880 : (Jvm.Cond.fieldLink "java/util/TreeMap$Entry" (15 : Nat) "java/util/TreeMap$Entry" "key" "Ljava/lang/Object;") ∈ lw_all := lw_g (lw_at lw_m8 160 rfl) rfl
theorem q1886 : (Jvm.Cond.fieldLink "java/util/TreeMap$Entry" (19 : Nat) "java/util/TreeMap$Entry" "value" "Ljava/lang/Object;") ∈ lw_all := lw_g (lw_at lw_m8 166 rfl) rfl
theorem q1895 : (Jvm.Cond.fieldLink "java/util/TreeMap$Entry" (22 : Nat) "java/util/TreeMap$Entry" "parent" "Ljava/util/TreeMap$Entry;") ∈ lw_all := lw_g (lw_at lw_m8 175 rfl) rfl
theorem q1897 : (Jvm.Cond.fieldLink "java/util/TreeMap$Entry" (9 : Nat) "java/util/TreeMap$Entry" "color" "Z") ∈ lw_all := lw_g (lw_at lw_m8 177 rfl) rfl
theorem q1899 : (Jvm.Cond.lays "java/util/TreeMap$Entry" "java/util/TreeMap$Entry" "key" "Ljava/lang/Object;") ∈ lw_all := lw_g (lw_at lw_m8 179 rfl) rfl
theorem q1900 : (Jvm.Cond.soleField "java/util/TreeMap$Entry" "key") ∈ lw_all := lw_g (lw_at lw_m8 180 rfl) rfl
theorem q1901 : (Jvm.Cond.lays "java/util/TreeMap$Entry" "java/util/TreeMap$Entry" "value" "Ljava/lang/Object;") ∈ lw_all := lw_g (lw_at lw_m8 181 rfl) rfl
theorem q1902 : (Jvm.Cond.soleField "java/util/TreeMap$Entry" "value") ∈ lw_all := lw_g (lw_at lw_m8 182 rfl) rfl
theorem q1903 : (Jvm.Cond.lays "java/util/TreeMap$Entry" "java/util/TreeMap$Entry" "left" "Ljava/util/TreeMap$Entry;") ∈ lw_all := lw_g (lw_at lw_m8 183 rfl) rfl
theorem q1904 : (Jvm.Cond.soleField "java/util/TreeMap$Entry" "left") ∈ lw_all := lw_g (lw_at lw_m8 184 rfl) rfl
theorem q1905 : (Jvm.Cond.lays "java/util/TreeMap$Entry" "java/util/TreeMap$Entry" "right" "Ljava/util/TreeMap$Entry;") ∈ lw_all := lw_g (lw_at lw_m8 185 rfl) rfl
theorem q1906 : (Jvm.Cond.soleField "java/util/TreeMap$Entry" "right") ∈ lw_all := lw_g (lw_at lw_m8 186 rfl) rfl
theorem q1907 : (Jvm.Cond.lays "java/util/TreeMap$Entry" "java/util/TreeMap$Entry" "parent" "Ljava/util/TreeMap$Entry;") ∈ lw_all := lw_g (lw_at lw_m8 187 rfl) rfl
theorem q1908 : (Jvm.Cond.soleField "java/util/TreeMap$Entry" "parent") ∈ lw_all := lw_g (lw_at lw_m8 188 rfl) rfl
theorem q1909 : (Jvm.Cond.lays "java/util/TreeMap$Entry" "java/util/TreeMap$Entry" "color" "Z") ∈ lw_all := lw_g (lw_at lw_m8 189 rfl) rfl
theorem q1910 : (Jvm.Cond.soleField "java/util/TreeMap$Entry" "color") ∈ lw_all := lw_g (lw_at lw_m8 190 rfl) rfl
theorem q1911 : (Jvm.Cond.superclass "java/util/TreeMap$Entry" "java/lang/Object") ∈ lw_all := lw_g (lw_at lw_m8 191 rfl) rfl
theorem q2495 : (Jvm.Cond.castable "java/util/TreeMap$Entry" "java/lang/Object") ∈ lw_tbl := lw_at lw_m11 55 rfl
theorem in_J27 : ∀ w ∈ wsJ270, w ∈ lw_all := lw_in wsJ270 [1899, 1901, 1903, 1905, 1907, 1909] (by decide +kernel) (by decide +kernel)
/-! java/util/TreeMap$NavigableSubMap -/
set_option maxRecDepth 100000
def RJ28 : String := "java/util/TreeMap$NavigableSubMap"
abbrev cJ28_init : ByteArray := prog_68_method_1_code
def yJ28_init : MethodName := ⟨RJ28, "<init>", "(Ljava/util/TreeMap;ZLjava/lang/Object;ZZLjava/lang/Object;Z)V"⟩
def dkwJ28_init_4 : List UInt8 := [181, 0, 43, 177]
abbrev dktJ28_init_4 : List UInt8 := dkwJ28_init_4 ++ []
def dkwJ28_init_3 : List UInt8 := [181, 0, 30, 42, 21, 4, 181, 0, 34, 42, 21, 5, 181, 0, 37, 42, 25, 6, 181, 0, 40, 42, 21, 7]
abbrev dktJ28_init_3 : List UInt8 := dkwJ28_init_3 ++ dktJ28_init_4
def dkwJ28_init_2 : List UInt8 := [154, 0, 12, 43, 25, 6, 25, 6, 182, 0, 7, 87, 42, 43, 181, 0, 20, 42, 28, 181, 0, 26, 42, 45]
abbrev dktJ28_init_2 : List UInt8 := dkwJ28_init_2 ++ dktJ28_init_3
def dkwJ28_init_1 : List UInt8 := [187, 0, 13, 89, 18, 15, 183, 0, 17, 191, 28, 154, 0, 10, 43, 45, 45, 182, 0, 7, 87, 21, 5]
abbrev dktJ28_init_1 : List UInt8 := dkwJ28_init_1 ++ dktJ28_init_2
def dkwJ28_init_0 : List UInt8 := [42, 183, 0, 1, 28, 154, 0, 28, 21, 5, 154, 0, 23, 43, 45, 25, 6, 182, 0, 7, 158, 0, 38]
abbrev dktJ28_init_0 : List UInt8 := dkwJ28_init_0 ++ dktJ28_init_1
theorem dksJ28_init_0 : cJ28_init.data.toList.drop 0 = dktJ28_init_0 := by decide +kernel
theorem dksJ28_init_1 : cJ28_init.data.toList.drop 23 = dktJ28_init_1 := dk_seg dksJ28_init_0 23 rfl rfl
theorem dksJ28_init_2 : cJ28_init.data.toList.drop 46 = dktJ28_init_2 := dk_seg dksJ28_init_1 23 rfl rfl
theorem dksJ28_init_3 : cJ28_init.data.toList.drop 70 = dktJ28_init_3 := dk_seg dksJ28_init_2 24 rfl rfl
theorem dksJ28_init_4 : cJ28_init.data.toList.drop 94 = dktJ28_init_4 := dk_seg dksJ28_init_3 24 rfl rfl
theorem dJ28_init_0 : decode cJ28_init 0 = .ok (.aload_n 0, 1) := dk_42 (dk_at dksJ28_init_0 0 rfl rfl)
theorem dJ28_init_1 : decode cJ28_init 1 = .ok (.invokespecial 1, 3) := dk_183 0 1 (dk_at dksJ28_init_0 1 rfl rfl)
theorem dJ28_init_4 : decode cJ28_init 4 = .ok (.iload_n 2, 1) := dk_28 (dk_at dksJ28_init_0 4 rfl rfl)
theorem dJ28_init_5 : decode cJ28_init 5 = .ok (.ifCond .ne 28, 3) := dk_154 0 28 (dk_at dksJ28_init_0 5 rfl rfl)
theorem dJ28_init_8 : decode cJ28_init 8 = .ok (.iload 5, 2) := dk_21 5 (dk_at dksJ28_init_0 8 rfl rfl)
theorem dJ28_init_10 : decode cJ28_init 10 = .ok (.ifCond .ne 23, 3) := dk_154 0 23 (dk_at dksJ28_init_0 10 rfl rfl)
theorem dJ28_init_13 : decode cJ28_init 13 = .ok (.aload_n 1, 1) := dk_43 (dk_at dksJ28_init_0 13 rfl rfl)
theorem dJ28_init_14 : decode cJ28_init 14 = .ok (.aload_n 3, 1) := dk_45 (dk_at dksJ28_init_0 14 rfl rfl)
theorem dJ28_init_15 : decode cJ28_init 15 = .ok (.aload 6, 2) := dk_25 6 (dk_at dksJ28_init_0 15 rfl rfl)
theorem dJ28_init_17 : decode cJ28_init 17 = .ok (.invokevirtual 7, 3) := dk_182 0 7 (dk_at dksJ28_init_0 17 rfl rfl)
theorem dJ28_init_20 : decode cJ28_init 20 = .ok (.ifCond .le 38, 3) := dk_158 0 38 (dk_at dksJ28_init_0 20 rfl rfl)
theorem dJ28_init_23 : decode cJ28_init 23 = .ok (.new 13, 3) := dk_187 0 13 (dk_at dksJ28_init_1 0 rfl rfl)
theorem dJ28_init_26 : decode cJ28_init 26 = .ok (.dup, 1) := dk_89 (dk_at dksJ28_init_1 3 rfl rfl)
theorem dJ28_init_27 : decode cJ28_init 27 = .ok (.ldc 15, 2) := dk_18 15 (dk_at dksJ28_init_1 4 rfl rfl)
theorem dJ28_init_29 : decode cJ28_init 29 = .ok (.invokespecial 17, 3) := dk_183 0 17 (dk_at dksJ28_init_1 6 rfl rfl)
theorem dJ28_init_32 : decode cJ28_init 32 = .ok (.athrow, 1) := dk_191 (dk_at dksJ28_init_1 9 rfl rfl)
theorem dJ28_init_33 : decode cJ28_init 33 = .ok (.iload_n 2, 1) := dk_28 (dk_at dksJ28_init_1 10 rfl rfl)
theorem dJ28_init_34 : decode cJ28_init 34 = .ok (.ifCond .ne 10, 3) := dk_154 0 10 (dk_at dksJ28_init_1 11 rfl rfl)
theorem dJ28_init_37 : decode cJ28_init 37 = .ok (.aload_n 1, 1) := dk_43 (dk_at dksJ28_init_1 14 rfl rfl)
theorem dJ28_init_38 : decode cJ28_init 38 = .ok (.aload_n 3, 1) := dk_45 (dk_at dksJ28_init_1 15 rfl rfl)
theorem dJ28_init_39 : decode cJ28_init 39 = .ok (.aload_n 3, 1) := dk_45 (dk_at dksJ28_init_1 16 rfl rfl)
theorem dJ28_init_40 : decode cJ28_init 40 = .ok (.invokevirtual 7, 3) := dk_182 0 7 (dk_at dksJ28_init_1 17 rfl rfl)
theorem dJ28_init_43 : decode cJ28_init 43 = .ok (.pop, 1) := dk_87 (dk_at dksJ28_init_1 20 rfl rfl)
theorem dJ28_init_44 : decode cJ28_init 44 = .ok (.iload 5, 2) := dk_21 5 (dk_at dksJ28_init_1 21 rfl rfl)
theorem dJ28_init_46 : decode cJ28_init 46 = .ok (.ifCond .ne 12, 3) := dk_154 0 12 (dk_at dksJ28_init_2 0 rfl rfl)
theorem dJ28_init_49 : decode cJ28_init 49 = .ok (.aload_n 1, 1) := dk_43 (dk_at dksJ28_init_2 3 rfl rfl)
theorem dJ28_init_50 : decode cJ28_init 50 = .ok (.aload 6, 2) := dk_25 6 (dk_at dksJ28_init_2 4 rfl rfl)
theorem dJ28_init_52 : decode cJ28_init 52 = .ok (.aload 6, 2) := dk_25 6 (dk_at dksJ28_init_2 6 rfl rfl)
theorem dJ28_init_54 : decode cJ28_init 54 = .ok (.invokevirtual 7, 3) := dk_182 0 7 (dk_at dksJ28_init_2 8 rfl rfl)
theorem dJ28_init_57 : decode cJ28_init 57 = .ok (.pop, 1) := dk_87 (dk_at dksJ28_init_2 11 rfl rfl)
theorem dJ28_init_58 : decode cJ28_init 58 = .ok (.aload_n 0, 1) := dk_42 (dk_at dksJ28_init_2 12 rfl rfl)
theorem dJ28_init_59 : decode cJ28_init 59 = .ok (.aload_n 1, 1) := dk_43 (dk_at dksJ28_init_2 13 rfl rfl)
theorem dJ28_init_60 : decode cJ28_init 60 = .ok (.putfield 20, 3) := dk_181 0 20 (dk_at dksJ28_init_2 14 rfl rfl)
theorem dJ28_init_63 : decode cJ28_init 63 = .ok (.aload_n 0, 1) := dk_42 (dk_at dksJ28_init_2 17 rfl rfl)
theorem dJ28_init_64 : decode cJ28_init 64 = .ok (.iload_n 2, 1) := dk_28 (dk_at dksJ28_init_2 18 rfl rfl)
theorem dJ28_init_65 : decode cJ28_init 65 = .ok (.putfield 26, 3) := dk_181 0 26 (dk_at dksJ28_init_2 19 rfl rfl)
theorem dJ28_init_68 : decode cJ28_init 68 = .ok (.aload_n 0, 1) := dk_42 (dk_at dksJ28_init_2 22 rfl rfl)
theorem dJ28_init_69 : decode cJ28_init 69 = .ok (.aload_n 3, 1) := dk_45 (dk_at dksJ28_init_2 23 rfl rfl)
theorem dJ28_init_70 : decode cJ28_init 70 = .ok (.putfield 30, 3) := dk_181 0 30 (dk_at dksJ28_init_3 0 rfl rfl)
theorem dJ28_init_73 : decode cJ28_init 73 = .ok (.aload_n 0, 1) := dk_42 (dk_at dksJ28_init_3 3 rfl rfl)
theorem dJ28_init_74 : decode cJ28_init 74 = .ok (.iload 4, 2) := dk_21 4 (dk_at dksJ28_init_3 4 rfl rfl)
theorem dJ28_init_76 : decode cJ28_init 76 = .ok (.putfield 34, 3) := dk_181 0 34 (dk_at dksJ28_init_3 6 rfl rfl)
theorem dJ28_init_79 : decode cJ28_init 79 = .ok (.aload_n 0, 1) := dk_42 (dk_at dksJ28_init_3 9 rfl rfl)
theorem dJ28_init_80 : decode cJ28_init 80 = .ok (.iload 5, 2) := dk_21 5 (dk_at dksJ28_init_3 10 rfl rfl)
theorem dJ28_init_82 : decode cJ28_init 82 = .ok (.putfield 37, 3) := dk_181 0 37 (dk_at dksJ28_init_3 12 rfl rfl)
theorem dJ28_init_85 : decode cJ28_init 85 = .ok (.aload_n 0, 1) := dk_42 (dk_at dksJ28_init_3 15 rfl rfl)
theorem dJ28_init_86 : decode cJ28_init 86 = .ok (.aload 6, 2) := dk_25 6 (dk_at dksJ28_init_3 16 rfl rfl)
theorem dJ28_init_88 : decode cJ28_init 88 = .ok (.putfield 40, 3) := dk_181 0 40 (dk_at dksJ28_init_3 18 rfl rfl)
theorem dJ28_init_91 : decode cJ28_init 91 = .ok (.aload_n 0, 1) := dk_42 (dk_at dksJ28_init_3 21 rfl rfl)
theorem dJ28_init_92 : decode cJ28_init 92 = .ok (.iload 7, 2) := dk_21 7 (dk_at dksJ28_init_3 22 rfl rfl)
theorem dJ28_init_94 : decode cJ28_init 94 = .ok (.putfield 43, 3) := dk_181 0 43 (dk_at dksJ28_init_4 0 rfl rfl)
theorem dJ28_init_97 : decode cJ28_init 97 = .ok (.return_, 1) := dk_177 (dk_at dksJ28_init_4 3 rfl rfl)
abbrev cJ28_size : ByteArray := prog_68_method_25_code
def yJ28_size : MethodName := ⟨RJ28, "size", "()I"⟩
def dkwJ28_size_1 : List UInt8 := [42, 182, 0, 94, 185, 0, 105, 1, 0, 172]
abbrev dktJ28_size_1 : List UInt8 := dkwJ28_size_1 ++ []
def dkwJ28_size_0 : List UInt8 := [42, 180, 0, 26, 153, 0, 20, 42, 180, 0, 37, 153, 0, 13, 42, 180, 0, 20, 182, 0, 101, 167, 0, 12]
abbrev dktJ28_size_0 : List UInt8 := dkwJ28_size_0 ++ dktJ28_size_1
theorem dksJ28_size_0 : cJ28_size.data.toList.drop 0 = dktJ28_size_0 := by decide +kernel
theorem dksJ28_size_1 : cJ28_size.data.toList.drop 24 = dktJ28_size_1 := dk_seg dksJ28_size_0 24 rfl rfl
theorem dJ28_size_0 : decode cJ28_size 0 = .ok (.aload_n 0, 1) := dk_42 (dk_at dksJ28_size_0 0 rfl rfl)
theorem dJ28_size_1 : decode cJ28_size 1 = .ok (.getfield 26, 3) := dk_180 0 26 (dk_at dksJ28_size_0 1 rfl rfl)
theorem dJ28_size_4 : decode cJ28_size 4 = .ok (.ifCond .eq 20, 3) := dk_153 0 20 (dk_at dksJ28_size_0 4 rfl rfl)
theorem dJ28_size_7 : decode cJ28_size 7 = .ok (.aload_n 0, 1) := dk_42 (dk_at dksJ28_size_0 7 rfl rfl)
theorem dJ28_size_8 : decode cJ28_size 8 = .ok (.getfield 37, 3) := dk_180 0 37 (dk_at dksJ28_size_0 8 rfl rfl)
theorem dJ28_size_11 : decode cJ28_size 11 = .ok (.ifCond .eq 13, 3) := dk_153 0 13 (dk_at dksJ28_size_0 11 rfl rfl)
theorem dJ28_size_14 : decode cJ28_size 14 = .ok (.aload_n 0, 1) := dk_42 (dk_at dksJ28_size_0 14 rfl rfl)
theorem dJ28_size_15 : decode cJ28_size 15 = .ok (.getfield 20, 3) := dk_180 0 20 (dk_at dksJ28_size_0 15 rfl rfl)
theorem dJ28_size_18 : decode cJ28_size 18 = .ok (.invokevirtual 101, 3) := dk_182 0 101 (dk_at dksJ28_size_0 18 rfl rfl)
theorem dJ28_size_21 : decode cJ28_size 21 = .ok (.goto 12, 3) := dk_167 0 12 (dk_at dksJ28_size_0 21 rfl rfl)
theorem dJ28_size_24 : decode cJ28_size 24 = .ok (.aload_n 0, 1) := dk_42 (dk_at dksJ28_size_1 0 rfl rfl)
theorem dJ28_size_25 : decode cJ28_size 25 = .ok (.invokevirtual 94, 3) := dk_182 0 94 (dk_at dksJ28_size_1 1 rfl rfl)
theorem dJ28_size_28 : decode cJ28_size 28 = .ok (.invokeinterface 105 1, 5) := by decide +kernel
theorem dJ28_size_33 : decode cJ28_size 33 = .ok (.ireturn, 1) := dk_172 (dk_at dksJ28_size_1 9 rfl rfl)
abbrev cJ28_absLowest : ByteArray := prog_68_method_7_code
def yJ28_absLowest : MethodName := ⟨RJ28, "absLowest", "()Ljava/util/TreeMap$Entry;"⟩
def dkwJ28_absLowest_3 : List UInt8 := [176]
abbrev dktJ28_absLowest_3 : List UInt8 := dkwJ28_absLowest_3 ++ []
def dkwJ28_absLowest_2 : List UInt8 := [182, 0, 67, 76, 43, 198, 0, 14, 42, 43, 180, 0, 70, 182, 0, 50, 153, 0, 7, 1, 167, 0, 4, 43]
abbrev dktJ28_absLowest_2 : List UInt8 := dkwJ28_absLowest_2 ++ dktJ28_absLowest_3
def dkwJ28_absLowest_1 : List UInt8 := [42, 180, 0, 20, 42, 180, 0, 30, 182, 0, 63, 167, 0, 14, 42, 180, 0, 20, 42, 180, 0, 30]
abbrev dktJ28_absLowest_1 : List UInt8 := dkwJ28_absLowest_1 ++ dktJ28_absLowest_2
def dkwJ28_absLowest_0 : List UInt8 := [42, 180, 0, 26, 153, 0, 13, 42, 180, 0, 20, 182, 0, 59, 167, 0, 35, 42, 180, 0, 34, 153, 0, 17]
abbrev dktJ28_absLowest_0 : List UInt8 := dkwJ28_absLowest_0 ++ dktJ28_absLowest_1
theorem dksJ28_absLowest_0 : cJ28_absLowest.data.toList.drop 0 = dktJ28_absLowest_0 := by decide +kernel
theorem dksJ28_absLowest_1 : cJ28_absLowest.data.toList.drop 24 = dktJ28_absLowest_1 := dk_seg dksJ28_absLowest_0 24 rfl rfl
theorem dksJ28_absLowest_2 : cJ28_absLowest.data.toList.drop 46 = dktJ28_absLowest_2 := dk_seg dksJ28_absLowest_1 22 rfl rfl
theorem dksJ28_absLowest_3 : cJ28_absLowest.data.toList.drop 70 = dktJ28_absLowest_3 := dk_seg dksJ28_absLowest_2 24 rfl rfl
theorem dJ28_absLowest_0 : decode cJ28_absLowest 0 = .ok (.aload_n 0, 1) := dk_42 (dk_at dksJ28_absLowest_0 0 rfl rfl)
theorem dJ28_absLowest_1 : decode cJ28_absLowest 1 = .ok (.getfield 26, 3) := dk_180 0 26 (dk_at dksJ28_absLowest_0 1 rfl rfl)
theorem dJ28_absLowest_4 : decode cJ28_absLowest 4 = .ok (.ifCond .eq 13, 3) := dk_153 0 13 (dk_at dksJ28_absLowest_0 4 rfl rfl)
theorem dJ28_absLowest_7 : decode cJ28_absLowest 7 = .ok (.aload_n 0, 1) := dk_42 (dk_at dksJ28_absLowest_0 7 rfl rfl)
theorem dJ28_absLowest_8 : decode cJ28_absLowest 8 = .ok (.getfield 20, 3) := dk_180 0 20 (dk_at dksJ28_absLowest_0 8 rfl rfl)
theorem dJ28_absLowest_11 : decode cJ28_absLowest 11 = .ok (.invokevirtual 59, 3) := dk_182 0 59 (dk_at dksJ28_absLowest_0 11 rfl rfl)
theorem dJ28_absLowest_14 : decode cJ28_absLowest 14 = .ok (.goto 35, 3) := dk_167 0 35 (dk_at dksJ28_absLowest_0 14 rfl rfl)
theorem dJ28_absLowest_17 : decode cJ28_absLowest 17 = .ok (.aload_n 0, 1) := dk_42 (dk_at dksJ28_absLowest_0 17 rfl rfl)
theorem dJ28_absLowest_18 : decode cJ28_absLowest 18 = .ok (.getfield 34, 3) := dk_180 0 34 (dk_at dksJ28_absLowest_0 18 rfl rfl)
theorem dJ28_absLowest_21 : decode cJ28_absLowest 21 = .ok (.ifCond .eq 17, 3) := dk_153 0 17 (dk_at dksJ28_absLowest_0 21 rfl rfl)
theorem dJ28_absLowest_24 : decode cJ28_absLowest 24 = .ok (.aload_n 0, 1) := dk_42 (dk_at dksJ28_absLowest_1 0 rfl rfl)
theorem dJ28_absLowest_25 : decode cJ28_absLowest 25 = .ok (.getfield 20, 3) := dk_180 0 20 (dk_at dksJ28_absLowest_1 1 rfl rfl)
theorem dJ28_absLowest_28 : decode cJ28_absLowest 28 = .ok (.aload_n 0, 1) := dk_42 (dk_at dksJ28_absLowest_1 4 rfl rfl)
theorem dJ28_absLowest_29 : decode cJ28_absLowest 29 = .ok (.getfield 30, 3) := dk_180 0 30 (dk_at dksJ28_absLowest_1 5 rfl rfl)
theorem dJ28_absLowest_32 : decode cJ28_absLowest 32 = .ok (.invokevirtual 63, 3) := dk_182 0 63 (dk_at dksJ28_absLowest_1 8 rfl rfl)
theorem dJ28_absLowest_35 : decode cJ28_absLowest 35 = .ok (.goto 14, 3) := dk_167 0 14 (dk_at dksJ28_absLowest_1 11 rfl rfl)
theorem dJ28_absLowest_38 : decode cJ28_absLowest 38 = .ok (.aload_n 0, 1) := dk_42 (dk_at dksJ28_absLowest_1 14 rfl rfl)
theorem dJ28_absLowest_39 : decode cJ28_absLowest 39 = .ok (.getfield 20, 3) := dk_180 0 20 (dk_at dksJ28_absLowest_1 15 rfl rfl)
theorem dJ28_absLowest_42 : decode cJ28_absLowest 42 = .ok (.aload_n 0, 1) := dk_42 (dk_at dksJ28_absLowest_1 18 rfl rfl)
theorem dJ28_absLowest_43 : decode cJ28_absLowest 43 = .ok (.getfield 30, 3) := dk_180 0 30 (dk_at dksJ28_absLowest_1 19 rfl rfl)
theorem dJ28_absLowest_46 : decode cJ28_absLowest 46 = .ok (.invokevirtual 67, 3) := dk_182 0 67 (dk_at dksJ28_absLowest_2 0 rfl rfl)
theorem dJ28_absLowest_49 : decode cJ28_absLowest 49 = .ok (.astore_n 1, 1) := dk_76 (dk_at dksJ28_absLowest_2 3 rfl rfl)
theorem dJ28_absLowest_50 : decode cJ28_absLowest 50 = .ok (.aload_n 1, 1) := dk_43 (dk_at dksJ28_absLowest_2 4 rfl rfl)
theorem dJ28_absLowest_51 : decode cJ28_absLowest 51 = .ok (.ifnull 14, 3) := dk_198 0 14 (dk_at dksJ28_absLowest_2 5 rfl rfl)
theorem dJ28_absLowest_54 : decode cJ28_absLowest 54 = .ok (.aload_n 0, 1) := dk_42 (dk_at dksJ28_absLowest_2 8 rfl rfl)
theorem dJ28_absLowest_55 : decode cJ28_absLowest 55 = .ok (.aload_n 1, 1) := dk_43 (dk_at dksJ28_absLowest_2 9 rfl rfl)
theorem dJ28_absLowest_56 : decode cJ28_absLowest 56 = .ok (.getfield 70, 3) := dk_180 0 70 (dk_at dksJ28_absLowest_2 10 rfl rfl)
theorem dJ28_absLowest_59 : decode cJ28_absLowest 59 = .ok (.invokevirtual 50, 3) := dk_182 0 50 (dk_at dksJ28_absLowest_2 13 rfl rfl)
theorem dJ28_absLowest_62 : decode cJ28_absLowest 62 = .ok (.ifCond .eq 7, 3) := dk_153 0 7 (dk_at dksJ28_absLowest_2 16 rfl rfl)
theorem dJ28_absLowest_65 : decode cJ28_absLowest 65 = .ok (.aconst_null, 1) := dk_1 (dk_at dksJ28_absLowest_2 19 rfl rfl)
theorem dJ28_absLowest_66 : decode cJ28_absLowest 66 = .ok (.goto 4, 3) := dk_167 0 4 (dk_at dksJ28_absLowest_2 20 rfl rfl)
theorem dJ28_absLowest_69 : decode cJ28_absLowest 69 = .ok (.aload_n 1, 1) := dk_43 (dk_at dksJ28_absLowest_2 23 rfl rfl)
theorem dJ28_absLowest_70 : decode cJ28_absLowest 70 = .ok (.areturn, 1) := dk_176 (dk_at dksJ28_absLowest_3 0 rfl rfl)
abbrev cJ28_tooHigh : ByteArray := prog_68_method_3_code
def yJ28_tooHigh : MethodName := ⟨RJ28, "tooHigh", "(Ljava/lang/Object;)Z"⟩
def dkwJ28_tooHigh_1 : List UInt8 := [28, 154, 0, 12, 42, 180, 0, 43, 154, 0, 5, 4, 172, 3, 172]
abbrev dktJ28_tooHigh_1 : List UInt8 := dkwJ28_tooHigh_1 ++ []
def dkwJ28_tooHigh_0 : List UInt8 := [42, 180, 0, 37, 154, 0, 33, 42, 180, 0, 20, 43, 42, 180, 0, 40, 182, 0, 7, 61, 28, 157, 0, 14]
abbrev dktJ28_tooHigh_0 : List UInt8 := dkwJ28_tooHigh_0 ++ dktJ28_tooHigh_1
theorem dksJ28_tooHigh_0 : cJ28_tooHigh.data.toList.drop 0 = dktJ28_tooHigh_0 := by decide +kernel
theorem dksJ28_tooHigh_1 : cJ28_tooHigh.data.toList.drop 24 = dktJ28_tooHigh_1 := dk_seg dksJ28_tooHigh_0 24 rfl rfl
theorem dJ28_tooHigh_0 : decode cJ28_tooHigh 0 = .ok (.aload_n 0, 1) := dk_42 (dk_at dksJ28_tooHigh_0 0 rfl rfl)
theorem dJ28_tooHigh_1 : decode cJ28_tooHigh 1 = .ok (.getfield 37, 3) := dk_180 0 37 (dk_at dksJ28_tooHigh_0 1 rfl rfl)
theorem dJ28_tooHigh_4 : decode cJ28_tooHigh 4 = .ok (.ifCond .ne 33, 3) := dk_154 0 33 (dk_at dksJ28_tooHigh_0 4 rfl rfl)
theorem dJ28_tooHigh_7 : decode cJ28_tooHigh 7 = .ok (.aload_n 0, 1) := dk_42 (dk_at dksJ28_tooHigh_0 7 rfl rfl)
theorem dJ28_tooHigh_8 : decode cJ28_tooHigh 8 = .ok (.getfield 20, 3) := dk_180 0 20 (dk_at dksJ28_tooHigh_0 8 rfl rfl)
theorem dJ28_tooHigh_11 : decode cJ28_tooHigh 11 = .ok (.aload_n 1, 1) := dk_43 (dk_at dksJ28_tooHigh_0 11 rfl rfl)
theorem dJ28_tooHigh_12 : decode cJ28_tooHigh 12 = .ok (.aload_n 0, 1) := dk_42 (dk_at dksJ28_tooHigh_0 12 rfl rfl)
theorem dJ28_tooHigh_13 : decode cJ28_tooHigh 13 = .ok (.getfield 40, 3) := dk_180 0 40 (dk_at dksJ28_tooHigh_0 13 rfl rfl)
theorem dJ28_tooHigh_16 : decode cJ28_tooHigh 16 = .ok (.invokevirtual 7, 3) := dk_182 0 7 (dk_at dksJ28_tooHigh_0 16 rfl rfl)
theorem dJ28_tooHigh_19 : decode cJ28_tooHigh 19 = .ok (.istore_n 2, 1) := dk_61 (dk_at dksJ28_tooHigh_0 19 rfl rfl)
theorem dJ28_tooHigh_20 : decode cJ28_tooHigh 20 = .ok (.iload_n 2, 1) := dk_28 (dk_at dksJ28_tooHigh_0 20 rfl rfl)
theorem dJ28_tooHigh_21 : decode cJ28_tooHigh 21 = .ok (.ifCond .gt 14, 3) := dk_157 0 14 (dk_at dksJ28_tooHigh_0 21 rfl rfl)
theorem dJ28_tooHigh_24 : decode cJ28_tooHigh 24 = .ok (.iload_n 2, 1) := dk_28 (dk_at dksJ28_tooHigh_1 0 rfl rfl)
theorem dJ28_tooHigh_25 : decode cJ28_tooHigh 25 = .ok (.ifCond .ne 12, 3) := dk_154 0 12 (dk_at dksJ28_tooHigh_1 1 rfl rfl)
theorem dJ28_tooHigh_28 : decode cJ28_tooHigh 28 = .ok (.aload_n 0, 1) := dk_42 (dk_at dksJ28_tooHigh_1 4 rfl rfl)
theorem dJ28_tooHigh_29 : decode cJ28_tooHigh 29 = .ok (.getfield 43, 3) := dk_180 0 43 (dk_at dksJ28_tooHigh_1 5 rfl rfl)
theorem dJ28_tooHigh_32 : decode cJ28_tooHigh 32 = .ok (.ifCond .ne 5, 3) := dk_154 0 5 (dk_at dksJ28_tooHigh_1 8 rfl rfl)
theorem dJ28_tooHigh_35 : decode cJ28_tooHigh 35 = .ok (.iconst 1, 1) := dk_4 (dk_at dksJ28_tooHigh_1 11 rfl rfl)
theorem dJ28_tooHigh_36 : decode cJ28_tooHigh 36 = .ok (.ireturn, 1) := dk_172 (dk_at dksJ28_tooHigh_1 12 rfl rfl)
theorem dJ28_tooHigh_37 : decode cJ28_tooHigh 37 = .ok (.iconst 0, 1) := dk_3 (dk_at dksJ28_tooHigh_1 13 rfl rfl)
theorem dJ28_tooHigh_38 : decode cJ28_tooHigh 38 = .ok (.ireturn, 1) := dk_172 (dk_at dksJ28_tooHigh_1 14 rfl rfl)
abbrev cJ28_absHighFence : ByteArray := prog_68_method_13_code
def yJ28_absHighFence : MethodName := ⟨RJ28, "absHighFence", "()Ljava/util/TreeMap$Entry;"⟩
def dkwJ28_absHighFence_1 : List UInt8 := [180, 0, 40, 182, 0, 67, 167, 0, 14, 42, 180, 0, 20, 42, 180, 0, 40, 182, 0, 63, 176]
abbrev dktJ28_absHighFence_1 : List UInt8 := dkwJ28_absHighFence_1 ++ []
def dkwJ28_absHighFence_0 : List UInt8 := [42, 180, 0, 37, 153, 0, 7, 1, 167, 0, 35, 42, 180, 0, 43, 153, 0, 17, 42, 180, 0, 20, 42]
abbrev dktJ28_absHighFence_0 : List UInt8 := dkwJ28_absHighFence_0 ++ dktJ28_absHighFence_1
theorem dksJ28_absHighFence_0 : cJ28_absHighFence.data.toList.drop 0 = dktJ28_absHighFence_0 := by decide +kernel
theorem dksJ28_absHighFence_1 : cJ28_absHighFence.data.toList.drop 23 = dktJ28_absHighFence_1 := dk_seg dksJ28_absHighFence_0 23 rfl rfl
theorem dJ28_absHighFence_0 : decode cJ28_absHighFence 0 = .ok (.aload_n 0, 1) := dk_42 (dk_at dksJ28_absHighFence_0 0 rfl rfl)
theorem dJ28_absHighFence_1 : decode cJ28_absHighFence 1 = .ok (.getfield 37, 3) := dk_180 0 37 (dk_at dksJ28_absHighFence_0 1 rfl rfl)
theorem dJ28_absHighFence_4 : decode cJ28_absHighFence 4 = .ok (.ifCond .eq 7, 3) := dk_153 0 7 (dk_at dksJ28_absHighFence_0 4 rfl rfl)
theorem dJ28_absHighFence_7 : decode cJ28_absHighFence 7 = .ok (.aconst_null, 1) := dk_1 (dk_at dksJ28_absHighFence_0 7 rfl rfl)
theorem dJ28_absHighFence_8 : decode cJ28_absHighFence 8 = .ok (.goto 35, 3) := dk_167 0 35 (dk_at dksJ28_absHighFence_0 8 rfl rfl)
theorem dJ28_absHighFence_11 : decode cJ28_absHighFence 11 = .ok (.aload_n 0, 1) := dk_42 (dk_at dksJ28_absHighFence_0 11 rfl rfl)
theorem dJ28_absHighFence_12 : decode cJ28_absHighFence 12 = .ok (.getfield 43, 3) := dk_180 0 43 (dk_at dksJ28_absHighFence_0 12 rfl rfl)
theorem dJ28_absHighFence_15 : decode cJ28_absHighFence 15 = .ok (.ifCond .eq 17, 3) := dk_153 0 17 (dk_at dksJ28_absHighFence_0 15 rfl rfl)
theorem dJ28_absHighFence_18 : decode cJ28_absHighFence 18 = .ok (.aload_n 0, 1) := dk_42 (dk_at dksJ28_absHighFence_0 18 rfl rfl)
theorem dJ28_absHighFence_19 : decode cJ28_absHighFence 19 = .ok (.getfield 20, 3) := dk_180 0 20 (dk_at dksJ28_absHighFence_0 19 rfl rfl)
theorem dJ28_absHighFence_22 : decode cJ28_absHighFence 22 = .ok (.aload_n 0, 1) := dk_42 (dk_at dksJ28_absHighFence_0 22 rfl rfl)
theorem dJ28_absHighFence_23 : decode cJ28_absHighFence 23 = .ok (.getfield 40, 3) := dk_180 0 40 (dk_at dksJ28_absHighFence_1 0 rfl rfl)
theorem dJ28_absHighFence_26 : decode cJ28_absHighFence 26 = .ok (.invokevirtual 67, 3) := dk_182 0 67 (dk_at dksJ28_absHighFence_1 3 rfl rfl)
theorem dJ28_absHighFence_29 : decode cJ28_absHighFence 29 = .ok (.goto 14, 3) := dk_167 0 14 (dk_at dksJ28_absHighFence_1 6 rfl rfl)
theorem dJ28_absHighFence_32 : decode cJ28_absHighFence 32 = .ok (.aload_n 0, 1) := dk_42 (dk_at dksJ28_absHighFence_1 9 rfl rfl)
theorem dJ28_absHighFence_33 : decode cJ28_absHighFence 33 = .ok (.getfield 20, 3) := dk_180 0 20 (dk_at dksJ28_absHighFence_1 10 rfl rfl)
theorem dJ28_absHighFence_36 : decode cJ28_absHighFence 36 = .ok (.aload_n 0, 1) := dk_42 (dk_at dksJ28_absHighFence_1 13 rfl rfl)
theorem dJ28_absHighFence_37 : decode cJ28_absHighFence 37 = .ok (.getfield 40, 3) := dk_180 0 40 (dk_at dksJ28_absHighFence_1 14 rfl rfl)
theorem dJ28_absHighFence_40 : decode cJ28_absHighFence 40 = .ok (.invokevirtual 63, 3) := dk_182 0 63 (dk_at dksJ28_absHighFence_1 17 rfl rfl)
theorem dJ28_absHighFence_43 : decode cJ28_absHighFence 43 = .ok (.areturn, 1) := dk_176 (dk_at dksJ28_absHighFence_1 20 rfl rfl)
abbrev cJ28_tooLow : ByteArray := prog_68_method_2_code
def yJ28_tooLow : MethodName := ⟨RJ28, "tooLow", "(Ljava/lang/Object;)Z"⟩
def dkwJ28_tooLow_1 : List UInt8 := [28, 154, 0, 12, 42, 180, 0, 34, 154, 0, 5, 4, 172, 3, 172]
abbrev dktJ28_tooLow_1 : List UInt8 := dkwJ28_tooLow_1 ++ []
def dkwJ28_tooLow_0 : List UInt8 := [42, 180, 0, 26, 154, 0, 33, 42, 180, 0, 20, 43, 42, 180, 0, 30, 182, 0, 7, 61, 28, 155, 0, 14]
abbrev dktJ28_tooLow_0 : List UInt8 := dkwJ28_tooLow_0 ++ dktJ28_tooLow_1
theorem dksJ28_tooLow_0 : cJ28_tooLow.data.toList.drop 0 = dktJ28_tooLow_0 := by decide +kernel
theorem dksJ28_tooLow_1 : cJ28_tooLow.data.toList.drop 24 = dktJ28_tooLow_1 := dk_seg dksJ28_tooLow_0 24 rfl rfl
theorem dJ28_tooLow_0 : decode cJ28_tooLow 0 = .ok (.aload_n 0, 1) := dk_42 (dk_at dksJ28_tooLow_0 0 rfl rfl)
theorem dJ28_tooLow_1 : decode cJ28_tooLow 1 = .ok (.getfield 26, 3) := dk_180 0 26 (dk_at dksJ28_tooLow_0 1 rfl rfl)
theorem dJ28_tooLow_4 : decode cJ28_tooLow 4 = .ok (.ifCond .ne 33, 3) := dk_154 0 33 (dk_at dksJ28_tooLow_0 4 rfl rfl)
theorem dJ28_tooLow_7 : decode cJ28_tooLow 7 = .ok (.aload_n 0, 1) := dk_42 (dk_at dksJ28_tooLow_0 7 rfl rfl)
theorem dJ28_tooLow_8 : decode cJ28_tooLow 8 = .ok (.getfield 20, 3) := dk_180 0 20 (dk_at dksJ28_tooLow_0 8 rfl rfl)
theorem dJ28_tooLow_11 : decode cJ28_tooLow 11 = .ok (.aload_n 1, 1) := dk_43 (dk_at dksJ28_tooLow_0 11 rfl rfl)
theorem dJ28_tooLow_12 : decode cJ28_tooLow 12 = .ok (.aload_n 0, 1) := dk_42 (dk_at dksJ28_tooLow_0 12 rfl rfl)
theorem dJ28_tooLow_13 : decode cJ28_tooLow 13 = .ok (.getfield 30, 3) := dk_180 0 30 (dk_at dksJ28_tooLow_0 13 rfl rfl)
theorem dJ28_tooLow_16 : decode cJ28_tooLow 16 = .ok (.invokevirtual 7, 3) := dk_182 0 7 (dk_at dksJ28_tooLow_0 16 rfl rfl)
theorem dJ28_tooLow_19 : decode cJ28_tooLow 19 = .ok (.istore_n 2, 1) := dk_61 (dk_at dksJ28_tooLow_0 19 rfl rfl)
theorem dJ28_tooLow_20 : decode cJ28_tooLow 20 = .ok (.iload_n 2, 1) := dk_28 (dk_at dksJ28_tooLow_0 20 rfl rfl)
theorem dJ28_tooLow_21 : decode cJ28_tooLow 21 = .ok (.ifCond .lt 14, 3) := dk_155 0 14 (dk_at dksJ28_tooLow_0 21 rfl rfl)
theorem dJ28_tooLow_24 : decode cJ28_tooLow 24 = .ok (.iload_n 2, 1) := dk_28 (dk_at dksJ28_tooLow_1 0 rfl rfl)
theorem dJ28_tooLow_25 : decode cJ28_tooLow 25 = .ok (.ifCond .ne 12, 3) := dk_154 0 12 (dk_at dksJ28_tooLow_1 1 rfl rfl)
theorem dJ28_tooLow_28 : decode cJ28_tooLow 28 = .ok (.aload_n 0, 1) := dk_42 (dk_at dksJ28_tooLow_1 4 rfl rfl)
theorem dJ28_tooLow_29 : decode cJ28_tooLow 29 = .ok (.getfield 34, 3) := dk_180 0 34 (dk_at dksJ28_tooLow_1 5 rfl rfl)
theorem dJ28_tooLow_32 : decode cJ28_tooLow 32 = .ok (.ifCond .ne 5, 3) := dk_154 0 5 (dk_at dksJ28_tooLow_1 8 rfl rfl)
theorem dJ28_tooLow_35 : decode cJ28_tooLow 35 = .ok (.iconst 1, 1) := dk_4 (dk_at dksJ28_tooLow_1 11 rfl rfl)
theorem dJ28_tooLow_36 : decode cJ28_tooLow 36 = .ok (.ireturn, 1) := dk_172 (dk_at dksJ28_tooLow_1 12 rfl rfl)
theorem dJ28_tooLow_37 : decode cJ28_tooLow 37 = .ok (.iconst 0, 1) := dk_3 (dk_at dksJ28_tooLow_1 13 rfl rfl)
theorem dJ28_tooLow_38 : decode cJ28_tooLow 38 = .ok (.ireturn, 1) := dk_172 (dk_at dksJ28_tooLow_1 14 rfl rfl)
theorem q74 : (Jvm.Cond.initialized "java/util/TreeMap$NavigableSubMap") ∈ lw_all := lw_g (lw_at lw_m1 34 rfl) rfl
theorem q636 : (Jvm.Cond.instanceMethod ({ cls := "java/util/TreeMap$NavigableSubMap", name := "<init>", desc := "(Ljava/util/TreeMap;ZLjava/lang/Object;ZZLjava/lang/Object;Z)V" } : Jvm.MethodName)) ∈ lw_all := lw_g (lw_at lw_m3 116 rfl) rfl
theorem q637 : (Jvm.Cond.code ({ cls := "java/util/TreeMap$NavigableSubMap", name := "<init>", desc := "(Ljava/util/TreeMap;ZLjava/lang/Object;ZZLjava/lang/Object;Z)V" } : Jvm.MethodName) prog_68_method_1_code (8 : Nat) (Option.none : Option Jvm.ClassFile.FieldType)) ∈ lw_all := lw_g (lw_at lw_m3 117 rfl) rfl
theorem q638 : (Jvm.Cond.methodLink "java/util/TreeMap$NavigableSubMap" (1 : Nat) ({ cls := "java/util/AbstractMap", name := "<init>", desc := "()V" } : Jvm.MethodName)) ∈ lw_all := lw_g (lw_at lw_m3 118 rfl) rfl
theorem q639 : (Jvm.Cond.methodLink "java/util/TreeMap$NavigableSubMap" (7 : Nat) ({ cls := "java/util/TreeMap", name := "compare", desc := "(Ljava/lang/Object;Ljava/lang/Object;)I" } : Jvm.MethodName)) ∈ lw_all := lw_g (lw_at lw_m3 119 rfl) rfl
theorem q838 : (Jvm.Cond.classLink "java/util/TreeMap$NavigableSubMap" (13 : Nat) "java/lang/IllegalArgumentException") ∈ lw_all := lw_g (lw_at lw_m4 78 rfl) rfl
theorem q839 : (Jvm.Cond.stringRef "java/util/TreeMap$NavigableSubMap" (15 : Nat) "fromKey > toKey") ∈ lw_tbl := lw_at lw_m4 79 rfl
theorem q840 : (Jvm.Cond.methodLink "java/util/TreeMap$NavigableSubMap" (17 : Nat) ({ cls := "java/lang/IllegalArgumentException", name := "<init>", desc := "(Ljava/lang/String;)V" } : Jvm.MethodName)) ∈ lw_all := lw_g (lw_at lw_m4 80 rfl) rfl
theorem q842 : (Jvm.Cond.fieldLink "java/util/TreeMap$NavigableSubMap" (20 : Nat) "java/util/TreeMap$NavigableSubMap" "m" "Ljava/util/TreeMap;") ∈ lw_all := lw_g (lw_at lw_m4 82 rfl) rfl
theorem q846 : (Jvm.Cond.fieldLink "java/util/TreeMap$NavigableSubMap" (30 : Nat) "java/util/TreeMap$NavigableSubMap" "lo" "Ljava/lang/Object;") ∈ lw_all := lw_g (lw_at lw_m4 86 rfl) rfl
theorem q847 : (Jvm.Cond.fieldLink "java/util/TreeMap$NavigableSubMap" (40 : Nat) "java/util/TreeMap$NavigableSubMap" "hi" "Ljava/lang/Object;") ∈ lw_all := lw_g (lw_at lw_m4 87 rfl) rfl
theorem q848 : (Jvm.Cond.fieldLink "java/util/TreeMap$NavigableSubMap" (26 : Nat) "java/util/TreeMap$NavigableSubMap" "fromStart" "Z") ∈ lw_all := lw_g (lw_at lw_m4 88 rfl) rfl
theorem q850 : (Jvm.Cond.fieldLink "java/util/TreeMap$NavigableSubMap" (37 : Nat) "java/util/TreeMap$NavigableSubMap" "toEnd" "Z") ∈ lw_all := lw_g (lw_at lw_m4 90 rfl) rfl
theorem q852 : (Jvm.Cond.fieldLink "java/util/TreeMap$NavigableSubMap" (34 : Nat) "java/util/TreeMap$NavigableSubMap" "loInclusive" "Z") ∈ lw_all := lw_g (lw_at lw_m4 92 rfl) rfl
theorem q853 : (Jvm.Cond.fieldLink "java/util/TreeMap$NavigableSubMap" (43 : Nat) "java/util/TreeMap$NavigableSubMap" "hiInclusive" "Z") ∈ lw_all := lw_g (lw_at lw_m4 93 rfl) rfl
theorem q857 : (Jvm.Cond.soleField "java/util/TreeMap$NavigableSubMap" "m") ∈ lw_all := lw_g (lw_at lw_m4 97 rfl) rfl
theorem q859 : (Jvm.Cond.soleField "java/util/TreeMap$NavigableSubMap" "lo") ∈ lw_all := lw_g (lw_at lw_m4 99 rfl) rfl
theorem q861 : (Jvm.Cond.soleField "java/util/TreeMap$NavigableSubMap" "hi") ∈ lw_all := lw_g (lw_at lw_m4 101 rfl) rfl
theorem q863 : (Jvm.Cond.soleField "java/util/TreeMap$NavigableSubMap" "fromStart") ∈ lw_all := lw_g (lw_at lw_m4 103 rfl) rfl
theorem q865 : (Jvm.Cond.soleField "java/util/TreeMap$NavigableSubMap" "toEnd") ∈ lw_all := lw_g (lw_at lw_m4 105 rfl) rfl
theorem q867 : (Jvm.Cond.soleField "java/util/TreeMap$NavigableSubMap" "loInclusive") ∈ lw_all := lw_g (lw_at lw_m4 107 rfl) rfl
theorem q869 : (Jvm.Cond.soleField "java/util/TreeMap$NavigableSubMap" "hiInclusive") ∈ lw_all := lw_g (lw_at lw_m4 109 rfl) rfl
theorem q871 : (Jvm.Cond.soleField "java/util/TreeMap$NavigableSubMap" "descendingMapView") ∈ lw_all := lw_g (lw_at lw_m4 111 rfl) rfl
theorem q873 : (Jvm.Cond.soleField "java/util/TreeMap$NavigableSubMap" "entrySetView") ∈ lw_all := lw_g (lw_at lw_m4 113 rfl) rfl
theorem q875 : (Jvm.Cond.soleField "java/util/TreeMap$NavigableSubMap" "navigableKeySetView") ∈ lw_all := lw_g (lw_at lw_m4 115 rfl) rfl
theorem q889 : (Jvm.Cond.instanceMethod ({ cls := "java/util/TreeMap$NavigableSubMap", name := "size", desc := "()I" } : Jvm.MethodName)) ∈ lw_all := lw_g (lw_at lw_m4 129 rfl) rfl
theorem q890 : (Jvm.Cond.publicMethod ({ cls := "java/util/TreeMap$NavigableSubMap", name := "size", desc := "()I" } : Jvm.MethodName)) ∈ lw_tbl := lw_at lw_m4 130 rfl
theorem q891 : (Jvm.Cond.code ({ cls := "java/util/TreeMap$NavigableSubMap", name := "size", desc := "()I" } : Jvm.MethodName) prog_68_method_25_code (1 : Nat) (Option.some Jvm.ClassFile.FieldType.int)) ∈ lw_all := lw_g (lw_at lw_m4 131 rfl) rfl
theorem q892 : (Jvm.Cond.methodLink "java/util/TreeMap$NavigableSubMap" (101 : Nat) ({ cls := "java/util/TreeMap", name := "size", desc := "()I" } : Jvm.MethodName)) ∈ lw_all := lw_g (lw_at lw_m4 132 rfl) rfl
theorem q893 : (Jvm.Cond.methodLink "java/util/TreeMap$NavigableSubMap" (94 : Nat) ({ cls := "java/util/TreeMap$NavigableSubMap", name := "entrySet", desc := "()Ljava/util/Set;" } : Jvm.MethodName)) ∈ lw_all := lw_g (lw_at lw_m4 133 rfl) rfl
theorem q894 : (Jvm.Cond.sameMethod "java/util/TreeMap$NavigableSubMap" "java/util/AbstractMap" "entrySet" "()Ljava/util/Set;") ∈ lw_all := lw_g (lw_at lw_m4 134 rfl) rfl
theorem q927 : (Jvm.Cond.interfaceEntry "java/util/TreeMap$NavigableSubMap" (105 : Nat)) ∈ lw_tbl := lw_at lw_m4 167 rfl
theorem q928 : (Jvm.Cond.methodLink "java/util/TreeMap$NavigableSubMap" (105 : Nat) ({ cls := "java/util/Set", name := "size", desc := "()I" } : Jvm.MethodName)) ∈ lw_all := lw_g (lw_at lw_m4 168 rfl) rfl
theorem q948 : (Jvm.Cond.declares ({ cls := "java/util/TreeMap$NavigableSubMap", name := "absLowest", desc := "()Ljava/util/TreeMap$Entry;" } : Jvm.MethodName)) ∈ lw_tbl := lw_at lw_m4 188 rfl
theorem q950 : (Jvm.Cond.instanceMethod ({ cls := "java/util/TreeMap$NavigableSubMap", name := "absLowest", desc := "()Ljava/util/TreeMap$Entry;" } : Jvm.MethodName)) ∈ lw_all := lw_g (lw_at lw_m4 190 rfl) rfl
theorem q951 : (Jvm.Cond.code ({ cls := "java/util/TreeMap$NavigableSubMap", name := "absLowest", desc := "()Ljava/util/TreeMap$Entry;" } : Jvm.MethodName) prog_68_method_7_code (2 : Nat) (Option.some (Jvm.ClassFile.FieldType.object "java/util/TreeMap$Entry"))) ∈ lw_all := lw_g (lw_at lw_m4 191 rfl) rfl
theorem q952 : (Jvm.Cond.methodLink "java/util/TreeMap$NavigableSubMap" (59 : Nat) ({ cls := "java/util/TreeMap", name := "getFirstEntry", desc := "()Ljava/util/TreeMap$Entry;" } : Jvm.MethodName)) ∈ lw_all := lw_g (lw_at lw_m4 192 rfl) rfl
theorem q956 : (Jvm.Cond.methodLink "java/util/TreeMap$NavigableSubMap" (63 : Nat) ({ cls := "java/util/TreeMap", name := "getCeilingEntry", desc := "(Ljava/lang/Object;)Ljava/util/TreeMap$Entry;" } : Jvm.MethodName)) ∈ lw_all := lw_g (lw_at lw_m4 196 rfl) rfl
theorem q961 : (Jvm.Cond.methodLink "java/util/TreeMap$NavigableSubMap" (67 : Nat) ({ cls := "java/util/TreeMap", name := "getHigherEntry", desc := "(Ljava/lang/Object;)Ljava/util/TreeMap$Entry;" } : Jvm.MethodName)) ∈ lw_all := lw_g (lw_at lw_m4 201 rfl) rfl
theorem q965 : (Jvm.Cond.methodLink "java/util/TreeMap$NavigableSubMap" (50 : Nat) ({ cls := "java/util/TreeMap$NavigableSubMap", name := "tooHigh", desc := "(Ljava/lang/Object;)Z" } : Jvm.MethodName)) ∈ lw_all := lw_g (lw_at lw_m4 205 rfl) rfl
theorem q966 : (Jvm.Cond.instanceMethod ({ cls := "java/util/TreeMap$NavigableSubMap", name := "tooHigh", desc := "(Ljava/lang/Object;)Z" } : Jvm.MethodName)) ∈ lw_all := lw_g (lw_at lw_m4 206 rfl) rfl
theorem q967 : (Jvm.Cond.sameMethod "java/util/TreeMap$NavigableSubMap" "java/util/TreeMap$NavigableSubMap" "tooHigh" "(Ljava/lang/Object;)Z") ∈ lw_all := lw_g (lw_at lw_m4 207 rfl) rfl
theorem q969 : (Jvm.Cond.code ({ cls := "java/util/TreeMap$NavigableSubMap", name := "tooHigh", desc := "(Ljava/lang/Object;)Z" } : Jvm.MethodName) prog_68_method_3_code (3 : Nat) (Option.some Jvm.ClassFile.FieldType.boolean)) ∈ lw_all := lw_g (lw_at lw_m4 209 rfl) rfl
theorem q972 : (Jvm.Cond.declares ({ cls := "java/util/TreeMap$NavigableSubMap", name := "absHighFence", desc := "()Ljava/util/TreeMap$Entry;" } : Jvm.MethodName)) ∈ lw_tbl := lw_at lw_m4 212 rfl
theorem q974 : (Jvm.Cond.instanceMethod ({ cls := "java/util/TreeMap$NavigableSubMap", name := "absHighFence", desc := "()Ljava/util/TreeMap$Entry;" } : Jvm.MethodName)) ∈ lw_all := lw_g (lw_at lw_m4 214 rfl) rfl
theorem q975 : (Jvm.Cond.code ({ cls := "java/util/TreeMap$NavigableSubMap", name := "absHighFence", desc := "()Ljava/util/TreeMap$Entry;" } : Jvm.MethodName) prog_68_method_13_code (1 : Nat) (Option.some (Jvm.ClassFile.FieldType.object "java/util/TreeMap$Entry"))) ∈ lw_all := lw_g (lw_at lw_m4 215 rfl) rfl
theorem q1328 : (Jvm.Cond.declares ({ cls := "java/util/TreeMap$NavigableSubMap", name := "keyIterator", desc := "()Ljava/util/Iterator;" } : Jvm.MethodName)) ∈ lw_tbl := lw_at lw_m6 88 rfl
theorem q1329 : (Jvm.Cond.sameMethod "java/util/TreeMap$NavigableSubMap" "java/util/TreeMap$NavigableSubMap" "keyIterator" "()Ljava/util/Iterator;") ∈ lw_all := lw_g (lw_at lw_m6 89 rfl) rfl
theorem q1884 : (Jvm.Cond.fieldLink "java/util/TreeMap$NavigableSubMap" (70 : Nat) "java/util/TreeMap$Entry" "key" "Ljava/lang/Object;") ∈ lw_all := lw_g (lw_at lw_m8 164 rfl) rfl
theorem q2156 : (Jvm.Cond.instanceMethod ({ cls := "java/util/TreeMap$NavigableSubMap", name := "put", desc := "(Ljava/lang/Object;Ljava/lang/Object;)Ljava/lang/Object;" } : Jvm.MethodName)) ∈ lw_all := lw_g (lw_at lw_m9 196 rfl) rfl
theorem q2157 : (Jvm.Cond.code ({ cls := "java/util/TreeMap$NavigableSubMap", name := "put", desc := "(Ljava/lang/Object;Ljava/lang/Object;)Ljava/lang/Object;" } : Jvm.MethodName) prog_68_method_27_code (3 : Nat) (Option.some (Jvm.ClassFile.FieldType.object "java/lang/Object"))) ∈ lw_all := lw_g (lw_at lw_m9 197 rfl) rfl
theorem q2158 : (Jvm.Cond.methodLink "java/util/TreeMap$NavigableSubMap" (53 : Nat) ({ cls := "java/util/TreeMap$NavigableSubMap", name := "inRange", desc := "(Ljava/lang/Object;)Z" } : Jvm.MethodName)) ∈ lw_all := lw_g (lw_at lw_m9 198 rfl) rfl
theorem q2159 : (Jvm.Cond.instanceMethod ({ cls := "java/util/TreeMap$NavigableSubMap", name := "inRange", desc := "(Ljava/lang/Object;)Z" } : Jvm.MethodName)) ∈ lw_all := lw_g (lw_at lw_m9 199 rfl) rfl
theorem q2160 : (Jvm.Cond.sameMethod "java/util/TreeMap$NavigableSubMap" "java/util/TreeMap$NavigableSubMap" "inRange" "(Ljava/lang/Object;)Z") ∈ lw_all := lw_g (lw_at lw_m9 200 rfl) rfl
theorem q2162 : (Jvm.Cond.code ({ cls := "java/util/TreeMap$NavigableSubMap", name := "inRange", desc := "(Ljava/lang/Object;)Z" } : Jvm.MethodName) prog_68_method_4_code (2 : Nat) (Option.some Jvm.ClassFile.FieldType.boolean)) ∈ lw_all := lw_g (lw_at lw_m9 202 rfl) rfl
theorem q2163 : (Jvm.Cond.methodLink "java/util/TreeMap$NavigableSubMap" (46 : Nat) ({ cls := "java/util/TreeMap$NavigableSubMap", name := "tooLow", desc := "(Ljava/lang/Object;)Z" } : Jvm.MethodName)) ∈ lw_all := lw_g (lw_at lw_m9 203 rfl) rfl
theorem q2164 : (Jvm.Cond.instanceMethod ({ cls := "java/util/TreeMap$NavigableSubMap", name := "tooLow", desc := "(Ljava/lang/Object;)Z" } : Jvm.MethodName)) ∈ lw_all := lw_g (lw_at lw_m9 204 rfl) rfl
theorem q2165 : (Jvm.Cond.sameMethod "java/util/TreeMap$NavigableSubMap" "java/util/TreeMap$NavigableSubMap" "tooLow" "(Ljava/lang/Object;)Z") ∈ lw_all := lw_g (lw_at lw_m9 205 rfl) rfl
theorem q2167 : (Jvm.Cond.code ({ cls := "java/util/TreeMap$NavigableSubMap", name := "tooLow", desc := "(Ljava/lang/Object;)Z" } : Jvm.MethodName) prog_68_method_2_code (3 : Nat) (Option.some Jvm.ClassFile.FieldType.boolean)) ∈ lw_all := lw_g (lw_at lw_m9 207 rfl) rfl
theorem q2168 : (Jvm.Cond.stringRef "java/util/TreeMap$NavigableSubMap" (109 : Nat) "key out of range") ∈ lw_tbl := lw_at lw_m9 208 rfl
theorem q2169 : (Jvm.Cond.methodLink "java/util/TreeMap$NavigableSubMap" (111 : Nat) ({ cls := "java/util/TreeMap", name := "put", desc := "(Ljava/lang/Object;Ljava/lang/Object;)Ljava/lang/Object;" } : Jvm.MethodName)) ∈ lw_all := lw_g (lw_at lw_m9 209 rfl) rfl
/-! java/util/TreeMap$AscendingSubMap -/
set_option maxRecDepth 100000
def RJ29 : String := "java/util/TreeMap$AscendingSubMap"
def TJ29 : u_T := fun k => match k with
  | 0 => ("java/util/TreeMap$NavigableSubMap", "m", "Ljava/util/TreeMap;", true)
  | 1 => ("java/util/TreeMap$NavigableSubMap", "lo", "Ljava/lang/Object;", true)
  | 2 => ("java/util/TreeMap$NavigableSubMap", "hi", "Ljava/lang/Object;", true)
  | 3 => ("java/util/TreeMap$NavigableSubMap", "fromStart", "Z", true)
  | 4 => ("java/util/TreeMap$NavigableSubMap", "toEnd", "Z", true)
  | 5 => ("java/util/TreeMap$NavigableSubMap", "loInclusive", "Z", true)
  | 6 => ("java/util/TreeMap$NavigableSubMap", "hiInclusive", "Z", true)
  | 7 => ("java/util/TreeMap$NavigableSubMap", "descendingMapView", "Ljava/util/NavigableMap;", false)
  | 8 => ("java/util/TreeMap$NavigableSubMap", "entrySetView", "Ljava/util/TreeMap$NavigableSubMap$EntrySetView;", false)
  | 9 => ("java/util/TreeMap$NavigableSubMap", "navigableKeySetView", "Ljava/util/TreeMap$KeySet;", false)
  | 10 => ("java/util/AbstractMap", "keySet", "Ljava/util/Set;", false)
  | _ => ("java/util/AbstractMap", "values", "Ljava/util/Collection;", false)
def tyJ29 : Nat → FieldType := fun k => match k with
  | 0 => .object "java/util/TreeMap"
  | 1 => .object "java/lang/Object"
  | 2 => .object "java/lang/Object"
  | 3 => .boolean
  | 4 => .boolean
  | 5 => .boolean
  | 6 => .boolean
  | 7 => .object "java/util/NavigableMap"
  | 8 => .object "java/util/TreeMap$NavigableSubMap$EntrySetView"
  | 9 => .object "java/util/TreeMap$KeySet"
  | 10 => .object "java/util/Set"
  | _ => .object "java/util/Collection"
abbrev wsJ290 : List Cond := u_ws RJ29 TJ29 12
theorem nmJ29 : ∀ a, a < 12 → ∀ b, b < 12 → a ≠ b → (TJ29 a).2.1 ≠ (TJ29 b).2.1 := by decide +kernel
theorem tyJ29_ok : ∀ k, k < 12 → parseFieldDescriptor (TJ29 k).2.2.1 = some (tyJ29 k) := by decide +kernel
abbrev cJ29_init : ByteArray := prog_61_method_1_code
def yJ29_init : MethodName := ⟨RJ29, "<init>", "(Ljava/util/TreeMap;ZLjava/lang/Object;ZZLjava/lang/Object;Z)V"⟩
def dkwJ29_init_0 : List UInt8 := [42, 43, 28, 45, 21, 4, 21, 5, 25, 6, 21, 7, 183, 0, 1, 177]
abbrev dktJ29_init_0 : List UInt8 := dkwJ29_init_0 ++ []
theorem dksJ29_init_0 : cJ29_init.data.toList.drop 0 = dktJ29_init_0 := by decide +kernel
theorem dJ29_init_0 : decode cJ29_init 0 = .ok (.aload_n 0, 1) := dk_42 (dk_at dksJ29_init_0 0 rfl rfl)
theorem dJ29_init_1 : decode cJ29_init 1 = .ok (.aload_n 1, 1) := dk_43 (dk_at dksJ29_init_0 1 rfl rfl)
theorem dJ29_init_2 : decode cJ29_init 2 = .ok (.iload_n 2, 1) := dk_28 (dk_at dksJ29_init_0 2 rfl rfl)
theorem dJ29_init_3 : decode cJ29_init 3 = .ok (.aload_n 3, 1) := dk_45 (dk_at dksJ29_init_0 3 rfl rfl)
theorem dJ29_init_4 : decode cJ29_init 4 = .ok (.iload 4, 2) := dk_21 4 (dk_at dksJ29_init_0 4 rfl rfl)
theorem dJ29_init_6 : decode cJ29_init 6 = .ok (.iload 5, 2) := dk_21 5 (dk_at dksJ29_init_0 6 rfl rfl)
theorem dJ29_init_8 : decode cJ29_init 8 = .ok (.aload 6, 2) := dk_25 6 (dk_at dksJ29_init_0 8 rfl rfl)
theorem dJ29_init_10 : decode cJ29_init 10 = .ok (.iload 7, 2) := dk_21 7 (dk_at dksJ29_init_0 10 rfl rfl)
theorem dJ29_init_12 : decode cJ29_init 12 = .ok (.invokespecial 1, 3) := dk_183 0 1 (dk_at dksJ29_init_0 12 rfl rfl)
theorem dJ29_init_15 : decode cJ29_init 15 = .ok (.return_, 1) := dk_177 (dk_at dksJ29_init_0 15 rfl rfl)
abbrev cJ29_entrySet : ByteArray := prog_61_method_10_code
def yJ29_entrySet : MethodName := ⟨RJ29, "entrySet", "()Ljava/util/Set;"⟩
def dkwJ29_entrySet_1 : List UInt8 := [181, 0, 81, 176]
abbrev dktJ29_entrySet_1 : List UInt8 := dkwJ29_entrySet_1 ++ []
def dkwJ29_entrySet_0 : List UInt8 := [42, 180, 0, 81, 76, 43, 198, 0, 7, 43, 167, 0, 16, 42, 187, 0, 85, 89, 42, 183, 0, 87, 90]
abbrev dktJ29_entrySet_0 : List UInt8 := dkwJ29_entrySet_0 ++ dktJ29_entrySet_1
theorem dksJ29_entrySet_0 : cJ29_entrySet.data.toList.drop 0 = dktJ29_entrySet_0 := by decide +kernel
theorem dksJ29_entrySet_1 : cJ29_entrySet.data.toList.drop 23 = dktJ29_entrySet_1 := dk_seg dksJ29_entrySet_0 23 rfl rfl
theorem dJ29_entrySet_0 : decode cJ29_entrySet 0 = .ok (.aload_n 0, 1) := dk_42 (dk_at dksJ29_entrySet_0 0 rfl rfl)
theorem dJ29_entrySet_1 : decode cJ29_entrySet 1 = .ok (.getfield 81, 3) := dk_180 0 81 (dk_at dksJ29_entrySet_0 1 rfl rfl)
theorem dJ29_entrySet_4 : decode cJ29_entrySet 4 = .ok (.astore_n 1, 1) := dk_76 (dk_at dksJ29_entrySet_0 4 rfl rfl)
theorem dJ29_entrySet_5 : decode cJ29_entrySet 5 = .ok (.aload_n 1, 1) := dk_43 (dk_at dksJ29_entrySet_0 5 rfl rfl)
theorem dJ29_entrySet_6 : decode cJ29_entrySet 6 = .ok (.ifnull 7, 3) := dk_198 0 7 (dk_at dksJ29_entrySet_0 6 rfl rfl)
theorem dJ29_entrySet_9 : decode cJ29_entrySet 9 = .ok (.aload_n 1, 1) := dk_43 (dk_at dksJ29_entrySet_0 9 rfl rfl)
theorem dJ29_entrySet_10 : decode cJ29_entrySet 10 = .ok (.goto 16, 3) := dk_167 0 16 (dk_at dksJ29_entrySet_0 10 rfl rfl)
theorem dJ29_entrySet_13 : decode cJ29_entrySet 13 = .ok (.aload_n 0, 1) := dk_42 (dk_at dksJ29_entrySet_0 13 rfl rfl)
theorem dJ29_entrySet_14 : decode cJ29_entrySet 14 = .ok (.new 85, 3) := dk_187 0 85 (dk_at dksJ29_entrySet_0 14 rfl rfl)
theorem dJ29_entrySet_17 : decode cJ29_entrySet 17 = .ok (.dup, 1) := dk_89 (dk_at dksJ29_entrySet_0 17 rfl rfl)
theorem dJ29_entrySet_18 : decode cJ29_entrySet 18 = .ok (.aload_n 0, 1) := dk_42 (dk_at dksJ29_entrySet_0 18 rfl rfl)
theorem dJ29_entrySet_19 : decode cJ29_entrySet 19 = .ok (.invokespecial 87, 3) := dk_183 0 87 (dk_at dksJ29_entrySet_0 19 rfl rfl)
theorem dJ29_entrySet_22 : decode cJ29_entrySet 22 = .ok (.dup_x1, 1) := dk_90 (dk_at dksJ29_entrySet_0 22 rfl rfl)
theorem dJ29_entrySet_23 : decode cJ29_entrySet 23 = .ok (.putfield 81, 3) := dk_181 0 81 (dk_at dksJ29_entrySet_1 0 rfl rfl)
theorem dJ29_entrySet_26 : decode cJ29_entrySet 26 = .ok (.areturn, 1) := dk_176 (dk_at dksJ29_entrySet_1 3 rfl rfl)
abbrev cJ29_keyIterator : ByteArray := prog_61_method_7_code
def yJ29_keyIterator : MethodName := ⟨RJ29, "keyIterator", "()Ljava/util/Iterator;"⟩
def dkwJ29_keyIterator_0 : List UInt8 := [187, 0, 60, 89, 42, 42, 182, 0, 62, 42, 182, 0, 66, 183, 0, 69, 176]
abbrev dktJ29_keyIterator_0 : List UInt8 := dkwJ29_keyIterator_0 ++ []
theorem dksJ29_keyIterator_0 : cJ29_keyIterator.data.toList.drop 0 = dktJ29_keyIterator_0 := by decide +kernel
theorem dJ29_keyIterator_0 : decode cJ29_keyIterator 0 = .ok (.new 60, 3) := dk_187 0 60 (dk_at dksJ29_keyIterator_0 0 rfl rfl)
theorem dJ29_keyIterator_3 : decode cJ29_keyIterator 3 = .ok (.dup, 1) := dk_89 (dk_at dksJ29_keyIterator_0 3 rfl rfl)
theorem dJ29_keyIterator_4 : decode cJ29_keyIterator 4 = .ok (.aload_n 0, 1) := dk_42 (dk_at dksJ29_keyIterator_0 4 rfl rfl)
theorem dJ29_keyIterator_5 : decode cJ29_keyIterator 5 = .ok (.aload_n 0, 1) := dk_42 (dk_at dksJ29_keyIterator_0 5 rfl rfl)
theorem dJ29_keyIterator_6 : decode cJ29_keyIterator 6 = .ok (.invokevirtual 62, 3) := dk_182 0 62 (dk_at dksJ29_keyIterator_0 6 rfl rfl)
theorem dJ29_keyIterator_9 : decode cJ29_keyIterator 9 = .ok (.aload_n 0, 1) := dk_42 (dk_at dksJ29_keyIterator_0 9 rfl rfl)
theorem dJ29_keyIterator_10 : decode cJ29_keyIterator 10 = .ok (.invokevirtual 66, 3) := dk_182 0 66 (dk_at dksJ29_keyIterator_0 10 rfl rfl)
theorem dJ29_keyIterator_13 : decode cJ29_keyIterator 13 = .ok (.invokespecial 69, 3) := dk_183 0 69 (dk_at dksJ29_keyIterator_0 13 rfl rfl)
theorem dJ29_keyIterator_16 : decode cJ29_keyIterator 16 = .ok (.areturn, 1) := dk_176 (dk_at dksJ29_keyIterator_0 16 rfl rfl)
abbrev cJ29_comparator : ByteArray := prog_61_method_2_code
def yJ29_comparator : MethodName := ⟨RJ29, "comparator", "()Ljava/util/Comparator;"⟩
def dkwJ29_comparator_0 : List UInt8 := [42, 180, 0, 7, 182, 0, 13, 176]
abbrev dktJ29_comparator_0 : List UInt8 := dkwJ29_comparator_0 ++ []
theorem dksJ29_comparator_0 : cJ29_comparator.data.toList.drop 0 = dktJ29_comparator_0 := by decide +kernel
theorem dJ29_comparator_0 : decode cJ29_comparator 0 = .ok (.aload_n 0, 1) := dk_42 (dk_at dksJ29_comparator_0 0 rfl rfl)
theorem dJ29_comparator_1 : decode cJ29_comparator 1 = .ok (.getfield 7, 3) := dk_180 0 7 (dk_at dksJ29_comparator_0 1 rfl rfl)
theorem dJ29_comparator_4 : decode cJ29_comparator 4 = .ok (.invokevirtual 13, 3) := dk_182 0 13 (dk_at dksJ29_comparator_0 4 rfl rfl)
theorem dJ29_comparator_7 : decode cJ29_comparator 7 = .ok (.areturn, 1) := dk_176 (dk_at dksJ29_comparator_0 7 rfl rfl)
theorem q75 : (Jvm.Cond.initialized "java/util/TreeMap$AscendingSubMap") ∈ lw_all := lw_g (lw_at lw_m1 35 rfl) rfl
theorem q631 : (Jvm.Cond.instantiable "java/util/TreeMap$AscendingSubMap" (12 : Nat)) ∈ lw_all := lw_g (lw_at lw_m3 111 rfl) rfl
theorem q633 : (Jvm.Cond.instanceMethod ({ cls := "java/util/TreeMap$AscendingSubMap", name := "<init>", desc := "(Ljava/util/TreeMap;ZLjava/lang/Object;ZZLjava/lang/Object;Z)V" } : Jvm.MethodName)) ∈ lw_all := lw_g (lw_at lw_m3 113 rfl) rfl
theorem q634 : (Jvm.Cond.code ({ cls := "java/util/TreeMap$AscendingSubMap", name := "<init>", desc := "(Ljava/util/TreeMap;ZLjava/lang/Object;ZZLjava/lang/Object;Z)V" } : Jvm.MethodName) prog_61_method_1_code (8 : Nat) (Option.none : Option Jvm.ClassFile.FieldType)) ∈ lw_all := lw_g (lw_at lw_m3 114 rfl) rfl
theorem q635 : (Jvm.Cond.methodLink "java/util/TreeMap$AscendingSubMap" (1 : Nat) ({ cls := "java/util/TreeMap$NavigableSubMap", name := "<init>", desc := "(Ljava/util/TreeMap;ZLjava/lang/Object;ZZLjava/lang/Object;Z)V" } : Jvm.MethodName)) ∈ lw_all := lw_g (lw_at lw_m3 115 rfl) rfl
theorem q843 : (Jvm.Cond.fieldLink "java/util/TreeMap$AscendingSubMap" (7 : Nat) "java/util/TreeMap$AscendingSubMap" "m" "Ljava/util/TreeMap;") ∈ lw_all := lw_g (lw_at lw_m4 83 rfl) rfl
theorem q844 : (Jvm.Cond.sameField "java/util/TreeMap$AscendingSubMap" "java/util/TreeMap$NavigableSubMap" "m" "Ljava/util/TreeMap;") ∈ lw_all := lw_g (lw_at lw_m4 84 rfl) rfl
theorem q854 : (Jvm.Cond.fieldLink "java/util/TreeMap$AscendingSubMap" (81 : Nat) "java/util/TreeMap$AscendingSubMap" "entrySetView" "Ljava/util/TreeMap$NavigableSubMap$EntrySetView;") ∈ lw_all := lw_g (lw_at lw_m4 94 rfl) rfl
theorem q855 : (Jvm.Cond.sameField "java/util/TreeMap$AscendingSubMap" "java/util/TreeMap$NavigableSubMap" "entrySetView" "Ljava/util/TreeMap$NavigableSubMap$EntrySetView;") ∈ lw_all := lw_g (lw_at lw_m4 95 rfl) rfl
theorem q856 : (Jvm.Cond.laysFinal "java/util/TreeMap$AscendingSubMap" "java/util/TreeMap$NavigableSubMap" "m" "Ljava/util/TreeMap;") ∈ lw_all := lw_g (lw_at lw_m4 96 rfl) rfl
theorem q858 : (Jvm.Cond.laysFinal "java/util/TreeMap$AscendingSubMap" "java/util/TreeMap$NavigableSubMap" "lo" "Ljava/lang/Object;") ∈ lw_all := lw_g (lw_at lw_m4 98 rfl) rfl
theorem q860 : (Jvm.Cond.laysFinal "java/util/TreeMap$AscendingSubMap" "java/util/TreeMap$NavigableSubMap" "hi" "Ljava/lang/Object;") ∈ lw_all := lw_g (lw_at lw_m4 100 rfl) rfl
theorem q862 : (Jvm.Cond.laysFinal "java/util/TreeMap$AscendingSubMap" "java/util/TreeMap$NavigableSubMap" "fromStart" "Z") ∈ lw_all := lw_g (lw_at lw_m4 102 rfl) rfl
theorem q864 : (Jvm.Cond.laysFinal "java/util/TreeMap$AscendingSubMap" "java/util/TreeMap$NavigableSubMap" "toEnd" "Z") ∈ lw_all := lw_g (lw_at lw_m4 104 rfl) rfl
theorem q866 : (Jvm.Cond.laysFinal "java/util/TreeMap$AscendingSubMap" "java/util/TreeMap$NavigableSubMap" "loInclusive" "Z") ∈ lw_all := lw_g (lw_at lw_m4 106 rfl) rfl
theorem q868 : (Jvm.Cond.laysFinal "java/util/TreeMap$AscendingSubMap" "java/util/TreeMap$NavigableSubMap" "hiInclusive" "Z") ∈ lw_all := lw_g (lw_at lw_m4 108 rfl) rfl
theorem q870 : (Jvm.Cond.lays "java/util/TreeMap$AscendingSubMap" "java/util/TreeMap$NavigableSubMap" "descendingMapView" "Ljava/util/NavigableMap;") ∈ lw_all := lw_g (lw_at lw_m4 110 rfl) rfl
theorem q872 : (Jvm.Cond.lays "java/util/TreeMap$AscendingSubMap" "java/util/TreeMap$NavigableSubMap" "entrySetView" "Ljava/util/TreeMap$NavigableSubMap$EntrySetView;") ∈ lw_all := lw_g (lw_at lw_m4 112 rfl) rfl
theorem q874 : (Jvm.Cond.lays "java/util/TreeMap$AscendingSubMap" "java/util/TreeMap$NavigableSubMap" "navigableKeySetView" "Ljava/util/TreeMap$KeySet;") ∈ lw_all := lw_g (lw_at lw_m4 114 rfl) rfl
theorem q876 : (Jvm.Cond.lays "java/util/TreeMap$AscendingSubMap" "java/util/AbstractMap" "keySet" "Ljava/util/Set;") ∈ lw_all := lw_g (lw_at lw_m4 116 rfl) rfl
theorem q877 : (Jvm.Cond.lays "java/util/TreeMap$AscendingSubMap" "java/util/AbstractMap" "values" "Ljava/util/Collection;") ∈ lw_all := lw_g (lw_at lw_m4 117 rfl) rfl
theorem q878 : (Jvm.Cond.superclass "java/util/TreeMap$AscendingSubMap" "java/util/TreeMap$NavigableSubMap") ∈ lw_all := lw_g (lw_at lw_m4 118 rfl) rfl
theorem q886 : (Jvm.Cond.castable "java/util/TreeMap$AscendingSubMap" "java/util/SortedMap") ∈ lw_tbl := lw_at lw_m4 126 rfl
theorem q887 : (Jvm.Cond.selects "java/util/TreeMap$AscendingSubMap" ({ cls := "java/util/Map", name := "size", desc := "()I" } : Jvm.MethodName) ({ cls := "java/util/TreeMap$NavigableSubMap", name := "size", desc := "()I" } : Jvm.MethodName)) ∈ lw_all := lw_g (lw_at lw_m4 127 rfl) rfl
theorem q888 : (Jvm.Cond.unhidden "java/util/TreeMap$AscendingSubMap" "size" "()I") ∈ lw_tbl := lw_at lw_m4 128 rfl
theorem q896 : (Jvm.Cond.selects "java/util/TreeMap$AscendingSubMap" ({ cls := "java/util/TreeMap$NavigableSubMap", name := "entrySet", desc := "()Ljava/util/Set;" } : Jvm.MethodName) ({ cls := "java/util/TreeMap$AscendingSubMap", name := "entrySet", desc := "()Ljava/util/Set;" } : Jvm.MethodName)) ∈ lw_all := lw_g (lw_at lw_m4 136 rfl) rfl
theorem q897 : (Jvm.Cond.instanceMethod ({ cls := "java/util/TreeMap$AscendingSubMap", name := "entrySet", desc := "()Ljava/util/Set;" } : Jvm.MethodName)) ∈ lw_all := lw_g (lw_at lw_m4 137 rfl) rfl
theorem q898 : (Jvm.Cond.code ({ cls := "java/util/TreeMap$AscendingSubMap", name := "entrySet", desc := "()Ljava/util/Set;" } : Jvm.MethodName) prog_61_method_10_code (2 : Nat) (Option.some (Jvm.ClassFile.FieldType.object "java/util/Set"))) ∈ lw_all := lw_g (lw_at lw_m4 138 rfl) rfl
theorem q899 : (Jvm.Cond.classLink "java/util/TreeMap$AscendingSubMap" (85 : Nat) "java/util/TreeMap$AscendingSubMap$AscendingEntrySetView") ∈ lw_all := lw_g (lw_at lw_m4 139 rfl) rfl
theorem q901 : (Jvm.Cond.methodLink "java/util/TreeMap$AscendingSubMap" (87 : Nat) ({ cls := "java/util/TreeMap$AscendingSubMap$AscendingEntrySetView", name := "<init>", desc := "(Ljava/util/TreeMap$AscendingSubMap;)V" } : Jvm.MethodName)) ∈ lw_all := lw_g (lw_at lw_m4 141 rfl) rfl
theorem q947 : (Jvm.Cond.sameMethod "java/util/TreeMap$AscendingSubMap" "java/util/TreeMap$NavigableSubMap" "absLowest" "()Ljava/util/TreeMap$Entry;") ∈ lw_all := lw_g (lw_at lw_m4 187 rfl) rfl
theorem q949 : (Jvm.Cond.selects "java/util/TreeMap$AscendingSubMap" ({ cls := "java/util/TreeMap$AscendingSubMap", name := "absLowest", desc := "()Ljava/util/TreeMap$Entry;" } : Jvm.MethodName) ({ cls := "java/util/TreeMap$NavigableSubMap", name := "absLowest", desc := "()Ljava/util/TreeMap$Entry;" } : Jvm.MethodName)) ∈ lw_all := lw_g (lw_at lw_m4 189 rfl) rfl
theorem q968 : (Jvm.Cond.selects "java/util/TreeMap$AscendingSubMap" ({ cls := "java/util/TreeMap$NavigableSubMap", name := "tooHigh", desc := "(Ljava/lang/Object;)Z" } : Jvm.MethodName) ({ cls := "java/util/TreeMap$NavigableSubMap", name := "tooHigh", desc := "(Ljava/lang/Object;)Z" } : Jvm.MethodName)) ∈ lw_all := lw_g (lw_at lw_m4 208 rfl) rfl
theorem q971 : (Jvm.Cond.sameMethod "java/util/TreeMap$AscendingSubMap" "java/util/TreeMap$NavigableSubMap" "absHighFence" "()Ljava/util/TreeMap$Entry;") ∈ lw_all := lw_g (lw_at lw_m4 211 rfl) rfl
theorem q973 : (Jvm.Cond.selects "java/util/TreeMap$AscendingSubMap" ({ cls := "java/util/TreeMap$AscendingSubMap", name := "absHighFence", desc := "()Ljava/util/TreeMap$Entry;" } : Jvm.MethodName) ({ cls := "java/util/TreeMap$NavigableSubMap", name := "absHighFence", desc := "()Ljava/util/TreeMap$Entry;" } : Jvm.MethodName)) ∈ lw_all := lw_g (lw_at lw_m4 213 rfl) rfl
theorem q1158 : (Jvm.Cond.castable "java/util/TreeMap$AscendingSubMap" "java/util/NavigableMap") ∈ lw_tbl := lw_at lw_m5 158 rfl
theorem q1224 : (Jvm.Cond.selects "java/util/TreeMap$AscendingSubMap" ({ cls := "java/util/SortedMap", name := "values", desc := "()Ljava/util/Collection;" } : Jvm.MethodName) ({ cls := "java/util/AbstractMap", name := "values", desc := "()Ljava/util/Collection;" } : Jvm.MethodName)) ∈ lw_all := lw_g (lw_at lw_m5 224 rfl) rfl
theorem q1225 : (Jvm.Cond.unhidden "java/util/TreeMap$AscendingSubMap" "values" "()Ljava/util/Collection;") ∈ lw_tbl := lw_at lw_m5 225 rfl
theorem q1330 : (Jvm.Cond.selects "java/util/TreeMap$AscendingSubMap" ({ cls := "java/util/TreeMap$NavigableSubMap", name := "keyIterator", desc := "()Ljava/util/Iterator;" } : Jvm.MethodName) ({ cls := "java/util/TreeMap$AscendingSubMap", name := "keyIterator", desc := "()Ljava/util/Iterator;" } : Jvm.MethodName)) ∈ lw_all := lw_g (lw_at lw_m6 90 rfl) rfl
theorem q1331 : (Jvm.Cond.instanceMethod ({ cls := "java/util/TreeMap$AscendingSubMap", name := "keyIterator", desc := "()Ljava/util/Iterator;" } : Jvm.MethodName)) ∈ lw_all := lw_g (lw_at lw_m6 91 rfl) rfl
theorem q1332 : (Jvm.Cond.code ({ cls := "java/util/TreeMap$AscendingSubMap", name := "keyIterator", desc := "()Ljava/util/Iterator;" } : Jvm.MethodName) prog_61_method_7_code (1 : Nat) (Option.some (Jvm.ClassFile.FieldType.object "java/util/Iterator"))) ∈ lw_all := lw_g (lw_at lw_m6 92 rfl) rfl
theorem q1333 : (Jvm.Cond.classLink "java/util/TreeMap$AscendingSubMap" (60 : Nat) "java/util/TreeMap$NavigableSubMap$SubMapKeyIterator") ∈ lw_all := lw_g (lw_at lw_m6 93 rfl) rfl
theorem q1335 : (Jvm.Cond.methodLink "java/util/TreeMap$AscendingSubMap" (62 : Nat) ({ cls := "java/util/TreeMap$AscendingSubMap", name := "absLowest", desc := "()Ljava/util/TreeMap$Entry;" } : Jvm.MethodName)) ∈ lw_all := lw_g (lw_at lw_m6 95 rfl) rfl
theorem q1336 : (Jvm.Cond.methodLink "java/util/TreeMap$AscendingSubMap" (66 : Nat) ({ cls := "java/util/TreeMap$AscendingSubMap", name := "absHighFence", desc := "()Ljava/util/TreeMap$Entry;" } : Jvm.MethodName)) ∈ lw_all := lw_g (lw_at lw_m6 96 rfl) rfl
theorem q1337 : (Jvm.Cond.methodLink "java/util/TreeMap$AscendingSubMap" (69 : Nat) ({ cls := "java/util/TreeMap$NavigableSubMap$SubMapKeyIterator", name := "<init>", desc := "(Ljava/util/TreeMap$NavigableSubMap;Ljava/util/TreeMap$Entry;Ljava/util/TreeMap$Entry;)V" } : Jvm.MethodName)) ∈ lw_all := lw_g (lw_at lw_m6 97 rfl) rfl
theorem q1402 : (Jvm.Cond.selects "java/util/TreeMap$AscendingSubMap" ({ cls := "java/util/Map", name := "clear", desc := "()V" } : Jvm.MethodName) ({ cls := "java/util/AbstractMap", name := "clear", desc := "()V" } : Jvm.MethodName)) ∈ lw_all := lw_g (lw_at lw_m6 162 rfl) rfl
theorem q1403 : (Jvm.Cond.unhidden "java/util/TreeMap$AscendingSubMap" "clear" "()V") ∈ lw_tbl := lw_at lw_m6 163 rfl
theorem q2064 : (Jvm.Cond.castable "java/util/TreeMap$AscendingSubMap" "java/util/Map") ∈ lw_tbl := lw_at lw_m9 104 rfl
theorem q2075 : (Jvm.Cond.selects "java/util/TreeMap$AscendingSubMap" ({ cls := "java/util/SortedMap", name := "comparator", desc := "()Ljava/util/Comparator;" } : Jvm.MethodName) ({ cls := "java/util/TreeMap$AscendingSubMap", name := "comparator", desc := "()Ljava/util/Comparator;" } : Jvm.MethodName)) ∈ lw_all := lw_g (lw_at lw_m9 115 rfl) rfl
theorem q2076 : (Jvm.Cond.unhidden "java/util/TreeMap$AscendingSubMap" "comparator" "()Ljava/util/Comparator;") ∈ lw_tbl := lw_at lw_m9 116 rfl
theorem q2077 : (Jvm.Cond.instanceMethod ({ cls := "java/util/TreeMap$AscendingSubMap", name := "comparator", desc := "()Ljava/util/Comparator;" } : Jvm.MethodName)) ∈ lw_all := lw_g (lw_at lw_m9 117 rfl) rfl
theorem q2078 : (Jvm.Cond.publicMethod ({ cls := "java/util/TreeMap$AscendingSubMap", name := "comparator", desc := "()Ljava/util/Comparator;" } : Jvm.MethodName)) ∈ lw_tbl := lw_at lw_m9 118 rfl
theorem q2079 : (Jvm.Cond.code ({ cls := "java/util/TreeMap$AscendingSubMap", name := "comparator", desc := "()Ljava/util/Comparator;" } : Jvm.MethodName) prog_61_method_2_code (1 : Nat) (Option.some (Jvm.ClassFile.FieldType.object "java/util/Comparator"))) ∈ lw_all := lw_g (lw_at lw_m9 119 rfl) rfl
theorem q2080 : (Jvm.Cond.methodLink "java/util/TreeMap$AscendingSubMap" (13 : Nat) ({ cls := "java/util/TreeMap", name := "comparator", desc := "()Ljava/util/Comparator;" } : Jvm.MethodName)) ∈ lw_all := lw_g (lw_at lw_m9 120 rfl) rfl
theorem q2111 : (Jvm.Cond.selects "java/util/TreeMap$AscendingSubMap" ({ cls := "java/util/Map", name := "entrySet", desc := "()Ljava/util/Set;" } : Jvm.MethodName) ({ cls := "java/util/TreeMap$AscendingSubMap", name := "entrySet", desc := "()Ljava/util/Set;" } : Jvm.MethodName)) ∈ lw_all := lw_g (lw_at lw_m9 151 rfl) rfl
theorem q2112 : (Jvm.Cond.unhidden "java/util/TreeMap$AscendingSubMap" "entrySet" "()Ljava/util/Set;") ∈ lw_tbl := lw_at lw_m9 152 rfl
theorem q2113 : (Jvm.Cond.publicMethod ({ cls := "java/util/TreeMap$AscendingSubMap", name := "entrySet", desc := "()Ljava/util/Set;" } : Jvm.MethodName)) ∈ lw_tbl := lw_at lw_m9 153 rfl
theorem q2155 : (Jvm.Cond.selects "java/util/TreeMap$AscendingSubMap" ({ cls := "java/util/AbstractMap", name := "put", desc := "(Ljava/lang/Object;Ljava/lang/Object;)Ljava/lang/Object;" } : Jvm.MethodName) ({ cls := "java/util/TreeMap$NavigableSubMap", name := "put", desc := "(Ljava/lang/Object;Ljava/lang/Object;)Ljava/lang/Object;" } : Jvm.MethodName)) ∈ lw_all := lw_g (lw_at lw_m9 195 rfl) rfl
theorem q2161 : (Jvm.Cond.selects "java/util/TreeMap$AscendingSubMap" ({ cls := "java/util/TreeMap$NavigableSubMap", name := "inRange", desc := "(Ljava/lang/Object;)Z" } : Jvm.MethodName) ({ cls := "java/util/TreeMap$NavigableSubMap", name := "inRange", desc := "(Ljava/lang/Object;)Z" } : Jvm.MethodName)) ∈ lw_all := lw_g (lw_at lw_m9 201 rfl) rfl
theorem q2166 : (Jvm.Cond.selects "java/util/TreeMap$AscendingSubMap" ({ cls := "java/util/TreeMap$NavigableSubMap", name := "tooLow", desc := "(Ljava/lang/Object;)Z" } : Jvm.MethodName) ({ cls := "java/util/TreeMap$NavigableSubMap", name := "tooLow", desc := "(Ljava/lang/Object;)Z" } : Jvm.MethodName)) ∈ lw_all := lw_g (lw_at lw_m9 206 rfl) rfl
theorem q2458 : (Jvm.Cond.selects "java/util/TreeMap$AscendingSubMap" ({ cls := "java/util/AbstractMap", name := "entrySet", desc := "()Ljava/util/Set;" } : Jvm.MethodName) ({ cls := "java/util/TreeMap$AscendingSubMap", name := "entrySet", desc := "()Ljava/util/Set;" } : Jvm.MethodName)) ∈ lw_all := lw_g (lw_at lw_m11 18 rfl) rfl
theorem q2479 : (Jvm.Cond.castable "java/util/TreeMap$AscendingSubMap" "java/util/TreeMap$NavigableSubMap") ∈ lw_tbl := lw_at lw_m11 39 rfl
theorem q2496 : (Jvm.Cond.castable "java/util/TreeMap$AscendingSubMap" "java/lang/Object") ∈ lw_tbl := lw_at lw_m11 56 rfl
theorem in_J29 : ∀ w ∈ wsJ290, w ∈ lw_all := lw_in wsJ290 [856, 858, 860, 862, 864, 866, 868, 870, 872, 874, 876, 877] (by decide +kernel) (by decide +kernel)
/-! java/util/AbstractCollection -/
set_option maxRecDepth 100000
def RJ30 : String := "java/util/AbstractCollection"
abbrev cJ30_init : ByteArray := prog_33_method_1_code
def yJ30_init : MethodName := ⟨RJ30, "<init>", "()V"⟩
theorem dJ30_init_0 : decode cJ30_init 0 = .ok (.aload_n 0, 1) := by decide +kernel
theorem dJ30_init_1 : decode cJ30_init 1 = .ok (.invokespecial 1, 3) := by decide +kernel
theorem dJ30_init_4 : decode cJ30_init 4 = .ok (.return_, 1) := by decide +kernel
abbrev cJ30_clear : ByteArray := prog_33_method_15_code
def yJ30_clear : MethodName := ⟨RJ30, "clear", "()V"⟩
def dkwJ30_clear_1 : List UInt8 := [185, 0, 73, 1, 0, 167, 255, 234, 177]
abbrev dktJ30_clear_1 : List UInt8 := dkwJ30_clear_1 ++ []
def dkwJ30_clear_0 : List UInt8 := [42, 182, 0, 13, 76, 43, 185, 0, 17, 1, 0, 153, 0, 19, 43, 185, 0, 23, 1, 0, 87, 43]
abbrev dktJ30_clear_0 : List UInt8 := dkwJ30_clear_0 ++ dktJ30_clear_1
theorem dksJ30_clear_0 : cJ30_clear.data.toList.drop 0 = dktJ30_clear_0 := by decide +kernel
theorem dksJ30_clear_1 : cJ30_clear.data.toList.drop 22 = dktJ30_clear_1 := dk_seg dksJ30_clear_0 22 rfl rfl
theorem dJ30_clear_0 : decode cJ30_clear 0 = .ok (.aload_n 0, 1) := dk_42 (dk_at dksJ30_clear_0 0 rfl rfl)
theorem dJ30_clear_1 : decode cJ30_clear 1 = .ok (.invokevirtual 13, 3) := dk_182 0 13 (dk_at dksJ30_clear_0 1 rfl rfl)
theorem dJ30_clear_4 : decode cJ30_clear 4 = .ok (.astore_n 1, 1) := dk_76 (dk_at dksJ30_clear_0 4 rfl rfl)
theorem dJ30_clear_5 : decode cJ30_clear 5 = .ok (.aload_n 1, 1) := dk_43 (dk_at dksJ30_clear_0 5 rfl rfl)
theorem dJ30_clear_6 : decode cJ30_clear 6 = .ok (.invokeinterface 17 1, 5) := by decide +kernel
theorem dJ30_clear_11 : decode cJ30_clear 11 = .ok (.ifCond .eq 19, 3) := dk_153 0 19 (dk_at dksJ30_clear_0 11 rfl rfl)
theorem dJ30_clear_14 : decode cJ30_clear 14 = .ok (.aload_n 1, 1) := dk_43 (dk_at dksJ30_clear_0 14 rfl rfl)
theorem dJ30_clear_15 : decode cJ30_clear 15 = .ok (.invokeinterface 23 1, 5) := by decide +kernel
theorem dJ30_clear_20 : decode cJ30_clear 20 = .ok (.pop, 1) := dk_87 (dk_at dksJ30_clear_0 20 rfl rfl)
theorem dJ30_clear_21 : decode cJ30_clear 21 = .ok (.aload_n 1, 1) := dk_43 (dk_at dksJ30_clear_0 21 rfl rfl)
theorem dJ30_clear_22 : decode cJ30_clear 22 = .ok (.invokeinterface 73 1, 5) := by decide +kernel
theorem dJ30_clear_27 : decode cJ30_clear 27 = .ok (.goto (-22), 3) := dk_167 255 234 (dk_at dksJ30_clear_1 5 rfl rfl)
theorem dJ30_clear_30 : decode cJ30_clear 30 = .ok (.return_, 1) := dk_177 (dk_at dksJ30_clear_1 8 rfl rfl)
theorem q76 : (Jvm.Cond.initialized "java/util/AbstractCollection") ∈ lw_all := lw_g (lw_at lw_m1 36 rfl) rfl
theorem q911 : (Jvm.Cond.instanceMethod ({ cls := "java/util/AbstractCollection", name := "<init>", desc := "()V" } : Jvm.MethodName)) ∈ lw_all := lw_g (lw_at lw_m4 151 rfl) rfl
theorem q912 : (Jvm.Cond.code ({ cls := "java/util/AbstractCollection", name := "<init>", desc := "()V" } : Jvm.MethodName) prog_33_method_1_code (1 : Nat) (Option.none : Option Jvm.ClassFile.FieldType)) ∈ lw_all := lw_g (lw_at lw_m4 152 rfl) rfl
theorem q913 : (Jvm.Cond.methodLink "java/util/AbstractCollection" (1 : Nat) ({ cls := "java/lang/Object", name := "<init>", desc := "()V" } : Jvm.MethodName)) ∈ lw_all := lw_g (lw_at lw_m4 153 rfl) rfl
theorem q940 : (Jvm.Cond.declares ({ cls := "java/util/AbstractCollection", name := "iterator", desc := "()Ljava/util/Iterator;" } : Jvm.MethodName)) ∈ lw_tbl := lw_at lw_m4 180 rfl
theorem q1414 : (Jvm.Cond.instanceMethod ({ cls := "java/util/AbstractCollection", name := "clear", desc := "()V" } : Jvm.MethodName)) ∈ lw_all := lw_g (lw_at lw_m6 174 rfl) rfl
theorem q1415 : (Jvm.Cond.publicMethod ({ cls := "java/util/AbstractCollection", name := "clear", desc := "()V" } : Jvm.MethodName)) ∈ lw_tbl := lw_at lw_m6 175 rfl
theorem q1416 : (Jvm.Cond.code ({ cls := "java/util/AbstractCollection", name := "clear", desc := "()V" } : Jvm.MethodName) prog_33_method_15_code (2 : Nat) (Option.none : Option Jvm.ClassFile.FieldType)) ∈ lw_all := lw_g (lw_at lw_m6 176 rfl) rfl
theorem q1417 : (Jvm.Cond.methodLink "java/util/AbstractCollection" (13 : Nat) ({ cls := "java/util/AbstractCollection", name := "iterator", desc := "()Ljava/util/Iterator;" } : Jvm.MethodName)) ∈ lw_all := lw_g (lw_at lw_m6 177 rfl) rfl
theorem q1418 : (Jvm.Cond.interfaceEntry "java/util/AbstractCollection" (17 : Nat)) ∈ lw_tbl := lw_at lw_m6 178 rfl
theorem q1419 : (Jvm.Cond.methodLink "java/util/AbstractCollection" (17 : Nat) ({ cls := "java/util/Iterator", name := "hasNext", desc := "()Z" } : Jvm.MethodName)) ∈ lw_all := lw_g (lw_at lw_m6 179 rfl) rfl
theorem q1420 : (Jvm.Cond.interfaceEntry "java/util/AbstractCollection" (23 : Nat)) ∈ lw_tbl := lw_at lw_m6 180 rfl
theorem q1421 : (Jvm.Cond.methodLink "java/util/AbstractCollection" (23 : Nat) ({ cls := "java/util/Iterator", name := "next", desc := "()Ljava/lang/Object;" } : Jvm.MethodName)) ∈ lw_all := lw_g (lw_at lw_m6 181 rfl) rfl
theorem q1422 : (Jvm.Cond.interfaceEntry "java/util/AbstractCollection" (73 : Nat)) ∈ lw_tbl := lw_at lw_m6 182 rfl
theorem q1423 : (Jvm.Cond.methodLink "java/util/AbstractCollection" (73 : Nat) ({ cls := "java/util/Iterator", name := "remove", desc := "()V" } : Jvm.MethodName)) ∈ lw_all := lw_g (lw_at lw_m6 183 rfl) rfl
theorem q2459 : (Jvm.Cond.sameMethod "java/util/AbstractCollection" "java/util/AbstractCollection" "iterator" "()Ljava/util/Iterator;") ∈ lw_all := lw_g (lw_at lw_m11 19 rfl) rfl
/-! java/util/AbstractSet -/
set_option maxRecDepth 100000
def RJ31 : String := "java/util/AbstractSet"
abbrev cJ31_init : ByteArray := prog_39_method_1_code
def yJ31_init : MethodName := ⟨RJ31, "<init>", "()V"⟩
theorem dJ31_init_0 : decode cJ31_init 0 = .ok (.aload_n 0, 1) := by decide +kernel
theorem dJ31_init_1 : decode cJ31_init 1 = .ok (.invokespecial 1, 3) := by decide +kernel
theorem dJ31_init_4 : decode cJ31_init 4 = .ok (.return_, 1) := by decide +kernel
theorem q77 : (Jvm.Cond.initialized "java/util/AbstractSet") ∈ lw_all := lw_g (lw_at lw_m1 37 rfl) rfl
theorem q908 : (Jvm.Cond.instanceMethod ({ cls := "java/util/AbstractSet", name := "<init>", desc := "()V" } : Jvm.MethodName)) ∈ lw_all := lw_g (lw_at lw_m4 148 rfl) rfl
theorem q909 : (Jvm.Cond.code ({ cls := "java/util/AbstractSet", name := "<init>", desc := "()V" } : Jvm.MethodName) prog_39_method_1_code (1 : Nat) (Option.none : Option Jvm.ClassFile.FieldType)) ∈ lw_all := lw_g (lw_at lw_m4 149 rfl) rfl
theorem q910 : (Jvm.Cond.methodLink "java/util/AbstractSet" (1 : Nat) ({ cls := "java/util/AbstractCollection", name := "<init>", desc := "()V" } : Jvm.MethodName)) ∈ lw_all := lw_g (lw_at lw_m4 150 rfl) rfl
/-! java/util/TreeMap$NavigableSubMap$EntrySetView -/
set_option maxRecDepth 100000
def RJ32 : String := "java/util/TreeMap$NavigableSubMap$EntrySetView"
abbrev cJ32_init : ByteArray := prog_69_method_1_code
def yJ32_init : MethodName := ⟨RJ32, "<init>", "(Ljava/util/TreeMap$NavigableSubMap;)V"⟩
def dkwJ32_init_0 : List UInt8 := [42, 43, 181, 0, 1, 42, 183, 0, 7, 42, 2, 181, 0, 13, 177]
abbrev dktJ32_init_0 : List UInt8 := dkwJ32_init_0 ++ []
theorem dksJ32_init_0 : cJ32_init.data.toList.drop 0 = dktJ32_init_0 := by decide +kernel
theorem dJ32_init_0 : decode cJ32_init 0 = .ok (.aload_n 0, 1) := dk_42 (dk_at dksJ32_init_0 0 rfl rfl)
theorem dJ32_init_1 : decode cJ32_init 1 = .ok (.aload_n 1, 1) := dk_43 (dk_at dksJ32_init_0 1 rfl rfl)
theorem dJ32_init_2 : decode cJ32_init 2 = .ok (.putfield 1, 3) := dk_181 0 1 (dk_at dksJ32_init_0 2 rfl rfl)
theorem dJ32_init_5 : decode cJ32_init 5 = .ok (.aload_n 0, 1) := dk_42 (dk_at dksJ32_init_0 5 rfl rfl)
theorem dJ32_init_6 : decode cJ32_init 6 = .ok (.invokespecial 7, 3) := dk_183 0 7 (dk_at dksJ32_init_0 6 rfl rfl)
theorem dJ32_init_9 : decode cJ32_init 9 = .ok (.aload_n 0, 1) := dk_42 (dk_at dksJ32_init_0 9 rfl rfl)
theorem dJ32_init_10 : decode cJ32_init 10 = .ok (.iconst (-1), 1) := dk_2 (dk_at dksJ32_init_0 10 rfl rfl)
theorem dJ32_init_11 : decode cJ32_init 11 = .ok (.putfield 13, 3) := dk_181 0 13 (dk_at dksJ32_init_0 11 rfl rfl)
theorem dJ32_init_14 : decode cJ32_init 14 = .ok (.return_, 1) := dk_177 (dk_at dksJ32_init_0 14 rfl rfl)
abbrev cJ32_size : ByteArray := prog_69_method_2_code
def yJ32_size : MethodName := ⟨RJ32, "size", "()I"⟩
def dkwJ32_size_4 : List UInt8 := [96, 181, 0, 13, 43, 185, 0, 51, 1, 0, 87, 167, 255, 230, 42, 180, 0, 13, 172]
abbrev dktJ32_size_4 : List UInt8 := dkwJ32_size_4 ++ []
def dkwJ32_size_3 : List UInt8 := [3, 181, 0, 13, 42, 182, 0, 41, 76, 43, 185, 0, 45, 1, 0, 153, 0, 23, 42, 89, 180, 0, 13, 4]
abbrev dktJ32_size_3 : List UInt8 := dkwJ32_size_3 ++ dktJ32_size_4
def dkwJ32_size_2 : List UInt8 := [180, 0, 26, 180, 0, 38, 159, 0, 56, 42, 42, 180, 0, 1, 180, 0, 26, 180, 0, 38, 181, 0, 35, 42]
abbrev dktJ32_size_2 : List UInt8 := dkwJ32_size_2 ++ dktJ32_size_3
def dkwJ32_size_1 : List UInt8 := [180, 0, 26, 182, 0, 30, 172, 42, 180, 0, 13, 2, 159, 0, 20, 42, 180, 0, 35, 42, 180, 0, 1]
abbrev dktJ32_size_1 : List UInt8 := dkwJ32_size_1 ++ dktJ32_size_2
def dkwJ32_size_0 : List UInt8 := [42, 180, 0, 1, 180, 0, 17, 153, 0, 24, 42, 180, 0, 1, 180, 0, 23, 153, 0, 14, 42, 180, 0, 1]
abbrev dktJ32_size_0 : List UInt8 := dkwJ32_size_0 ++ dktJ32_size_1
theorem dksJ32_size_0 : cJ32_size.data.toList.drop 0 = dktJ32_size_0 := by decide +kernel
theorem dksJ32_size_1 : cJ32_size.data.toList.drop 24 = dktJ32_size_1 := dk_seg dksJ32_size_0 24 rfl rfl
theorem dksJ32_size_2 : cJ32_size.data.toList.drop 47 = dktJ32_size_2 := dk_seg dksJ32_size_1 23 rfl rfl
theorem dksJ32_size_3 : cJ32_size.data.toList.drop 71 = dktJ32_size_3 := dk_seg dksJ32_size_2 24 rfl rfl
theorem dksJ32_size_4 : cJ32_size.data.toList.drop 95 = dktJ32_size_4 := dk_seg dksJ32_size_3 24 rfl rfl
theorem dJ32_size_0 : decode cJ32_size 0 = .ok (.aload_n 0, 1) := dk_42 (dk_at dksJ32_size_0 0 rfl rfl)
theorem dJ32_size_1 : decode cJ32_size 1 = .ok (.getfield 1, 3) := dk_180 0 1 (dk_at dksJ32_size_0 1 rfl rfl)
theorem dJ32_size_4 : decode cJ32_size 4 = .ok (.getfield 17, 3) := dk_180 0 17 (dk_at dksJ32_size_0 4 rfl rfl)
theorem dJ32_size_7 : decode cJ32_size 7 = .ok (.ifCond .eq 24, 3) := dk_153 0 24 (dk_at dksJ32_size_0 7 rfl rfl)
theorem dJ32_size_10 : decode cJ32_size 10 = .ok (.aload_n 0, 1) := dk_42 (dk_at dksJ32_size_0 10 rfl rfl)
theorem dJ32_size_11 : decode cJ32_size 11 = .ok (.getfield 1, 3) := dk_180 0 1 (dk_at dksJ32_size_0 11 rfl rfl)
theorem dJ32_size_14 : decode cJ32_size 14 = .ok (.getfield 23, 3) := dk_180 0 23 (dk_at dksJ32_size_0 14 rfl rfl)
theorem dJ32_size_17 : decode cJ32_size 17 = .ok (.ifCond .eq 14, 3) := dk_153 0 14 (dk_at dksJ32_size_0 17 rfl rfl)
theorem dJ32_size_20 : decode cJ32_size 20 = .ok (.aload_n 0, 1) := dk_42 (dk_at dksJ32_size_0 20 rfl rfl)
theorem dJ32_size_21 : decode cJ32_size 21 = .ok (.getfield 1, 3) := dk_180 0 1 (dk_at dksJ32_size_0 21 rfl rfl)
theorem dJ32_size_24 : decode cJ32_size 24 = .ok (.getfield 26, 3) := dk_180 0 26 (dk_at dksJ32_size_1 0 rfl rfl)
theorem dJ32_size_27 : decode cJ32_size 27 = .ok (.invokevirtual 30, 3) := dk_182 0 30 (dk_at dksJ32_size_1 3 rfl rfl)
theorem dJ32_size_30 : decode cJ32_size 30 = .ok (.ireturn, 1) := dk_172 (dk_at dksJ32_size_1 6 rfl rfl)
theorem dJ32_size_31 : decode cJ32_size 31 = .ok (.aload_n 0, 1) := dk_42 (dk_at dksJ32_size_1 7 rfl rfl)
theorem dJ32_size_32 : decode cJ32_size 32 = .ok (.getfield 13, 3) := dk_180 0 13 (dk_at dksJ32_size_1 8 rfl rfl)
theorem dJ32_size_35 : decode cJ32_size 35 = .ok (.iconst (-1), 1) := dk_2 (dk_at dksJ32_size_1 11 rfl rfl)
theorem dJ32_size_36 : decode cJ32_size 36 = .ok (.if_icmp .eq 20, 3) := dk_159 0 20 (dk_at dksJ32_size_1 12 rfl rfl)
theorem dJ32_size_39 : decode cJ32_size 39 = .ok (.aload_n 0, 1) := dk_42 (dk_at dksJ32_size_1 15 rfl rfl)
theorem dJ32_size_40 : decode cJ32_size 40 = .ok (.getfield 35, 3) := dk_180 0 35 (dk_at dksJ32_size_1 16 rfl rfl)
theorem dJ32_size_43 : decode cJ32_size 43 = .ok (.aload_n 0, 1) := dk_42 (dk_at dksJ32_size_1 19 rfl rfl)
theorem dJ32_size_44 : decode cJ32_size 44 = .ok (.getfield 1, 3) := dk_180 0 1 (dk_at dksJ32_size_1 20 rfl rfl)
theorem dJ32_size_47 : decode cJ32_size 47 = .ok (.getfield 26, 3) := dk_180 0 26 (dk_at dksJ32_size_2 0 rfl rfl)
theorem dJ32_size_50 : decode cJ32_size 50 = .ok (.getfield 38, 3) := dk_180 0 38 (dk_at dksJ32_size_2 3 rfl rfl)
theorem dJ32_size_53 : decode cJ32_size 53 = .ok (.if_icmp .eq 56, 3) := dk_159 0 56 (dk_at dksJ32_size_2 6 rfl rfl)
theorem dJ32_size_56 : decode cJ32_size 56 = .ok (.aload_n 0, 1) := dk_42 (dk_at dksJ32_size_2 9 rfl rfl)
theorem dJ32_size_57 : decode cJ32_size 57 = .ok (.aload_n 0, 1) := dk_42 (dk_at dksJ32_size_2 10 rfl rfl)
theorem dJ32_size_58 : decode cJ32_size 58 = .ok (.getfield 1, 3) := dk_180 0 1 (dk_at dksJ32_size_2 11 rfl rfl)
theorem dJ32_size_61 : decode cJ32_size 61 = .ok (.getfield 26, 3) := dk_180 0 26 (dk_at dksJ32_size_2 14 rfl rfl)
theorem dJ32_size_64 : decode cJ32_size 64 = .ok (.getfield 38, 3) := dk_180 0 38 (dk_at dksJ32_size_2 17 rfl rfl)
theorem dJ32_size_67 : decode cJ32_size 67 = .ok (.putfield 35, 3) := dk_181 0 35 (dk_at dksJ32_size_2 20 rfl rfl)
theorem dJ32_size_70 : decode cJ32_size 70 = .ok (.aload_n 0, 1) := dk_42 (dk_at dksJ32_size_2 23 rfl rfl)
theorem dJ32_size_71 : decode cJ32_size 71 = .ok (.iconst 0, 1) := dk_3 (dk_at dksJ32_size_3 0 rfl rfl)
theorem dJ32_size_72 : decode cJ32_size 72 = .ok (.putfield 13, 3) := dk_181 0 13 (dk_at dksJ32_size_3 1 rfl rfl)
theorem dJ32_size_75 : decode cJ32_size 75 = .ok (.aload_n 0, 1) := dk_42 (dk_at dksJ32_size_3 4 rfl rfl)
theorem dJ32_size_76 : decode cJ32_size 76 = .ok (.invokevirtual 41, 3) := dk_182 0 41 (dk_at dksJ32_size_3 5 rfl rfl)
theorem dJ32_size_79 : decode cJ32_size 79 = .ok (.astore_n 1, 1) := dk_76 (dk_at dksJ32_size_3 8 rfl rfl)
theorem dJ32_size_80 : decode cJ32_size 80 = .ok (.aload_n 1, 1) := dk_43 (dk_at dksJ32_size_3 9 rfl rfl)
theorem dJ32_size_81 : decode cJ32_size 81 = .ok (.invokeinterface 45 1, 5) := by decide +kernel
theorem dJ32_size_86 : decode cJ32_size 86 = .ok (.ifCond .eq 23, 3) := dk_153 0 23 (dk_at dksJ32_size_3 15 rfl rfl)
theorem dJ32_size_89 : decode cJ32_size 89 = .ok (.aload_n 0, 1) := dk_42 (dk_at dksJ32_size_3 18 rfl rfl)
theorem dJ32_size_90 : decode cJ32_size 90 = .ok (.dup, 1) := dk_89 (dk_at dksJ32_size_3 19 rfl rfl)
theorem dJ32_size_91 : decode cJ32_size 91 = .ok (.getfield 13, 3) := dk_180 0 13 (dk_at dksJ32_size_3 20 rfl rfl)
theorem dJ32_size_94 : decode cJ32_size 94 = .ok (.iconst 1, 1) := dk_4 (dk_at dksJ32_size_3 23 rfl rfl)
theorem dJ32_size_95 : decode cJ32_size 95 = .ok (.iadd, 1) := dk_96 (dk_at dksJ32_size_4 0 rfl rfl)
theorem dJ32_size_96 : decode cJ32_size 96 = .ok (.putfield 13, 3) := dk_181 0 13 (dk_at dksJ32_size_4 1 rfl rfl)
theorem dJ32_size_99 : decode cJ32_size 99 = .ok (.aload_n 1, 1) := dk_43 (dk_at dksJ32_size_4 4 rfl rfl)
theorem dJ32_size_100 : decode cJ32_size 100 = .ok (.invokeinterface 51 1, 5) := by decide +kernel
theorem dJ32_size_105 : decode cJ32_size 105 = .ok (.pop, 1) := dk_87 (dk_at dksJ32_size_4 10 rfl rfl)
theorem dJ32_size_106 : decode cJ32_size 106 = .ok (.goto (-26), 3) := dk_167 255 230 (dk_at dksJ32_size_4 11 rfl rfl)
theorem dJ32_size_109 : decode cJ32_size 109 = .ok (.aload_n 0, 1) := dk_42 (dk_at dksJ32_size_4 14 rfl rfl)
theorem dJ32_size_110 : decode cJ32_size 110 = .ok (.getfield 13, 3) := dk_180 0 13 (dk_at dksJ32_size_4 15 rfl rfl)
theorem dJ32_size_113 : decode cJ32_size 113 = .ok (.ireturn, 1) := dk_172 (dk_at dksJ32_size_4 18 rfl rfl)
theorem q78 : (Jvm.Cond.initialized "java/util/TreeMap$NavigableSubMap$EntrySetView") ∈ lw_all := lw_g (lw_at lw_m1 38 rfl) rfl
theorem q149 : (Jvm.Cond.fieldLinkNest "java/util/TreeMap$NavigableSubMap$EntrySetView" (38 : Nat) "java/util/TreeMap" "modCount" "I" "java/util/TreeMap") ∈ lw_tbl := lw_at lw_m1 109 rfl
theorem q845 : (Jvm.Cond.fieldLink "java/util/TreeMap$NavigableSubMap$EntrySetView" (26 : Nat) "java/util/TreeMap$NavigableSubMap" "m" "Ljava/util/TreeMap;") ∈ lw_all := lw_g (lw_at lw_m4 85 rfl) rfl
theorem q849 : (Jvm.Cond.fieldLink "java/util/TreeMap$NavigableSubMap$EntrySetView" (17 : Nat) "java/util/TreeMap$NavigableSubMap" "fromStart" "Z") ∈ lw_all := lw_g (lw_at lw_m4 89 rfl) rfl
theorem q851 : (Jvm.Cond.fieldLink "java/util/TreeMap$NavigableSubMap$EntrySetView" (23 : Nat) "java/util/TreeMap$NavigableSubMap" "toEnd" "Z") ∈ lw_all := lw_g (lw_at lw_m4 91 rfl) rfl
theorem q905 : (Jvm.Cond.instanceMethod ({ cls := "java/util/TreeMap$NavigableSubMap$EntrySetView", name := "<init>", desc := "(Ljava/util/TreeMap$NavigableSubMap;)V" } : Jvm.MethodName)) ∈ lw_all := lw_g (lw_at lw_m4 145 rfl) rfl
theorem q906 : (Jvm.Cond.code ({ cls := "java/util/TreeMap$NavigableSubMap$EntrySetView", name := "<init>", desc := "(Ljava/util/TreeMap$NavigableSubMap;)V" } : Jvm.MethodName) prog_69_method_1_code (2 : Nat) (Option.none : Option Jvm.ClassFile.FieldType)) ∈ lw_all := lw_g (lw_at lw_m4 146 rfl) rfl
theorem q907 : (Jvm.Cond.methodLink "java/util/TreeMap$NavigableSubMap$EntrySetView" (7 : Nat) ({ cls := "java/util/AbstractSet", name := "<init>", desc := "()V" } : Jvm.MethodName)) ∈ lw_all := lw_g (lw_at lw_m4 147 rfl) rfl
theorem q915 : (Jvm.Cond.fieldLink "java/util/TreeMap$NavigableSubMap$EntrySetView" (13 : Nat) "java/util/TreeMap$NavigableSubMap$EntrySetView" "size" "I") ∈ lw_all := lw_g (lw_at lw_m4 155 rfl) rfl
theorem q916 : (Jvm.Cond.fieldLink "java/util/TreeMap$NavigableSubMap$EntrySetView" (35 : Nat) "java/util/TreeMap$NavigableSubMap$EntrySetView" "sizeModCount" "I") ∈ lw_all := lw_g (lw_at lw_m4 156 rfl) rfl
theorem q917 : (Jvm.Cond.fieldLink "java/util/TreeMap$NavigableSubMap$EntrySetView" (1 : Nat) "java/util/TreeMap$NavigableSubMap$EntrySetView" "this$0" "Ljava/util/TreeMap$NavigableSubMap;") ∈ lw_all := lw_g (lw_at lw_m4 157 rfl) rfl
theorem q921 : (Jvm.Cond.soleField "java/util/TreeMap$NavigableSubMap$EntrySetView" "size") ∈ lw_all := lw_g (lw_at lw_m4 161 rfl) rfl
theorem q923 : (Jvm.Cond.soleField "java/util/TreeMap$NavigableSubMap$EntrySetView" "sizeModCount") ∈ lw_all := lw_g (lw_at lw_m4 163 rfl) rfl
theorem q925 : (Jvm.Cond.soleField "java/util/TreeMap$NavigableSubMap$EntrySetView" "this$0") ∈ lw_all := lw_g (lw_at lw_m4 165 rfl) rfl
theorem q934 : (Jvm.Cond.instanceMethod ({ cls := "java/util/TreeMap$NavigableSubMap$EntrySetView", name := "size", desc := "()I" } : Jvm.MethodName)) ∈ lw_all := lw_g (lw_at lw_m4 174 rfl) rfl
theorem q935 : (Jvm.Cond.publicMethod ({ cls := "java/util/TreeMap$NavigableSubMap$EntrySetView", name := "size", desc := "()I" } : Jvm.MethodName)) ∈ lw_tbl := lw_at lw_m4 175 rfl
theorem q936 : (Jvm.Cond.code ({ cls := "java/util/TreeMap$NavigableSubMap$EntrySetView", name := "size", desc := "()I" } : Jvm.MethodName) prog_69_method_2_code (2 : Nat) (Option.some Jvm.ClassFile.FieldType.int)) ∈ lw_all := lw_g (lw_at lw_m4 176 rfl) rfl
theorem q937 : (Jvm.Cond.methodLink "java/util/TreeMap$NavigableSubMap$EntrySetView" (30 : Nat) ({ cls := "java/util/TreeMap", name := "size", desc := "()I" } : Jvm.MethodName)) ∈ lw_all := lw_g (lw_at lw_m4 177 rfl) rfl
theorem q938 : (Jvm.Cond.methodLink "java/util/TreeMap$NavigableSubMap$EntrySetView" (41 : Nat) ({ cls := "java/util/TreeMap$NavigableSubMap$EntrySetView", name := "iterator", desc := "()Ljava/util/Iterator;" } : Jvm.MethodName)) ∈ lw_all := lw_g (lw_at lw_m4 178 rfl) rfl
theorem q939 : (Jvm.Cond.sameMethod "java/util/TreeMap$NavigableSubMap$EntrySetView" "java/util/AbstractCollection" "iterator" "()Ljava/util/Iterator;") ∈ lw_all := lw_g (lw_at lw_m4 179 rfl) rfl
theorem q1001 : (Jvm.Cond.interfaceEntry "java/util/TreeMap$NavigableSubMap$EntrySetView" (45 : Nat)) ∈ lw_tbl := lw_at lw_m5 1 rfl
theorem q1002 : (Jvm.Cond.methodLink "java/util/TreeMap$NavigableSubMap$EntrySetView" (45 : Nat) ({ cls := "java/util/Iterator", name := "hasNext", desc := "()Z" } : Jvm.MethodName)) ∈ lw_all := lw_g (lw_at lw_m5 2 rfl) rfl
theorem q1034 : (Jvm.Cond.interfaceEntry "java/util/TreeMap$NavigableSubMap$EntrySetView" (51 : Nat)) ∈ lw_tbl := lw_at lw_m5 34 rfl
theorem q1035 : (Jvm.Cond.methodLink "java/util/TreeMap$NavigableSubMap$EntrySetView" (51 : Nat) ({ cls := "java/util/Iterator", name := "next", desc := "()Ljava/lang/Object;" } : Jvm.MethodName)) ∈ lw_all := lw_g (lw_at lw_m5 35 rfl) rfl
/-! java/util/TreeMap$AscendingSubMap$AscendingEntrySetView -/
set_option maxRecDepth 100000
def RJ33 : String := "java/util/TreeMap$AscendingSubMap$AscendingEntrySetView"
def TJ33 : u_T := fun k => match k with
  | 0 => ("java/util/TreeMap$NavigableSubMap$EntrySetView", "size", "I", false)
  | 1 => ("java/util/TreeMap$NavigableSubMap$EntrySetView", "sizeModCount", "I", false)
  | 2 => ("java/util/TreeMap$NavigableSubMap$EntrySetView", "this$0", "Ljava/util/TreeMap$NavigableSubMap;", true)
  | _ => ("java/util/TreeMap$AscendingSubMap$AscendingEntrySetView", "this$0", "Ljava/util/TreeMap$AscendingSubMap;", true)
def tyJ33 : Nat → FieldType := fun k => match k with
  | 0 => .int
  | 1 => .int
  | 2 => .object "java/util/TreeMap$NavigableSubMap"
  | _ => .object "java/util/TreeMap$AscendingSubMap"
abbrev wsJ330 : List Cond := u_ws RJ33 TJ33 4
-- two fields of one name: no nmJ33
theorem tyJ33_ok : ∀ k, k < 4 → parseFieldDescriptor (TJ33 k).2.2.1 = some (tyJ33 k) := by decide +kernel
abbrev cJ33_init : ByteArray := prog_62_method_1_code
def yJ33_init : MethodName := ⟨RJ33, "<init>", "(Ljava/util/TreeMap$AscendingSubMap;)V"⟩
def dkwJ33_init_0 : List UInt8 := [42, 43, 181, 0, 1, 42, 43, 183, 0, 7, 177]
abbrev dktJ33_init_0 : List UInt8 := dkwJ33_init_0 ++ []
theorem dksJ33_init_0 : cJ33_init.data.toList.drop 0 = dktJ33_init_0 := by decide +kernel
theorem dJ33_init_0 : decode cJ33_init 0 = .ok (.aload_n 0, 1) := dk_42 (dk_at dksJ33_init_0 0 rfl rfl)
theorem dJ33_init_1 : decode cJ33_init 1 = .ok (.aload_n 1, 1) := dk_43 (dk_at dksJ33_init_0 1 rfl rfl)
theorem dJ33_init_2 : decode cJ33_init 2 = .ok (.putfield 1, 3) := dk_181 0 1 (dk_at dksJ33_init_0 2 rfl rfl)
theorem dJ33_init_5 : decode cJ33_init 5 = .ok (.aload_n 0, 1) := dk_42 (dk_at dksJ33_init_0 5 rfl rfl)
theorem dJ33_init_6 : decode cJ33_init 6 = .ok (.aload_n 1, 1) := dk_43 (dk_at dksJ33_init_0 6 rfl rfl)
theorem dJ33_init_7 : decode cJ33_init 7 = .ok (.invokespecial 7, 3) := dk_183 0 7 (dk_at dksJ33_init_0 7 rfl rfl)
theorem dJ33_init_10 : decode cJ33_init 10 = .ok (.return_, 1) := dk_177 (dk_at dksJ33_init_0 10 rfl rfl)
abbrev cJ33_iterator : ByteArray := prog_62_method_2_code
def yJ33_iterator : MethodName := ⟨RJ33, "iterator", "()Ljava/util/Iterator;"⟩
def dkwJ33_iterator_1 : List UInt8 := [183, 0, 24, 176]
abbrev dktJ33_iterator_1 : List UInt8 := dkwJ33_iterator_1 ++ []
def dkwJ33_iterator_0 : List UInt8 := [187, 0, 13, 89, 42, 180, 0, 1, 42, 180, 0, 1, 182, 0, 15, 42, 180, 0, 1, 182, 0, 21]
abbrev dktJ33_iterator_0 : List UInt8 := dkwJ33_iterator_0 ++ dktJ33_iterator_1
theorem dksJ33_iterator_0 : cJ33_iterator.data.toList.drop 0 = dktJ33_iterator_0 := by decide +kernel
theorem dksJ33_iterator_1 : cJ33_iterator.data.toList.drop 22 = dktJ33_iterator_1 := dk_seg dksJ33_iterator_0 22 rfl rfl
theorem dJ33_iterator_0 : decode cJ33_iterator 0 = .ok (.new 13, 3) := dk_187 0 13 (dk_at dksJ33_iterator_0 0 rfl rfl)
theorem dJ33_iterator_3 : decode cJ33_iterator 3 = .ok (.dup, 1) := dk_89 (dk_at dksJ33_iterator_0 3 rfl rfl)
theorem dJ33_iterator_4 : decode cJ33_iterator 4 = .ok (.aload_n 0, 1) := dk_42 (dk_at dksJ33_iterator_0 4 rfl rfl)
theorem dJ33_iterator_5 : decode cJ33_iterator 5 = .ok (.getfield 1, 3) := dk_180 0 1 (dk_at dksJ33_iterator_0 5 rfl rfl)
theorem dJ33_iterator_8 : decode cJ33_iterator 8 = .ok (.aload_n 0, 1) := dk_42 (dk_at dksJ33_iterator_0 8 rfl rfl)
theorem dJ33_iterator_9 : decode cJ33_iterator 9 = .ok (.getfield 1, 3) := dk_180 0 1 (dk_at dksJ33_iterator_0 9 rfl rfl)
theorem dJ33_iterator_12 : decode cJ33_iterator 12 = .ok (.invokevirtual 15, 3) := dk_182 0 15 (dk_at dksJ33_iterator_0 12 rfl rfl)
theorem dJ33_iterator_15 : decode cJ33_iterator 15 = .ok (.aload_n 0, 1) := dk_42 (dk_at dksJ33_iterator_0 15 rfl rfl)
theorem dJ33_iterator_16 : decode cJ33_iterator 16 = .ok (.getfield 1, 3) := dk_180 0 1 (dk_at dksJ33_iterator_0 16 rfl rfl)
theorem dJ33_iterator_19 : decode cJ33_iterator 19 = .ok (.invokevirtual 21, 3) := dk_182 0 21 (dk_at dksJ33_iterator_0 19 rfl rfl)
theorem dJ33_iterator_22 : decode cJ33_iterator 22 = .ok (.invokespecial 24, 3) := dk_183 0 24 (dk_at dksJ33_iterator_1 0 rfl rfl)
theorem dJ33_iterator_25 : decode cJ33_iterator 25 = .ok (.areturn, 1) := dk_176 (dk_at dksJ33_iterator_1 3 rfl rfl)
theorem q79 : (Jvm.Cond.initialized "java/util/TreeMap$AscendingSubMap$AscendingEntrySetView") ∈ lw_all := lw_g (lw_at lw_m1 39 rfl) rfl
theorem q900 : (Jvm.Cond.instantiable "java/util/TreeMap$AscendingSubMap$AscendingEntrySetView" (4 : Nat)) ∈ lw_all := lw_g (lw_at lw_m4 140 rfl) rfl
theorem q902 : (Jvm.Cond.instanceMethod ({ cls := "java/util/TreeMap$AscendingSubMap$AscendingEntrySetView", name := "<init>", desc := "(Ljava/util/TreeMap$AscendingSubMap;)V" } : Jvm.MethodName)) ∈ lw_all := lw_g (lw_at lw_m4 142 rfl) rfl
theorem q903 : (Jvm.Cond.code ({ cls := "java/util/TreeMap$AscendingSubMap$AscendingEntrySetView", name := "<init>", desc := "(Ljava/util/TreeMap$AscendingSubMap;)V" } : Jvm.MethodName) prog_62_method_1_code (2 : Nat) (Option.none : Option Jvm.ClassFile.FieldType)) ∈ lw_all := lw_g (lw_at lw_m4 143 rfl) rfl
theorem q904 : (Jvm.Cond.methodLink "java/util/TreeMap$AscendingSubMap$AscendingEntrySetView" (7 : Nat) ({ cls := "java/util/TreeMap$NavigableSubMap$EntrySetView", name := "<init>", desc := "(Ljava/util/TreeMap$NavigableSubMap;)V" } : Jvm.MethodName)) ∈ lw_all := lw_g (lw_at lw_m4 144 rfl) rfl
theorem q914 : (Jvm.Cond.fieldLink "java/util/TreeMap$AscendingSubMap$AscendingEntrySetView" (1 : Nat) "java/util/TreeMap$AscendingSubMap$AscendingEntrySetView" "this$0" "Ljava/util/TreeMap$AscendingSubMap;") ∈ lw_all := lw_g (lw_at lw_m4 154 rfl) rfl
theorem q918 : (Jvm.Cond.laysFinal "java/util/TreeMap$AscendingSubMap$AscendingEntrySetView" "java/util/TreeMap$AscendingSubMap$AscendingEntrySetView" "this$0" "Ljava/util/TreeMap$AscendingSubMap;") ∈ lw_all := lw_g (lw_at lw_m4 158 rfl) rfl
theorem q919 : (Jvm.Cond.soleField "java/util/TreeMap$AscendingSubMap$AscendingEntrySetView" "this$0") ∈ lw_all := lw_g (lw_at lw_m4 159 rfl) rfl
theorem q920 : (Jvm.Cond.lays "java/util/TreeMap$AscendingSubMap$AscendingEntrySetView" "java/util/TreeMap$NavigableSubMap$EntrySetView" "size" "I") ∈ lw_all := lw_g (lw_at lw_m4 160 rfl) rfl
theorem q922 : (Jvm.Cond.lays "java/util/TreeMap$AscendingSubMap$AscendingEntrySetView" "java/util/TreeMap$NavigableSubMap$EntrySetView" "sizeModCount" "I") ∈ lw_all := lw_g (lw_at lw_m4 162 rfl) rfl
theorem q924 : (Jvm.Cond.laysFinal "java/util/TreeMap$AscendingSubMap$AscendingEntrySetView" "java/util/TreeMap$NavigableSubMap$EntrySetView" "this$0" "Ljava/util/TreeMap$NavigableSubMap;") ∈ lw_all := lw_g (lw_at lw_m4 164 rfl) rfl
theorem q926 : (Jvm.Cond.superclass "java/util/TreeMap$AscendingSubMap$AscendingEntrySetView" "java/util/TreeMap$NavigableSubMap$EntrySetView") ∈ lw_all := lw_g (lw_at lw_m4 166 rfl) rfl
theorem q931 : (Jvm.Cond.castable "java/util/TreeMap$AscendingSubMap$AscendingEntrySetView" "java/util/Set") ∈ lw_tbl := lw_at lw_m4 171 rfl
theorem q932 : (Jvm.Cond.selects "java/util/TreeMap$AscendingSubMap$AscendingEntrySetView" ({ cls := "java/util/Set", name := "size", desc := "()I" } : Jvm.MethodName) ({ cls := "java/util/TreeMap$NavigableSubMap$EntrySetView", name := "size", desc := "()I" } : Jvm.MethodName)) ∈ lw_all := lw_g (lw_at lw_m4 172 rfl) rfl
theorem q933 : (Jvm.Cond.unhidden "java/util/TreeMap$AscendingSubMap$AscendingEntrySetView" "size" "()I") ∈ lw_tbl := lw_at lw_m4 173 rfl
theorem q941 : (Jvm.Cond.selects "java/util/TreeMap$AscendingSubMap$AscendingEntrySetView" ({ cls := "java/util/TreeMap$NavigableSubMap$EntrySetView", name := "iterator", desc := "()Ljava/util/Iterator;" } : Jvm.MethodName) ({ cls := "java/util/TreeMap$AscendingSubMap$AscendingEntrySetView", name := "iterator", desc := "()Ljava/util/Iterator;" } : Jvm.MethodName)) ∈ lw_all := lw_g (lw_at lw_m4 181 rfl) rfl
theorem q942 : (Jvm.Cond.instanceMethod ({ cls := "java/util/TreeMap$AscendingSubMap$AscendingEntrySetView", name := "iterator", desc := "()Ljava/util/Iterator;" } : Jvm.MethodName)) ∈ lw_all := lw_g (lw_at lw_m4 182 rfl) rfl
theorem q943 : (Jvm.Cond.code ({ cls := "java/util/TreeMap$AscendingSubMap$AscendingEntrySetView", name := "iterator", desc := "()Ljava/util/Iterator;" } : Jvm.MethodName) prog_62_method_2_code (1 : Nat) (Option.some (Jvm.ClassFile.FieldType.object "java/util/Iterator"))) ∈ lw_all := lw_g (lw_at lw_m4 183 rfl) rfl
theorem q944 : (Jvm.Cond.classLink "java/util/TreeMap$AscendingSubMap$AscendingEntrySetView" (13 : Nat) "java/util/TreeMap$NavigableSubMap$SubMapEntryIterator") ∈ lw_all := lw_g (lw_at lw_m4 184 rfl) rfl
theorem q946 : (Jvm.Cond.methodLink "java/util/TreeMap$AscendingSubMap$AscendingEntrySetView" (15 : Nat) ({ cls := "java/util/TreeMap$AscendingSubMap", name := "absLowest", desc := "()Ljava/util/TreeMap$Entry;" } : Jvm.MethodName)) ∈ lw_all := lw_g (lw_at lw_m4 186 rfl) rfl
theorem q970 : (Jvm.Cond.methodLink "java/util/TreeMap$AscendingSubMap$AscendingEntrySetView" (21 : Nat) ({ cls := "java/util/TreeMap$AscendingSubMap", name := "absHighFence", desc := "()Ljava/util/TreeMap$Entry;" } : Jvm.MethodName)) ∈ lw_all := lw_g (lw_at lw_m4 210 rfl) rfl
theorem q976 : (Jvm.Cond.methodLink "java/util/TreeMap$AscendingSubMap$AscendingEntrySetView" (24 : Nat) ({ cls := "java/util/TreeMap$NavigableSubMap$SubMapEntryIterator", name := "<init>", desc := "(Ljava/util/TreeMap$NavigableSubMap;Ljava/util/TreeMap$Entry;Ljava/util/TreeMap$Entry;)V" } : Jvm.MethodName)) ∈ lw_all := lw_g (lw_at lw_m4 216 rfl) rfl
theorem q1273 : (Jvm.Cond.selects "java/util/TreeMap$AscendingSubMap$AscendingEntrySetView" ({ cls := "java/util/Set", name := "iterator", desc := "()Ljava/util/Iterator;" } : Jvm.MethodName) ({ cls := "java/util/TreeMap$AscendingSubMap$AscendingEntrySetView", name := "iterator", desc := "()Ljava/util/Iterator;" } : Jvm.MethodName)) ∈ lw_all := lw_g (lw_at lw_m6 33 rfl) rfl
theorem q1274 : (Jvm.Cond.unhidden "java/util/TreeMap$AscendingSubMap$AscendingEntrySetView" "iterator" "()Ljava/util/Iterator;") ∈ lw_tbl := lw_at lw_m6 34 rfl
theorem q1275 : (Jvm.Cond.publicMethod ({ cls := "java/util/TreeMap$AscendingSubMap$AscendingEntrySetView", name := "iterator", desc := "()Ljava/util/Iterator;" } : Jvm.MethodName)) ∈ lw_tbl := lw_at lw_m6 35 rfl
theorem q1357 : (Jvm.Cond.castable "java/util/TreeMap$AscendingSubMap$AscendingEntrySetView" "java/util/Collection") ∈ lw_tbl := lw_at lw_m6 117 rfl
theorem q1358 : (Jvm.Cond.selects "java/util/TreeMap$AscendingSubMap$AscendingEntrySetView" ({ cls := "java/util/Collection", name := "iterator", desc := "()Ljava/util/Iterator;" } : Jvm.MethodName) ({ cls := "java/util/TreeMap$AscendingSubMap$AscendingEntrySetView", name := "iterator", desc := "()Ljava/util/Iterator;" } : Jvm.MethodName)) ∈ lw_all := lw_g (lw_at lw_m6 118 rfl) rfl
theorem q1412 : (Jvm.Cond.selects "java/util/TreeMap$AscendingSubMap$AscendingEntrySetView" ({ cls := "java/util/Set", name := "clear", desc := "()V" } : Jvm.MethodName) ({ cls := "java/util/AbstractCollection", name := "clear", desc := "()V" } : Jvm.MethodName)) ∈ lw_all := lw_g (lw_at lw_m6 172 rfl) rfl
theorem q1413 : (Jvm.Cond.unhidden "java/util/TreeMap$AscendingSubMap$AscendingEntrySetView" "clear" "()V") ∈ lw_tbl := lw_at lw_m6 173 rfl
theorem q2461 : (Jvm.Cond.selects "java/util/TreeMap$AscendingSubMap$AscendingEntrySetView" ({ cls := "java/util/AbstractCollection", name := "iterator", desc := "()Ljava/util/Iterator;" } : Jvm.MethodName) ({ cls := "java/util/TreeMap$AscendingSubMap$AscendingEntrySetView", name := "iterator", desc := "()Ljava/util/Iterator;" } : Jvm.MethodName)) ∈ lw_all := lw_g (lw_at lw_m11 21 rfl) rfl
theorem q2497 : (Jvm.Cond.castable "java/util/TreeMap$AscendingSubMap$AscendingEntrySetView" "java/lang/Object") ∈ lw_tbl := lw_at lw_m11 57 rfl
theorem in_J33 : ∀ w ∈ wsJ330, w ∈ lw_all := lw_in wsJ330 [920, 922, 924, 918] (by decide +kernel) (by decide +kernel)
/-! java/util/TreeMap$NavigableSubMap$SubMapIterator -/
set_option maxRecDepth 100000
def RJ34 : String := "java/util/TreeMap$NavigableSubMap$SubMapIterator"
abbrev cJ34_init : ByteArray := prog_71_method_1_code
def yJ34_init : MethodName := ⟨RJ34, "<init>", "(Ljava/util/TreeMap$NavigableSubMap;Ljava/util/TreeMap$Entry;Ljava/util/TreeMap$Entry;)V"⟩
def dkwJ34_init_2 : List UInt8 := [181, 0, 44, 177]
abbrev dktJ34_init_2 : List UInt8 := dkwJ34_init_2 ++ []
def dkwJ34_init_1 : List UInt8 := [181, 0, 28, 42, 44, 181, 0, 32, 42, 45, 199, 0, 9, 178, 0, 35, 167, 0, 7, 45, 180, 0, 39]
abbrev dktJ34_init_1 : List UInt8 := dkwJ34_init_1 ++ dktJ34_init_2
def dkwJ34_init_0 : List UInt8 := [42, 43, 181, 0, 1, 42, 183, 0, 7, 42, 43, 180, 0, 13, 180, 0, 19, 181, 0, 25, 42, 1]
abbrev dktJ34_init_0 : List UInt8 := dkwJ34_init_0 ++ dktJ34_init_1
theorem dksJ34_init_0 : cJ34_init.data.toList.drop 0 = dktJ34_init_0 := by decide +kernel
theorem dksJ34_init_1 : cJ34_init.data.toList.drop 22 = dktJ34_init_1 := dk_seg dksJ34_init_0 22 rfl rfl
theorem dksJ34_init_2 : cJ34_init.data.toList.drop 45 = dktJ34_init_2 := dk_seg dksJ34_init_1 23 rfl rfl
theorem dJ34_init_0 : decode cJ34_init 0 = .ok (.aload_n 0, 1) := dk_42 (dk_at dksJ34_init_0 0 rfl rfl)
theorem dJ34_init_1 : decode cJ34_init 1 = .ok (.aload_n 1, 1) := dk_43 (dk_at dksJ34_init_0 1 rfl rfl)
theorem dJ34_init_2 : decode cJ34_init 2 = .ok (.putfield 1, 3) := dk_181 0 1 (dk_at dksJ34_init_0 2 rfl rfl)
theorem dJ34_init_5 : decode cJ34_init 5 = .ok (.aload_n 0, 1) := dk_42 (dk_at dksJ34_init_0 5 rfl rfl)
theorem dJ34_init_6 : decode cJ34_init 6 = .ok (.invokespecial 7, 3) := dk_183 0 7 (dk_at dksJ34_init_0 6 rfl rfl)
theorem dJ34_init_9 : decode cJ34_init 9 = .ok (.aload_n 0, 1) := dk_42 (dk_at dksJ34_init_0 9 rfl rfl)
theorem dJ34_init_10 : decode cJ34_init 10 = .ok (.aload_n 1, 1) := dk_43 (dk_at dksJ34_init_0 10 rfl rfl)
theorem dJ34_init_11 : decode cJ34_init 11 = .ok (.getfield 13, 3) := dk_180 0 13 (dk_at dksJ34_init_0 11 rfl rfl)
theorem dJ34_init_14 : decode cJ34_init 14 = .ok (.getfield 19, 3) := dk_180 0 19 (dk_at dksJ34_init_0 14 rfl rfl)
theorem dJ34_init_17 : decode cJ34_init 17 = .ok (.putfield 25, 3) := dk_181 0 25 (dk_at dksJ34_init_0 17 rfl rfl)
theorem dJ34_init_20 : decode cJ34_init 20 = .ok (.aload_n 0, 1) := dk_42 (dk_at dksJ34_init_0 20 rfl rfl)
theorem dJ34_init_21 : decode cJ34_init 21 = .ok (.aconst_null, 1) := dk_1 (dk_at dksJ34_init_0 21 rfl rfl)
theorem dJ34_init_22 : decode cJ34_init 22 = .ok (.putfield 28, 3) := dk_181 0 28 (dk_at dksJ34_init_1 0 rfl rfl)
theorem dJ34_init_25 : decode cJ34_init 25 = .ok (.aload_n 0, 1) := dk_42 (dk_at dksJ34_init_1 3 rfl rfl)
theorem dJ34_init_26 : decode cJ34_init 26 = .ok (.aload_n 2, 1) := dk_44 (dk_at dksJ34_init_1 4 rfl rfl)
theorem dJ34_init_27 : decode cJ34_init 27 = .ok (.putfield 32, 3) := dk_181 0 32 (dk_at dksJ34_init_1 5 rfl rfl)
theorem dJ34_init_30 : decode cJ34_init 30 = .ok (.aload_n 0, 1) := dk_42 (dk_at dksJ34_init_1 8 rfl rfl)
theorem dJ34_init_31 : decode cJ34_init 31 = .ok (.aload_n 3, 1) := dk_45 (dk_at dksJ34_init_1 9 rfl rfl)
theorem dJ34_init_32 : decode cJ34_init 32 = .ok (.ifnonnull 9, 3) := dk_199 0 9 (dk_at dksJ34_init_1 10 rfl rfl)
theorem dJ34_init_35 : decode cJ34_init 35 = .ok (.getstatic 35, 3) := dk_178 0 35 (dk_at dksJ34_init_1 13 rfl rfl)
theorem dJ34_init_38 : decode cJ34_init 38 = .ok (.goto 7, 3) := dk_167 0 7 (dk_at dksJ34_init_1 16 rfl rfl)
theorem dJ34_init_41 : decode cJ34_init 41 = .ok (.aload_n 3, 1) := dk_45 (dk_at dksJ34_init_1 19 rfl rfl)
theorem dJ34_init_42 : decode cJ34_init 42 = .ok (.getfield 39, 3) := dk_180 0 39 (dk_at dksJ34_init_1 20 rfl rfl)
theorem dJ34_init_45 : decode cJ34_init 45 = .ok (.putfield 44, 3) := dk_181 0 44 (dk_at dksJ34_init_2 0 rfl rfl)
theorem dJ34_init_48 : decode cJ34_init 48 = .ok (.return_, 1) := dk_177 (dk_at dksJ34_init_2 3 rfl rfl)
abbrev cJ34_hasNext : ByteArray := prog_71_method_2_code
def yJ34_hasNext : MethodName := ⟨RJ34, "hasNext", "()Z"⟩
def dkwJ34_hasNext_1 : List UInt8 := [167, 0, 4, 3, 172]
abbrev dktJ34_hasNext_1 : List UInt8 := dkwJ34_hasNext_1 ++ []
def dkwJ34_hasNext_0 : List UInt8 := [42, 180, 0, 32, 198, 0, 21, 42, 180, 0, 32, 180, 0, 39, 42, 180, 0, 44, 165, 0, 7, 4]
abbrev dktJ34_hasNext_0 : List UInt8 := dkwJ34_hasNext_0 ++ dktJ34_hasNext_1
theorem dksJ34_hasNext_0 : cJ34_hasNext.data.toList.drop 0 = dktJ34_hasNext_0 := by decide +kernel
theorem dksJ34_hasNext_1 : cJ34_hasNext.data.toList.drop 22 = dktJ34_hasNext_1 := dk_seg dksJ34_hasNext_0 22 rfl rfl
theorem dJ34_hasNext_0 : decode cJ34_hasNext 0 = .ok (.aload_n 0, 1) := dk_42 (dk_at dksJ34_hasNext_0 0 rfl rfl)
theorem dJ34_hasNext_1 : decode cJ34_hasNext 1 = .ok (.getfield 32, 3) := dk_180 0 32 (dk_at dksJ34_hasNext_0 1 rfl rfl)
theorem dJ34_hasNext_4 : decode cJ34_hasNext 4 = .ok (.ifnull 21, 3) := dk_198 0 21 (dk_at dksJ34_hasNext_0 4 rfl rfl)
theorem dJ34_hasNext_7 : decode cJ34_hasNext 7 = .ok (.aload_n 0, 1) := dk_42 (dk_at dksJ34_hasNext_0 7 rfl rfl)
theorem dJ34_hasNext_8 : decode cJ34_hasNext 8 = .ok (.getfield 32, 3) := dk_180 0 32 (dk_at dksJ34_hasNext_0 8 rfl rfl)
theorem dJ34_hasNext_11 : decode cJ34_hasNext 11 = .ok (.getfield 39, 3) := dk_180 0 39 (dk_at dksJ34_hasNext_0 11 rfl rfl)
theorem dJ34_hasNext_14 : decode cJ34_hasNext 14 = .ok (.aload_n 0, 1) := dk_42 (dk_at dksJ34_hasNext_0 14 rfl rfl)
theorem dJ34_hasNext_15 : decode cJ34_hasNext 15 = .ok (.getfield 44, 3) := dk_180 0 44 (dk_at dksJ34_hasNext_0 15 rfl rfl)
theorem dJ34_hasNext_18 : decode cJ34_hasNext 18 = .ok (.if_acmp .eq 7, 3) := dk_165 0 7 (dk_at dksJ34_hasNext_0 18 rfl rfl)
theorem dJ34_hasNext_21 : decode cJ34_hasNext 21 = .ok (.iconst 1, 1) := dk_4 (dk_at dksJ34_hasNext_0 21 rfl rfl)
theorem dJ34_hasNext_22 : decode cJ34_hasNext 22 = .ok (.goto 4, 3) := dk_167 0 4 (dk_at dksJ34_hasNext_1 0 rfl rfl)
theorem dJ34_hasNext_25 : decode cJ34_hasNext 25 = .ok (.iconst 0, 1) := dk_3 (dk_at dksJ34_hasNext_1 3 rfl rfl)
theorem dJ34_hasNext_26 : decode cJ34_hasNext 26 = .ok (.ireturn, 1) := dk_172 (dk_at dksJ34_hasNext_1 4 rfl rfl)
abbrev cJ34_nextEntry : ByteArray := prog_71_method_3_code
def yJ34_nextEntry : MethodName := ⟨RJ34, "nextEntry", "()Ljava/util/TreeMap$Entry;"⟩
def dkwJ34_nextEntry_2 : List UInt8 := [89, 183, 0, 52, 191, 42, 43, 184, 0, 53, 181, 0, 32, 42, 43, 181, 0, 28, 43, 176]
abbrev dktJ34_nextEntry_2 : List UInt8 := dkwJ34_nextEntry_2 ++ []
def dkwJ34_nextEntry_1 : List UInt8 := [183, 0, 49, 191, 42, 180, 0, 1, 180, 0, 13, 180, 0, 19, 42, 180, 0, 25, 159, 0, 11, 187, 0, 50]
abbrev dktJ34_nextEntry_1 : List UInt8 := dkwJ34_nextEntry_1 ++ dktJ34_nextEntry_2
def dkwJ34_nextEntry_0 : List UInt8 := [42, 180, 0, 32, 76, 43, 198, 0, 14, 43, 180, 0, 39, 42, 180, 0, 44, 166, 0, 11, 187, 0, 47, 89]
abbrev dktJ34_nextEntry_0 : List UInt8 := dkwJ34_nextEntry_0 ++ dktJ34_nextEntry_1
theorem dksJ34_nextEntry_0 : cJ34_nextEntry.data.toList.drop 0 = dktJ34_nextEntry_0 := by decide +kernel
theorem dksJ34_nextEntry_1 : cJ34_nextEntry.data.toList.drop 24 = dktJ34_nextEntry_1 := dk_seg dksJ34_nextEntry_0 24 rfl rfl
theorem dksJ34_nextEntry_2 : cJ34_nextEntry.data.toList.drop 48 = dktJ34_nextEntry_2 := dk_seg dksJ34_nextEntry_1 24 rfl rfl
theorem dJ34_nextEntry_0 : decode cJ34_nextEntry 0 = .ok (.aload_n 0, 1) := dk_42 (dk_at dksJ34_nextEntry_0 0 rfl rfl)
theorem dJ34_nextEntry_1 : decode cJ34_nextEntry 1 = .ok (.getfield 32, 3) := dk_180 0 32 (dk_at dksJ34_nextEntry_0 1 rfl rfl)
theorem dJ34_nextEntry_4 : decode cJ34_nextEntry 4 = .ok (.astore_n 1, 1) := dk_76 (dk_at dksJ34_nextEntry_0 4 rfl rfl)
theorem dJ34_nextEntry_5 : decode cJ34_nextEntry 5 = .ok (.aload_n 1, 1) := dk_43 (dk_at dksJ34_nextEntry_0 5 rfl rfl)
theorem dJ34_nextEntry_6 : decode cJ34_nextEntry 6 = .ok (.ifnull 14, 3) := dk_198 0 14 (dk_at dksJ34_nextEntry_0 6 rfl rfl)
theorem dJ34_nextEntry_9 : decode cJ34_nextEntry 9 = .ok (.aload_n 1, 1) := dk_43 (dk_at dksJ34_nextEntry_0 9 rfl rfl)
theorem dJ34_nextEntry_10 : decode cJ34_nextEntry 10 = .ok (.getfield 39, 3) := dk_180 0 39 (dk_at dksJ34_nextEntry_0 10 rfl rfl)
theorem dJ34_nextEntry_13 : decode cJ34_nextEntry 13 = .ok (.aload_n 0, 1) := dk_42 (dk_at dksJ34_nextEntry_0 13 rfl rfl)
theorem dJ34_nextEntry_14 : decode cJ34_nextEntry 14 = .ok (.getfield 44, 3) := dk_180 0 44 (dk_at dksJ34_nextEntry_0 14 rfl rfl)
theorem dJ34_nextEntry_17 : decode cJ34_nextEntry 17 = .ok (.if_acmp .ne 11, 3) := dk_166 0 11 (dk_at dksJ34_nextEntry_0 17 rfl rfl)
theorem dJ34_nextEntry_20 : decode cJ34_nextEntry 20 = .ok (.new 47, 3) := dk_187 0 47 (dk_at dksJ34_nextEntry_0 20 rfl rfl)
theorem dJ34_nextEntry_23 : decode cJ34_nextEntry 23 = .ok (.dup, 1) := dk_89 (dk_at dksJ34_nextEntry_0 23 rfl rfl)
theorem dJ34_nextEntry_24 : decode cJ34_nextEntry 24 = .ok (.invokespecial 49, 3) := dk_183 0 49 (dk_at dksJ34_nextEntry_1 0 rfl rfl)
theorem dJ34_nextEntry_27 : decode cJ34_nextEntry 27 = .ok (.athrow, 1) := dk_191 (dk_at dksJ34_nextEntry_1 3 rfl rfl)
theorem dJ34_nextEntry_28 : decode cJ34_nextEntry 28 = .ok (.aload_n 0, 1) := dk_42 (dk_at dksJ34_nextEntry_1 4 rfl rfl)
theorem dJ34_nextEntry_29 : decode cJ34_nextEntry 29 = .ok (.getfield 1, 3) := dk_180 0 1 (dk_at dksJ34_nextEntry_1 5 rfl rfl)
theorem dJ34_nextEntry_32 : decode cJ34_nextEntry 32 = .ok (.getfield 13, 3) := dk_180 0 13 (dk_at dksJ34_nextEntry_1 8 rfl rfl)
theorem dJ34_nextEntry_35 : decode cJ34_nextEntry 35 = .ok (.getfield 19, 3) := dk_180 0 19 (dk_at dksJ34_nextEntry_1 11 rfl rfl)
theorem dJ34_nextEntry_38 : decode cJ34_nextEntry 38 = .ok (.aload_n 0, 1) := dk_42 (dk_at dksJ34_nextEntry_1 14 rfl rfl)
theorem dJ34_nextEntry_39 : decode cJ34_nextEntry 39 = .ok (.getfield 25, 3) := dk_180 0 25 (dk_at dksJ34_nextEntry_1 15 rfl rfl)
theorem dJ34_nextEntry_42 : decode cJ34_nextEntry 42 = .ok (.if_icmp .eq 11, 3) := dk_159 0 11 (dk_at dksJ34_nextEntry_1 18 rfl rfl)
theorem dJ34_nextEntry_45 : decode cJ34_nextEntry 45 = .ok (.new 50, 3) := dk_187 0 50 (dk_at dksJ34_nextEntry_1 21 rfl rfl)
theorem dJ34_nextEntry_48 : decode cJ34_nextEntry 48 = .ok (.dup, 1) := dk_89 (dk_at dksJ34_nextEntry_2 0 rfl rfl)
theorem dJ34_nextEntry_49 : decode cJ34_nextEntry 49 = .ok (.invokespecial 52, 3) := dk_183 0 52 (dk_at dksJ34_nextEntry_2 1 rfl rfl)
theorem dJ34_nextEntry_52 : decode cJ34_nextEntry 52 = .ok (.athrow, 1) := dk_191 (dk_at dksJ34_nextEntry_2 4 rfl rfl)
theorem dJ34_nextEntry_53 : decode cJ34_nextEntry 53 = .ok (.aload_n 0, 1) := dk_42 (dk_at dksJ34_nextEntry_2 5 rfl rfl)
theorem dJ34_nextEntry_54 : decode cJ34_nextEntry 54 = .ok (.aload_n 1, 1) := dk_43 (dk_at dksJ34_nextEntry_2 6 rfl rfl)
theorem dJ34_nextEntry_55 : decode cJ34_nextEntry 55 = .ok (.invokestatic 53, 3) := dk_184 0 53 (dk_at dksJ34_nextEntry_2 7 rfl rfl)
theorem dJ34_nextEntry_58 : decode cJ34_nextEntry 58 = .ok (.putfield 32, 3) := dk_181 0 32 (dk_at dksJ34_nextEntry_2 10 rfl rfl)
theorem dJ34_nextEntry_61 : decode cJ34_nextEntry 61 = .ok (.aload_n 0, 1) := dk_42 (dk_at dksJ34_nextEntry_2 13 rfl rfl)
theorem dJ34_nextEntry_62 : decode cJ34_nextEntry 62 = .ok (.aload_n 1, 1) := dk_43 (dk_at dksJ34_nextEntry_2 14 rfl rfl)
theorem dJ34_nextEntry_63 : decode cJ34_nextEntry 63 = .ok (.putfield 28, 3) := dk_181 0 28 (dk_at dksJ34_nextEntry_2 15 rfl rfl)
theorem dJ34_nextEntry_66 : decode cJ34_nextEntry 66 = .ok (.aload_n 1, 1) := dk_43 (dk_at dksJ34_nextEntry_2 18 rfl rfl)
theorem dJ34_nextEntry_67 : decode cJ34_nextEntry 67 = .ok (.areturn, 1) := dk_176 (dk_at dksJ34_nextEntry_2 19 rfl rfl)
abbrev cJ34_removeAscending : ByteArray := prog_71_method_5_code
def yJ34_removeAscending : MethodName := ⟨RJ34, "removeAscending", "()V"⟩
def dkwJ34_removeAscending_4 : List UInt8 := [180, 0, 13, 180, 0, 19, 181, 0, 25, 177]
abbrev dktJ34_removeAscending_4 : List UInt8 := dkwJ34_removeAscending_4 ++ []
def dkwJ34_removeAscending_3 : List UInt8 := [42, 180, 0, 1, 180, 0, 13, 42, 180, 0, 28, 182, 0, 69, 42, 1, 181, 0, 28, 42, 42, 180, 0, 1]
abbrev dktJ34_removeAscending_3 : List UInt8 := dkwJ34_removeAscending_3 ++ dktJ34_removeAscending_4
def dkwJ34_removeAscending_2 : List UInt8 := [180, 0, 63, 198, 0, 21, 42, 180, 0, 28, 180, 0, 66, 198, 0, 11, 42, 42, 180, 0, 28, 181, 0, 32]
abbrev dktJ34_removeAscending_2 : List UInt8 := dkwJ34_removeAscending_2 ++ dktJ34_removeAscending_3
def dkwJ34_removeAscending_1 : List UInt8 := [180, 0, 19, 42, 180, 0, 25, 159, 0, 11, 187, 0, 50, 89, 183, 0, 52, 191, 42, 180, 0, 28]
abbrev dktJ34_removeAscending_1 : List UInt8 := dkwJ34_removeAscending_1 ++ dktJ34_removeAscending_2
def dkwJ34_removeAscending_0 : List UInt8 := [42, 180, 0, 28, 199, 0, 11, 187, 0, 60, 89, 183, 0, 62, 191, 42, 180, 0, 1, 180, 0, 13]
abbrev dktJ34_removeAscending_0 : List UInt8 := dkwJ34_removeAscending_0 ++ dktJ34_removeAscending_1
theorem dksJ34_removeAscending_0 : cJ34_removeAscending.data.toList.drop 0 = dktJ34_removeAscending_0 := by decide +kernel
theorem dksJ34_removeAscending_1 : cJ34_removeAscending.data.toList.drop 22 = dktJ34_removeAscending_1 := dk_seg dksJ34_removeAscending_0 22 rfl rfl
theorem dksJ34_removeAscending_2 : cJ34_removeAscending.data.toList.drop 44 = dktJ34_removeAscending_2 := dk_seg dksJ34_removeAscending_1 22 rfl rfl
theorem dksJ34_removeAscending_3 : cJ34_removeAscending.data.toList.drop 68 = dktJ34_removeAscending_3 := dk_seg dksJ34_removeAscending_2 24 rfl rfl
theorem dksJ34_removeAscending_4 : cJ34_removeAscending.data.toList.drop 92 = dktJ34_removeAscending_4 := dk_seg dksJ34_removeAscending_3 24 rfl rfl
theorem dJ34_removeAscending_0 : decode cJ34_removeAscending 0 = .ok (.aload_n 0, 1) := dk_42 (dk_at dksJ34_removeAscending_0 0 rfl rfl)
theorem dJ34_removeAscending_1 : decode cJ34_removeAscending 1 = .ok (.getfield 28, 3) := dk_180 0 28 (dk_at dksJ34_removeAscending_0 1 rfl rfl)
theorem dJ34_removeAscending_4 : decode cJ34_removeAscending 4 = .ok (.ifnonnull 11, 3) := dk_199 0 11 (dk_at dksJ34_removeAscending_0 4 rfl rfl)
theorem dJ34_removeAscending_7 : decode cJ34_removeAscending 7 = .ok (.new 60, 3) := dk_187 0 60 (dk_at dksJ34_removeAscending_0 7 rfl rfl)
theorem dJ34_removeAscending_10 : decode cJ34_removeAscending 10 = .ok (.dup, 1) := dk_89 (dk_at dksJ34_removeAscending_0 10 rfl rfl)
theorem dJ34_removeAscending_11 : decode cJ34_removeAscending 11 = .ok (.invokespecial 62, 3) := dk_183 0 62 (dk_at dksJ34_removeAscending_0 11 rfl rfl)
theorem dJ34_removeAscending_14 : decode cJ34_removeAscending 14 = .ok (.athrow, 1) := dk_191 (dk_at dksJ34_removeAscending_0 14 rfl rfl)
theorem dJ34_removeAscending_15 : decode cJ34_removeAscending 15 = .ok (.aload_n 0, 1) := dk_42 (dk_at dksJ34_removeAscending_0 15 rfl rfl)
theorem dJ34_removeAscending_16 : decode cJ34_removeAscending 16 = .ok (.getfield 1, 3) := dk_180 0 1 (dk_at dksJ34_removeAscending_0 16 rfl rfl)
theorem dJ34_removeAscending_19 : decode cJ34_removeAscending 19 = .ok (.getfield 13, 3) := dk_180 0 13 (dk_at dksJ34_removeAscending_0 19 rfl rfl)
theorem dJ34_removeAscending_22 : decode cJ34_removeAscending 22 = .ok (.getfield 19, 3) := dk_180 0 19 (dk_at dksJ34_removeAscending_1 0 rfl rfl)
theorem dJ34_removeAscending_25 : decode cJ34_removeAscending 25 = .ok (.aload_n 0, 1) := dk_42 (dk_at dksJ34_removeAscending_1 3 rfl rfl)
theorem dJ34_removeAscending_26 : decode cJ34_removeAscending 26 = .ok (.getfield 25, 3) := dk_180 0 25 (dk_at dksJ34_removeAscending_1 4 rfl rfl)
theorem dJ34_removeAscending_29 : decode cJ34_removeAscending 29 = .ok (.if_icmp .eq 11, 3) := dk_159 0 11 (dk_at dksJ34_removeAscending_1 7 rfl rfl)
theorem dJ34_removeAscending_32 : decode cJ34_removeAscending 32 = .ok (.new 50, 3) := dk_187 0 50 (dk_at dksJ34_removeAscending_1 10 rfl rfl)
theorem dJ34_removeAscending_35 : decode cJ34_removeAscending 35 = .ok (.dup, 1) := dk_89 (dk_at dksJ34_removeAscending_1 13 rfl rfl)
theorem dJ34_removeAscending_36 : decode cJ34_removeAscending 36 = .ok (.invokespecial 52, 3) := dk_183 0 52 (dk_at dksJ34_removeAscending_1 14 rfl rfl)
theorem dJ34_removeAscending_39 : decode cJ34_removeAscending 39 = .ok (.athrow, 1) := dk_191 (dk_at dksJ34_removeAscending_1 17 rfl rfl)
theorem dJ34_removeAscending_40 : decode cJ34_removeAscending 40 = .ok (.aload_n 0, 1) := dk_42 (dk_at dksJ34_removeAscending_1 18 rfl rfl)
theorem dJ34_removeAscending_41 : decode cJ34_removeAscending 41 = .ok (.getfield 28, 3) := dk_180 0 28 (dk_at dksJ34_removeAscending_1 19 rfl rfl)
theorem dJ34_removeAscending_44 : decode cJ34_removeAscending 44 = .ok (.getfield 63, 3) := dk_180 0 63 (dk_at dksJ34_removeAscending_2 0 rfl rfl)
theorem dJ34_removeAscending_47 : decode cJ34_removeAscending 47 = .ok (.ifnull 21, 3) := dk_198 0 21 (dk_at dksJ34_removeAscending_2 3 rfl rfl)
theorem dJ34_removeAscending_50 : decode cJ34_removeAscending 50 = .ok (.aload_n 0, 1) := dk_42 (dk_at dksJ34_removeAscending_2 6 rfl rfl)
theorem dJ34_removeAscending_51 : decode cJ34_removeAscending 51 = .ok (.getfield 28, 3) := dk_180 0 28 (dk_at dksJ34_removeAscending_2 7 rfl rfl)
theorem dJ34_removeAscending_54 : decode cJ34_removeAscending 54 = .ok (.getfield 66, 3) := dk_180 0 66 (dk_at dksJ34_removeAscending_2 10 rfl rfl)
theorem dJ34_removeAscending_57 : decode cJ34_removeAscending 57 = .ok (.ifnull 11, 3) := dk_198 0 11 (dk_at dksJ34_removeAscending_2 13 rfl rfl)
theorem dJ34_removeAscending_60 : decode cJ34_removeAscending 60 = .ok (.aload_n 0, 1) := dk_42 (dk_at dksJ34_removeAscending_2 16 rfl rfl)
theorem dJ34_removeAscending_61 : decode cJ34_removeAscending 61 = .ok (.aload_n 0, 1) := dk_42 (dk_at dksJ34_removeAscending_2 17 rfl rfl)
theorem dJ34_removeAscending_62 : decode cJ34_removeAscending 62 = .ok (.getfield 28, 3) := dk_180 0 28 (dk_at dksJ34_removeAscending_2 18 rfl rfl)
theorem dJ34_removeAscending_65 : decode cJ34_removeAscending 65 = .ok (.putfield 32, 3) := dk_181 0 32 (dk_at dksJ34_removeAscending_2 21 rfl rfl)
theorem dJ34_removeAscending_68 : decode cJ34_removeAscending 68 = .ok (.aload_n 0, 1) := dk_42 (dk_at dksJ34_removeAscending_3 0 rfl rfl)
theorem dJ34_removeAscending_69 : decode cJ34_removeAscending 69 = .ok (.getfield 1, 3) := dk_180 0 1 (dk_at dksJ34_removeAscending_3 1 rfl rfl)
theorem dJ34_removeAscending_72 : decode cJ34_removeAscending 72 = .ok (.getfield 13, 3) := dk_180 0 13 (dk_at dksJ34_removeAscending_3 4 rfl rfl)
theorem dJ34_removeAscending_75 : decode cJ34_removeAscending 75 = .ok (.aload_n 0, 1) := dk_42 (dk_at dksJ34_removeAscending_3 7 rfl rfl)
theorem dJ34_removeAscending_76 : decode cJ34_removeAscending 76 = .ok (.getfield 28, 3) := dk_180 0 28 (dk_at dksJ34_removeAscending_3 8 rfl rfl)
theorem dJ34_removeAscending_79 : decode cJ34_removeAscending 79 = .ok (.invokevirtual 69, 3) := dk_182 0 69 (dk_at dksJ34_removeAscending_3 11 rfl rfl)
theorem dJ34_removeAscending_82 : decode cJ34_removeAscending 82 = .ok (.aload_n 0, 1) := dk_42 (dk_at dksJ34_removeAscending_3 14 rfl rfl)
theorem dJ34_removeAscending_83 : decode cJ34_removeAscending 83 = .ok (.aconst_null, 1) := dk_1 (dk_at dksJ34_removeAscending_3 15 rfl rfl)
theorem dJ34_removeAscending_84 : decode cJ34_removeAscending 84 = .ok (.putfield 28, 3) := dk_181 0 28 (dk_at dksJ34_removeAscending_3 16 rfl rfl)
theorem dJ34_removeAscending_87 : decode cJ34_removeAscending 87 = .ok (.aload_n 0, 1) := dk_42 (dk_at dksJ34_removeAscending_3 19 rfl rfl)
theorem dJ34_removeAscending_88 : decode cJ34_removeAscending 88 = .ok (.aload_n 0, 1) := dk_42 (dk_at dksJ34_removeAscending_3 20 rfl rfl)
theorem dJ34_removeAscending_89 : decode cJ34_removeAscending 89 = .ok (.getfield 1, 3) := dk_180 0 1 (dk_at dksJ34_removeAscending_3 21 rfl rfl)
theorem dJ34_removeAscending_92 : decode cJ34_removeAscending 92 = .ok (.getfield 13, 3) := dk_180 0 13 (dk_at dksJ34_removeAscending_4 0 rfl rfl)
theorem dJ34_removeAscending_95 : decode cJ34_removeAscending 95 = .ok (.getfield 19, 3) := dk_180 0 19 (dk_at dksJ34_removeAscending_4 3 rfl rfl)
theorem dJ34_removeAscending_98 : decode cJ34_removeAscending 98 = .ok (.putfield 25, 3) := dk_181 0 25 (dk_at dksJ34_removeAscending_4 6 rfl rfl)
theorem dJ34_removeAscending_101 : decode cJ34_removeAscending 101 = .ok (.return_, 1) := dk_177 (dk_at dksJ34_removeAscending_4 9 rfl rfl)
theorem q80 : (Jvm.Cond.initialized "java/util/TreeMap$NavigableSubMap$SubMapIterator") ∈ lw_all := lw_g (lw_at lw_m1 40 rfl) rfl
theorem q148 : (Jvm.Cond.fieldLinkNest "java/util/TreeMap$NavigableSubMap$SubMapIterator" (19 : Nat) "java/util/TreeMap" "modCount" "I" "java/util/TreeMap") ∈ lw_tbl := lw_at lw_m1 108 rfl
theorem q841 : (Jvm.Cond.fieldLink "java/util/TreeMap$NavigableSubMap$SubMapIterator" (13 : Nat) "java/util/TreeMap$NavigableSubMap" "m" "Ljava/util/TreeMap;") ∈ lw_all := lw_g (lw_at lw_m4 81 rfl) rfl
theorem q980 : (Jvm.Cond.instanceMethod ({ cls := "java/util/TreeMap$NavigableSubMap$SubMapIterator", name := "<init>", desc := "(Ljava/util/TreeMap$NavigableSubMap;Ljava/util/TreeMap$Entry;Ljava/util/TreeMap$Entry;)V" } : Jvm.MethodName)) ∈ lw_all := lw_g (lw_at lw_m4 220 rfl) rfl
theorem q981 : (Jvm.Cond.code ({ cls := "java/util/TreeMap$NavigableSubMap$SubMapIterator", name := "<init>", desc := "(Ljava/util/TreeMap$NavigableSubMap;Ljava/util/TreeMap$Entry;Ljava/util/TreeMap$Entry;)V" } : Jvm.MethodName) prog_71_method_1_code (4 : Nat) (Option.none : Option Jvm.ClassFile.FieldType)) ∈ lw_all := lw_g (lw_at lw_m4 221 rfl) rfl
theorem q982 : (Jvm.Cond.methodLink "java/util/TreeMap$NavigableSubMap$SubMapIterator" (7 : Nat) ({ cls := "java/lang/Object", name := "<init>", desc := "()V" } : Jvm.MethodName)) ∈ lw_all := lw_g (lw_at lw_m4 222 rfl) rfl
theorem q983 : (Jvm.Cond.fieldLinkNest "java/util/TreeMap$NavigableSubMap$SubMapIterator" (35 : Nat) "java/util/TreeMap" "UNBOUNDED" "Ljava/lang/Object;" "java/util/TreeMap") ∈ lw_tbl := lw_at lw_m4 223 rfl
theorem q985 : (Jvm.Cond.fieldLink "java/util/TreeMap$NavigableSubMap$SubMapIterator" (28 : Nat) "java/util/TreeMap$NavigableSubMap$SubMapIterator" "lastReturned" "Ljava/util/TreeMap$Entry;") ∈ lw_all := lw_g (lw_at lw_m4 225 rfl) rfl
theorem q986 : (Jvm.Cond.fieldLink "java/util/TreeMap$NavigableSubMap$SubMapIterator" (32 : Nat) "java/util/TreeMap$NavigableSubMap$SubMapIterator" "next" "Ljava/util/TreeMap$Entry;") ∈ lw_all := lw_g (lw_at lw_m4 226 rfl) rfl
theorem q987 : (Jvm.Cond.fieldLink "java/util/TreeMap$NavigableSubMap$SubMapIterator" (44 : Nat) "java/util/TreeMap$NavigableSubMap$SubMapIterator" "fenceKey" "Ljava/lang/Object;") ∈ lw_all := lw_g (lw_at lw_m4 227 rfl) rfl
theorem q988 : (Jvm.Cond.fieldLink "java/util/TreeMap$NavigableSubMap$SubMapIterator" (25 : Nat) "java/util/TreeMap$NavigableSubMap$SubMapIterator" "expectedModCount" "I") ∈ lw_all := lw_g (lw_at lw_m4 228 rfl) rfl
theorem q989 : (Jvm.Cond.fieldLink "java/util/TreeMap$NavigableSubMap$SubMapIterator" (1 : Nat) "java/util/TreeMap$NavigableSubMap$SubMapIterator" "this$0" "Ljava/util/TreeMap$NavigableSubMap;") ∈ lw_all := lw_g (lw_at lw_m4 229 rfl) rfl
theorem q991 : (Jvm.Cond.soleField "java/util/TreeMap$NavigableSubMap$SubMapIterator" "lastReturned") ∈ lw_all := lw_g (lw_at lw_m4 231 rfl) rfl
theorem q993 : (Jvm.Cond.soleField "java/util/TreeMap$NavigableSubMap$SubMapIterator" "next") ∈ lw_all := lw_g (lw_at lw_m4 233 rfl) rfl
theorem q995 : (Jvm.Cond.soleField "java/util/TreeMap$NavigableSubMap$SubMapIterator" "fenceKey") ∈ lw_all := lw_g (lw_at lw_m4 235 rfl) rfl
theorem q997 : (Jvm.Cond.soleField "java/util/TreeMap$NavigableSubMap$SubMapIterator" "expectedModCount") ∈ lw_all := lw_g (lw_at lw_m4 237 rfl) rfl
theorem q999 : (Jvm.Cond.soleField "java/util/TreeMap$NavigableSubMap$SubMapIterator" "this$0") ∈ lw_all := lw_g (lw_at lw_m4 239 rfl) rfl
theorem q1025 : (Jvm.Cond.instanceMethod ({ cls := "java/util/TreeMap$NavigableSubMap$SubMapIterator", name := "hasNext", desc := "()Z" } : Jvm.MethodName)) ∈ lw_all := lw_g (lw_at lw_m5 25 rfl) rfl
theorem q1026 : (Jvm.Cond.publicMethod ({ cls := "java/util/TreeMap$NavigableSubMap$SubMapIterator", name := "hasNext", desc := "()Z" } : Jvm.MethodName)) ∈ lw_tbl := lw_at lw_m5 26 rfl
theorem q1027 : (Jvm.Cond.code ({ cls := "java/util/TreeMap$NavigableSubMap$SubMapIterator", name := "hasNext", desc := "()Z" } : Jvm.MethodName) prog_71_method_2_code (1 : Nat) (Option.some Jvm.ClassFile.FieldType.boolean)) ∈ lw_all := lw_g (lw_at lw_m5 27 rfl) rfl
theorem q1103 : (Jvm.Cond.declares ({ cls := "java/util/TreeMap$NavigableSubMap$SubMapIterator", name := "nextEntry", desc := "()Ljava/util/TreeMap$Entry;" } : Jvm.MethodName)) ∈ lw_tbl := lw_at lw_m5 103 rfl
theorem q1105 : (Jvm.Cond.instanceMethod ({ cls := "java/util/TreeMap$NavigableSubMap$SubMapIterator", name := "nextEntry", desc := "()Ljava/util/TreeMap$Entry;" } : Jvm.MethodName)) ∈ lw_all := lw_g (lw_at lw_m5 105 rfl) rfl
theorem q1106 : (Jvm.Cond.code ({ cls := "java/util/TreeMap$NavigableSubMap$SubMapIterator", name := "nextEntry", desc := "()Ljava/util/TreeMap$Entry;" } : Jvm.MethodName) prog_71_method_3_code (2 : Nat) (Option.some (Jvm.ClassFile.FieldType.object "java/util/TreeMap$Entry"))) ∈ lw_all := lw_g (lw_at lw_m5 106 rfl) rfl
theorem q1107 : (Jvm.Cond.classLink "java/util/TreeMap$NavigableSubMap$SubMapIterator" (47 : Nat) "java/util/NoSuchElementException") ∈ lw_all := lw_g (lw_at lw_m5 107 rfl) rfl
theorem q1108 : (Jvm.Cond.methodLink "java/util/TreeMap$NavigableSubMap$SubMapIterator" (49 : Nat) ({ cls := "java/util/NoSuchElementException", name := "<init>", desc := "()V" } : Jvm.MethodName)) ∈ lw_all := lw_g (lw_at lw_m5 108 rfl) rfl
theorem q1109 : (Jvm.Cond.methodLink "java/util/TreeMap$NavigableSubMap$SubMapIterator" (53 : Nat) ({ cls := "java/util/TreeMap", name := "successor", desc := "(Ljava/util/TreeMap$Entry;)Ljava/util/TreeMap$Entry;" } : Jvm.MethodName)) ∈ lw_all := lw_g (lw_at lw_m5 109 rfl) rfl
theorem q1494 : (Jvm.Cond.declares ({ cls := "java/util/TreeMap$NavigableSubMap$SubMapIterator", name := "removeAscending", desc := "()V" } : Jvm.MethodName)) ∈ lw_tbl := lw_at lw_m7 14 rfl
theorem q1496 : (Jvm.Cond.instanceMethod ({ cls := "java/util/TreeMap$NavigableSubMap$SubMapIterator", name := "removeAscending", desc := "()V" } : Jvm.MethodName)) ∈ lw_all := lw_g (lw_at lw_m7 16 rfl) rfl
theorem q1497 : (Jvm.Cond.code ({ cls := "java/util/TreeMap$NavigableSubMap$SubMapIterator", name := "removeAscending", desc := "()V" } : Jvm.MethodName) prog_71_method_5_code (1 : Nat) (Option.none : Option Jvm.ClassFile.FieldType)) ∈ lw_all := lw_g (lw_at lw_m7 17 rfl) rfl
theorem q1498 : (Jvm.Cond.classLink "java/util/TreeMap$NavigableSubMap$SubMapIterator" (60 : Nat) "java/lang/IllegalStateException") ∈ lw_all := lw_g (lw_at lw_m7 18 rfl) rfl
theorem q1499 : (Jvm.Cond.methodLink "java/util/TreeMap$NavigableSubMap$SubMapIterator" (62 : Nat) ({ cls := "java/lang/IllegalStateException", name := "<init>", desc := "()V" } : Jvm.MethodName)) ∈ lw_all := lw_g (lw_at lw_m7 19 rfl) rfl
theorem q1500 : (Jvm.Cond.methodLinkNest "java/util/TreeMap$NavigableSubMap$SubMapIterator" (69 : Nat) ({ cls := "java/util/TreeMap", name := "deleteEntry", desc := "(Ljava/util/TreeMap$Entry;)V" } : Jvm.MethodName) "java/util/TreeMap") ∈ lw_tbl := lw_at lw_m7 20 rfl
theorem q1881 : (Jvm.Cond.fieldLink "java/util/TreeMap$NavigableSubMap$SubMapIterator" (39 : Nat) "java/util/TreeMap$Entry" "key" "Ljava/lang/Object;") ∈ lw_all := lw_g (lw_at lw_m8 161 rfl) rfl
theorem q1890 : (Jvm.Cond.fieldLink "java/util/TreeMap$NavigableSubMap$SubMapIterator" (63 : Nat) "java/util/TreeMap$Entry" "left" "Ljava/util/TreeMap$Entry;") ∈ lw_all := lw_g (lw_at lw_m8 170 rfl) rfl
theorem q1893 : (Jvm.Cond.fieldLink "java/util/TreeMap$NavigableSubMap$SubMapIterator" (66 : Nat) "java/util/TreeMap$Entry" "right" "Ljava/util/TreeMap$Entry;") ∈ lw_all := lw_g (lw_at lw_m8 173 rfl) rfl
/-! java/util/TreeMap$NavigableSubMap$SubMapEntryIterator -/
set_option maxRecDepth 100000
def RJ35 : String := "java/util/TreeMap$NavigableSubMap$SubMapEntryIterator"
def TJ35 : u_T := fun k => match k with
  | 0 => ("java/util/TreeMap$NavigableSubMap$SubMapIterator", "lastReturned", "Ljava/util/TreeMap$Entry;", false)
  | 1 => ("java/util/TreeMap$NavigableSubMap$SubMapIterator", "next", "Ljava/util/TreeMap$Entry;", false)
  | 2 => ("java/util/TreeMap$NavigableSubMap$SubMapIterator", "fenceKey", "Ljava/lang/Object;", true)
  | 3 => ("java/util/TreeMap$NavigableSubMap$SubMapIterator", "expectedModCount", "I", false)
  | _ => ("java/util/TreeMap$NavigableSubMap$SubMapIterator", "this$0", "Ljava/util/TreeMap$NavigableSubMap;", true)
def tyJ35 : Nat → FieldType := fun k => match k with
  | 0 => .object "java/util/TreeMap$Entry"
  | 1 => .object "java/util/TreeMap$Entry"
  | 2 => .object "java/lang/Object"
  | 3 => .int
  | _ => .object "java/util/TreeMap$NavigableSubMap"
abbrev wsJ350 : List Cond := u_ws RJ35 TJ35 5
theorem nmJ35 : ∀ a, a < 5 → ∀ b, b < 5 → a ≠ b → (TJ35 a).2.1 ≠ (TJ35 b).2.1 := by decide +kernel
theorem tyJ35_ok : ∀ k, k < 5 → parseFieldDescriptor (TJ35 k).2.2.1 = some (tyJ35 k) := by decide +kernel
abbrev cJ35_init : ByteArray := prog_70_method_1_code
def yJ35_init : MethodName := ⟨RJ35, "<init>", "(Ljava/util/TreeMap$NavigableSubMap;Ljava/util/TreeMap$Entry;Ljava/util/TreeMap$Entry;)V"⟩
def dkwJ35_init_0 : List UInt8 := [42, 43, 44, 45, 183, 0, 1, 177]
abbrev dktJ35_init_0 : List UInt8 := dkwJ35_init_0 ++ []
theorem dksJ35_init_0 : cJ35_init.data.toList.drop 0 = dktJ35_init_0 := by decide +kernel
theorem dJ35_init_0 : decode cJ35_init 0 = .ok (.aload_n 0, 1) := dk_42 (dk_at dksJ35_init_0 0 rfl rfl)
theorem dJ35_init_1 : decode cJ35_init 1 = .ok (.aload_n 1, 1) := dk_43 (dk_at dksJ35_init_0 1 rfl rfl)
theorem dJ35_init_2 : decode cJ35_init 2 = .ok (.aload_n 2, 1) := dk_44 (dk_at dksJ35_init_0 2 rfl rfl)
theorem dJ35_init_3 : decode cJ35_init 3 = .ok (.aload_n 3, 1) := dk_45 (dk_at dksJ35_init_0 3 rfl rfl)
theorem dJ35_init_4 : decode cJ35_init 4 = .ok (.invokespecial 1, 3) := dk_183 0 1 (dk_at dksJ35_init_0 4 rfl rfl)
theorem dJ35_init_7 : decode cJ35_init 7 = .ok (.return_, 1) := dk_177 (dk_at dksJ35_init_0 7 rfl rfl)
abbrev cJ35_next : ByteArray := prog_70_method_4_code
def yJ35_next : MethodName := ⟨RJ35, "next", "()Ljava/lang/Object;"⟩
theorem dJ35_next_0 : decode cJ35_next 0 = .ok (.aload_n 0, 1) := by decide +kernel
theorem dJ35_next_1 : decode cJ35_next 1 = .ok (.invokevirtual 17, 3) := by decide +kernel
theorem dJ35_next_4 : decode cJ35_next 4 = .ok (.areturn, 1) := by decide +kernel
abbrev cJ35_next_2 : ByteArray := prog_70_method_2_code
def yJ35_next_2 : MethodName := ⟨RJ35, "next", "()Ljava/util/Map$Entry;"⟩
theorem dJ35_next_2_0 : decode cJ35_next_2 0 = .ok (.aload_n 0, 1) := by decide +kernel
theorem dJ35_next_2_1 : decode cJ35_next_2 1 = .ok (.invokevirtual 7, 3) := by decide +kernel
theorem dJ35_next_2_4 : decode cJ35_next_2 4 = .ok (.areturn, 1) := by decide +kernel
abbrev cJ35_remove : ByteArray := prog_70_method_3_code
def yJ35_remove : MethodName := ⟨RJ35, "remove", "()V"⟩
theorem dJ35_remove_0 : decode cJ35_remove 0 = .ok (.aload_n 0, 1) := by decide +kernel
theorem dJ35_remove_1 : decode cJ35_remove 1 = .ok (.invokevirtual 13, 3) := by decide +kernel
theorem dJ35_remove_4 : decode cJ35_remove 4 = .ok (.return_, 1) := by decide +kernel
theorem q81 : (Jvm.Cond.initialized "java/util/TreeMap$NavigableSubMap$SubMapEntryIterator") ∈ lw_all := lw_g (lw_at lw_m1 41 rfl) rfl
theorem q945 : (Jvm.Cond.instantiable "java/util/TreeMap$NavigableSubMap$SubMapEntryIterator" (5 : Nat)) ∈ lw_all := lw_g (lw_at lw_m4 185 rfl) rfl
theorem q977 : (Jvm.Cond.instanceMethod ({ cls := "java/util/TreeMap$NavigableSubMap$SubMapEntryIterator", name := "<init>", desc := "(Ljava/util/TreeMap$NavigableSubMap;Ljava/util/TreeMap$Entry;Ljava/util/TreeMap$Entry;)V" } : Jvm.MethodName)) ∈ lw_all := lw_g (lw_at lw_m4 217 rfl) rfl
theorem q978 : (Jvm.Cond.code ({ cls := "java/util/TreeMap$NavigableSubMap$SubMapEntryIterator", name := "<init>", desc := "(Ljava/util/TreeMap$NavigableSubMap;Ljava/util/TreeMap$Entry;Ljava/util/TreeMap$Entry;)V" } : Jvm.MethodName) prog_70_method_1_code (4 : Nat) (Option.none : Option Jvm.ClassFile.FieldType)) ∈ lw_all := lw_g (lw_at lw_m4 218 rfl) rfl
theorem q979 : (Jvm.Cond.methodLink "java/util/TreeMap$NavigableSubMap$SubMapEntryIterator" (1 : Nat) ({ cls := "java/util/TreeMap$NavigableSubMap$SubMapIterator", name := "<init>", desc := "(Ljava/util/TreeMap$NavigableSubMap;Ljava/util/TreeMap$Entry;Ljava/util/TreeMap$Entry;)V" } : Jvm.MethodName)) ∈ lw_all := lw_g (lw_at lw_m4 219 rfl) rfl
theorem q990 : (Jvm.Cond.lays "java/util/TreeMap$NavigableSubMap$SubMapEntryIterator" "java/util/TreeMap$NavigableSubMap$SubMapIterator" "lastReturned" "Ljava/util/TreeMap$Entry;") ∈ lw_all := lw_g (lw_at lw_m4 230 rfl) rfl
theorem q992 : (Jvm.Cond.lays "java/util/TreeMap$NavigableSubMap$SubMapEntryIterator" "java/util/TreeMap$NavigableSubMap$SubMapIterator" "next" "Ljava/util/TreeMap$Entry;") ∈ lw_all := lw_g (lw_at lw_m4 232 rfl) rfl
theorem q994 : (Jvm.Cond.laysFinal "java/util/TreeMap$NavigableSubMap$SubMapEntryIterator" "java/util/TreeMap$NavigableSubMap$SubMapIterator" "fenceKey" "Ljava/lang/Object;") ∈ lw_all := lw_g (lw_at lw_m4 234 rfl) rfl
theorem q996 : (Jvm.Cond.lays "java/util/TreeMap$NavigableSubMap$SubMapEntryIterator" "java/util/TreeMap$NavigableSubMap$SubMapIterator" "expectedModCount" "I") ∈ lw_all := lw_g (lw_at lw_m4 236 rfl) rfl
theorem q998 : (Jvm.Cond.laysFinal "java/util/TreeMap$NavigableSubMap$SubMapEntryIterator" "java/util/TreeMap$NavigableSubMap$SubMapIterator" "this$0" "Ljava/util/TreeMap$NavigableSubMap;") ∈ lw_all := lw_g (lw_at lw_m4 238 rfl) rfl
theorem q1000 : (Jvm.Cond.superclass "java/util/TreeMap$NavigableSubMap$SubMapEntryIterator" "java/util/TreeMap$NavigableSubMap$SubMapIterator") ∈ lw_all := lw_g (lw_at lw_m5 0 rfl) rfl
theorem q1022 : (Jvm.Cond.castable "java/util/TreeMap$NavigableSubMap$SubMapEntryIterator" "java/util/Iterator") ∈ lw_tbl := lw_at lw_m5 22 rfl
theorem q1023 : (Jvm.Cond.selects "java/util/TreeMap$NavigableSubMap$SubMapEntryIterator" ({ cls := "java/util/Iterator", name := "hasNext", desc := "()Z" } : Jvm.MethodName) ({ cls := "java/util/TreeMap$NavigableSubMap$SubMapIterator", name := "hasNext", desc := "()Z" } : Jvm.MethodName)) ∈ lw_all := lw_g (lw_at lw_m5 23 rfl) rfl
theorem q1024 : (Jvm.Cond.unhidden "java/util/TreeMap$NavigableSubMap$SubMapEntryIterator" "hasNext" "()Z") ∈ lw_tbl := lw_at lw_m5 24 rfl
theorem q1092 : (Jvm.Cond.selects "java/util/TreeMap$NavigableSubMap$SubMapEntryIterator" ({ cls := "java/util/Iterator", name := "next", desc := "()Ljava/lang/Object;" } : Jvm.MethodName) ({ cls := "java/util/TreeMap$NavigableSubMap$SubMapEntryIterator", name := "next", desc := "()Ljava/lang/Object;" } : Jvm.MethodName)) ∈ lw_all := lw_g (lw_at lw_m5 92 rfl) rfl
theorem q1093 : (Jvm.Cond.unhidden "java/util/TreeMap$NavigableSubMap$SubMapEntryIterator" "next" "()Ljava/lang/Object;") ∈ lw_tbl := lw_at lw_m5 93 rfl
theorem q1094 : (Jvm.Cond.instanceMethod ({ cls := "java/util/TreeMap$NavigableSubMap$SubMapEntryIterator", name := "next", desc := "()Ljava/lang/Object;" } : Jvm.MethodName)) ∈ lw_all := lw_g (lw_at lw_m5 94 rfl) rfl
theorem q1095 : (Jvm.Cond.publicMethod ({ cls := "java/util/TreeMap$NavigableSubMap$SubMapEntryIterator", name := "next", desc := "()Ljava/lang/Object;" } : Jvm.MethodName)) ∈ lw_tbl := lw_at lw_m5 95 rfl
theorem q1096 : (Jvm.Cond.code ({ cls := "java/util/TreeMap$NavigableSubMap$SubMapEntryIterator", name := "next", desc := "()Ljava/lang/Object;" } : Jvm.MethodName) prog_70_method_4_code (1 : Nat) (Option.some (Jvm.ClassFile.FieldType.object "java/lang/Object"))) ∈ lw_all := lw_g (lw_at lw_m5 96 rfl) rfl
theorem q1097 : (Jvm.Cond.methodLink "java/util/TreeMap$NavigableSubMap$SubMapEntryIterator" (17 : Nat) ({ cls := "java/util/TreeMap$NavigableSubMap$SubMapEntryIterator", name := "next", desc := "()Ljava/util/Map$Entry;" } : Jvm.MethodName)) ∈ lw_all := lw_g (lw_at lw_m5 97 rfl) rfl
theorem q1098 : (Jvm.Cond.instanceMethod ({ cls := "java/util/TreeMap$NavigableSubMap$SubMapEntryIterator", name := "next", desc := "()Ljava/util/Map$Entry;" } : Jvm.MethodName)) ∈ lw_all := lw_g (lw_at lw_m5 98 rfl) rfl
theorem q1099 : (Jvm.Cond.selects "java/util/TreeMap$NavigableSubMap$SubMapEntryIterator" ({ cls := "java/util/TreeMap$NavigableSubMap$SubMapEntryIterator", name := "next", desc := "()Ljava/util/Map$Entry;" } : Jvm.MethodName) ({ cls := "java/util/TreeMap$NavigableSubMap$SubMapEntryIterator", name := "next", desc := "()Ljava/util/Map$Entry;" } : Jvm.MethodName)) ∈ lw_all := lw_g (lw_at lw_m5 99 rfl) rfl
theorem q1100 : (Jvm.Cond.code ({ cls := "java/util/TreeMap$NavigableSubMap$SubMapEntryIterator", name := "next", desc := "()Ljava/util/Map$Entry;" } : Jvm.MethodName) prog_70_method_2_code (1 : Nat) (Option.some (Jvm.ClassFile.FieldType.object "java/util/Map$Entry"))) ∈ lw_all := lw_g (lw_at lw_m5 100 rfl) rfl
theorem q1101 : (Jvm.Cond.methodLink "java/util/TreeMap$NavigableSubMap$SubMapEntryIterator" (7 : Nat) ({ cls := "java/util/TreeMap$NavigableSubMap$SubMapEntryIterator", name := "nextEntry", desc := "()Ljava/util/TreeMap$Entry;" } : Jvm.MethodName)) ∈ lw_all := lw_g (lw_at lw_m5 101 rfl) rfl
theorem q1102 : (Jvm.Cond.sameMethod "java/util/TreeMap$NavigableSubMap$SubMapEntryIterator" "java/util/TreeMap$NavigableSubMap$SubMapIterator" "nextEntry" "()Ljava/util/TreeMap$Entry;") ∈ lw_all := lw_g (lw_at lw_m5 102 rfl) rfl
theorem q1104 : (Jvm.Cond.selects "java/util/TreeMap$NavigableSubMap$SubMapEntryIterator" ({ cls := "java/util/TreeMap$NavigableSubMap$SubMapEntryIterator", name := "nextEntry", desc := "()Ljava/util/TreeMap$Entry;" } : Jvm.MethodName) ({ cls := "java/util/TreeMap$NavigableSubMap$SubMapIterator", name := "nextEntry", desc := "()Ljava/util/TreeMap$Entry;" } : Jvm.MethodName)) ∈ lw_all := lw_g (lw_at lw_m5 104 rfl) rfl
theorem q1487 : (Jvm.Cond.selects "java/util/TreeMap$NavigableSubMap$SubMapEntryIterator" ({ cls := "java/util/Iterator", name := "remove", desc := "()V" } : Jvm.MethodName) ({ cls := "java/util/TreeMap$NavigableSubMap$SubMapEntryIterator", name := "remove", desc := "()V" } : Jvm.MethodName)) ∈ lw_all := lw_g (lw_at lw_m7 7 rfl) rfl
theorem q1488 : (Jvm.Cond.unhidden "java/util/TreeMap$NavigableSubMap$SubMapEntryIterator" "remove" "()V") ∈ lw_tbl := lw_at lw_m7 8 rfl
theorem q1489 : (Jvm.Cond.instanceMethod ({ cls := "java/util/TreeMap$NavigableSubMap$SubMapEntryIterator", name := "remove", desc := "()V" } : Jvm.MethodName)) ∈ lw_all := lw_g (lw_at lw_m7 9 rfl) rfl
theorem q1490 : (Jvm.Cond.publicMethod ({ cls := "java/util/TreeMap$NavigableSubMap$SubMapEntryIterator", name := "remove", desc := "()V" } : Jvm.MethodName)) ∈ lw_tbl := lw_at lw_m7 10 rfl
theorem q1491 : (Jvm.Cond.code ({ cls := "java/util/TreeMap$NavigableSubMap$SubMapEntryIterator", name := "remove", desc := "()V" } : Jvm.MethodName) prog_70_method_3_code (1 : Nat) (Option.none : Option Jvm.ClassFile.FieldType)) ∈ lw_all := lw_g (lw_at lw_m7 11 rfl) rfl
theorem q1492 : (Jvm.Cond.methodLink "java/util/TreeMap$NavigableSubMap$SubMapEntryIterator" (13 : Nat) ({ cls := "java/util/TreeMap$NavigableSubMap$SubMapEntryIterator", name := "removeAscending", desc := "()V" } : Jvm.MethodName)) ∈ lw_all := lw_g (lw_at lw_m7 12 rfl) rfl
theorem q1493 : (Jvm.Cond.sameMethod "java/util/TreeMap$NavigableSubMap$SubMapEntryIterator" "java/util/TreeMap$NavigableSubMap$SubMapIterator" "removeAscending" "()V") ∈ lw_all := lw_g (lw_at lw_m7 13 rfl) rfl
theorem q1495 : (Jvm.Cond.selects "java/util/TreeMap$NavigableSubMap$SubMapEntryIterator" ({ cls := "java/util/TreeMap$NavigableSubMap$SubMapEntryIterator", name := "removeAscending", desc := "()V" } : Jvm.MethodName) ({ cls := "java/util/TreeMap$NavigableSubMap$SubMapIterator", name := "removeAscending", desc := "()V" } : Jvm.MethodName)) ∈ lw_all := lw_g (lw_at lw_m7 15 rfl) rfl
theorem q2498 : (Jvm.Cond.castable "java/util/TreeMap$NavigableSubMap$SubMapEntryIterator" "java/lang/Object") ∈ lw_tbl := lw_at lw_m11 58 rfl
theorem in_J35 : ∀ w ∈ wsJ350, w ∈ lw_all := lw_in wsJ350 [990, 992, 994, 996, 998] (by decide +kernel) (by decide +kernel)
/-! java/util/TreeMap$KeySet -/
set_option maxRecDepth 100000
def RJ36 : String := "java/util/TreeMap$KeySet"
def TJ36 : u_T := fun k => match k with
  | _ => ("java/util/TreeMap$KeySet", "m", "Ljava/util/NavigableMap;", true)
def tyJ36 : Nat → FieldType := fun k => match k with
  | _ => .object "java/util/NavigableMap"
abbrev wsJ360 : List Cond := u_ws RJ36 TJ36 1
theorem nmJ36 : ∀ a, a < 1 → ∀ b, b < 1 → a ≠ b → (TJ36 a).2.1 ≠ (TJ36 b).2.1 := by decide +kernel
theorem tyJ36_ok : ∀ k, k < 1 → parseFieldDescriptor (TJ36 k).2.2.1 = some (tyJ36 k) := by decide +kernel
abbrev cJ36_size : ByteArray := prog_67_method_4_code
def yJ36_size : MethodName := ⟨RJ36, "size", "()I"⟩
def dkwJ36_size_0 : List UInt8 := [42, 180, 0, 7, 185, 0, 26, 1, 0, 172]
abbrev dktJ36_size_0 : List UInt8 := dkwJ36_size_0 ++ []
theorem dksJ36_size_0 : cJ36_size.data.toList.drop 0 = dktJ36_size_0 := by decide +kernel
theorem dJ36_size_0 : decode cJ36_size 0 = .ok (.aload_n 0, 1) := dk_42 (dk_at dksJ36_size_0 0 rfl rfl)
theorem dJ36_size_1 : decode cJ36_size 1 = .ok (.getfield 7, 3) := dk_180 0 7 (dk_at dksJ36_size_0 1 rfl rfl)
theorem dJ36_size_4 : decode cJ36_size 4 = .ok (.invokeinterface 26 1, 5) := by decide +kernel
theorem dJ36_size_9 : decode cJ36_size 9 = .ok (.ireturn, 1) := dk_172 (dk_at dksJ36_size_0 9 rfl rfl)
abbrev cJ36_iterator : ByteArray := prog_67_method_2_code
def yJ36_iterator : MethodName := ⟨RJ36, "iterator", "()Ljava/util/Iterator;"⟩
def dkwJ36_iterator_1 : List UInt8 := [180, 0, 7, 192, 0, 19, 182, 0, 21, 176]
abbrev dktJ36_iterator_1 : List UInt8 := dkwJ36_iterator_1 ++ []
def dkwJ36_iterator_0 : List UInt8 := [42, 180, 0, 7, 193, 0, 13, 153, 0, 14, 42, 180, 0, 7, 192, 0, 13, 182, 0, 15, 176, 42]
abbrev dktJ36_iterator_0 : List UInt8 := dkwJ36_iterator_0 ++ dktJ36_iterator_1
theorem dksJ36_iterator_0 : cJ36_iterator.data.toList.drop 0 = dktJ36_iterator_0 := by decide +kernel
theorem dksJ36_iterator_1 : cJ36_iterator.data.toList.drop 22 = dktJ36_iterator_1 := dk_seg dksJ36_iterator_0 22 rfl rfl
theorem dJ36_iterator_0 : decode cJ36_iterator 0 = .ok (.aload_n 0, 1) := dk_42 (dk_at dksJ36_iterator_0 0 rfl rfl)
theorem dJ36_iterator_1 : decode cJ36_iterator 1 = .ok (.getfield 7, 3) := dk_180 0 7 (dk_at dksJ36_iterator_0 1 rfl rfl)
theorem dJ36_iterator_4 : decode cJ36_iterator 4 = .ok (.instanceof 13, 3) := dk_193 0 13 (dk_at dksJ36_iterator_0 4 rfl rfl)
theorem dJ36_iterator_7 : decode cJ36_iterator 7 = .ok (.ifCond .eq 14, 3) := dk_153 0 14 (dk_at dksJ36_iterator_0 7 rfl rfl)
theorem dJ36_iterator_10 : decode cJ36_iterator 10 = .ok (.aload_n 0, 1) := dk_42 (dk_at dksJ36_iterator_0 10 rfl rfl)
theorem dJ36_iterator_11 : decode cJ36_iterator 11 = .ok (.getfield 7, 3) := dk_180 0 7 (dk_at dksJ36_iterator_0 11 rfl rfl)
theorem dJ36_iterator_14 : decode cJ36_iterator 14 = .ok (.checkcast 13, 3) := dk_192 0 13 (dk_at dksJ36_iterator_0 14 rfl rfl)
theorem dJ36_iterator_17 : decode cJ36_iterator 17 = .ok (.invokevirtual 15, 3) := dk_182 0 15 (dk_at dksJ36_iterator_0 17 rfl rfl)
theorem dJ36_iterator_20 : decode cJ36_iterator 20 = .ok (.areturn, 1) := dk_176 (dk_at dksJ36_iterator_0 20 rfl rfl)
theorem dJ36_iterator_21 : decode cJ36_iterator 21 = .ok (.aload_n 0, 1) := dk_42 (dk_at dksJ36_iterator_0 21 rfl rfl)
theorem dJ36_iterator_22 : decode cJ36_iterator 22 = .ok (.getfield 7, 3) := dk_180 0 7 (dk_at dksJ36_iterator_1 0 rfl rfl)
theorem dJ36_iterator_25 : decode cJ36_iterator 25 = .ok (.checkcast 19, 3) := dk_192 0 19 (dk_at dksJ36_iterator_1 3 rfl rfl)
theorem dJ36_iterator_28 : decode cJ36_iterator 28 = .ok (.invokevirtual 21, 3) := dk_182 0 21 (dk_at dksJ36_iterator_1 6 rfl rfl)
theorem dJ36_iterator_31 : decode cJ36_iterator 31 = .ok (.areturn, 1) := dk_176 (dk_at dksJ36_iterator_1 9 rfl rfl)
abbrev cJ36_clear : ByteArray := prog_67_method_7_code
def yJ36_clear : MethodName := ⟨RJ36, "clear", "()V"⟩
def dkwJ36_clear_0 : List UInt8 := [42, 180, 0, 7, 185, 0, 40, 1, 0, 177]
abbrev dktJ36_clear_0 : List UInt8 := dkwJ36_clear_0 ++ []
theorem dksJ36_clear_0 : cJ36_clear.data.toList.drop 0 = dktJ36_clear_0 := by decide +kernel
theorem dJ36_clear_0 : decode cJ36_clear 0 = .ok (.aload_n 0, 1) := dk_42 (dk_at dksJ36_clear_0 0 rfl rfl)
theorem dJ36_clear_1 : decode cJ36_clear 1 = .ok (.getfield 7, 3) := dk_180 0 7 (dk_at dksJ36_clear_0 1 rfl rfl)
theorem dJ36_clear_4 : decode cJ36_clear 4 = .ok (.invokeinterface 40 1, 5) := by decide +kernel
theorem dJ36_clear_9 : decode cJ36_clear 9 = .ok (.return_, 1) := dk_177 (dk_at dksJ36_clear_0 9 rfl rfl)
abbrev cJ36_init : ByteArray := prog_67_method_1_code
def yJ36_init : MethodName := ⟨RJ36, "<init>", "(Ljava/util/NavigableMap;)V"⟩
def dkwJ36_init_0 : List UInt8 := [42, 183, 0, 1, 42, 43, 181, 0, 7, 177]
abbrev dktJ36_init_0 : List UInt8 := dkwJ36_init_0 ++ []
theorem dksJ36_init_0 : cJ36_init.data.toList.drop 0 = dktJ36_init_0 := by decide +kernel
theorem dJ36_init_0 : decode cJ36_init 0 = .ok (.aload_n 0, 1) := dk_42 (dk_at dksJ36_init_0 0 rfl rfl)
theorem dJ36_init_1 : decode cJ36_init 1 = .ok (.invokespecial 1, 3) := dk_183 0 1 (dk_at dksJ36_init_0 1 rfl rfl)
theorem dJ36_init_4 : decode cJ36_init 4 = .ok (.aload_n 0, 1) := dk_42 (dk_at dksJ36_init_0 4 rfl rfl)
theorem dJ36_init_5 : decode cJ36_init 5 = .ok (.aload_n 1, 1) := dk_43 (dk_at dksJ36_init_0 5 rfl rfl)
theorem dJ36_init_6 : decode cJ36_init 6 = .ok (.putfield 7, 3) := dk_181 0 7 (dk_at dksJ36_init_0 6 rfl rfl)
theorem dJ36_init_9 : decode cJ36_init 9 = .ok (.return_, 1) := dk_177 (dk_at dksJ36_init_0 9 rfl rfl)
theorem q82 : (Jvm.Cond.initialized "java/util/TreeMap$KeySet") ∈ lw_all := lw_g (lw_at lw_m1 42 rfl) rfl
theorem q1150 : (Jvm.Cond.castable "java/util/TreeMap$KeySet" "java/util/Set") ∈ lw_tbl := lw_at lw_m5 150 rfl
theorem q1151 : (Jvm.Cond.selects "java/util/TreeMap$KeySet" ({ cls := "java/util/Set", name := "size", desc := "()I" } : Jvm.MethodName) ({ cls := "java/util/TreeMap$KeySet", name := "size", desc := "()I" } : Jvm.MethodName)) ∈ lw_all := lw_g (lw_at lw_m5 151 rfl) rfl
theorem q1152 : (Jvm.Cond.unhidden "java/util/TreeMap$KeySet" "size" "()I") ∈ lw_tbl := lw_at lw_m5 152 rfl
theorem q1153 : (Jvm.Cond.instanceMethod ({ cls := "java/util/TreeMap$KeySet", name := "size", desc := "()I" } : Jvm.MethodName)) ∈ lw_all := lw_g (lw_at lw_m5 153 rfl) rfl
theorem q1154 : (Jvm.Cond.publicMethod ({ cls := "java/util/TreeMap$KeySet", name := "size", desc := "()I" } : Jvm.MethodName)) ∈ lw_tbl := lw_at lw_m5 154 rfl
theorem q1155 : (Jvm.Cond.code ({ cls := "java/util/TreeMap$KeySet", name := "size", desc := "()I" } : Jvm.MethodName) prog_67_method_4_code (1 : Nat) (Option.some Jvm.ClassFile.FieldType.int)) ∈ lw_all := lw_g (lw_at lw_m5 155 rfl) rfl
theorem q1156 : (Jvm.Cond.interfaceEntry "java/util/TreeMap$KeySet" (26 : Nat)) ∈ lw_tbl := lw_at lw_m5 156 rfl
theorem q1304 : (Jvm.Cond.selects "java/util/TreeMap$KeySet" ({ cls := "java/util/Set", name := "iterator", desc := "()Ljava/util/Iterator;" } : Jvm.MethodName) ({ cls := "java/util/TreeMap$KeySet", name := "iterator", desc := "()Ljava/util/Iterator;" } : Jvm.MethodName)) ∈ lw_all := lw_g (lw_at lw_m6 64 rfl) rfl
theorem q1305 : (Jvm.Cond.unhidden "java/util/TreeMap$KeySet" "iterator" "()Ljava/util/Iterator;") ∈ lw_tbl := lw_at lw_m6 65 rfl
theorem q1306 : (Jvm.Cond.instanceMethod ({ cls := "java/util/TreeMap$KeySet", name := "iterator", desc := "()Ljava/util/Iterator;" } : Jvm.MethodName)) ∈ lw_all := lw_g (lw_at lw_m6 66 rfl) rfl
theorem q1307 : (Jvm.Cond.publicMethod ({ cls := "java/util/TreeMap$KeySet", name := "iterator", desc := "()Ljava/util/Iterator;" } : Jvm.MethodName)) ∈ lw_tbl := lw_at lw_m6 67 rfl
theorem q1308 : (Jvm.Cond.code ({ cls := "java/util/TreeMap$KeySet", name := "iterator", desc := "()Ljava/util/Iterator;" } : Jvm.MethodName) prog_67_method_2_code (1 : Nat) (Option.some (Jvm.ClassFile.FieldType.object "java/util/Iterator"))) ∈ lw_all := lw_g (lw_at lw_m6 68 rfl) rfl
theorem q1309 : (Jvm.Cond.classLink "java/util/TreeMap$KeySet" (13 : Nat) "java/util/TreeMap") ∈ lw_all := lw_g (lw_at lw_m6 69 rfl) rfl
theorem q1310 : (Jvm.Cond.methodLink "java/util/TreeMap$KeySet" (15 : Nat) ({ cls := "java/util/TreeMap", name := "keyIterator", desc := "()Ljava/util/Iterator;" } : Jvm.MethodName)) ∈ lw_all := lw_g (lw_at lw_m6 70 rfl) rfl
theorem q1326 : (Jvm.Cond.classLink "java/util/TreeMap$KeySet" (19 : Nat) "java/util/TreeMap$NavigableSubMap") ∈ lw_all := lw_g (lw_at lw_m6 86 rfl) rfl
theorem q1327 : (Jvm.Cond.methodLink "java/util/TreeMap$KeySet" (21 : Nat) ({ cls := "java/util/TreeMap$NavigableSubMap", name := "keyIterator", desc := "()Ljava/util/Iterator;" } : Jvm.MethodName)) ∈ lw_all := lw_g (lw_at lw_m6 87 rfl) rfl
theorem q1361 : (Jvm.Cond.castable "java/util/TreeMap$KeySet" "java/util/Collection") ∈ lw_tbl := lw_at lw_m6 121 rfl
theorem q1362 : (Jvm.Cond.selects "java/util/TreeMap$KeySet" ({ cls := "java/util/Collection", name := "iterator", desc := "()Ljava/util/Iterator;" } : Jvm.MethodName) ({ cls := "java/util/TreeMap$KeySet", name := "iterator", desc := "()Ljava/util/Iterator;" } : Jvm.MethodName)) ∈ lw_all := lw_g (lw_at lw_m6 122 rfl) rfl
theorem q1517 : (Jvm.Cond.selects "java/util/TreeMap$KeySet" ({ cls := "java/util/Set", name := "clear", desc := "()V" } : Jvm.MethodName) ({ cls := "java/util/TreeMap$KeySet", name := "clear", desc := "()V" } : Jvm.MethodName)) ∈ lw_all := lw_g (lw_at lw_m7 37 rfl) rfl
theorem q1518 : (Jvm.Cond.unhidden "java/util/TreeMap$KeySet" "clear" "()V") ∈ lw_tbl := lw_at lw_m7 38 rfl
theorem q1519 : (Jvm.Cond.instanceMethod ({ cls := "java/util/TreeMap$KeySet", name := "clear", desc := "()V" } : Jvm.MethodName)) ∈ lw_all := lw_g (lw_at lw_m7 39 rfl) rfl
theorem q1520 : (Jvm.Cond.publicMethod ({ cls := "java/util/TreeMap$KeySet", name := "clear", desc := "()V" } : Jvm.MethodName)) ∈ lw_tbl := lw_at lw_m7 40 rfl
theorem q1521 : (Jvm.Cond.code ({ cls := "java/util/TreeMap$KeySet", name := "clear", desc := "()V" } : Jvm.MethodName) prog_67_method_7_code (1 : Nat) (Option.none : Option Jvm.ClassFile.FieldType)) ∈ lw_all := lw_g (lw_at lw_m7 41 rfl) rfl
theorem q1522 : (Jvm.Cond.interfaceEntry "java/util/TreeMap$KeySet" (40 : Nat)) ∈ lw_tbl := lw_at lw_m7 42 rfl
theorem q1631 : (Jvm.Cond.instantiable "java/util/TreeMap$KeySet" (1 : Nat)) ∈ lw_all := lw_g (lw_at lw_m7 151 rfl) rfl
theorem q1633 : (Jvm.Cond.instanceMethod ({ cls := "java/util/TreeMap$KeySet", name := "<init>", desc := "(Ljava/util/NavigableMap;)V" } : Jvm.MethodName)) ∈ lw_all := lw_g (lw_at lw_m7 153 rfl) rfl
theorem q1634 : (Jvm.Cond.code ({ cls := "java/util/TreeMap$KeySet", name := "<init>", desc := "(Ljava/util/NavigableMap;)V" } : Jvm.MethodName) prog_67_method_1_code (2 : Nat) (Option.none : Option Jvm.ClassFile.FieldType)) ∈ lw_all := lw_g (lw_at lw_m7 154 rfl) rfl
theorem q1635 : (Jvm.Cond.methodLink "java/util/TreeMap$KeySet" (1 : Nat) ({ cls := "java/util/AbstractSet", name := "<init>", desc := "()V" } : Jvm.MethodName)) ∈ lw_all := lw_g (lw_at lw_m7 155 rfl) rfl
theorem q1636 : (Jvm.Cond.fieldLink "java/util/TreeMap$KeySet" (7 : Nat) "java/util/TreeMap$KeySet" "m" "Ljava/util/NavigableMap;") ∈ lw_all := lw_g (lw_at lw_m7 156 rfl) rfl
theorem q1637 : (Jvm.Cond.laysFinal "java/util/TreeMap$KeySet" "java/util/TreeMap$KeySet" "m" "Ljava/util/NavigableMap;") ∈ lw_all := lw_g (lw_at lw_m7 157 rfl) rfl
theorem q1638 : (Jvm.Cond.soleField "java/util/TreeMap$KeySet" "m") ∈ lw_all := lw_g (lw_at lw_m7 158 rfl) rfl
theorem q1639 : (Jvm.Cond.superclass "java/util/TreeMap$KeySet" "java/util/AbstractSet") ∈ lw_all := lw_g (lw_at lw_m7 159 rfl) rfl
theorem q2463 : (Jvm.Cond.selects "java/util/TreeMap$KeySet" ({ cls := "java/util/AbstractCollection", name := "iterator", desc := "()Ljava/util/Iterator;" } : Jvm.MethodName) ({ cls := "java/util/TreeMap$KeySet", name := "iterator", desc := "()Ljava/util/Iterator;" } : Jvm.MethodName)) ∈ lw_all := lw_g (lw_at lw_m11 23 rfl) rfl
theorem q2499 : (Jvm.Cond.castable "java/util/TreeMap$KeySet" "java/lang/Object") ∈ lw_tbl := lw_at lw_m11 59 rfl
theorem in_J36 : ∀ w ∈ wsJ360, w ∈ lw_all := lw_in wsJ360 [1637] (by decide +kernel) (by decide +kernel)
/-! java/util/TreeMap$PrivateEntryIterator -/
set_option maxRecDepth 100000
def RJ37 : String := "java/util/TreeMap$PrivateEntryIterator"
abbrev cJ37_hasNext : ByteArray := prog_73_method_2_code
def yJ37_hasNext : MethodName := ⟨RJ37, "hasNext", "()Z"⟩
def dkwJ37_hasNext_0 : List UInt8 := [42, 180, 0, 26, 198, 0, 7, 4, 167, 0, 4, 3, 172]
abbrev dktJ37_hasNext_0 : List UInt8 := dkwJ37_hasNext_0 ++ []
theorem dksJ37_hasNext_0 : cJ37_hasNext.data.toList.drop 0 = dktJ37_hasNext_0 := by decide +kernel
theorem dJ37_hasNext_0 : decode cJ37_hasNext 0 = .ok (.aload_n 0, 1) := dk_42 (dk_at dksJ37_hasNext_0 0 rfl rfl)
theorem dJ37_hasNext_1 : decode cJ37_hasNext 1 = .ok (.getfield 26, 3) := dk_180 0 26 (dk_at dksJ37_hasNext_0 1 rfl rfl)
theorem dJ37_hasNext_4 : decode cJ37_hasNext 4 = .ok (.ifnull 7, 3) := dk_198 0 7 (dk_at dksJ37_hasNext_0 4 rfl rfl)
theorem dJ37_hasNext_7 : decode cJ37_hasNext 7 = .ok (.iconst 1, 1) := dk_4 (dk_at dksJ37_hasNext_0 7 rfl rfl)
theorem dJ37_hasNext_8 : decode cJ37_hasNext 8 = .ok (.goto 4, 3) := dk_167 0 4 (dk_at dksJ37_hasNext_0 8 rfl rfl)
theorem dJ37_hasNext_11 : decode cJ37_hasNext 11 = .ok (.iconst 0, 1) := dk_3 (dk_at dksJ37_hasNext_0 11 rfl rfl)
theorem dJ37_hasNext_12 : decode cJ37_hasNext 12 = .ok (.ireturn, 1) := dk_172 (dk_at dksJ37_hasNext_0 12 rfl rfl)
abbrev cJ37_nextEntry : ByteArray := prog_73_method_3_code
def yJ37_nextEntry : MethodName := ⟨RJ37, "nextEntry", "()Ljava/util/TreeMap$Entry;"⟩
def dkwJ37_nextEntry_2 : List UInt8 := [43, 181, 0, 22, 43, 176]
abbrev dktJ37_nextEntry_2 : List UInt8 := dkwJ37_nextEntry_2 ++ []
def dkwJ37_nextEntry_1 : List UInt8 := [42, 180, 0, 19, 159, 0, 11, 187, 0, 32, 89, 183, 0, 34, 191, 42, 43, 184, 0, 35, 181, 0, 26, 42]
abbrev dktJ37_nextEntry_1 : List UInt8 := dkwJ37_nextEntry_1 ++ dktJ37_nextEntry_2
def dkwJ37_nextEntry_0 : List UInt8 := [42, 180, 0, 26, 76, 43, 199, 0, 11, 187, 0, 29, 89, 183, 0, 31, 191, 42, 180, 0, 1, 180, 0, 13]
abbrev dktJ37_nextEntry_0 : List UInt8 := dkwJ37_nextEntry_0 ++ dktJ37_nextEntry_1
theorem dksJ37_nextEntry_0 : cJ37_nextEntry.data.toList.drop 0 = dktJ37_nextEntry_0 := by decide +kernel
theorem dksJ37_nextEntry_1 : cJ37_nextEntry.data.toList.drop 24 = dktJ37_nextEntry_1 := dk_seg dksJ37_nextEntry_0 24 rfl rfl
theorem dksJ37_nextEntry_2 : cJ37_nextEntry.data.toList.drop 48 = dktJ37_nextEntry_2 := dk_seg dksJ37_nextEntry_1 24 rfl rfl
theorem dJ37_nextEntry_0 : decode cJ37_nextEntry 0 = .ok (.aload_n 0, 1) := dk_42 (dk_at dksJ37_nextEntry_0 0 rfl rfl)
theorem dJ37_nextEntry_1 : decode cJ37_nextEntry 1 = .ok (.getfield 26, 3) := dk_180 0 26 (dk_at dksJ37_nextEntry_0 1 rfl rfl)
theorem dJ37_nextEntry_4 : decode cJ37_nextEntry 4 = .ok (.astore_n 1, 1) := dk_76 (dk_at dksJ37_nextEntry_0 4 rfl rfl)
theorem dJ37_nextEntry_5 : decode cJ37_nextEntry 5 = .ok (.aload_n 1, 1) := dk_43 (dk_at dksJ37_nextEntry_0 5 rfl rfl)
theorem dJ37_nextEntry_6 : decode cJ37_nextEntry 6 = .ok (.ifnonnull 11, 3) := dk_199 0 11 (dk_at dksJ37_nextEntry_0 6 rfl rfl)
theorem dJ37_nextEntry_9 : decode cJ37_nextEntry 9 = .ok (.new 29, 3) := dk_187 0 29 (dk_at dksJ37_nextEntry_0 9 rfl rfl)
theorem dJ37_nextEntry_12 : decode cJ37_nextEntry 12 = .ok (.dup, 1) := dk_89 (dk_at dksJ37_nextEntry_0 12 rfl rfl)
theorem dJ37_nextEntry_13 : decode cJ37_nextEntry 13 = .ok (.invokespecial 31, 3) := dk_183 0 31 (dk_at dksJ37_nextEntry_0 13 rfl rfl)
theorem dJ37_nextEntry_16 : decode cJ37_nextEntry 16 = .ok (.athrow, 1) := dk_191 (dk_at dksJ37_nextEntry_0 16 rfl rfl)
theorem dJ37_nextEntry_17 : decode cJ37_nextEntry 17 = .ok (.aload_n 0, 1) := dk_42 (dk_at dksJ37_nextEntry_0 17 rfl rfl)
theorem dJ37_nextEntry_18 : decode cJ37_nextEntry 18 = .ok (.getfield 1, 3) := dk_180 0 1 (dk_at dksJ37_nextEntry_0 18 rfl rfl)
theorem dJ37_nextEntry_21 : decode cJ37_nextEntry 21 = .ok (.getfield 13, 3) := dk_180 0 13 (dk_at dksJ37_nextEntry_0 21 rfl rfl)
theorem dJ37_nextEntry_24 : decode cJ37_nextEntry 24 = .ok (.aload_n 0, 1) := dk_42 (dk_at dksJ37_nextEntry_1 0 rfl rfl)
theorem dJ37_nextEntry_25 : decode cJ37_nextEntry 25 = .ok (.getfield 19, 3) := dk_180 0 19 (dk_at dksJ37_nextEntry_1 1 rfl rfl)
theorem dJ37_nextEntry_28 : decode cJ37_nextEntry 28 = .ok (.if_icmp .eq 11, 3) := dk_159 0 11 (dk_at dksJ37_nextEntry_1 4 rfl rfl)
theorem dJ37_nextEntry_31 : decode cJ37_nextEntry 31 = .ok (.new 32, 3) := dk_187 0 32 (dk_at dksJ37_nextEntry_1 7 rfl rfl)
theorem dJ37_nextEntry_34 : decode cJ37_nextEntry 34 = .ok (.dup, 1) := dk_89 (dk_at dksJ37_nextEntry_1 10 rfl rfl)
theorem dJ37_nextEntry_35 : decode cJ37_nextEntry 35 = .ok (.invokespecial 34, 3) := dk_183 0 34 (dk_at dksJ37_nextEntry_1 11 rfl rfl)
theorem dJ37_nextEntry_38 : decode cJ37_nextEntry 38 = .ok (.athrow, 1) := dk_191 (dk_at dksJ37_nextEntry_1 14 rfl rfl)
theorem dJ37_nextEntry_39 : decode cJ37_nextEntry 39 = .ok (.aload_n 0, 1) := dk_42 (dk_at dksJ37_nextEntry_1 15 rfl rfl)
theorem dJ37_nextEntry_40 : decode cJ37_nextEntry 40 = .ok (.aload_n 1, 1) := dk_43 (dk_at dksJ37_nextEntry_1 16 rfl rfl)
theorem dJ37_nextEntry_41 : decode cJ37_nextEntry 41 = .ok (.invokestatic 35, 3) := dk_184 0 35 (dk_at dksJ37_nextEntry_1 17 rfl rfl)
theorem dJ37_nextEntry_44 : decode cJ37_nextEntry 44 = .ok (.putfield 26, 3) := dk_181 0 26 (dk_at dksJ37_nextEntry_1 20 rfl rfl)
theorem dJ37_nextEntry_47 : decode cJ37_nextEntry 47 = .ok (.aload_n 0, 1) := dk_42 (dk_at dksJ37_nextEntry_1 23 rfl rfl)
theorem dJ37_nextEntry_48 : decode cJ37_nextEntry 48 = .ok (.aload_n 1, 1) := dk_43 (dk_at dksJ37_nextEntry_2 0 rfl rfl)
theorem dJ37_nextEntry_49 : decode cJ37_nextEntry 49 = .ok (.putfield 22, 3) := dk_181 0 22 (dk_at dksJ37_nextEntry_2 1 rfl rfl)
theorem dJ37_nextEntry_52 : decode cJ37_nextEntry 52 = .ok (.aload_n 1, 1) := dk_43 (dk_at dksJ37_nextEntry_2 4 rfl rfl)
theorem dJ37_nextEntry_53 : decode cJ37_nextEntry 53 = .ok (.areturn, 1) := dk_176 (dk_at dksJ37_nextEntry_2 5 rfl rfl)
abbrev cJ37_init : ByteArray := prog_73_method_1_code
def yJ37_init : MethodName := ⟨RJ37, "<init>", "(Ljava/util/TreeMap;Ljava/util/TreeMap$Entry;)V"⟩
def dkwJ37_init_1 : List UInt8 := [181, 0, 26, 177]
abbrev dktJ37_init_1 : List UInt8 := dkwJ37_init_1 ++ []
def dkwJ37_init_0 : List UInt8 := [42, 43, 181, 0, 1, 42, 183, 0, 7, 42, 43, 180, 0, 13, 181, 0, 19, 42, 1, 181, 0, 22, 42, 44]
abbrev dktJ37_init_0 : List UInt8 := dkwJ37_init_0 ++ dktJ37_init_1
theorem dksJ37_init_0 : cJ37_init.data.toList.drop 0 = dktJ37_init_0 := by decide +kernel
theorem dksJ37_init_1 : cJ37_init.data.toList.drop 24 = dktJ37_init_1 := dk_seg dksJ37_init_0 24 rfl rfl
theorem dJ37_init_0 : decode cJ37_init 0 = .ok (.aload_n 0, 1) := dk_42 (dk_at dksJ37_init_0 0 rfl rfl)
theorem dJ37_init_1 : decode cJ37_init 1 = .ok (.aload_n 1, 1) := dk_43 (dk_at dksJ37_init_0 1 rfl rfl)
theorem dJ37_init_2 : decode cJ37_init 2 = .ok (.putfield 1, 3) := dk_181 0 1 (dk_at dksJ37_init_0 2 rfl rfl)
theorem dJ37_init_5 : decode cJ37_init 5 = .ok (.aload_n 0, 1) := dk_42 (dk_at dksJ37_init_0 5 rfl rfl)
theorem dJ37_init_6 : decode cJ37_init 6 = .ok (.invokespecial 7, 3) := dk_183 0 7 (dk_at dksJ37_init_0 6 rfl rfl)
theorem dJ37_init_9 : decode cJ37_init 9 = .ok (.aload_n 0, 1) := dk_42 (dk_at dksJ37_init_0 9 rfl rfl)
theorem dJ37_init_10 : decode cJ37_init 10 = .ok (.aload_n 1, 1) := dk_43 (dk_at dksJ37_init_0 10 rfl rfl)
theorem dJ37_init_11 : decode cJ37_init 11 = .ok (.getfield 13, 3) := dk_180 0 13 (dk_at dksJ37_init_0 11 rfl rfl)
theorem dJ37_init_14 : decode cJ37_init 14 = .ok (.putfield 19, 3) := dk_181 0 19 (dk_at dksJ37_init_0 14 rfl rfl)
theorem dJ37_init_17 : decode cJ37_init 17 = .ok (.aload_n 0, 1) := dk_42 (dk_at dksJ37_init_0 17 rfl rfl)
theorem dJ37_init_18 : decode cJ37_init 18 = .ok (.aconst_null, 1) := dk_1 (dk_at dksJ37_init_0 18 rfl rfl)
theorem dJ37_init_19 : decode cJ37_init 19 = .ok (.putfield 22, 3) := dk_181 0 22 (dk_at dksJ37_init_0 19 rfl rfl)
theorem dJ37_init_22 : decode cJ37_init 22 = .ok (.aload_n 0, 1) := dk_42 (dk_at dksJ37_init_0 22 rfl rfl)
theorem dJ37_init_23 : decode cJ37_init 23 = .ok (.aload_n 2, 1) := dk_44 (dk_at dksJ37_init_0 23 rfl rfl)
theorem dJ37_init_24 : decode cJ37_init 24 = .ok (.putfield 26, 3) := dk_181 0 26 (dk_at dksJ37_init_1 0 rfl rfl)
theorem dJ37_init_27 : decode cJ37_init 27 = .ok (.return_, 1) := dk_177 (dk_at dksJ37_init_1 3 rfl rfl)
abbrev cJ37_remove : ByteArray := prog_73_method_5_code
def yJ37_remove : MethodName := ⟨RJ37, "remove", "()V"⟩
def dkwJ37_remove_3 : List UInt8 := [180, 0, 22, 182, 0, 53, 42, 42, 180, 0, 1, 180, 0, 13, 181, 0, 19, 42, 1, 181, 0, 22, 177]
abbrev dktJ37_remove_3 : List UInt8 := dkwJ37_remove_3 ++ []
def dkwJ37_remove_2 : List UInt8 := [42, 180, 0, 22, 180, 0, 50, 198, 0, 11, 42, 42, 180, 0, 22, 181, 0, 26, 42, 180, 0, 1, 42]
abbrev dktJ37_remove_2 : List UInt8 := dkwJ37_remove_2 ++ dktJ37_remove_3
def dkwJ37_remove_1 : List UInt8 := [180, 0, 19, 159, 0, 11, 187, 0, 32, 89, 183, 0, 34, 191, 42, 180, 0, 22, 180, 0, 45, 198, 0, 21]
abbrev dktJ37_remove_1 : List UInt8 := dkwJ37_remove_1 ++ dktJ37_remove_2
def dkwJ37_remove_0 : List UInt8 := [42, 180, 0, 22, 199, 0, 11, 187, 0, 42, 89, 183, 0, 44, 191, 42, 180, 0, 1, 180, 0, 13, 42]
abbrev dktJ37_remove_0 : List UInt8 := dkwJ37_remove_0 ++ dktJ37_remove_1
theorem dksJ37_remove_0 : cJ37_remove.data.toList.drop 0 = dktJ37_remove_0 := by decide +kernel
theorem dksJ37_remove_1 : cJ37_remove.data.toList.drop 23 = dktJ37_remove_1 := dk_seg dksJ37_remove_0 23 rfl rfl
theorem dksJ37_remove_2 : cJ37_remove.data.toList.drop 47 = dktJ37_remove_2 := dk_seg dksJ37_remove_1 24 rfl rfl
theorem dksJ37_remove_3 : cJ37_remove.data.toList.drop 70 = dktJ37_remove_3 := dk_seg dksJ37_remove_2 23 rfl rfl
theorem dJ37_remove_0 : decode cJ37_remove 0 = .ok (.aload_n 0, 1) := dk_42 (dk_at dksJ37_remove_0 0 rfl rfl)
theorem dJ37_remove_1 : decode cJ37_remove 1 = .ok (.getfield 22, 3) := dk_180 0 22 (dk_at dksJ37_remove_0 1 rfl rfl)
theorem dJ37_remove_4 : decode cJ37_remove 4 = .ok (.ifnonnull 11, 3) := dk_199 0 11 (dk_at dksJ37_remove_0 4 rfl rfl)
theorem dJ37_remove_7 : decode cJ37_remove 7 = .ok (.new 42, 3) := dk_187 0 42 (dk_at dksJ37_remove_0 7 rfl rfl)
theorem dJ37_remove_10 : decode cJ37_remove 10 = .ok (.dup, 1) := dk_89 (dk_at dksJ37_remove_0 10 rfl rfl)
theorem dJ37_remove_11 : decode cJ37_remove 11 = .ok (.invokespecial 44, 3) := dk_183 0 44 (dk_at dksJ37_remove_0 11 rfl rfl)
theorem dJ37_remove_14 : decode cJ37_remove 14 = .ok (.athrow, 1) := dk_191 (dk_at dksJ37_remove_0 14 rfl rfl)
theorem dJ37_remove_15 : decode cJ37_remove 15 = .ok (.aload_n 0, 1) := dk_42 (dk_at dksJ37_remove_0 15 rfl rfl)
theorem dJ37_remove_16 : decode cJ37_remove 16 = .ok (.getfield 1, 3) := dk_180 0 1 (dk_at dksJ37_remove_0 16 rfl rfl)
theorem dJ37_remove_19 : decode cJ37_remove 19 = .ok (.getfield 13, 3) := dk_180 0 13 (dk_at dksJ37_remove_0 19 rfl rfl)
theorem dJ37_remove_22 : decode cJ37_remove 22 = .ok (.aload_n 0, 1) := dk_42 (dk_at dksJ37_remove_0 22 rfl rfl)
theorem dJ37_remove_23 : decode cJ37_remove 23 = .ok (.getfield 19, 3) := dk_180 0 19 (dk_at dksJ37_remove_1 0 rfl rfl)
theorem dJ37_remove_26 : decode cJ37_remove 26 = .ok (.if_icmp .eq 11, 3) := dk_159 0 11 (dk_at dksJ37_remove_1 3 rfl rfl)
theorem dJ37_remove_29 : decode cJ37_remove 29 = .ok (.new 32, 3) := dk_187 0 32 (dk_at dksJ37_remove_1 6 rfl rfl)
theorem dJ37_remove_32 : decode cJ37_remove 32 = .ok (.dup, 1) := dk_89 (dk_at dksJ37_remove_1 9 rfl rfl)
theorem dJ37_remove_33 : decode cJ37_remove 33 = .ok (.invokespecial 34, 3) := dk_183 0 34 (dk_at dksJ37_remove_1 10 rfl rfl)
theorem dJ37_remove_36 : decode cJ37_remove 36 = .ok (.athrow, 1) := dk_191 (dk_at dksJ37_remove_1 13 rfl rfl)
theorem dJ37_remove_37 : decode cJ37_remove 37 = .ok (.aload_n 0, 1) := dk_42 (dk_at dksJ37_remove_1 14 rfl rfl)
theorem dJ37_remove_38 : decode cJ37_remove 38 = .ok (.getfield 22, 3) := dk_180 0 22 (dk_at dksJ37_remove_1 15 rfl rfl)
theorem dJ37_remove_41 : decode cJ37_remove 41 = .ok (.getfield 45, 3) := dk_180 0 45 (dk_at dksJ37_remove_1 18 rfl rfl)
theorem dJ37_remove_44 : decode cJ37_remove 44 = .ok (.ifnull 21, 3) := dk_198 0 21 (dk_at dksJ37_remove_1 21 rfl rfl)
theorem dJ37_remove_47 : decode cJ37_remove 47 = .ok (.aload_n 0, 1) := dk_42 (dk_at dksJ37_remove_2 0 rfl rfl)
theorem dJ37_remove_48 : decode cJ37_remove 48 = .ok (.getfield 22, 3) := dk_180 0 22 (dk_at dksJ37_remove_2 1 rfl rfl)
theorem dJ37_remove_51 : decode cJ37_remove 51 = .ok (.getfield 50, 3) := dk_180 0 50 (dk_at dksJ37_remove_2 4 rfl rfl)
theorem dJ37_remove_54 : decode cJ37_remove 54 = .ok (.ifnull 11, 3) := dk_198 0 11 (dk_at dksJ37_remove_2 7 rfl rfl)
theorem dJ37_remove_57 : decode cJ37_remove 57 = .ok (.aload_n 0, 1) := dk_42 (dk_at dksJ37_remove_2 10 rfl rfl)
theorem dJ37_remove_58 : decode cJ37_remove 58 = .ok (.aload_n 0, 1) := dk_42 (dk_at dksJ37_remove_2 11 rfl rfl)
theorem dJ37_remove_59 : decode cJ37_remove 59 = .ok (.getfield 22, 3) := dk_180 0 22 (dk_at dksJ37_remove_2 12 rfl rfl)
theorem dJ37_remove_62 : decode cJ37_remove 62 = .ok (.putfield 26, 3) := dk_181 0 26 (dk_at dksJ37_remove_2 15 rfl rfl)
theorem dJ37_remove_65 : decode cJ37_remove 65 = .ok (.aload_n 0, 1) := dk_42 (dk_at dksJ37_remove_2 18 rfl rfl)
theorem dJ37_remove_66 : decode cJ37_remove 66 = .ok (.getfield 1, 3) := dk_180 0 1 (dk_at dksJ37_remove_2 19 rfl rfl)
theorem dJ37_remove_69 : decode cJ37_remove 69 = .ok (.aload_n 0, 1) := dk_42 (dk_at dksJ37_remove_2 22 rfl rfl)
theorem dJ37_remove_70 : decode cJ37_remove 70 = .ok (.getfield 22, 3) := dk_180 0 22 (dk_at dksJ37_remove_3 0 rfl rfl)
theorem dJ37_remove_73 : decode cJ37_remove 73 = .ok (.invokevirtual 53, 3) := dk_182 0 53 (dk_at dksJ37_remove_3 3 rfl rfl)
theorem dJ37_remove_76 : decode cJ37_remove 76 = .ok (.aload_n 0, 1) := dk_42 (dk_at dksJ37_remove_3 6 rfl rfl)
theorem dJ37_remove_77 : decode cJ37_remove 77 = .ok (.aload_n 0, 1) := dk_42 (dk_at dksJ37_remove_3 7 rfl rfl)
theorem dJ37_remove_78 : decode cJ37_remove 78 = .ok (.getfield 1, 3) := dk_180 0 1 (dk_at dksJ37_remove_3 8 rfl rfl)
theorem dJ37_remove_81 : decode cJ37_remove 81 = .ok (.getfield 13, 3) := dk_180 0 13 (dk_at dksJ37_remove_3 11 rfl rfl)
theorem dJ37_remove_84 : decode cJ37_remove 84 = .ok (.putfield 19, 3) := dk_181 0 19 (dk_at dksJ37_remove_3 14 rfl rfl)
theorem dJ37_remove_87 : decode cJ37_remove 87 = .ok (.aload_n 0, 1) := dk_42 (dk_at dksJ37_remove_3 17 rfl rfl)
theorem dJ37_remove_88 : decode cJ37_remove 88 = .ok (.aconst_null, 1) := dk_1 (dk_at dksJ37_remove_3 18 rfl rfl)
theorem dJ37_remove_89 : decode cJ37_remove 89 = .ok (.putfield 22, 3) := dk_181 0 22 (dk_at dksJ37_remove_3 19 rfl rfl)
theorem dJ37_remove_92 : decode cJ37_remove 92 = .ok (.return_, 1) := dk_177 (dk_at dksJ37_remove_3 22 rfl rfl)
theorem q83 : (Jvm.Cond.initialized "java/util/TreeMap$PrivateEntryIterator") ∈ lw_all := lw_g (lw_at lw_m1 43 rfl) rfl
theorem q147 : (Jvm.Cond.fieldLinkNest "java/util/TreeMap$PrivateEntryIterator" (13 : Nat) "java/util/TreeMap" "modCount" "I" "java/util/TreeMap") ∈ lw_tbl := lw_at lw_m1 107 rfl
theorem q1016 : (Jvm.Cond.instanceMethod ({ cls := "java/util/TreeMap$PrivateEntryIterator", name := "hasNext", desc := "()Z" } : Jvm.MethodName)) ∈ lw_all := lw_g (lw_at lw_m5 16 rfl) rfl
theorem q1017 : (Jvm.Cond.publicMethod ({ cls := "java/util/TreeMap$PrivateEntryIterator", name := "hasNext", desc := "()Z" } : Jvm.MethodName)) ∈ lw_tbl := lw_at lw_m5 17 rfl
theorem q1018 : (Jvm.Cond.code ({ cls := "java/util/TreeMap$PrivateEntryIterator", name := "hasNext", desc := "()Z" } : Jvm.MethodName) prog_73_method_2_code (1 : Nat) (Option.some Jvm.ClassFile.FieldType.boolean)) ∈ lw_all := lw_g (lw_at lw_m5 18 rfl) rfl
theorem q1056 : (Jvm.Cond.declares ({ cls := "java/util/TreeMap$PrivateEntryIterator", name := "nextEntry", desc := "()Ljava/util/TreeMap$Entry;" } : Jvm.MethodName)) ∈ lw_tbl := lw_at lw_m5 56 rfl
theorem q1058 : (Jvm.Cond.instanceMethod ({ cls := "java/util/TreeMap$PrivateEntryIterator", name := "nextEntry", desc := "()Ljava/util/TreeMap$Entry;" } : Jvm.MethodName)) ∈ lw_all := lw_g (lw_at lw_m5 58 rfl) rfl
theorem q1059 : (Jvm.Cond.code ({ cls := "java/util/TreeMap$PrivateEntryIterator", name := "nextEntry", desc := "()Ljava/util/TreeMap$Entry;" } : Jvm.MethodName) prog_73_method_3_code (2 : Nat) (Option.some (Jvm.ClassFile.FieldType.object "java/util/TreeMap$Entry"))) ∈ lw_all := lw_g (lw_at lw_m5 59 rfl) rfl
theorem q1060 : (Jvm.Cond.classLink "java/util/TreeMap$PrivateEntryIterator" (29 : Nat) "java/util/NoSuchElementException") ∈ lw_all := lw_g (lw_at lw_m5 60 rfl) rfl
theorem q1069 : (Jvm.Cond.methodLink "java/util/TreeMap$PrivateEntryIterator" (31 : Nat) ({ cls := "java/util/NoSuchElementException", name := "<init>", desc := "()V" } : Jvm.MethodName)) ∈ lw_all := lw_g (lw_at lw_m5 69 rfl) rfl
theorem q1081 : (Jvm.Cond.methodLink "java/util/TreeMap$PrivateEntryIterator" (35 : Nat) ({ cls := "java/util/TreeMap", name := "successor", desc := "(Ljava/util/TreeMap$Entry;)Ljava/util/TreeMap$Entry;" } : Jvm.MethodName)) ∈ lw_all := lw_g (lw_at lw_m5 81 rfl) rfl
theorem q1288 : (Jvm.Cond.instanceMethod ({ cls := "java/util/TreeMap$PrivateEntryIterator", name := "<init>", desc := "(Ljava/util/TreeMap;Ljava/util/TreeMap$Entry;)V" } : Jvm.MethodName)) ∈ lw_all := lw_g (lw_at lw_m6 48 rfl) rfl
theorem q1289 : (Jvm.Cond.code ({ cls := "java/util/TreeMap$PrivateEntryIterator", name := "<init>", desc := "(Ljava/util/TreeMap;Ljava/util/TreeMap$Entry;)V" } : Jvm.MethodName) prog_73_method_1_code (3 : Nat) (Option.none : Option Jvm.ClassFile.FieldType)) ∈ lw_all := lw_g (lw_at lw_m6 49 rfl) rfl
theorem q1290 : (Jvm.Cond.methodLink "java/util/TreeMap$PrivateEntryIterator" (7 : Nat) ({ cls := "java/lang/Object", name := "<init>", desc := "()V" } : Jvm.MethodName)) ∈ lw_all := lw_g (lw_at lw_m6 50 rfl) rfl
theorem q1291 : (Jvm.Cond.fieldLink "java/util/TreeMap$PrivateEntryIterator" (26 : Nat) "java/util/TreeMap$PrivateEntryIterator" "next" "Ljava/util/TreeMap$Entry;") ∈ lw_all := lw_g (lw_at lw_m6 51 rfl) rfl
theorem q1292 : (Jvm.Cond.fieldLink "java/util/TreeMap$PrivateEntryIterator" (22 : Nat) "java/util/TreeMap$PrivateEntryIterator" "lastReturned" "Ljava/util/TreeMap$Entry;") ∈ lw_all := lw_g (lw_at lw_m6 52 rfl) rfl
theorem q1293 : (Jvm.Cond.fieldLink "java/util/TreeMap$PrivateEntryIterator" (19 : Nat) "java/util/TreeMap$PrivateEntryIterator" "expectedModCount" "I") ∈ lw_all := lw_g (lw_at lw_m6 53 rfl) rfl
theorem q1294 : (Jvm.Cond.fieldLink "java/util/TreeMap$PrivateEntryIterator" (1 : Nat) "java/util/TreeMap$PrivateEntryIterator" "this$0" "Ljava/util/TreeMap;") ∈ lw_all := lw_g (lw_at lw_m6 54 rfl) rfl
theorem q1296 : (Jvm.Cond.soleField "java/util/TreeMap$PrivateEntryIterator" "next") ∈ lw_all := lw_g (lw_at lw_m6 56 rfl) rfl
theorem q1298 : (Jvm.Cond.soleField "java/util/TreeMap$PrivateEntryIterator" "lastReturned") ∈ lw_all := lw_g (lw_at lw_m6 58 rfl) rfl
theorem q1300 : (Jvm.Cond.soleField "java/util/TreeMap$PrivateEntryIterator" "expectedModCount") ∈ lw_all := lw_g (lw_at lw_m6 60 rfl) rfl
theorem q1302 : (Jvm.Cond.soleField "java/util/TreeMap$PrivateEntryIterator" "this$0") ∈ lw_all := lw_g (lw_at lw_m6 62 rfl) rfl
theorem q1435 : (Jvm.Cond.instanceMethod ({ cls := "java/util/TreeMap$PrivateEntryIterator", name := "remove", desc := "()V" } : Jvm.MethodName)) ∈ lw_all := lw_g (lw_at lw_m6 195 rfl) rfl
theorem q1436 : (Jvm.Cond.publicMethod ({ cls := "java/util/TreeMap$PrivateEntryIterator", name := "remove", desc := "()V" } : Jvm.MethodName)) ∈ lw_tbl := lw_at lw_m6 196 rfl
theorem q1437 : (Jvm.Cond.code ({ cls := "java/util/TreeMap$PrivateEntryIterator", name := "remove", desc := "()V" } : Jvm.MethodName) prog_73_method_5_code (1 : Nat) (Option.none : Option Jvm.ClassFile.FieldType)) ∈ lw_all := lw_g (lw_at lw_m6 197 rfl) rfl
theorem q1438 : (Jvm.Cond.classLink "java/util/TreeMap$PrivateEntryIterator" (42 : Nat) "java/lang/IllegalStateException") ∈ lw_all := lw_g (lw_at lw_m6 198 rfl) rfl
theorem q1447 : (Jvm.Cond.methodLink "java/util/TreeMap$PrivateEntryIterator" (44 : Nat) ({ cls := "java/lang/IllegalStateException", name := "<init>", desc := "()V" } : Jvm.MethodName)) ∈ lw_all := lw_g (lw_at lw_m6 207 rfl) rfl
theorem q1453 : (Jvm.Cond.methodLinkNest "java/util/TreeMap$PrivateEntryIterator" (53 : Nat) ({ cls := "java/util/TreeMap", name := "deleteEntry", desc := "(Ljava/util/TreeMap$Entry;)V" } : Jvm.MethodName) "java/util/TreeMap") ∈ lw_tbl := lw_at lw_m6 213 rfl
theorem q1889 : (Jvm.Cond.fieldLink "java/util/TreeMap$PrivateEntryIterator" (45 : Nat) "java/util/TreeMap$Entry" "left" "Ljava/util/TreeMap$Entry;") ∈ lw_all := lw_g (lw_at lw_m8 169 rfl) rfl
theorem q1892 : (Jvm.Cond.fieldLink "java/util/TreeMap$PrivateEntryIterator" (50 : Nat) "java/util/TreeMap$Entry" "right" "Ljava/util/TreeMap$Entry;") ∈ lw_all := lw_g (lw_at lw_m8 172 rfl) rfl
/-! java/util/TreeMap$EntryIterator -/
set_option maxRecDepth 100000
def RJ38 : String := "java/util/TreeMap$EntryIterator"
def TJ38 : u_T := fun k => match k with
  | 0 => ("java/util/TreeMap$PrivateEntryIterator", "next", "Ljava/util/TreeMap$Entry;", false)
  | 1 => ("java/util/TreeMap$PrivateEntryIterator", "lastReturned", "Ljava/util/TreeMap$Entry;", false)
  | 2 => ("java/util/TreeMap$PrivateEntryIterator", "expectedModCount", "I", false)
  | _ => ("java/util/TreeMap$PrivateEntryIterator", "this$0", "Ljava/util/TreeMap;", true)
def tyJ38 : Nat → FieldType := fun k => match k with
  | 0 => .object "java/util/TreeMap$Entry"
  | 1 => .object "java/util/TreeMap$Entry"
  | 2 => .int
  | _ => .object "java/util/TreeMap"
abbrev wsJ380 : List Cond := u_ws RJ38 TJ38 4
theorem nmJ38 : ∀ a, a < 4 → ∀ b, b < 4 → a ≠ b → (TJ38 a).2.1 ≠ (TJ38 b).2.1 := by decide +kernel
theorem tyJ38_ok : ∀ k, k < 4 → parseFieldDescriptor (TJ38 k).2.2.1 = some (tyJ38 k) := by decide +kernel
abbrev cJ38_next : ByteArray := prog_64_method_3_code
def yJ38_next : MethodName := ⟨RJ38, "next", "()Ljava/lang/Object;"⟩
theorem dJ38_next_0 : decode cJ38_next 0 = .ok (.aload_n 0, 1) := by decide +kernel
theorem dJ38_next_1 : decode cJ38_next 1 = .ok (.invokevirtual 13, 3) := by decide +kernel
theorem dJ38_next_4 : decode cJ38_next 4 = .ok (.areturn, 1) := by decide +kernel
abbrev cJ38_next_2 : ByteArray := prog_64_method_2_code
def yJ38_next_2 : MethodName := ⟨RJ38, "next", "()Ljava/util/Map$Entry;"⟩
theorem dJ38_next_2_0 : decode cJ38_next_2 0 = .ok (.aload_n 0, 1) := by decide +kernel
theorem dJ38_next_2_1 : decode cJ38_next_2 1 = .ok (.invokevirtual 7, 3) := by decide +kernel
theorem dJ38_next_2_4 : decode cJ38_next_2 4 = .ok (.areturn, 1) := by decide +kernel
abbrev cJ38_init : ByteArray := prog_64_method_1_code
def yJ38_init : MethodName := ⟨RJ38, "<init>", "(Ljava/util/TreeMap;Ljava/util/TreeMap$Entry;)V"⟩
def dkwJ38_init_0 : List UInt8 := [42, 43, 44, 183, 0, 1, 177]
abbrev dktJ38_init_0 : List UInt8 := dkwJ38_init_0 ++ []
theorem dksJ38_init_0 : cJ38_init.data.toList.drop 0 = dktJ38_init_0 := by decide +kernel
theorem dJ38_init_0 : decode cJ38_init 0 = .ok (.aload_n 0, 1) := dk_42 (dk_at dksJ38_init_0 0 rfl rfl)
theorem dJ38_init_1 : decode cJ38_init 1 = .ok (.aload_n 1, 1) := dk_43 (dk_at dksJ38_init_0 1 rfl rfl)
theorem dJ38_init_2 : decode cJ38_init 2 = .ok (.aload_n 2, 1) := dk_44 (dk_at dksJ38_init_0 2 rfl rfl)
theorem dJ38_init_3 : decode cJ38_init 3 = .ok (.invokespecial 1, 3) := dk_183 0 1 (dk_at dksJ38_init_0 3 rfl rfl)
theorem dJ38_init_6 : decode cJ38_init 6 = .ok (.return_, 1) := dk_177 (dk_at dksJ38_init_0 6 rfl rfl)
theorem q84 : (Jvm.Cond.initialized "java/util/TreeMap$EntryIterator") ∈ lw_all := lw_g (lw_at lw_m1 44 rfl) rfl
theorem q1013 : (Jvm.Cond.castable "java/util/TreeMap$EntryIterator" "java/util/Iterator") ∈ lw_tbl := lw_at lw_m5 13 rfl
theorem q1014 : (Jvm.Cond.selects "java/util/TreeMap$EntryIterator" ({ cls := "java/util/Iterator", name := "hasNext", desc := "()Z" } : Jvm.MethodName) ({ cls := "java/util/TreeMap$PrivateEntryIterator", name := "hasNext", desc := "()Z" } : Jvm.MethodName)) ∈ lw_all := lw_g (lw_at lw_m5 14 rfl) rfl
theorem q1015 : (Jvm.Cond.unhidden "java/util/TreeMap$EntryIterator" "hasNext" "()Z") ∈ lw_tbl := lw_at lw_m5 15 rfl
theorem q1045 : (Jvm.Cond.selects "java/util/TreeMap$EntryIterator" ({ cls := "java/util/Iterator", name := "next", desc := "()Ljava/lang/Object;" } : Jvm.MethodName) ({ cls := "java/util/TreeMap$EntryIterator", name := "next", desc := "()Ljava/lang/Object;" } : Jvm.MethodName)) ∈ lw_all := lw_g (lw_at lw_m5 45 rfl) rfl
theorem q1046 : (Jvm.Cond.unhidden "java/util/TreeMap$EntryIterator" "next" "()Ljava/lang/Object;") ∈ lw_tbl := lw_at lw_m5 46 rfl
theorem q1047 : (Jvm.Cond.instanceMethod ({ cls := "java/util/TreeMap$EntryIterator", name := "next", desc := "()Ljava/lang/Object;" } : Jvm.MethodName)) ∈ lw_all := lw_g (lw_at lw_m5 47 rfl) rfl
theorem q1048 : (Jvm.Cond.publicMethod ({ cls := "java/util/TreeMap$EntryIterator", name := "next", desc := "()Ljava/lang/Object;" } : Jvm.MethodName)) ∈ lw_tbl := lw_at lw_m5 48 rfl
theorem q1049 : (Jvm.Cond.code ({ cls := "java/util/TreeMap$EntryIterator", name := "next", desc := "()Ljava/lang/Object;" } : Jvm.MethodName) prog_64_method_3_code (1 : Nat) (Option.some (Jvm.ClassFile.FieldType.object "java/lang/Object"))) ∈ lw_all := lw_g (lw_at lw_m5 49 rfl) rfl
theorem q1050 : (Jvm.Cond.methodLink "java/util/TreeMap$EntryIterator" (13 : Nat) ({ cls := "java/util/TreeMap$EntryIterator", name := "next", desc := "()Ljava/util/Map$Entry;" } : Jvm.MethodName)) ∈ lw_all := lw_g (lw_at lw_m5 50 rfl) rfl
theorem q1051 : (Jvm.Cond.instanceMethod ({ cls := "java/util/TreeMap$EntryIterator", name := "next", desc := "()Ljava/util/Map$Entry;" } : Jvm.MethodName)) ∈ lw_all := lw_g (lw_at lw_m5 51 rfl) rfl
theorem q1052 : (Jvm.Cond.selects "java/util/TreeMap$EntryIterator" ({ cls := "java/util/TreeMap$EntryIterator", name := "next", desc := "()Ljava/util/Map$Entry;" } : Jvm.MethodName) ({ cls := "java/util/TreeMap$EntryIterator", name := "next", desc := "()Ljava/util/Map$Entry;" } : Jvm.MethodName)) ∈ lw_all := lw_g (lw_at lw_m5 52 rfl) rfl
theorem q1053 : (Jvm.Cond.code ({ cls := "java/util/TreeMap$EntryIterator", name := "next", desc := "()Ljava/util/Map$Entry;" } : Jvm.MethodName) prog_64_method_2_code (1 : Nat) (Option.some (Jvm.ClassFile.FieldType.object "java/util/Map$Entry"))) ∈ lw_all := lw_g (lw_at lw_m5 53 rfl) rfl
theorem q1054 : (Jvm.Cond.methodLink "java/util/TreeMap$EntryIterator" (7 : Nat) ({ cls := "java/util/TreeMap$EntryIterator", name := "nextEntry", desc := "()Ljava/util/TreeMap$Entry;" } : Jvm.MethodName)) ∈ lw_all := lw_g (lw_at lw_m5 54 rfl) rfl
theorem q1055 : (Jvm.Cond.sameMethod "java/util/TreeMap$EntryIterator" "java/util/TreeMap$PrivateEntryIterator" "nextEntry" "()Ljava/util/TreeMap$Entry;") ∈ lw_all := lw_g (lw_at lw_m5 55 rfl) rfl
theorem q1057 : (Jvm.Cond.selects "java/util/TreeMap$EntryIterator" ({ cls := "java/util/TreeMap$EntryIterator", name := "nextEntry", desc := "()Ljava/util/TreeMap$Entry;" } : Jvm.MethodName) ({ cls := "java/util/TreeMap$PrivateEntryIterator", name := "nextEntry", desc := "()Ljava/util/TreeMap$Entry;" } : Jvm.MethodName)) ∈ lw_all := lw_g (lw_at lw_m5 57 rfl) rfl
theorem q1282 : (Jvm.Cond.instantiable "java/util/TreeMap$EntryIterator" (4 : Nat)) ∈ lw_all := lw_g (lw_at lw_m6 42 rfl) rfl
theorem q1285 : (Jvm.Cond.instanceMethod ({ cls := "java/util/TreeMap$EntryIterator", name := "<init>", desc := "(Ljava/util/TreeMap;Ljava/util/TreeMap$Entry;)V" } : Jvm.MethodName)) ∈ lw_all := lw_g (lw_at lw_m6 45 rfl) rfl
theorem q1286 : (Jvm.Cond.code ({ cls := "java/util/TreeMap$EntryIterator", name := "<init>", desc := "(Ljava/util/TreeMap;Ljava/util/TreeMap$Entry;)V" } : Jvm.MethodName) prog_64_method_1_code (3 : Nat) (Option.none : Option Jvm.ClassFile.FieldType)) ∈ lw_all := lw_g (lw_at lw_m6 46 rfl) rfl
theorem q1287 : (Jvm.Cond.methodLink "java/util/TreeMap$EntryIterator" (1 : Nat) ({ cls := "java/util/TreeMap$PrivateEntryIterator", name := "<init>", desc := "(Ljava/util/TreeMap;Ljava/util/TreeMap$Entry;)V" } : Jvm.MethodName)) ∈ lw_all := lw_g (lw_at lw_m6 47 rfl) rfl
theorem q1295 : (Jvm.Cond.lays "java/util/TreeMap$EntryIterator" "java/util/TreeMap$PrivateEntryIterator" "next" "Ljava/util/TreeMap$Entry;") ∈ lw_all := lw_g (lw_at lw_m6 55 rfl) rfl
theorem q1297 : (Jvm.Cond.lays "java/util/TreeMap$EntryIterator" "java/util/TreeMap$PrivateEntryIterator" "lastReturned" "Ljava/util/TreeMap$Entry;") ∈ lw_all := lw_g (lw_at lw_m6 57 rfl) rfl
theorem q1299 : (Jvm.Cond.lays "java/util/TreeMap$EntryIterator" "java/util/TreeMap$PrivateEntryIterator" "expectedModCount" "I") ∈ lw_all := lw_g (lw_at lw_m6 59 rfl) rfl
theorem q1301 : (Jvm.Cond.laysFinal "java/util/TreeMap$EntryIterator" "java/util/TreeMap$PrivateEntryIterator" "this$0" "Ljava/util/TreeMap;") ∈ lw_all := lw_g (lw_at lw_m6 61 rfl) rfl
theorem q1303 : (Jvm.Cond.superclass "java/util/TreeMap$EntryIterator" "java/util/TreeMap$PrivateEntryIterator") ∈ lw_all := lw_g (lw_at lw_m6 63 rfl) rfl
theorem q1433 : (Jvm.Cond.selects "java/util/TreeMap$EntryIterator" ({ cls := "java/util/Iterator", name := "remove", desc := "()V" } : Jvm.MethodName) ({ cls := "java/util/TreeMap$PrivateEntryIterator", name := "remove", desc := "()V" } : Jvm.MethodName)) ∈ lw_all := lw_g (lw_at lw_m6 193 rfl) rfl
theorem q1434 : (Jvm.Cond.unhidden "java/util/TreeMap$EntryIterator" "remove" "()V") ∈ lw_tbl := lw_at lw_m6 194 rfl
theorem q2507 : (Jvm.Cond.castable "java/util/TreeMap$EntryIterator" "java/lang/Object") ∈ lw_tbl := lw_at lw_m11 67 rfl
theorem in_J38 : ∀ w ∈ wsJ380, w ∈ lw_all := lw_in wsJ380 [1295, 1297, 1299, 1301] (by decide +kernel) (by decide +kernel)
/-! java/util/TreeMap$KeyIterator -/
set_option maxRecDepth 100000
def RJ39 : String := "java/util/TreeMap$KeyIterator"
def TJ39 : u_T := fun k => match k with
  | 0 => ("java/util/TreeMap$PrivateEntryIterator", "next", "Ljava/util/TreeMap$Entry;", false)
  | 1 => ("java/util/TreeMap$PrivateEntryIterator", "lastReturned", "Ljava/util/TreeMap$Entry;", false)
  | 2 => ("java/util/TreeMap$PrivateEntryIterator", "expectedModCount", "I", false)
  | _ => ("java/util/TreeMap$PrivateEntryIterator", "this$0", "Ljava/util/TreeMap;", true)
def tyJ39 : Nat → FieldType := fun k => match k with
  | 0 => .object "java/util/TreeMap$Entry"
  | 1 => .object "java/util/TreeMap$Entry"
  | 2 => .int
  | _ => .object "java/util/TreeMap"
abbrev wsJ390 : List Cond := u_ws RJ39 TJ39 4
theorem nmJ39 : ∀ a, a < 4 → ∀ b, b < 4 → a ≠ b → (TJ39 a).2.1 ≠ (TJ39 b).2.1 := by decide +kernel
theorem tyJ39_ok : ∀ k, k < 4 → parseFieldDescriptor (TJ39 k).2.2.1 = some (tyJ39 k) := by decide +kernel
abbrev cJ39_next : ByteArray := prog_66_method_2_code
def yJ39_next : MethodName := ⟨RJ39, "next", "()Ljava/lang/Object;"⟩
def dkwJ39_next_0 : List UInt8 := [42, 182, 0, 7, 180, 0, 13, 176]
abbrev dktJ39_next_0 : List UInt8 := dkwJ39_next_0 ++ []
theorem dksJ39_next_0 : cJ39_next.data.toList.drop 0 = dktJ39_next_0 := by decide +kernel
theorem dJ39_next_0 : decode cJ39_next 0 = .ok (.aload_n 0, 1) := dk_42 (dk_at dksJ39_next_0 0 rfl rfl)
theorem dJ39_next_1 : decode cJ39_next 1 = .ok (.invokevirtual 7, 3) := dk_182 0 7 (dk_at dksJ39_next_0 1 rfl rfl)
theorem dJ39_next_4 : decode cJ39_next 4 = .ok (.getfield 13, 3) := dk_180 0 13 (dk_at dksJ39_next_0 4 rfl rfl)
theorem dJ39_next_7 : decode cJ39_next 7 = .ok (.areturn, 1) := dk_176 (dk_at dksJ39_next_0 7 rfl rfl)
abbrev cJ39_init : ByteArray := prog_66_method_1_code
def yJ39_init : MethodName := ⟨RJ39, "<init>", "(Ljava/util/TreeMap;Ljava/util/TreeMap$Entry;)V"⟩
def dkwJ39_init_0 : List UInt8 := [42, 43, 44, 183, 0, 1, 177]
abbrev dktJ39_init_0 : List UInt8 := dkwJ39_init_0 ++ []
theorem dksJ39_init_0 : cJ39_init.data.toList.drop 0 = dktJ39_init_0 := by decide +kernel
theorem dJ39_init_0 : decode cJ39_init 0 = .ok (.aload_n 0, 1) := dk_42 (dk_at dksJ39_init_0 0 rfl rfl)
theorem dJ39_init_1 : decode cJ39_init 1 = .ok (.aload_n 1, 1) := dk_43 (dk_at dksJ39_init_0 1 rfl rfl)
theorem dJ39_init_2 : decode cJ39_init 2 = .ok (.aload_n 2, 1) := dk_44 (dk_at dksJ39_init_0 2 rfl rfl)
theorem dJ39_init_3 : decode cJ39_init 3 = .ok (.invokespecial 1, 3) := dk_183 0 1 (dk_at dksJ39_init_0 3 rfl rfl)
theorem dJ39_init_6 : decode cJ39_init 6 = .ok (.return_, 1) := dk_177 (dk_at dksJ39_init_0 6 rfl rfl)
theorem q85 : (Jvm.Cond.initialized "java/util/TreeMap$KeyIterator") ∈ lw_all := lw_g (lw_at lw_m1 45 rfl) rfl
theorem q1019 : (Jvm.Cond.castable "java/util/TreeMap$KeyIterator" "java/util/Iterator") ∈ lw_tbl := lw_at lw_m5 19 rfl
theorem q1020 : (Jvm.Cond.selects "java/util/TreeMap$KeyIterator" ({ cls := "java/util/Iterator", name := "hasNext", desc := "()Z" } : Jvm.MethodName) ({ cls := "java/util/TreeMap$PrivateEntryIterator", name := "hasNext", desc := "()Z" } : Jvm.MethodName)) ∈ lw_all := lw_g (lw_at lw_m5 20 rfl) rfl
theorem q1021 : (Jvm.Cond.unhidden "java/util/TreeMap$KeyIterator" "hasNext" "()Z") ∈ lw_tbl := lw_at lw_m5 21 rfl
theorem q1084 : (Jvm.Cond.selects "java/util/TreeMap$KeyIterator" ({ cls := "java/util/Iterator", name := "next", desc := "()Ljava/lang/Object;" } : Jvm.MethodName) ({ cls := "java/util/TreeMap$KeyIterator", name := "next", desc := "()Ljava/lang/Object;" } : Jvm.MethodName)) ∈ lw_all := lw_g (lw_at lw_m5 84 rfl) rfl
theorem q1085 : (Jvm.Cond.unhidden "java/util/TreeMap$KeyIterator" "next" "()Ljava/lang/Object;") ∈ lw_tbl := lw_at lw_m5 85 rfl
theorem q1086 : (Jvm.Cond.instanceMethod ({ cls := "java/util/TreeMap$KeyIterator", name := "next", desc := "()Ljava/lang/Object;" } : Jvm.MethodName)) ∈ lw_all := lw_g (lw_at lw_m5 86 rfl) rfl
theorem q1087 : (Jvm.Cond.publicMethod ({ cls := "java/util/TreeMap$KeyIterator", name := "next", desc := "()Ljava/lang/Object;" } : Jvm.MethodName)) ∈ lw_tbl := lw_at lw_m5 87 rfl
theorem q1088 : (Jvm.Cond.code ({ cls := "java/util/TreeMap$KeyIterator", name := "next", desc := "()Ljava/lang/Object;" } : Jvm.MethodName) prog_66_method_2_code (1 : Nat) (Option.some (Jvm.ClassFile.FieldType.object "java/lang/Object"))) ∈ lw_all := lw_g (lw_at lw_m5 88 rfl) rfl
theorem q1089 : (Jvm.Cond.methodLink "java/util/TreeMap$KeyIterator" (7 : Nat) ({ cls := "java/util/TreeMap$KeyIterator", name := "nextEntry", desc := "()Ljava/util/TreeMap$Entry;" } : Jvm.MethodName)) ∈ lw_all := lw_g (lw_at lw_m5 89 rfl) rfl
theorem q1090 : (Jvm.Cond.sameMethod "java/util/TreeMap$KeyIterator" "java/util/TreeMap$PrivateEntryIterator" "nextEntry" "()Ljava/util/TreeMap$Entry;") ∈ lw_all := lw_g (lw_at lw_m5 90 rfl) rfl
theorem q1091 : (Jvm.Cond.selects "java/util/TreeMap$KeyIterator" ({ cls := "java/util/TreeMap$KeyIterator", name := "nextEntry", desc := "()Ljava/util/TreeMap$Entry;" } : Jvm.MethodName) ({ cls := "java/util/TreeMap$PrivateEntryIterator", name := "nextEntry", desc := "()Ljava/util/TreeMap$Entry;" } : Jvm.MethodName)) ∈ lw_all := lw_g (lw_at lw_m5 91 rfl) rfl
theorem q1315 : (Jvm.Cond.instantiable "java/util/TreeMap$KeyIterator" (4 : Nat)) ∈ lw_all := lw_g (lw_at lw_m6 75 rfl) rfl
theorem q1318 : (Jvm.Cond.instanceMethod ({ cls := "java/util/TreeMap$KeyIterator", name := "<init>", desc := "(Ljava/util/TreeMap;Ljava/util/TreeMap$Entry;)V" } : Jvm.MethodName)) ∈ lw_all := lw_g (lw_at lw_m6 78 rfl) rfl
theorem q1319 : (Jvm.Cond.code ({ cls := "java/util/TreeMap$KeyIterator", name := "<init>", desc := "(Ljava/util/TreeMap;Ljava/util/TreeMap$Entry;)V" } : Jvm.MethodName) prog_66_method_1_code (3 : Nat) (Option.none : Option Jvm.ClassFile.FieldType)) ∈ lw_all := lw_g (lw_at lw_m6 79 rfl) rfl
theorem q1320 : (Jvm.Cond.methodLink "java/util/TreeMap$KeyIterator" (1 : Nat) ({ cls := "java/util/TreeMap$PrivateEntryIterator", name := "<init>", desc := "(Ljava/util/TreeMap;Ljava/util/TreeMap$Entry;)V" } : Jvm.MethodName)) ∈ lw_all := lw_g (lw_at lw_m6 80 rfl) rfl
theorem q1321 : (Jvm.Cond.lays "java/util/TreeMap$KeyIterator" "java/util/TreeMap$PrivateEntryIterator" "next" "Ljava/util/TreeMap$Entry;") ∈ lw_all := lw_g (lw_at lw_m6 81 rfl) rfl
theorem q1322 : (Jvm.Cond.lays "java/util/TreeMap$KeyIterator" "java/util/TreeMap$PrivateEntryIterator" "lastReturned" "Ljava/util/TreeMap$Entry;") ∈ lw_all := lw_g (lw_at lw_m6 82 rfl) rfl
theorem q1323 : (Jvm.Cond.lays "java/util/TreeMap$KeyIterator" "java/util/TreeMap$PrivateEntryIterator" "expectedModCount" "I") ∈ lw_all := lw_g (lw_at lw_m6 83 rfl) rfl
theorem q1324 : (Jvm.Cond.laysFinal "java/util/TreeMap$KeyIterator" "java/util/TreeMap$PrivateEntryIterator" "this$0" "Ljava/util/TreeMap;") ∈ lw_all := lw_g (lw_at lw_m6 84 rfl) rfl
theorem q1325 : (Jvm.Cond.superclass "java/util/TreeMap$KeyIterator" "java/util/TreeMap$PrivateEntryIterator") ∈ lw_all := lw_g (lw_at lw_m6 85 rfl) rfl
theorem q1485 : (Jvm.Cond.selects "java/util/TreeMap$KeyIterator" ({ cls := "java/util/Iterator", name := "remove", desc := "()V" } : Jvm.MethodName) ({ cls := "java/util/TreeMap$PrivateEntryIterator", name := "remove", desc := "()V" } : Jvm.MethodName)) ∈ lw_all := lw_g (lw_at lw_m7 5 rfl) rfl
theorem q1486 : (Jvm.Cond.unhidden "java/util/TreeMap$KeyIterator" "remove" "()V") ∈ lw_tbl := lw_at lw_m7 6 rfl
theorem q1882 : (Jvm.Cond.fieldLink "java/util/TreeMap$KeyIterator" (13 : Nat) "java/util/TreeMap$Entry" "key" "Ljava/lang/Object;") ∈ lw_all := lw_g (lw_at lw_m8 162 rfl) rfl
theorem q2500 : (Jvm.Cond.castable "java/util/TreeMap$KeyIterator" "java/lang/Object") ∈ lw_tbl := lw_at lw_m11 60 rfl
theorem in_J39 : ∀ w ∈ wsJ390, w ∈ lw_all := lw_in wsJ390 [1321, 1322, 1323, 1324] (by decide +kernel) (by decide +kernel)
/-! java/util/AbstractMap$SimpleImmutableEntry -/
set_option maxRecDepth 100000
def RJ41 : String := "java/util/AbstractMap$SimpleImmutableEntry"
def TJ41 : u_T := fun k => match k with
  | 0 => ("java/util/AbstractMap$SimpleImmutableEntry", "key", "Ljava/lang/Object;", true)
  | _ => ("java/util/AbstractMap$SimpleImmutableEntry", "value", "Ljava/lang/Object;", true)
def tyJ41 : Nat → FieldType := fun k => match k with
  | 0 => .object "java/lang/Object"
  | _ => .object "java/lang/Object"
abbrev wsJ410 : List Cond := u_ws RJ41 TJ41 2
theorem nmJ41 : ∀ a, a < 2 → ∀ b, b < 2 → a ≠ b → (TJ41 a).2.1 ≠ (TJ41 b).2.1 := by decide +kernel
theorem tyJ41_ok : ∀ k, k < 2 → parseFieldDescriptor (TJ41 k).2.2.1 = some (tyJ41 k) := by decide +kernel
abbrev cJ41_getValue : ByteArray := prog_38_method_4_code
def yJ41_getValue : MethodName := ⟨RJ41, "getValue", "()Ljava/lang/Object;"⟩
theorem dJ41_getValue_0 : decode cJ41_getValue 0 = .ok (.aload_n 0, 1) := by decide +kernel
theorem dJ41_getValue_1 : decode cJ41_getValue 1 = .ok (.getfield 13, 3) := by decide +kernel
theorem dJ41_getValue_4 : decode cJ41_getValue 4 = .ok (.areturn, 1) := by decide +kernel
abbrev cJ41_getKey : ByteArray := prog_38_method_3_code
def yJ41_getKey : MethodName := ⟨RJ41, "getKey", "()Ljava/lang/Object;"⟩
theorem dJ41_getKey_0 : decode cJ41_getKey 0 = .ok (.aload_n 0, 1) := by decide +kernel
theorem dJ41_getKey_1 : decode cJ41_getKey 1 = .ok (.getfield 7, 3) := by decide +kernel
theorem dJ41_getKey_4 : decode cJ41_getKey 4 = .ok (.areturn, 1) := by decide +kernel
abbrev cJ41_init : ByteArray := prog_38_method_2_code
def yJ41_init : MethodName := ⟨RJ41, "<init>", "(Ljava/util/Map$Entry;)V"⟩
def dkwJ41_init_1 : List UInt8 := [177]
abbrev dktJ41_init_1 : List UInt8 := dkwJ41_init_1 ++ []
def dkwJ41_init_0 : List UInt8 := [42, 183, 0, 1, 42, 43, 185, 0, 16, 1, 0, 181, 0, 7, 42, 43, 185, 0, 22, 1, 0, 181, 0, 13]
abbrev dktJ41_init_0 : List UInt8 := dkwJ41_init_0 ++ dktJ41_init_1
theorem dksJ41_init_0 : cJ41_init.data.toList.drop 0 = dktJ41_init_0 := by decide +kernel
theorem dksJ41_init_1 : cJ41_init.data.toList.drop 24 = dktJ41_init_1 := dk_seg dksJ41_init_0 24 rfl rfl
theorem dJ41_init_0 : decode cJ41_init 0 = .ok (.aload_n 0, 1) := dk_42 (dk_at dksJ41_init_0 0 rfl rfl)
theorem dJ41_init_1 : decode cJ41_init 1 = .ok (.invokespecial 1, 3) := dk_183 0 1 (dk_at dksJ41_init_0 1 rfl rfl)
theorem dJ41_init_4 : decode cJ41_init 4 = .ok (.aload_n 0, 1) := dk_42 (dk_at dksJ41_init_0 4 rfl rfl)
theorem dJ41_init_5 : decode cJ41_init 5 = .ok (.aload_n 1, 1) := dk_43 (dk_at dksJ41_init_0 5 rfl rfl)
theorem dJ41_init_6 : decode cJ41_init 6 = .ok (.invokeinterface 16 1, 5) := by decide +kernel
theorem dJ41_init_11 : decode cJ41_init 11 = .ok (.putfield 7, 3) := dk_181 0 7 (dk_at dksJ41_init_0 11 rfl rfl)
theorem dJ41_init_14 : decode cJ41_init 14 = .ok (.aload_n 0, 1) := dk_42 (dk_at dksJ41_init_0 14 rfl rfl)
theorem dJ41_init_15 : decode cJ41_init 15 = .ok (.aload_n 1, 1) := dk_43 (dk_at dksJ41_init_0 15 rfl rfl)
theorem dJ41_init_16 : decode cJ41_init 16 = .ok (.invokeinterface 22 1, 5) := by decide +kernel
theorem dJ41_init_21 : decode cJ41_init 21 = .ok (.putfield 13, 3) := dk_181 0 13 (dk_at dksJ41_init_0 21 rfl rfl)
theorem dJ41_init_24 : decode cJ41_init 24 = .ok (.return_, 1) := dk_177 (dk_at dksJ41_init_1 0 rfl rfl)
theorem q87 : (Jvm.Cond.initialized "java/util/AbstractMap$SimpleImmutableEntry") ∈ lw_all := lw_g (lw_at lw_m1 47 rfl) rfl
theorem q1131 : (Jvm.Cond.castable "java/util/AbstractMap$SimpleImmutableEntry" "java/util/Map$Entry") ∈ lw_tbl := lw_at lw_m5 131 rfl
theorem q1132 : (Jvm.Cond.selects "java/util/AbstractMap$SimpleImmutableEntry" ({ cls := "java/util/Map$Entry", name := "getValue", desc := "()Ljava/lang/Object;" } : Jvm.MethodName) ({ cls := "java/util/AbstractMap$SimpleImmutableEntry", name := "getValue", desc := "()Ljava/lang/Object;" } : Jvm.MethodName)) ∈ lw_all := lw_g (lw_at lw_m5 132 rfl) rfl
theorem q1133 : (Jvm.Cond.unhidden "java/util/AbstractMap$SimpleImmutableEntry" "getValue" "()Ljava/lang/Object;") ∈ lw_tbl := lw_at lw_m5 133 rfl
theorem q1134 : (Jvm.Cond.instanceMethod ({ cls := "java/util/AbstractMap$SimpleImmutableEntry", name := "getValue", desc := "()Ljava/lang/Object;" } : Jvm.MethodName)) ∈ lw_all := lw_g (lw_at lw_m5 134 rfl) rfl
theorem q1135 : (Jvm.Cond.publicMethod ({ cls := "java/util/AbstractMap$SimpleImmutableEntry", name := "getValue", desc := "()Ljava/lang/Object;" } : Jvm.MethodName)) ∈ lw_tbl := lw_at lw_m5 135 rfl
theorem q1136 : (Jvm.Cond.code ({ cls := "java/util/AbstractMap$SimpleImmutableEntry", name := "getValue", desc := "()Ljava/lang/Object;" } : Jvm.MethodName) prog_38_method_4_code (1 : Nat) (Option.some (Jvm.ClassFile.FieldType.object "java/lang/Object"))) ∈ lw_all := lw_g (lw_at lw_m5 136 rfl) rfl
theorem q1707 : (Jvm.Cond.selects "java/util/AbstractMap$SimpleImmutableEntry" ({ cls := "java/util/Map$Entry", name := "getKey", desc := "()Ljava/lang/Object;" } : Jvm.MethodName) ({ cls := "java/util/AbstractMap$SimpleImmutableEntry", name := "getKey", desc := "()Ljava/lang/Object;" } : Jvm.MethodName)) ∈ lw_all := lw_g (lw_at lw_m7 227 rfl) rfl
theorem q1708 : (Jvm.Cond.unhidden "java/util/AbstractMap$SimpleImmutableEntry" "getKey" "()Ljava/lang/Object;") ∈ lw_tbl := lw_at lw_m7 228 rfl
theorem q1709 : (Jvm.Cond.instanceMethod ({ cls := "java/util/AbstractMap$SimpleImmutableEntry", name := "getKey", desc := "()Ljava/lang/Object;" } : Jvm.MethodName)) ∈ lw_all := lw_g (lw_at lw_m7 229 rfl) rfl
theorem q1710 : (Jvm.Cond.publicMethod ({ cls := "java/util/AbstractMap$SimpleImmutableEntry", name := "getKey", desc := "()Ljava/lang/Object;" } : Jvm.MethodName)) ∈ lw_tbl := lw_at lw_m7 230 rfl
theorem q1711 : (Jvm.Cond.code ({ cls := "java/util/AbstractMap$SimpleImmutableEntry", name := "getKey", desc := "()Ljava/lang/Object;" } : Jvm.MethodName) prog_38_method_3_code (1 : Nat) (Option.some (Jvm.ClassFile.FieldType.object "java/lang/Object"))) ∈ lw_all := lw_g (lw_at lw_m7 231 rfl) rfl
theorem q1989 : (Jvm.Cond.instantiable "java/util/AbstractMap$SimpleImmutableEntry" (2 : Nat)) ∈ lw_all := lw_g (lw_at lw_m9 29 rfl) rfl
theorem q1991 : (Jvm.Cond.instanceMethod ({ cls := "java/util/AbstractMap$SimpleImmutableEntry", name := "<init>", desc := "(Ljava/util/Map$Entry;)V" } : Jvm.MethodName)) ∈ lw_all := lw_g (lw_at lw_m9 31 rfl) rfl
theorem q1992 : (Jvm.Cond.code ({ cls := "java/util/AbstractMap$SimpleImmutableEntry", name := "<init>", desc := "(Ljava/util/Map$Entry;)V" } : Jvm.MethodName) prog_38_method_2_code (2 : Nat) (Option.none : Option Jvm.ClassFile.FieldType)) ∈ lw_all := lw_g (lw_at lw_m9 32 rfl) rfl
theorem q1993 : (Jvm.Cond.methodLink "java/util/AbstractMap$SimpleImmutableEntry" (1 : Nat) ({ cls := "java/lang/Object", name := "<init>", desc := "()V" } : Jvm.MethodName)) ∈ lw_all := lw_g (lw_at lw_m9 33 rfl) rfl
theorem q1994 : (Jvm.Cond.interfaceEntry "java/util/AbstractMap$SimpleImmutableEntry" (16 : Nat)) ∈ lw_tbl := lw_at lw_m9 34 rfl
theorem q1995 : (Jvm.Cond.methodLink "java/util/AbstractMap$SimpleImmutableEntry" (16 : Nat) ({ cls := "java/util/Map$Entry", name := "getKey", desc := "()Ljava/lang/Object;" } : Jvm.MethodName)) ∈ lw_all := lw_g (lw_at lw_m9 35 rfl) rfl
theorem q1996 : (Jvm.Cond.interfaceEntry "java/util/AbstractMap$SimpleImmutableEntry" (22 : Nat)) ∈ lw_tbl := lw_at lw_m9 36 rfl
theorem q1997 : (Jvm.Cond.methodLink "java/util/AbstractMap$SimpleImmutableEntry" (22 : Nat) ({ cls := "java/util/Map$Entry", name := "getValue", desc := "()Ljava/lang/Object;" } : Jvm.MethodName)) ∈ lw_all := lw_g (lw_at lw_m9 37 rfl) rfl
theorem q1998 : (Jvm.Cond.fieldLink "java/util/AbstractMap$SimpleImmutableEntry" (7 : Nat) "java/util/AbstractMap$SimpleImmutableEntry" "key" "Ljava/lang/Object;") ∈ lw_all := lw_g (lw_at lw_m9 38 rfl) rfl
theorem q1999 : (Jvm.Cond.fieldLink "java/util/AbstractMap$SimpleImmutableEntry" (13 : Nat) "java/util/AbstractMap$SimpleImmutableEntry" "value" "Ljava/lang/Object;") ∈ lw_all := lw_g (lw_at lw_m9 39 rfl) rfl
theorem q2000 : (Jvm.Cond.laysFinal "java/util/AbstractMap$SimpleImmutableEntry" "java/util/AbstractMap$SimpleImmutableEntry" "key" "Ljava/lang/Object;") ∈ lw_all := lw_g (lw_at lw_m9 40 rfl) rfl
theorem q2001 : (Jvm.Cond.soleField "java/util/AbstractMap$SimpleImmutableEntry" "key") ∈ lw_all := lw_g (lw_at lw_m9 41 rfl) rfl
theorem q2002 : (Jvm.Cond.laysFinal "java/util/AbstractMap$SimpleImmutableEntry" "java/util/AbstractMap$SimpleImmutableEntry" "value" "Ljava/lang/Object;") ∈ lw_all := lw_g (lw_at lw_m9 42 rfl) rfl
theorem q2003 : (Jvm.Cond.soleField "java/util/AbstractMap$SimpleImmutableEntry" "value") ∈ lw_all := lw_g (lw_at lw_m9 43 rfl) rfl
theorem q2004 : (Jvm.Cond.superclass "java/util/AbstractMap$SimpleImmutableEntry" "java/lang/Object") ∈ lw_all := lw_g (lw_at lw_m9 44 rfl) rfl
theorem q2502 : (Jvm.Cond.castable "java/util/AbstractMap$SimpleImmutableEntry" "java/lang/Object") ∈ lw_tbl := lw_at lw_m11 62 rfl
theorem in_J41 : ∀ w ∈ wsJ410, w ∈ lw_all := lw_in wsJ410 [2000, 2002] (by decide +kernel) (by decide +kernel)
/-! java/util/AbstractMap$2 -/
set_option maxRecDepth 100000
def RJ43 : String := "java/util/AbstractMap$2"
def TJ43 : u_T := fun k => match k with
  | _ => ("java/util/AbstractMap$2", "this$0", "Ljava/util/AbstractMap;", true)
def tyJ43 : Nat → FieldType := fun k => match k with
  | _ => .object "java/util/AbstractMap"
abbrev wsJ430 : List Cond := u_ws RJ43 TJ43 1
theorem nmJ43 : ∀ a, a < 1 → ∀ b, b < 1 → a ≠ b → (TJ43 a).2.1 ≠ (TJ43 b).2.1 := by decide +kernel
theorem tyJ43_ok : ∀ k, k < 1 → parseFieldDescriptor (TJ43 k).2.2.1 = some (tyJ43 k) := by decide +kernel
abbrev cJ43_init : ByteArray := prog_36_method_1_code
def yJ43_init : MethodName := ⟨RJ43, "<init>", "(Ljava/util/AbstractMap;)V"⟩
def dkwJ43_init_0 : List UInt8 := [42, 43, 181, 0, 1, 42, 183, 0, 7, 177]
abbrev dktJ43_init_0 : List UInt8 := dkwJ43_init_0 ++ []
theorem dksJ43_init_0 : cJ43_init.data.toList.drop 0 = dktJ43_init_0 := by decide +kernel
theorem dJ43_init_0 : decode cJ43_init 0 = .ok (.aload_n 0, 1) := dk_42 (dk_at dksJ43_init_0 0 rfl rfl)
theorem dJ43_init_1 : decode cJ43_init 1 = .ok (.aload_n 1, 1) := dk_43 (dk_at dksJ43_init_0 1 rfl rfl)
theorem dJ43_init_2 : decode cJ43_init 2 = .ok (.putfield 1, 3) := dk_181 0 1 (dk_at dksJ43_init_0 2 rfl rfl)
theorem dJ43_init_5 : decode cJ43_init 5 = .ok (.aload_n 0, 1) := dk_42 (dk_at dksJ43_init_0 5 rfl rfl)
theorem dJ43_init_6 : decode cJ43_init 6 = .ok (.invokespecial 7, 3) := dk_183 0 7 (dk_at dksJ43_init_0 6 rfl rfl)
theorem dJ43_init_9 : decode cJ43_init 9 = .ok (.return_, 1) := dk_177 (dk_at dksJ43_init_0 9 rfl rfl)
abbrev cJ43_iterator : ByteArray := prog_36_method_2_code
def yJ43_iterator : MethodName := ⟨RJ43, "iterator", "()Ljava/util/Iterator;"⟩
def dkwJ43_iterator_0 : List UInt8 := [187, 0, 13, 89, 42, 183, 0, 15, 176]
abbrev dktJ43_iterator_0 : List UInt8 := dkwJ43_iterator_0 ++ []
theorem dksJ43_iterator_0 : cJ43_iterator.data.toList.drop 0 = dktJ43_iterator_0 := by decide +kernel
theorem dJ43_iterator_0 : decode cJ43_iterator 0 = .ok (.new 13, 3) := dk_187 0 13 (dk_at dksJ43_iterator_0 0 rfl rfl)
theorem dJ43_iterator_3 : decode cJ43_iterator 3 = .ok (.dup, 1) := dk_89 (dk_at dksJ43_iterator_0 3 rfl rfl)
theorem dJ43_iterator_4 : decode cJ43_iterator 4 = .ok (.aload_n 0, 1) := dk_42 (dk_at dksJ43_iterator_0 4 rfl rfl)
theorem dJ43_iterator_5 : decode cJ43_iterator 5 = .ok (.invokespecial 15, 3) := dk_183 0 15 (dk_at dksJ43_iterator_0 5 rfl rfl)
theorem dJ43_iterator_8 : decode cJ43_iterator 8 = .ok (.areturn, 1) := dk_176 (dk_at dksJ43_iterator_0 8 rfl rfl)
theorem q89 : (Jvm.Cond.initialized "java/util/AbstractMap$2") ∈ lw_all := lw_g (lw_at lw_m1 49 rfl) rfl
theorem q1230 : (Jvm.Cond.instantiable "java/util/AbstractMap$2" (1 : Nat)) ∈ lw_all := lw_g (lw_at lw_m5 230 rfl) rfl
theorem q1232 : (Jvm.Cond.instanceMethod ({ cls := "java/util/AbstractMap$2", name := "<init>", desc := "(Ljava/util/AbstractMap;)V" } : Jvm.MethodName)) ∈ lw_all := lw_g (lw_at lw_m5 232 rfl) rfl
theorem q1233 : (Jvm.Cond.code ({ cls := "java/util/AbstractMap$2", name := "<init>", desc := "(Ljava/util/AbstractMap;)V" } : Jvm.MethodName) prog_36_method_1_code (2 : Nat) (Option.none : Option Jvm.ClassFile.FieldType)) ∈ lw_all := lw_g (lw_at lw_m5 233 rfl) rfl
theorem q1234 : (Jvm.Cond.methodLink "java/util/AbstractMap$2" (7 : Nat) ({ cls := "java/util/AbstractCollection", name := "<init>", desc := "()V" } : Jvm.MethodName)) ∈ lw_all := lw_g (lw_at lw_m5 234 rfl) rfl
theorem q1235 : (Jvm.Cond.fieldLink "java/util/AbstractMap$2" (1 : Nat) "java/util/AbstractMap$2" "this$0" "Ljava/util/AbstractMap;") ∈ lw_all := lw_g (lw_at lw_m5 235 rfl) rfl
theorem q1237 : (Jvm.Cond.laysFinal "java/util/AbstractMap$2" "java/util/AbstractMap$2" "this$0" "Ljava/util/AbstractMap;") ∈ lw_all := lw_g (lw_at lw_m5 237 rfl) rfl
theorem q1238 : (Jvm.Cond.soleField "java/util/AbstractMap$2" "this$0") ∈ lw_all := lw_g (lw_at lw_m5 238 rfl) rfl
theorem q1239 : (Jvm.Cond.superclass "java/util/AbstractMap$2" "java/util/AbstractCollection") ∈ lw_all := lw_g (lw_at lw_m5 239 rfl) rfl
theorem q1244 : (Jvm.Cond.castable "java/util/AbstractMap$2" "java/util/Collection") ∈ lw_tbl := lw_at lw_m6 4 rfl
theorem q1245 : (Jvm.Cond.selects "java/util/AbstractMap$2" ({ cls := "java/util/Collection", name := "iterator", desc := "()Ljava/util/Iterator;" } : Jvm.MethodName) ({ cls := "java/util/AbstractMap$2", name := "iterator", desc := "()Ljava/util/Iterator;" } : Jvm.MethodName)) ∈ lw_all := lw_g (lw_at lw_m6 5 rfl) rfl
theorem q1246 : (Jvm.Cond.unhidden "java/util/AbstractMap$2" "iterator" "()Ljava/util/Iterator;") ∈ lw_tbl := lw_at lw_m6 6 rfl
theorem q1247 : (Jvm.Cond.instanceMethod ({ cls := "java/util/AbstractMap$2", name := "iterator", desc := "()Ljava/util/Iterator;" } : Jvm.MethodName)) ∈ lw_all := lw_g (lw_at lw_m6 7 rfl) rfl
theorem q1248 : (Jvm.Cond.publicMethod ({ cls := "java/util/AbstractMap$2", name := "iterator", desc := "()Ljava/util/Iterator;" } : Jvm.MethodName)) ∈ lw_tbl := lw_at lw_m6 8 rfl
theorem q1249 : (Jvm.Cond.code ({ cls := "java/util/AbstractMap$2", name := "iterator", desc := "()Ljava/util/Iterator;" } : Jvm.MethodName) prog_36_method_2_code (1 : Nat) (Option.some (Jvm.ClassFile.FieldType.object "java/util/Iterator"))) ∈ lw_all := lw_g (lw_at lw_m6 9 rfl) rfl
theorem q1250 : (Jvm.Cond.classLink "java/util/AbstractMap$2" (13 : Nat) "java/util/AbstractMap$2$1") ∈ lw_all := lw_g (lw_at lw_m6 10 rfl) rfl
theorem q1252 : (Jvm.Cond.methodLink "java/util/AbstractMap$2" (15 : Nat) ({ cls := "java/util/AbstractMap$2$1", name := "<init>", desc := "(Ljava/util/AbstractMap$2;)V" } : Jvm.MethodName)) ∈ lw_all := lw_g (lw_at lw_m6 12 rfl) rfl
theorem q2460 : (Jvm.Cond.selects "java/util/AbstractMap$2" ({ cls := "java/util/AbstractCollection", name := "iterator", desc := "()Ljava/util/Iterator;" } : Jvm.MethodName) ({ cls := "java/util/AbstractMap$2", name := "iterator", desc := "()Ljava/util/Iterator;" } : Jvm.MethodName)) ∈ lw_all := lw_g (lw_at lw_m11 20 rfl) rfl
theorem q2504 : (Jvm.Cond.castable "java/util/AbstractMap$2" "java/lang/Object") ∈ lw_tbl := lw_at lw_m11 64 rfl
theorem in_J43 : ∀ w ∈ wsJ430, w ∈ lw_all := lw_in wsJ430 [1237] (by decide +kernel) (by decide +kernel)
/-! java/util/AbstractMap$2$1 -/
set_option maxRecDepth 100000
def RJ44 : String := "java/util/AbstractMap$2$1"
def TJ44 : u_T := fun k => match k with
  | 0 => ("java/util/AbstractMap$2$1", "i", "Ljava/util/Iterator;", false)
  | _ => ("java/util/AbstractMap$2$1", "this$1", "Ljava/util/AbstractMap$2;", true)
def tyJ44 : Nat → FieldType := fun k => match k with
  | 0 => .object "java/util/Iterator"
  | _ => .object "java/util/AbstractMap$2"
abbrev wsJ440 : List Cond := u_ws RJ44 TJ44 2
theorem nmJ44 : ∀ a, a < 2 → ∀ b, b < 2 → a ≠ b → (TJ44 a).2.1 ≠ (TJ44 b).2.1 := by decide +kernel
theorem tyJ44_ok : ∀ k, k < 2 → parseFieldDescriptor (TJ44 k).2.2.1 = some (tyJ44 k) := by decide +kernel
abbrev cJ44_hasNext : ByteArray := prog_37_method_2_code
def yJ44_hasNext : MethodName := ⟨RJ44, "hasNext", "()Z"⟩
def dkwJ44_hasNext_0 : List UInt8 := [42, 180, 0, 31, 185, 0, 35, 1, 0, 172]
abbrev dktJ44_hasNext_0 : List UInt8 := dkwJ44_hasNext_0 ++ []
theorem dksJ44_hasNext_0 : cJ44_hasNext.data.toList.drop 0 = dktJ44_hasNext_0 := by decide +kernel
theorem dJ44_hasNext_0 : decode cJ44_hasNext 0 = .ok (.aload_n 0, 1) := dk_42 (dk_at dksJ44_hasNext_0 0 rfl rfl)
theorem dJ44_hasNext_1 : decode cJ44_hasNext 1 = .ok (.getfield 31, 3) := dk_180 0 31 (dk_at dksJ44_hasNext_0 1 rfl rfl)
theorem dJ44_hasNext_4 : decode cJ44_hasNext 4 = .ok (.invokeinterface 35 1, 5) := by decide +kernel
theorem dJ44_hasNext_9 : decode cJ44_hasNext 9 = .ok (.ireturn, 1) := dk_172 (dk_at dksJ44_hasNext_0 9 rfl rfl)
abbrev cJ44_next : ByteArray := prog_37_method_3_code
def yJ44_next : MethodName := ⟨RJ44, "next", "()Ljava/lang/Object;"⟩
def dkwJ44_next_0 : List UInt8 := [42, 180, 0, 31, 185, 0, 41, 1, 0, 192, 0, 45, 185, 0, 47, 1, 0, 176]
abbrev dktJ44_next_0 : List UInt8 := dkwJ44_next_0 ++ []
theorem dksJ44_next_0 : cJ44_next.data.toList.drop 0 = dktJ44_next_0 := by decide +kernel
theorem dJ44_next_0 : decode cJ44_next 0 = .ok (.aload_n 0, 1) := dk_42 (dk_at dksJ44_next_0 0 rfl rfl)
theorem dJ44_next_1 : decode cJ44_next 1 = .ok (.getfield 31, 3) := dk_180 0 31 (dk_at dksJ44_next_0 1 rfl rfl)
theorem dJ44_next_4 : decode cJ44_next 4 = .ok (.invokeinterface 41 1, 5) := by decide +kernel
theorem dJ44_next_9 : decode cJ44_next 9 = .ok (.checkcast 45, 3) := dk_192 0 45 (dk_at dksJ44_next_0 9 rfl rfl)
theorem dJ44_next_12 : decode cJ44_next 12 = .ok (.invokeinterface 47 1, 5) := by decide +kernel
theorem dJ44_next_17 : decode cJ44_next 17 = .ok (.areturn, 1) := dk_176 (dk_at dksJ44_next_0 17 rfl rfl)
abbrev cJ44_init : ByteArray := prog_37_method_1_code
def yJ44_init : MethodName := ⟨RJ44, "<init>", "(Ljava/util/AbstractMap$2;)V"⟩
def dkwJ44_init_1 : List UInt8 := [185, 0, 25, 1, 0, 181, 0, 31, 177]
abbrev dktJ44_init_1 : List UInt8 := dkwJ44_init_1 ++ []
def dkwJ44_init_0 : List UInt8 := [42, 43, 181, 0, 1, 42, 183, 0, 7, 42, 42, 180, 0, 1, 180, 0, 13, 182, 0, 19]
abbrev dktJ44_init_0 : List UInt8 := dkwJ44_init_0 ++ dktJ44_init_1
theorem dksJ44_init_0 : cJ44_init.data.toList.drop 0 = dktJ44_init_0 := by decide +kernel
theorem dksJ44_init_1 : cJ44_init.data.toList.drop 20 = dktJ44_init_1 := dk_seg dksJ44_init_0 20 rfl rfl
theorem dJ44_init_0 : decode cJ44_init 0 = .ok (.aload_n 0, 1) := dk_42 (dk_at dksJ44_init_0 0 rfl rfl)
theorem dJ44_init_1 : decode cJ44_init 1 = .ok (.aload_n 1, 1) := dk_43 (dk_at dksJ44_init_0 1 rfl rfl)
theorem dJ44_init_2 : decode cJ44_init 2 = .ok (.putfield 1, 3) := dk_181 0 1 (dk_at dksJ44_init_0 2 rfl rfl)
theorem dJ44_init_5 : decode cJ44_init 5 = .ok (.aload_n 0, 1) := dk_42 (dk_at dksJ44_init_0 5 rfl rfl)
theorem dJ44_init_6 : decode cJ44_init 6 = .ok (.invokespecial 7, 3) := dk_183 0 7 (dk_at dksJ44_init_0 6 rfl rfl)
theorem dJ44_init_9 : decode cJ44_init 9 = .ok (.aload_n 0, 1) := dk_42 (dk_at dksJ44_init_0 9 rfl rfl)
theorem dJ44_init_10 : decode cJ44_init 10 = .ok (.aload_n 0, 1) := dk_42 (dk_at dksJ44_init_0 10 rfl rfl)
theorem dJ44_init_11 : decode cJ44_init 11 = .ok (.getfield 1, 3) := dk_180 0 1 (dk_at dksJ44_init_0 11 rfl rfl)
theorem dJ44_init_14 : decode cJ44_init 14 = .ok (.getfield 13, 3) := dk_180 0 13 (dk_at dksJ44_init_0 14 rfl rfl)
theorem dJ44_init_17 : decode cJ44_init 17 = .ok (.invokevirtual 19, 3) := dk_182 0 19 (dk_at dksJ44_init_0 17 rfl rfl)
theorem dJ44_init_20 : decode cJ44_init 20 = .ok (.invokeinterface 25 1, 5) := by decide +kernel
theorem dJ44_init_25 : decode cJ44_init 25 = .ok (.putfield 31, 3) := dk_181 0 31 (dk_at dksJ44_init_1 5 rfl rfl)
theorem dJ44_init_28 : decode cJ44_init 28 = .ok (.return_, 1) := dk_177 (dk_at dksJ44_init_1 8 rfl rfl)
abbrev cJ44_remove : ByteArray := prog_37_method_4_code
def yJ44_remove : MethodName := ⟨RJ44, "remove", "()V"⟩
def dkwJ44_remove_0 : List UInt8 := [42, 180, 0, 31, 185, 0, 50, 1, 0, 177]
abbrev dktJ44_remove_0 : List UInt8 := dkwJ44_remove_0 ++ []
theorem dksJ44_remove_0 : cJ44_remove.data.toList.drop 0 = dktJ44_remove_0 := by decide +kernel
theorem dJ44_remove_0 : decode cJ44_remove 0 = .ok (.aload_n 0, 1) := dk_42 (dk_at dksJ44_remove_0 0 rfl rfl)
theorem dJ44_remove_1 : decode cJ44_remove 1 = .ok (.getfield 31, 3) := dk_180 0 31 (dk_at dksJ44_remove_0 1 rfl rfl)
theorem dJ44_remove_4 : decode cJ44_remove 4 = .ok (.invokeinterface 50 1, 5) := by decide +kernel
theorem dJ44_remove_9 : decode cJ44_remove 9 = .ok (.return_, 1) := dk_177 (dk_at dksJ44_remove_0 9 rfl rfl)
theorem q90 : (Jvm.Cond.initialized "java/util/AbstractMap$2$1") ∈ lw_all := lw_g (lw_at lw_m1 50 rfl) rfl
theorem q1005 : (Jvm.Cond.castable "java/util/AbstractMap$2$1" "java/util/Iterator") ∈ lw_tbl := lw_at lw_m5 5 rfl
theorem q1006 : (Jvm.Cond.selects "java/util/AbstractMap$2$1" ({ cls := "java/util/Iterator", name := "hasNext", desc := "()Z" } : Jvm.MethodName) ({ cls := "java/util/AbstractMap$2$1", name := "hasNext", desc := "()Z" } : Jvm.MethodName)) ∈ lw_all := lw_g (lw_at lw_m5 6 rfl) rfl
theorem q1007 : (Jvm.Cond.unhidden "java/util/AbstractMap$2$1" "hasNext" "()Z") ∈ lw_tbl := lw_at lw_m5 7 rfl
theorem q1008 : (Jvm.Cond.instanceMethod ({ cls := "java/util/AbstractMap$2$1", name := "hasNext", desc := "()Z" } : Jvm.MethodName)) ∈ lw_all := lw_g (lw_at lw_m5 8 rfl) rfl
theorem q1009 : (Jvm.Cond.publicMethod ({ cls := "java/util/AbstractMap$2$1", name := "hasNext", desc := "()Z" } : Jvm.MethodName)) ∈ lw_tbl := lw_at lw_m5 9 rfl
theorem q1010 : (Jvm.Cond.code ({ cls := "java/util/AbstractMap$2$1", name := "hasNext", desc := "()Z" } : Jvm.MethodName) prog_37_method_2_code (1 : Nat) (Option.some Jvm.ClassFile.FieldType.boolean)) ∈ lw_all := lw_g (lw_at lw_m5 10 rfl) rfl
theorem q1011 : (Jvm.Cond.interfaceEntry "java/util/AbstractMap$2$1" (35 : Nat)) ∈ lw_tbl := lw_at lw_m5 11 rfl
theorem q1012 : (Jvm.Cond.methodLink "java/util/AbstractMap$2$1" (35 : Nat) ({ cls := "java/util/Iterator", name := "hasNext", desc := "()Z" } : Jvm.MethodName)) ∈ lw_all := lw_g (lw_at lw_m5 12 rfl) rfl
theorem q1038 : (Jvm.Cond.selects "java/util/AbstractMap$2$1" ({ cls := "java/util/Iterator", name := "next", desc := "()Ljava/lang/Object;" } : Jvm.MethodName) ({ cls := "java/util/AbstractMap$2$1", name := "next", desc := "()Ljava/lang/Object;" } : Jvm.MethodName)) ∈ lw_all := lw_g (lw_at lw_m5 38 rfl) rfl
theorem q1039 : (Jvm.Cond.unhidden "java/util/AbstractMap$2$1" "next" "()Ljava/lang/Object;") ∈ lw_tbl := lw_at lw_m5 39 rfl
theorem q1040 : (Jvm.Cond.instanceMethod ({ cls := "java/util/AbstractMap$2$1", name := "next", desc := "()Ljava/lang/Object;" } : Jvm.MethodName)) ∈ lw_all := lw_g (lw_at lw_m5 40 rfl) rfl
theorem q1041 : (Jvm.Cond.publicMethod ({ cls := "java/util/AbstractMap$2$1", name := "next", desc := "()Ljava/lang/Object;" } : Jvm.MethodName)) ∈ lw_tbl := lw_at lw_m5 41 rfl
theorem q1042 : (Jvm.Cond.code ({ cls := "java/util/AbstractMap$2$1", name := "next", desc := "()Ljava/lang/Object;" } : Jvm.MethodName) prog_37_method_3_code (1 : Nat) (Option.some (Jvm.ClassFile.FieldType.object "java/lang/Object"))) ∈ lw_all := lw_g (lw_at lw_m5 42 rfl) rfl
theorem q1043 : (Jvm.Cond.interfaceEntry "java/util/AbstractMap$2$1" (41 : Nat)) ∈ lw_tbl := lw_at lw_m5 43 rfl
theorem q1044 : (Jvm.Cond.methodLink "java/util/AbstractMap$2$1" (41 : Nat) ({ cls := "java/util/Iterator", name := "next", desc := "()Ljava/lang/Object;" } : Jvm.MethodName)) ∈ lw_all := lw_g (lw_at lw_m5 44 rfl) rfl
theorem q1126 : (Jvm.Cond.classLink "java/util/AbstractMap$2$1" (45 : Nat) "java/util/Map$Entry") ∈ lw_all := lw_g (lw_at lw_m5 126 rfl) rfl
theorem q1127 : (Jvm.Cond.interfaceEntry "java/util/AbstractMap$2$1" (47 : Nat)) ∈ lw_tbl := lw_at lw_m5 127 rfl
theorem q1128 : (Jvm.Cond.methodLink "java/util/AbstractMap$2$1" (47 : Nat) ({ cls := "java/util/Map$Entry", name := "getValue", desc := "()Ljava/lang/Object;" } : Jvm.MethodName)) ∈ lw_all := lw_g (lw_at lw_m5 128 rfl) rfl
theorem q1236 : (Jvm.Cond.fieldLink "java/util/AbstractMap$2$1" (13 : Nat) "java/util/AbstractMap$2" "this$0" "Ljava/util/AbstractMap;") ∈ lw_all := lw_g (lw_at lw_m5 236 rfl) rfl
theorem q1251 : (Jvm.Cond.instantiable "java/util/AbstractMap$2$1" (2 : Nat)) ∈ lw_all := lw_g (lw_at lw_m6 11 rfl) rfl
theorem q1253 : (Jvm.Cond.instanceMethod ({ cls := "java/util/AbstractMap$2$1", name := "<init>", desc := "(Ljava/util/AbstractMap$2;)V" } : Jvm.MethodName)) ∈ lw_all := lw_g (lw_at lw_m6 13 rfl) rfl
theorem q1254 : (Jvm.Cond.code ({ cls := "java/util/AbstractMap$2$1", name := "<init>", desc := "(Ljava/util/AbstractMap$2;)V" } : Jvm.MethodName) prog_37_method_1_code (2 : Nat) (Option.none : Option Jvm.ClassFile.FieldType)) ∈ lw_all := lw_g (lw_at lw_m6 14 rfl) rfl
theorem q1255 : (Jvm.Cond.methodLink "java/util/AbstractMap$2$1" (7 : Nat) ({ cls := "java/lang/Object", name := "<init>", desc := "()V" } : Jvm.MethodName)) ∈ lw_all := lw_g (lw_at lw_m6 15 rfl) rfl
theorem q1256 : (Jvm.Cond.methodLink "java/util/AbstractMap$2$1" (19 : Nat) ({ cls := "java/util/AbstractMap", name := "entrySet", desc := "()Ljava/util/Set;" } : Jvm.MethodName)) ∈ lw_all := lw_g (lw_at lw_m6 16 rfl) rfl
theorem q1269 : (Jvm.Cond.interfaceEntry "java/util/AbstractMap$2$1" (25 : Nat)) ∈ lw_tbl := lw_at lw_m6 29 rfl
theorem q1270 : (Jvm.Cond.methodLink "java/util/AbstractMap$2$1" (25 : Nat) ({ cls := "java/util/Set", name := "iterator", desc := "()Ljava/util/Iterator;" } : Jvm.MethodName)) ∈ lw_all := lw_g (lw_at lw_m6 30 rfl) rfl
theorem q1350 : (Jvm.Cond.fieldLink "java/util/AbstractMap$2$1" (31 : Nat) "java/util/AbstractMap$2$1" "i" "Ljava/util/Iterator;") ∈ lw_all := lw_g (lw_at lw_m6 110 rfl) rfl
theorem q1351 : (Jvm.Cond.fieldLink "java/util/AbstractMap$2$1" (1 : Nat) "java/util/AbstractMap$2$1" "this$1" "Ljava/util/AbstractMap$2;") ∈ lw_all := lw_g (lw_at lw_m6 111 rfl) rfl
theorem q1352 : (Jvm.Cond.lays "java/util/AbstractMap$2$1" "java/util/AbstractMap$2$1" "i" "Ljava/util/Iterator;") ∈ lw_all := lw_g (lw_at lw_m6 112 rfl) rfl
theorem q1353 : (Jvm.Cond.soleField "java/util/AbstractMap$2$1" "i") ∈ lw_all := lw_g (lw_at lw_m6 113 rfl) rfl
theorem q1354 : (Jvm.Cond.laysFinal "java/util/AbstractMap$2$1" "java/util/AbstractMap$2$1" "this$1" "Ljava/util/AbstractMap$2;") ∈ lw_all := lw_g (lw_at lw_m6 114 rfl) rfl
theorem q1355 : (Jvm.Cond.soleField "java/util/AbstractMap$2$1" "this$1") ∈ lw_all := lw_g (lw_at lw_m6 115 rfl) rfl
theorem q1356 : (Jvm.Cond.superclass "java/util/AbstractMap$2$1" "java/lang/Object") ∈ lw_all := lw_g (lw_at lw_m6 116 rfl) rfl
theorem q1426 : (Jvm.Cond.selects "java/util/AbstractMap$2$1" ({ cls := "java/util/Iterator", name := "remove", desc := "()V" } : Jvm.MethodName) ({ cls := "java/util/AbstractMap$2$1", name := "remove", desc := "()V" } : Jvm.MethodName)) ∈ lw_all := lw_g (lw_at lw_m6 186 rfl) rfl
theorem q1427 : (Jvm.Cond.unhidden "java/util/AbstractMap$2$1" "remove" "()V") ∈ lw_tbl := lw_at lw_m6 187 rfl
theorem q1428 : (Jvm.Cond.instanceMethod ({ cls := "java/util/AbstractMap$2$1", name := "remove", desc := "()V" } : Jvm.MethodName)) ∈ lw_all := lw_g (lw_at lw_m6 188 rfl) rfl
theorem q1429 : (Jvm.Cond.publicMethod ({ cls := "java/util/AbstractMap$2$1", name := "remove", desc := "()V" } : Jvm.MethodName)) ∈ lw_tbl := lw_at lw_m6 189 rfl
theorem q1430 : (Jvm.Cond.code ({ cls := "java/util/AbstractMap$2$1", name := "remove", desc := "()V" } : Jvm.MethodName) prog_37_method_4_code (1 : Nat) (Option.none : Option Jvm.ClassFile.FieldType)) ∈ lw_all := lw_g (lw_at lw_m6 190 rfl) rfl
theorem q1431 : (Jvm.Cond.interfaceEntry "java/util/AbstractMap$2$1" (50 : Nat)) ∈ lw_tbl := lw_at lw_m6 191 rfl
theorem q1432 : (Jvm.Cond.methodLink "java/util/AbstractMap$2$1" (50 : Nat) ({ cls := "java/util/Iterator", name := "remove", desc := "()V" } : Jvm.MethodName)) ∈ lw_all := lw_g (lw_at lw_m6 192 rfl) rfl
theorem q2505 : (Jvm.Cond.castable "java/util/AbstractMap$2$1" "java/lang/Object") ∈ lw_tbl := lw_at lw_m11 65 rfl
theorem in_J44 : ∀ w ∈ wsJ440, w ∈ lw_all := lw_in wsJ440 [1352, 1354] (by decide +kernel) (by decide +kernel)
/-! java/util/TreeMap$EntrySet -/
set_option maxRecDepth 100000
def RJ45 : String := "java/util/TreeMap$EntrySet"
def TJ45 : u_T := fun k => match k with
  | _ => ("java/util/TreeMap$EntrySet", "this$0", "Ljava/util/TreeMap;", true)
def tyJ45 : Nat → FieldType := fun k => match k with
  | _ => .object "java/util/TreeMap"
abbrev wsJ450 : List Cond := u_ws RJ45 TJ45 1
theorem nmJ45 : ∀ a, a < 1 → ∀ b, b < 1 → a ≠ b → (TJ45 a).2.1 ≠ (TJ45 b).2.1 := by decide +kernel
theorem tyJ45_ok : ∀ k, k < 1 → parseFieldDescriptor (TJ45 k).2.2.1 = some (tyJ45 k) := by decide +kernel
abbrev cJ45_size : ByteArray := prog_65_method_5_code
def yJ45_size : MethodName := ⟨RJ45, "size", "()I"⟩
def dkwJ45_size_0 : List UInt8 := [42, 180, 0, 1, 182, 0, 48, 172]
abbrev dktJ45_size_0 : List UInt8 := dkwJ45_size_0 ++ []
theorem dksJ45_size_0 : cJ45_size.data.toList.drop 0 = dktJ45_size_0 := by decide +kernel
theorem dJ45_size_0 : decode cJ45_size 0 = .ok (.aload_n 0, 1) := dk_42 (dk_at dksJ45_size_0 0 rfl rfl)
theorem dJ45_size_1 : decode cJ45_size 1 = .ok (.getfield 1, 3) := dk_180 0 1 (dk_at dksJ45_size_0 1 rfl rfl)
theorem dJ45_size_4 : decode cJ45_size 4 = .ok (.invokevirtual 48, 3) := dk_182 0 48 (dk_at dksJ45_size_0 4 rfl rfl)
theorem dJ45_size_7 : decode cJ45_size 7 = .ok (.ireturn, 1) := dk_172 (dk_at dksJ45_size_0 7 rfl rfl)
abbrev cJ45_init : ByteArray := prog_65_method_1_code
def yJ45_init : MethodName := ⟨RJ45, "<init>", "(Ljava/util/TreeMap;)V"⟩
def dkwJ45_init_0 : List UInt8 := [42, 43, 181, 0, 1, 42, 183, 0, 7, 177]
abbrev dktJ45_init_0 : List UInt8 := dkwJ45_init_0 ++ []
theorem dksJ45_init_0 : cJ45_init.data.toList.drop 0 = dktJ45_init_0 := by decide +kernel
theorem dJ45_init_0 : decode cJ45_init 0 = .ok (.aload_n 0, 1) := dk_42 (dk_at dksJ45_init_0 0 rfl rfl)
theorem dJ45_init_1 : decode cJ45_init 1 = .ok (.aload_n 1, 1) := dk_43 (dk_at dksJ45_init_0 1 rfl rfl)
theorem dJ45_init_2 : decode cJ45_init 2 = .ok (.putfield 1, 3) := dk_181 0 1 (dk_at dksJ45_init_0 2 rfl rfl)
theorem dJ45_init_5 : decode cJ45_init 5 = .ok (.aload_n 0, 1) := dk_42 (dk_at dksJ45_init_0 5 rfl rfl)
theorem dJ45_init_6 : decode cJ45_init 6 = .ok (.invokespecial 7, 3) := dk_183 0 7 (dk_at dksJ45_init_0 6 rfl rfl)
theorem dJ45_init_9 : decode cJ45_init 9 = .ok (.return_, 1) := dk_177 (dk_at dksJ45_init_0 9 rfl rfl)
abbrev cJ45_iterator : ByteArray := prog_65_method_2_code
def yJ45_iterator : MethodName := ⟨RJ45, "iterator", "()Ljava/util/Iterator;"⟩
def dkwJ45_iterator_0 : List UInt8 := [187, 0, 13, 89, 42, 180, 0, 1, 42, 180, 0, 1, 182, 0, 15, 183, 0, 21, 176]
abbrev dktJ45_iterator_0 : List UInt8 := dkwJ45_iterator_0 ++ []
theorem dksJ45_iterator_0 : cJ45_iterator.data.toList.drop 0 = dktJ45_iterator_0 := by decide +kernel
theorem dJ45_iterator_0 : decode cJ45_iterator 0 = .ok (.new 13, 3) := dk_187 0 13 (dk_at dksJ45_iterator_0 0 rfl rfl)
theorem dJ45_iterator_3 : decode cJ45_iterator 3 = .ok (.dup, 1) := dk_89 (dk_at dksJ45_iterator_0 3 rfl rfl)
theorem dJ45_iterator_4 : decode cJ45_iterator 4 = .ok (.aload_n 0, 1) := dk_42 (dk_at dksJ45_iterator_0 4 rfl rfl)
theorem dJ45_iterator_5 : decode cJ45_iterator 5 = .ok (.getfield 1, 3) := dk_180 0 1 (dk_at dksJ45_iterator_0 5 rfl rfl)
theorem dJ45_iterator_8 : decode cJ45_iterator 8 = .ok (.aload_n 0, 1) := dk_42 (dk_at dksJ45_iterator_0 8 rfl rfl)
theorem dJ45_iterator_9 : decode cJ45_iterator 9 = .ok (.getfield 1, 3) := dk_180 0 1 (dk_at dksJ45_iterator_0 9 rfl rfl)
theorem dJ45_iterator_12 : decode cJ45_iterator 12 = .ok (.invokevirtual 15, 3) := dk_182 0 15 (dk_at dksJ45_iterator_0 12 rfl rfl)
theorem dJ45_iterator_15 : decode cJ45_iterator 15 = .ok (.invokespecial 21, 3) := dk_183 0 21 (dk_at dksJ45_iterator_0 15 rfl rfl)
theorem dJ45_iterator_18 : decode cJ45_iterator 18 = .ok (.areturn, 1) := dk_176 (dk_at dksJ45_iterator_0 18 rfl rfl)
abbrev cJ45_clear : ByteArray := prog_65_method_6_code
def yJ45_clear : MethodName := ⟨RJ45, "clear", "()V"⟩
def dkwJ45_clear_0 : List UInt8 := [42, 180, 0, 1, 182, 0, 52, 177]
abbrev dktJ45_clear_0 : List UInt8 := dkwJ45_clear_0 ++ []
theorem dksJ45_clear_0 : cJ45_clear.data.toList.drop 0 = dktJ45_clear_0 := by decide +kernel
theorem dJ45_clear_0 : decode cJ45_clear 0 = .ok (.aload_n 0, 1) := dk_42 (dk_at dksJ45_clear_0 0 rfl rfl)
theorem dJ45_clear_1 : decode cJ45_clear 1 = .ok (.getfield 1, 3) := dk_180 0 1 (dk_at dksJ45_clear_0 1 rfl rfl)
theorem dJ45_clear_4 : decode cJ45_clear 4 = .ok (.invokevirtual 52, 3) := dk_182 0 52 (dk_at dksJ45_clear_0 4 rfl rfl)
theorem dJ45_clear_7 : decode cJ45_clear 7 = .ok (.return_, 1) := dk_177 (dk_at dksJ45_clear_0 7 rfl rfl)
theorem q91 : (Jvm.Cond.initialized "java/util/TreeMap$EntrySet") ∈ lw_all := lw_g (lw_at lw_m1 51 rfl) rfl
theorem q1143 : (Jvm.Cond.castable "java/util/TreeMap$EntrySet" "java/util/Set") ∈ lw_tbl := lw_at lw_m5 143 rfl
theorem q1144 : (Jvm.Cond.selects "java/util/TreeMap$EntrySet" ({ cls := "java/util/Set", name := "size", desc := "()I" } : Jvm.MethodName) ({ cls := "java/util/TreeMap$EntrySet", name := "size", desc := "()I" } : Jvm.MethodName)) ∈ lw_all := lw_g (lw_at lw_m5 144 rfl) rfl
theorem q1145 : (Jvm.Cond.unhidden "java/util/TreeMap$EntrySet" "size" "()I") ∈ lw_tbl := lw_at lw_m5 145 rfl
theorem q1146 : (Jvm.Cond.instanceMethod ({ cls := "java/util/TreeMap$EntrySet", name := "size", desc := "()I" } : Jvm.MethodName)) ∈ lw_all := lw_g (lw_at lw_m5 146 rfl) rfl
theorem q1147 : (Jvm.Cond.publicMethod ({ cls := "java/util/TreeMap$EntrySet", name := "size", desc := "()I" } : Jvm.MethodName)) ∈ lw_tbl := lw_at lw_m5 147 rfl
theorem q1148 : (Jvm.Cond.code ({ cls := "java/util/TreeMap$EntrySet", name := "size", desc := "()I" } : Jvm.MethodName) prog_65_method_5_code (1 : Nat) (Option.some Jvm.ClassFile.FieldType.int)) ∈ lw_all := lw_g (lw_at lw_m5 148 rfl) rfl
theorem q1149 : (Jvm.Cond.methodLink "java/util/TreeMap$EntrySet" (48 : Nat) ({ cls := "java/util/TreeMap", name := "size", desc := "()I" } : Jvm.MethodName)) ∈ lw_all := lw_g (lw_at lw_m5 149 rfl) rfl
theorem q1260 : (Jvm.Cond.instantiable "java/util/TreeMap$EntrySet" (1 : Nat)) ∈ lw_all := lw_g (lw_at lw_m6 20 rfl) rfl
theorem q1262 : (Jvm.Cond.instanceMethod ({ cls := "java/util/TreeMap$EntrySet", name := "<init>", desc := "(Ljava/util/TreeMap;)V" } : Jvm.MethodName)) ∈ lw_all := lw_g (lw_at lw_m6 22 rfl) rfl
theorem q1263 : (Jvm.Cond.code ({ cls := "java/util/TreeMap$EntrySet", name := "<init>", desc := "(Ljava/util/TreeMap;)V" } : Jvm.MethodName) prog_65_method_1_code (2 : Nat) (Option.none : Option Jvm.ClassFile.FieldType)) ∈ lw_all := lw_g (lw_at lw_m6 23 rfl) rfl
theorem q1264 : (Jvm.Cond.methodLink "java/util/TreeMap$EntrySet" (7 : Nat) ({ cls := "java/util/AbstractSet", name := "<init>", desc := "()V" } : Jvm.MethodName)) ∈ lw_all := lw_g (lw_at lw_m6 24 rfl) rfl
theorem q1265 : (Jvm.Cond.fieldLink "java/util/TreeMap$EntrySet" (1 : Nat) "java/util/TreeMap$EntrySet" "this$0" "Ljava/util/TreeMap;") ∈ lw_all := lw_g (lw_at lw_m6 25 rfl) rfl
theorem q1266 : (Jvm.Cond.laysFinal "java/util/TreeMap$EntrySet" "java/util/TreeMap$EntrySet" "this$0" "Ljava/util/TreeMap;") ∈ lw_all := lw_g (lw_at lw_m6 26 rfl) rfl
theorem q1267 : (Jvm.Cond.soleField "java/util/TreeMap$EntrySet" "this$0") ∈ lw_all := lw_g (lw_at lw_m6 27 rfl) rfl
theorem q1268 : (Jvm.Cond.superclass "java/util/TreeMap$EntrySet" "java/util/AbstractSet") ∈ lw_all := lw_g (lw_at lw_m6 28 rfl) rfl
theorem q1276 : (Jvm.Cond.selects "java/util/TreeMap$EntrySet" ({ cls := "java/util/Set", name := "iterator", desc := "()Ljava/util/Iterator;" } : Jvm.MethodName) ({ cls := "java/util/TreeMap$EntrySet", name := "iterator", desc := "()Ljava/util/Iterator;" } : Jvm.MethodName)) ∈ lw_all := lw_g (lw_at lw_m6 36 rfl) rfl
theorem q1277 : (Jvm.Cond.unhidden "java/util/TreeMap$EntrySet" "iterator" "()Ljava/util/Iterator;") ∈ lw_tbl := lw_at lw_m6 37 rfl
theorem q1278 : (Jvm.Cond.instanceMethod ({ cls := "java/util/TreeMap$EntrySet", name := "iterator", desc := "()Ljava/util/Iterator;" } : Jvm.MethodName)) ∈ lw_all := lw_g (lw_at lw_m6 38 rfl) rfl
theorem q1279 : (Jvm.Cond.publicMethod ({ cls := "java/util/TreeMap$EntrySet", name := "iterator", desc := "()Ljava/util/Iterator;" } : Jvm.MethodName)) ∈ lw_tbl := lw_at lw_m6 39 rfl
theorem q1280 : (Jvm.Cond.code ({ cls := "java/util/TreeMap$EntrySet", name := "iterator", desc := "()Ljava/util/Iterator;" } : Jvm.MethodName) prog_65_method_2_code (1 : Nat) (Option.some (Jvm.ClassFile.FieldType.object "java/util/Iterator"))) ∈ lw_all := lw_g (lw_at lw_m6 40 rfl) rfl
theorem q1281 : (Jvm.Cond.classLink "java/util/TreeMap$EntrySet" (13 : Nat) "java/util/TreeMap$EntryIterator") ∈ lw_all := lw_g (lw_at lw_m6 41 rfl) rfl
theorem q1283 : (Jvm.Cond.methodLink "java/util/TreeMap$EntrySet" (15 : Nat) ({ cls := "java/util/TreeMap", name := "getFirstEntry", desc := "()Ljava/util/TreeMap$Entry;" } : Jvm.MethodName)) ∈ lw_all := lw_g (lw_at lw_m6 43 rfl) rfl
theorem q1284 : (Jvm.Cond.methodLink "java/util/TreeMap$EntrySet" (21 : Nat) ({ cls := "java/util/TreeMap$EntryIterator", name := "<init>", desc := "(Ljava/util/TreeMap;Ljava/util/TreeMap$Entry;)V" } : Jvm.MethodName)) ∈ lw_all := lw_g (lw_at lw_m6 44 rfl) rfl
theorem q1359 : (Jvm.Cond.castable "java/util/TreeMap$EntrySet" "java/util/Collection") ∈ lw_tbl := lw_at lw_m6 119 rfl
theorem q1360 : (Jvm.Cond.selects "java/util/TreeMap$EntrySet" ({ cls := "java/util/Collection", name := "iterator", desc := "()Ljava/util/Iterator;" } : Jvm.MethodName) ({ cls := "java/util/TreeMap$EntrySet", name := "iterator", desc := "()Ljava/util/Iterator;" } : Jvm.MethodName)) ∈ lw_all := lw_g (lw_at lw_m6 120 rfl) rfl
theorem q1511 : (Jvm.Cond.selects "java/util/TreeMap$EntrySet" ({ cls := "java/util/Set", name := "clear", desc := "()V" } : Jvm.MethodName) ({ cls := "java/util/TreeMap$EntrySet", name := "clear", desc := "()V" } : Jvm.MethodName)) ∈ lw_all := lw_g (lw_at lw_m7 31 rfl) rfl
theorem q1512 : (Jvm.Cond.unhidden "java/util/TreeMap$EntrySet" "clear" "()V") ∈ lw_tbl := lw_at lw_m7 32 rfl
theorem q1513 : (Jvm.Cond.instanceMethod ({ cls := "java/util/TreeMap$EntrySet", name := "clear", desc := "()V" } : Jvm.MethodName)) ∈ lw_all := lw_g (lw_at lw_m7 33 rfl) rfl
theorem q1514 : (Jvm.Cond.publicMethod ({ cls := "java/util/TreeMap$EntrySet", name := "clear", desc := "()V" } : Jvm.MethodName)) ∈ lw_tbl := lw_at lw_m7 34 rfl
theorem q1515 : (Jvm.Cond.code ({ cls := "java/util/TreeMap$EntrySet", name := "clear", desc := "()V" } : Jvm.MethodName) prog_65_method_6_code (1 : Nat) (Option.none : Option Jvm.ClassFile.FieldType)) ∈ lw_all := lw_g (lw_at lw_m7 35 rfl) rfl
theorem q1516 : (Jvm.Cond.methodLink "java/util/TreeMap$EntrySet" (52 : Nat) ({ cls := "java/util/TreeMap", name := "clear", desc := "()V" } : Jvm.MethodName)) ∈ lw_all := lw_g (lw_at lw_m7 36 rfl) rfl
theorem q2462 : (Jvm.Cond.selects "java/util/TreeMap$EntrySet" ({ cls := "java/util/AbstractCollection", name := "iterator", desc := "()Ljava/util/Iterator;" } : Jvm.MethodName) ({ cls := "java/util/TreeMap$EntrySet", name := "iterator", desc := "()Ljava/util/Iterator;" } : Jvm.MethodName)) ∈ lw_all := lw_g (lw_at lw_m11 22 rfl) rfl
theorem q2506 : (Jvm.Cond.castable "java/util/TreeMap$EntrySet" "java/lang/Object") ∈ lw_tbl := lw_at lw_m11 66 rfl
theorem in_J45 : ∀ w ∈ wsJ450, w ∈ lw_all := lw_in wsJ450 [1266] (by decide +kernel) (by decide +kernel)
