/-! java/util/TreeMap -/
set_option maxRecDepth 100000
def RJ5 : String := "java/util/TreeMap"
def TJ5 : u_T := fun k => match k with
  | 0 => ("java/util/AbstractMap", "keySet", "Ljava/util/Set;", false)
  | 1 => ("java/util/AbstractMap", "values", "Ljava/util/Collection;", false)
  | 2 => ("java/util/TreeMap", "comparator", "Ljava/util/Comparator;", true)
  | 3 => ("java/util/TreeMap", "root", "Ljava/util/TreeMap$Entry;", false)
  | 4 => ("java/util/TreeMap", "size", "I", false)
  | 5 => ("java/util/TreeMap", "modCount", "I", false)
  | 6 => ("java/util/TreeMap", "entrySet", "Ljava/util/TreeMap$EntrySet;", false)
  | 7 => ("java/util/TreeMap", "navigableKeySet", "Ljava/util/TreeMap$KeySet;", false)
  | _ => ("java/util/TreeMap", "descendingMap", "Ljava/util/NavigableMap;", false)
def tyJ5 : Nat → FieldType := fun k => match k with
  | 0 => .object "java/util/Set"
  | 1 => .object "java/util/Collection"
  | 2 => .object "java/util/Comparator"
  | 3 => .object "java/util/TreeMap$Entry"
  | 4 => .int
  | 5 => .int
  | 6 => .object "java/util/TreeMap$EntrySet"
  | 7 => .object "java/util/TreeMap$KeySet"
  | _ => .object "java/util/NavigableMap"
abbrev wsJ50 : List Cond := u_ws RJ5 TJ5 9
theorem nmJ5 : ∀ a, a < 9 → ∀ b, b < 9 → a ≠ b → (TJ5 a).2.1 ≠ (TJ5 b).2.1 := by decide +kernel
theorem tyJ5_ok : ∀ k, k < 9 → parseFieldDescriptor (TJ5 k).2.2.1 = some (tyJ5 k) := by decide +kernel
abbrev cJ5_init : ByteArray := prog_60_method_1_code
def yJ5_init : MethodName := ⟨RJ5, "<init>", "()V"⟩
def dkwJ5_init_0 : List UInt8 := [42, 183, 0, 1, 42, 3, 181, 0, 7, 42, 3, 181, 0, 13, 42, 1, 181, 0, 16, 177]
abbrev dktJ5_init_0 : List UInt8 := dkwJ5_init_0 ++ []
theorem dksJ5_init_0 : cJ5_init.data.toList.drop 0 = dktJ5_init_0 := by decide +kernel
theorem dJ5_init_0 : decode cJ5_init 0 = .ok (.aload_n 0, 1) := dk_42 (dk_at dksJ5_init_0 0 rfl rfl)
theorem dJ5_init_1 : decode cJ5_init 1 = .ok (.invokespecial 1, 3) := dk_183 0 1 (dk_at dksJ5_init_0 1 rfl rfl)
theorem dJ5_init_4 : decode cJ5_init 4 = .ok (.aload_n 0, 1) := dk_42 (dk_at dksJ5_init_0 4 rfl rfl)
theorem dJ5_init_5 : decode cJ5_init 5 = .ok (.iconst 0, 1) := dk_3 (dk_at dksJ5_init_0 5 rfl rfl)
theorem dJ5_init_6 : decode cJ5_init 6 = .ok (.putfield 7, 3) := dk_181 0 7 (dk_at dksJ5_init_0 6 rfl rfl)
theorem dJ5_init_9 : decode cJ5_init 9 = .ok (.aload_n 0, 1) := dk_42 (dk_at dksJ5_init_0 9 rfl rfl)
theorem dJ5_init_10 : decode cJ5_init 10 = .ok (.iconst 0, 1) := dk_3 (dk_at dksJ5_init_0 10 rfl rfl)
theorem dJ5_init_11 : decode cJ5_init 11 = .ok (.putfield 13, 3) := dk_181 0 13 (dk_at dksJ5_init_0 11 rfl rfl)
theorem dJ5_init_14 : decode cJ5_init 14 = .ok (.aload_n 0, 1) := dk_42 (dk_at dksJ5_init_0 14 rfl rfl)
theorem dJ5_init_15 : decode cJ5_init 15 = .ok (.aconst_null, 1) := dk_1 (dk_at dksJ5_init_0 15 rfl rfl)
theorem dJ5_init_16 : decode cJ5_init 16 = .ok (.putfield 16, 3) := dk_181 0 16 (dk_at dksJ5_init_0 16 rfl rfl)
theorem dJ5_init_19 : decode cJ5_init 19 = .ok (.return_, 1) := dk_177 (dk_at dksJ5_init_0 19 rfl rfl)
abbrev cJ5_size : ByteArray := prog_60_method_5_code
def yJ5_size : MethodName := ⟨RJ5, "size", "()I"⟩
theorem dJ5_size_0 : decode cJ5_size 0 = .ok (.aload_n 0, 1) := by decide +kernel
theorem dJ5_size_1 : decode cJ5_size 1 = .ok (.getfield 7, 3) := by decide +kernel
theorem dJ5_size_4 : decode cJ5_size 4 = .ok (.ireturn, 1) := by decide +kernel
abbrev cJ5_headMap : ByteArray := prog_60_method_59_code
def yJ5_headMap : MethodName := ⟨RJ5, "headMap", "(Ljava/lang/Object;)Ljava/util/SortedMap;"⟩
def dkwJ5_headMap_0 : List UInt8 := [42, 43, 3, 182, 1, 1, 176]
abbrev dktJ5_headMap_0 : List UInt8 := dkwJ5_headMap_0 ++ []
theorem dksJ5_headMap_0 : cJ5_headMap.data.toList.drop 0 = dktJ5_headMap_0 := by decide +kernel
theorem dJ5_headMap_0 : decode cJ5_headMap 0 = .ok (.aload_n 0, 1) := dk_42 (dk_at dksJ5_headMap_0 0 rfl rfl)
theorem dJ5_headMap_1 : decode cJ5_headMap 1 = .ok (.aload_n 1, 1) := dk_43 (dk_at dksJ5_headMap_0 1 rfl rfl)
theorem dJ5_headMap_2 : decode cJ5_headMap 2 = .ok (.iconst 0, 1) := dk_3 (dk_at dksJ5_headMap_0 2 rfl rfl)
theorem dJ5_headMap_3 : decode cJ5_headMap 3 = .ok (.invokevirtual 257, 3) := dk_182 1 1 (dk_at dksJ5_headMap_0 3 rfl rfl)
theorem dJ5_headMap_6 : decode cJ5_headMap 6 = .ok (.areturn, 1) := dk_176 (dk_at dksJ5_headMap_0 6 rfl rfl)
abbrev cJ5_headMap_2 : ByteArray := prog_60_method_56_code
def yJ5_headMap_2 : MethodName := ⟨RJ5, "headMap", "(Ljava/lang/Object;Z)Ljava/util/NavigableMap;"⟩
def dkwJ5_headMap_2_0 : List UInt8 := [187, 0, 250, 89, 42, 4, 1, 4, 3, 43, 28, 183, 0, 252, 176]
abbrev dktJ5_headMap_2_0 : List UInt8 := dkwJ5_headMap_2_0 ++ []
theorem dksJ5_headMap_2_0 : cJ5_headMap_2.data.toList.drop 0 = dktJ5_headMap_2_0 := by decide +kernel
theorem dJ5_headMap_2_0 : decode cJ5_headMap_2 0 = .ok (.new 250, 3) := dk_187 0 250 (dk_at dksJ5_headMap_2_0 0 rfl rfl)
theorem dJ5_headMap_2_3 : decode cJ5_headMap_2 3 = .ok (.dup, 1) := dk_89 (dk_at dksJ5_headMap_2_0 3 rfl rfl)
theorem dJ5_headMap_2_4 : decode cJ5_headMap_2 4 = .ok (.aload_n 0, 1) := dk_42 (dk_at dksJ5_headMap_2_0 4 rfl rfl)
theorem dJ5_headMap_2_5 : decode cJ5_headMap_2 5 = .ok (.iconst 1, 1) := dk_4 (dk_at dksJ5_headMap_2_0 5 rfl rfl)
theorem dJ5_headMap_2_6 : decode cJ5_headMap_2 6 = .ok (.aconst_null, 1) := dk_1 (dk_at dksJ5_headMap_2_0 6 rfl rfl)
theorem dJ5_headMap_2_7 : decode cJ5_headMap_2 7 = .ok (.iconst 1, 1) := dk_4 (dk_at dksJ5_headMap_2_0 7 rfl rfl)
theorem dJ5_headMap_2_8 : decode cJ5_headMap_2 8 = .ok (.iconst 0, 1) := dk_3 (dk_at dksJ5_headMap_2_0 8 rfl rfl)
theorem dJ5_headMap_2_9 : decode cJ5_headMap_2 9 = .ok (.aload_n 1, 1) := dk_43 (dk_at dksJ5_headMap_2_0 9 rfl rfl)
theorem dJ5_headMap_2_10 : decode cJ5_headMap_2 10 = .ok (.iload_n 2, 1) := dk_28 (dk_at dksJ5_headMap_2_0 10 rfl rfl)
theorem dJ5_headMap_2_11 : decode cJ5_headMap_2 11 = .ok (.invokespecial 252, 3) := dk_183 0 252 (dk_at dksJ5_headMap_2_0 11 rfl rfl)
theorem dJ5_headMap_2_14 : decode cJ5_headMap_2 14 = .ok (.areturn, 1) := dk_176 (dk_at dksJ5_headMap_2_0 14 rfl rfl)
abbrev cJ5_compare : ByteArray := prog_60_method_67_code
def yJ5_compare : MethodName := ⟨RJ5, "compare", "(Ljava/lang/Object;Ljava/lang/Object;)I"⟩
def dkwJ5_compare_1 : List UInt8 := [43, 44, 185, 0, 117, 3, 0, 172]
abbrev dktJ5_compare_1 : List UInt8 := dkwJ5_compare_1 ++ []
def dkwJ5_compare_0 : List UInt8 := [42, 180, 0, 16, 199, 0, 16, 43, 192, 0, 99, 44, 185, 0, 107, 2, 0, 167, 0, 14, 42, 180, 0, 16]
abbrev dktJ5_compare_0 : List UInt8 := dkwJ5_compare_0 ++ dktJ5_compare_1
theorem dksJ5_compare_0 : cJ5_compare.data.toList.drop 0 = dktJ5_compare_0 := by decide +kernel
theorem dksJ5_compare_1 : cJ5_compare.data.toList.drop 24 = dktJ5_compare_1 := dk_seg dksJ5_compare_0 24 rfl rfl
theorem dJ5_compare_0 : decode cJ5_compare 0 = .ok (.aload_n 0, 1) := dk_42 (dk_at dksJ5_compare_0 0 rfl rfl)
theorem dJ5_compare_1 : decode cJ5_compare 1 = .ok (.getfield 16, 3) := dk_180 0 16 (dk_at dksJ5_compare_0 1 rfl rfl)
theorem dJ5_compare_4 : decode cJ5_compare 4 = .ok (.ifnonnull 16, 3) := dk_199 0 16 (dk_at dksJ5_compare_0 4 rfl rfl)
theorem dJ5_compare_7 : decode cJ5_compare 7 = .ok (.aload_n 1, 1) := dk_43 (dk_at dksJ5_compare_0 7 rfl rfl)
theorem dJ5_compare_8 : decode cJ5_compare 8 = .ok (.checkcast 99, 3) := dk_192 0 99 (dk_at dksJ5_compare_0 8 rfl rfl)
theorem dJ5_compare_11 : decode cJ5_compare 11 = .ok (.aload_n 2, 1) := dk_44 (dk_at dksJ5_compare_0 11 rfl rfl)
theorem dJ5_compare_12 : decode cJ5_compare 12 = .ok (.invokeinterface 107 2, 5) := by decide +kernel
theorem dJ5_compare_17 : decode cJ5_compare 17 = .ok (.goto 14, 3) := dk_167 0 14 (dk_at dksJ5_compare_0 17 rfl rfl)
theorem dJ5_compare_20 : decode cJ5_compare 20 = .ok (.aload_n 0, 1) := dk_42 (dk_at dksJ5_compare_0 20 rfl rfl)
theorem dJ5_compare_21 : decode cJ5_compare 21 = .ok (.getfield 16, 3) := dk_180 0 16 (dk_at dksJ5_compare_0 21 rfl rfl)
theorem dJ5_compare_24 : decode cJ5_compare 24 = .ok (.aload_n 1, 1) := dk_43 (dk_at dksJ5_compare_1 0 rfl rfl)
theorem dJ5_compare_25 : decode cJ5_compare 25 = .ok (.aload_n 2, 1) := dk_44 (dk_at dksJ5_compare_1 1 rfl rfl)
theorem dJ5_compare_26 : decode cJ5_compare 26 = .ok (.invokeinterface 117 3, 5) := by decide +kernel
theorem dJ5_compare_31 : decode cJ5_compare 31 = .ok (.ireturn, 1) := dk_172 (dk_at dksJ5_compare_1 7 rfl rfl)
abbrev cJ5_getFirstEntry : ByteArray := prog_60_method_72_code
def yJ5_getFirstEntry : MethodName := ⟨RJ5, "getFirstEntry", "()Ljava/util/TreeMap$Entry;"⟩
def dkwJ5_getFirstEntry_1 : List UInt8 := [43, 176]
abbrev dktJ5_getFirstEntry_1 : List UInt8 := dkwJ5_getFirstEntry_1 ++ []
def dkwJ5_getFirstEntry_0 : List UInt8 := [42, 180, 0, 101, 76, 43, 198, 0, 18, 43, 180, 0, 111, 198, 0, 11, 43, 180, 0, 111, 76, 167, 255, 244]
abbrev dktJ5_getFirstEntry_0 : List UInt8 := dkwJ5_getFirstEntry_0 ++ dktJ5_getFirstEntry_1
theorem dksJ5_getFirstEntry_0 : cJ5_getFirstEntry.data.toList.drop 0 = dktJ5_getFirstEntry_0 := by decide +kernel
theorem dksJ5_getFirstEntry_1 : cJ5_getFirstEntry.data.toList.drop 24 = dktJ5_getFirstEntry_1 := dk_seg dksJ5_getFirstEntry_0 24 rfl rfl
theorem dJ5_getFirstEntry_0 : decode cJ5_getFirstEntry 0 = .ok (.aload_n 0, 1) := dk_42 (dk_at dksJ5_getFirstEntry_0 0 rfl rfl)
theorem dJ5_getFirstEntry_1 : decode cJ5_getFirstEntry 1 = .ok (.getfield 101, 3) := dk_180 0 101 (dk_at dksJ5_getFirstEntry_0 1 rfl rfl)
theorem dJ5_getFirstEntry_4 : decode cJ5_getFirstEntry 4 = .ok (.astore_n 1, 1) := dk_76 (dk_at dksJ5_getFirstEntry_0 4 rfl rfl)
theorem dJ5_getFirstEntry_5 : decode cJ5_getFirstEntry 5 = .ok (.aload_n 1, 1) := dk_43 (dk_at dksJ5_getFirstEntry_0 5 rfl rfl)
theorem dJ5_getFirstEntry_6 : decode cJ5_getFirstEntry 6 = .ok (.ifnull 18, 3) := dk_198 0 18 (dk_at dksJ5_getFirstEntry_0 6 rfl rfl)
theorem dJ5_getFirstEntry_9 : decode cJ5_getFirstEntry 9 = .ok (.aload_n 1, 1) := dk_43 (dk_at dksJ5_getFirstEntry_0 9 rfl rfl)
theorem dJ5_getFirstEntry_10 : decode cJ5_getFirstEntry 10 = .ok (.getfield 111, 3) := dk_180 0 111 (dk_at dksJ5_getFirstEntry_0 10 rfl rfl)
theorem dJ5_getFirstEntry_13 : decode cJ5_getFirstEntry 13 = .ok (.ifnull 11, 3) := dk_198 0 11 (dk_at dksJ5_getFirstEntry_0 13 rfl rfl)
theorem dJ5_getFirstEntry_16 : decode cJ5_getFirstEntry 16 = .ok (.aload_n 1, 1) := dk_43 (dk_at dksJ5_getFirstEntry_0 16 rfl rfl)
theorem dJ5_getFirstEntry_17 : decode cJ5_getFirstEntry 17 = .ok (.getfield 111, 3) := dk_180 0 111 (dk_at dksJ5_getFirstEntry_0 17 rfl rfl)
theorem dJ5_getFirstEntry_20 : decode cJ5_getFirstEntry 20 = .ok (.astore_n 1, 1) := dk_76 (dk_at dksJ5_getFirstEntry_0 20 rfl rfl)
theorem dJ5_getFirstEntry_21 : decode cJ5_getFirstEntry 21 = .ok (.goto (-12), 3) := dk_167 255 244 (dk_at dksJ5_getFirstEntry_0 21 rfl rfl)
theorem dJ5_getFirstEntry_24 : decode cJ5_getFirstEntry 24 = .ok (.aload_n 1, 1) := dk_43 (dk_at dksJ5_getFirstEntry_1 0 rfl rfl)
theorem dJ5_getFirstEntry_25 : decode cJ5_getFirstEntry 25 = .ok (.areturn, 1) := dk_176 (dk_at dksJ5_getFirstEntry_1 1 rfl rfl)
abbrev cJ5_getCeilingEntry : ByteArray := prog_60_method_17_code
def yJ5_getCeilingEntry : MethodName := ⟨RJ5, "getCeilingEntry", "(Ljava/lang/Object;)Ljava/util/TreeMap$Entry;"⟩
def dkwJ5_getCeilingEntry_4 : List UInt8 := [167, 255, 230, 25, 4, 176, 44, 176, 167, 255, 159, 1, 176]
abbrev dktJ5_getCeilingEntry_4 : List UInt8 := dkwJ5_getCeilingEntry_4 ++ []
def dkwJ5_getCeilingEntry_3 : List UInt8 := [198, 0, 27, 25, 5, 25, 4, 180, 0, 114, 166, 0, 17, 25, 4, 58, 5, 25, 4, 180, 0, 124, 58, 4]
abbrev dktJ5_getCeilingEntry_3 : List UInt8 := dkwJ5_getCeilingEntry_3 ++ dktJ5_getCeilingEntry_4
def dkwJ5_getCeilingEntry_2 : List UInt8 := [198, 0, 11, 44, 180, 0, 114, 77, 167, 0, 46, 44, 180, 0, 124, 58, 4, 44, 58, 5, 25, 4]
abbrev dktJ5_getCeilingEntry_2 : List UInt8 := dkwJ5_getCeilingEntry_2 ++ dktJ5_getCeilingEntry_3
def dkwJ5_getCeilingEntry_1 : List UInt8 := [180, 0, 111, 198, 0, 11, 44, 180, 0, 111, 77, 167, 0, 67, 44, 176, 29, 158, 0, 59, 44, 180, 0, 114]
abbrev dktJ5_getCeilingEntry_1 : List UInt8 := dkwJ5_getCeilingEntry_1 ++ dktJ5_getCeilingEntry_2
def dkwJ5_getCeilingEntry_0 : List UInt8 := [42, 180, 0, 101, 77, 44, 198, 0, 99, 42, 43, 44, 180, 0, 105, 182, 0, 123, 62, 29, 156, 0, 20, 44]
abbrev dktJ5_getCeilingEntry_0 : List UInt8 := dkwJ5_getCeilingEntry_0 ++ dktJ5_getCeilingEntry_1
theorem dksJ5_getCeilingEntry_0 : cJ5_getCeilingEntry.data.toList.drop 0 = dktJ5_getCeilingEntry_0 := by decide +kernel
theorem dksJ5_getCeilingEntry_1 : cJ5_getCeilingEntry.data.toList.drop 24 = dktJ5_getCeilingEntry_1 := dk_seg dksJ5_getCeilingEntry_0 24 rfl rfl
theorem dksJ5_getCeilingEntry_2 : cJ5_getCeilingEntry.data.toList.drop 48 = dktJ5_getCeilingEntry_2 := dk_seg dksJ5_getCeilingEntry_1 24 rfl rfl
theorem dksJ5_getCeilingEntry_3 : cJ5_getCeilingEntry.data.toList.drop 70 = dktJ5_getCeilingEntry_3 := dk_seg dksJ5_getCeilingEntry_2 22 rfl rfl
theorem dksJ5_getCeilingEntry_4 : cJ5_getCeilingEntry.data.toList.drop 94 = dktJ5_getCeilingEntry_4 := dk_seg dksJ5_getCeilingEntry_3 24 rfl rfl
theorem dJ5_getCeilingEntry_0 : decode cJ5_getCeilingEntry 0 = .ok (.aload_n 0, 1) := dk_42 (dk_at dksJ5_getCeilingEntry_0 0 rfl rfl)
theorem dJ5_getCeilingEntry_1 : decode cJ5_getCeilingEntry 1 = .ok (.getfield 101, 3) := dk_180 0 101 (dk_at dksJ5_getCeilingEntry_0 1 rfl rfl)
theorem dJ5_getCeilingEntry_4 : decode cJ5_getCeilingEntry 4 = .ok (.astore_n 2, 1) := dk_77 (dk_at dksJ5_getCeilingEntry_0 4 rfl rfl)
theorem dJ5_getCeilingEntry_5 : decode cJ5_getCeilingEntry 5 = .ok (.aload_n 2, 1) := dk_44 (dk_at dksJ5_getCeilingEntry_0 5 rfl rfl)
theorem dJ5_getCeilingEntry_6 : decode cJ5_getCeilingEntry 6 = .ok (.ifnull 99, 3) := dk_198 0 99 (dk_at dksJ5_getCeilingEntry_0 6 rfl rfl)
theorem dJ5_getCeilingEntry_9 : decode cJ5_getCeilingEntry 9 = .ok (.aload_n 0, 1) := dk_42 (dk_at dksJ5_getCeilingEntry_0 9 rfl rfl)
theorem dJ5_getCeilingEntry_10 : decode cJ5_getCeilingEntry 10 = .ok (.aload_n 1, 1) := dk_43 (dk_at dksJ5_getCeilingEntry_0 10 rfl rfl)
theorem dJ5_getCeilingEntry_11 : decode cJ5_getCeilingEntry 11 = .ok (.aload_n 2, 1) := dk_44 (dk_at dksJ5_getCeilingEntry_0 11 rfl rfl)
theorem dJ5_getCeilingEntry_12 : decode cJ5_getCeilingEntry 12 = .ok (.getfield 105, 3) := dk_180 0 105 (dk_at dksJ5_getCeilingEntry_0 12 rfl rfl)
theorem dJ5_getCeilingEntry_15 : decode cJ5_getCeilingEntry 15 = .ok (.invokevirtual 123, 3) := dk_182 0 123 (dk_at dksJ5_getCeilingEntry_0 15 rfl rfl)
theorem dJ5_getCeilingEntry_18 : decode cJ5_getCeilingEntry 18 = .ok (.istore_n 3, 1) := dk_62 (dk_at dksJ5_getCeilingEntry_0 18 rfl rfl)
theorem dJ5_getCeilingEntry_19 : decode cJ5_getCeilingEntry 19 = .ok (.iload_n 3, 1) := dk_29 (dk_at dksJ5_getCeilingEntry_0 19 rfl rfl)
theorem dJ5_getCeilingEntry_20 : decode cJ5_getCeilingEntry 20 = .ok (.ifCond .ge 20, 3) := dk_156 0 20 (dk_at dksJ5_getCeilingEntry_0 20 rfl rfl)
theorem dJ5_getCeilingEntry_23 : decode cJ5_getCeilingEntry 23 = .ok (.aload_n 2, 1) := dk_44 (dk_at dksJ5_getCeilingEntry_0 23 rfl rfl)
theorem dJ5_getCeilingEntry_24 : decode cJ5_getCeilingEntry 24 = .ok (.getfield 111, 3) := dk_180 0 111 (dk_at dksJ5_getCeilingEntry_1 0 rfl rfl)
theorem dJ5_getCeilingEntry_27 : decode cJ5_getCeilingEntry 27 = .ok (.ifnull 11, 3) := dk_198 0 11 (dk_at dksJ5_getCeilingEntry_1 3 rfl rfl)
theorem dJ5_getCeilingEntry_30 : decode cJ5_getCeilingEntry 30 = .ok (.aload_n 2, 1) := dk_44 (dk_at dksJ5_getCeilingEntry_1 6 rfl rfl)
theorem dJ5_getCeilingEntry_31 : decode cJ5_getCeilingEntry 31 = .ok (.getfield 111, 3) := dk_180 0 111 (dk_at dksJ5_getCeilingEntry_1 7 rfl rfl)
theorem dJ5_getCeilingEntry_34 : decode cJ5_getCeilingEntry 34 = .ok (.astore_n 2, 1) := dk_77 (dk_at dksJ5_getCeilingEntry_1 10 rfl rfl)
theorem dJ5_getCeilingEntry_35 : decode cJ5_getCeilingEntry 35 = .ok (.goto 67, 3) := dk_167 0 67 (dk_at dksJ5_getCeilingEntry_1 11 rfl rfl)
theorem dJ5_getCeilingEntry_38 : decode cJ5_getCeilingEntry 38 = .ok (.aload_n 2, 1) := dk_44 (dk_at dksJ5_getCeilingEntry_1 14 rfl rfl)
theorem dJ5_getCeilingEntry_39 : decode cJ5_getCeilingEntry 39 = .ok (.areturn, 1) := dk_176 (dk_at dksJ5_getCeilingEntry_1 15 rfl rfl)
theorem dJ5_getCeilingEntry_40 : decode cJ5_getCeilingEntry 40 = .ok (.iload_n 3, 1) := dk_29 (dk_at dksJ5_getCeilingEntry_1 16 rfl rfl)
theorem dJ5_getCeilingEntry_41 : decode cJ5_getCeilingEntry 41 = .ok (.ifCond .le 59, 3) := dk_158 0 59 (dk_at dksJ5_getCeilingEntry_1 17 rfl rfl)
theorem dJ5_getCeilingEntry_44 : decode cJ5_getCeilingEntry 44 = .ok (.aload_n 2, 1) := dk_44 (dk_at dksJ5_getCeilingEntry_1 20 rfl rfl)
theorem dJ5_getCeilingEntry_45 : decode cJ5_getCeilingEntry 45 = .ok (.getfield 114, 3) := dk_180 0 114 (dk_at dksJ5_getCeilingEntry_1 21 rfl rfl)
theorem dJ5_getCeilingEntry_48 : decode cJ5_getCeilingEntry 48 = .ok (.ifnull 11, 3) := dk_198 0 11 (dk_at dksJ5_getCeilingEntry_2 0 rfl rfl)
theorem dJ5_getCeilingEntry_51 : decode cJ5_getCeilingEntry 51 = .ok (.aload_n 2, 1) := dk_44 (dk_at dksJ5_getCeilingEntry_2 3 rfl rfl)
theorem dJ5_getCeilingEntry_52 : decode cJ5_getCeilingEntry 52 = .ok (.getfield 114, 3) := dk_180 0 114 (dk_at dksJ5_getCeilingEntry_2 4 rfl rfl)
theorem dJ5_getCeilingEntry_55 : decode cJ5_getCeilingEntry 55 = .ok (.astore_n 2, 1) := dk_77 (dk_at dksJ5_getCeilingEntry_2 7 rfl rfl)
theorem dJ5_getCeilingEntry_56 : decode cJ5_getCeilingEntry 56 = .ok (.goto 46, 3) := dk_167 0 46 (dk_at dksJ5_getCeilingEntry_2 8 rfl rfl)
theorem dJ5_getCeilingEntry_59 : decode cJ5_getCeilingEntry 59 = .ok (.aload_n 2, 1) := dk_44 (dk_at dksJ5_getCeilingEntry_2 11 rfl rfl)
theorem dJ5_getCeilingEntry_60 : decode cJ5_getCeilingEntry 60 = .ok (.getfield 124, 3) := dk_180 0 124 (dk_at dksJ5_getCeilingEntry_2 12 rfl rfl)
theorem dJ5_getCeilingEntry_63 : decode cJ5_getCeilingEntry 63 = .ok (.astore 4, 2) := dk_58 4 (dk_at dksJ5_getCeilingEntry_2 15 rfl rfl)
theorem dJ5_getCeilingEntry_65 : decode cJ5_getCeilingEntry 65 = .ok (.aload_n 2, 1) := dk_44 (dk_at dksJ5_getCeilingEntry_2 17 rfl rfl)
theorem dJ5_getCeilingEntry_66 : decode cJ5_getCeilingEntry 66 = .ok (.astore 5, 2) := dk_58 5 (dk_at dksJ5_getCeilingEntry_2 18 rfl rfl)
theorem dJ5_getCeilingEntry_68 : decode cJ5_getCeilingEntry 68 = .ok (.aload 4, 2) := dk_25 4 (dk_at dksJ5_getCeilingEntry_2 20 rfl rfl)
theorem dJ5_getCeilingEntry_70 : decode cJ5_getCeilingEntry 70 = .ok (.ifnull 27, 3) := dk_198 0 27 (dk_at dksJ5_getCeilingEntry_3 0 rfl rfl)
theorem dJ5_getCeilingEntry_73 : decode cJ5_getCeilingEntry 73 = .ok (.aload 5, 2) := dk_25 5 (dk_at dksJ5_getCeilingEntry_3 3 rfl rfl)
theorem dJ5_getCeilingEntry_75 : decode cJ5_getCeilingEntry 75 = .ok (.aload 4, 2) := dk_25 4 (dk_at dksJ5_getCeilingEntry_3 5 rfl rfl)
theorem dJ5_getCeilingEntry_77 : decode cJ5_getCeilingEntry 77 = .ok (.getfield 114, 3) := dk_180 0 114 (dk_at dksJ5_getCeilingEntry_3 7 rfl rfl)
theorem dJ5_getCeilingEntry_80 : decode cJ5_getCeilingEntry 80 = .ok (.if_acmp .ne 17, 3) := dk_166 0 17 (dk_at dksJ5_getCeilingEntry_3 10 rfl rfl)
theorem dJ5_getCeilingEntry_83 : decode cJ5_getCeilingEntry 83 = .ok (.aload 4, 2) := dk_25 4 (dk_at dksJ5_getCeilingEntry_3 13 rfl rfl)
theorem dJ5_getCeilingEntry_85 : decode cJ5_getCeilingEntry 85 = .ok (.astore 5, 2) := dk_58 5 (dk_at dksJ5_getCeilingEntry_3 15 rfl rfl)
theorem dJ5_getCeilingEntry_87 : decode cJ5_getCeilingEntry 87 = .ok (.aload 4, 2) := dk_25 4 (dk_at dksJ5_getCeilingEntry_3 17 rfl rfl)
theorem dJ5_getCeilingEntry_89 : decode cJ5_getCeilingEntry 89 = .ok (.getfield 124, 3) := dk_180 0 124 (dk_at dksJ5_getCeilingEntry_3 19 rfl rfl)
theorem dJ5_getCeilingEntry_92 : decode cJ5_getCeilingEntry 92 = .ok (.astore 4, 2) := dk_58 4 (dk_at dksJ5_getCeilingEntry_3 22 rfl rfl)
theorem dJ5_getCeilingEntry_94 : decode cJ5_getCeilingEntry 94 = .ok (.goto (-26), 3) := dk_167 255 230 (dk_at dksJ5_getCeilingEntry_4 0 rfl rfl)
theorem dJ5_getCeilingEntry_97 : decode cJ5_getCeilingEntry 97 = .ok (.aload 4, 2) := dk_25 4 (dk_at dksJ5_getCeilingEntry_4 3 rfl rfl)
theorem dJ5_getCeilingEntry_99 : decode cJ5_getCeilingEntry 99 = .ok (.areturn, 1) := dk_176 (dk_at dksJ5_getCeilingEntry_4 5 rfl rfl)
theorem dJ5_getCeilingEntry_100 : decode cJ5_getCeilingEntry 100 = .ok (.aload_n 2, 1) := dk_44 (dk_at dksJ5_getCeilingEntry_4 6 rfl rfl)
theorem dJ5_getCeilingEntry_101 : decode cJ5_getCeilingEntry 101 = .ok (.areturn, 1) := dk_176 (dk_at dksJ5_getCeilingEntry_4 7 rfl rfl)
theorem dJ5_getCeilingEntry_102 : decode cJ5_getCeilingEntry 102 = .ok (.goto (-97), 3) := dk_167 255 159 (dk_at dksJ5_getCeilingEntry_4 8 rfl rfl)
theorem dJ5_getCeilingEntry_105 : decode cJ5_getCeilingEntry 105 = .ok (.aconst_null, 1) := dk_1 (dk_at dksJ5_getCeilingEntry_4 11 rfl rfl)
theorem dJ5_getCeilingEntry_106 : decode cJ5_getCeilingEntry 106 = .ok (.areturn, 1) := dk_176 (dk_at dksJ5_getCeilingEntry_4 12 rfl rfl)
abbrev cJ5_getHigherEntry : ByteArray := prog_60_method_19_code
def yJ5_getHigherEntry : MethodName := ⟨RJ5, "getHigherEntry", "(Ljava/lang/Object;)Ljava/util/TreeMap$Entry;"⟩
def dkwJ5_getHigherEntry_4 : List UInt8 := [176, 167, 255, 165, 1, 176]
abbrev dktJ5_getHigherEntry_4 : List UInt8 := dkwJ5_getHigherEntry_4 ++ []
def dkwJ5_getHigherEntry_3 : List UInt8 := [25, 4, 180, 0, 114, 166, 0, 17, 25, 4, 58, 5, 25, 4, 180, 0, 124, 58, 4, 167, 255, 230, 25, 4]
abbrev dktJ5_getHigherEntry_3 : List UInt8 := dkwJ5_getHigherEntry_3 ++ dktJ5_getHigherEntry_4
def dkwJ5_getHigherEntry_2 : List UInt8 := [180, 0, 114, 77, 167, 0, 44, 44, 180, 0, 124, 58, 4, 44, 58, 5, 25, 4, 198, 0, 27, 25, 5]
abbrev dktJ5_getHigherEntry_2 : List UInt8 := dkwJ5_getHigherEntry_2 ++ dktJ5_getHigherEntry_3
def dkwJ5_getHigherEntry_1 : List UInt8 := [180, 0, 111, 198, 0, 11, 44, 180, 0, 111, 77, 167, 0, 61, 44, 176, 44, 180, 0, 114, 198, 0, 11, 44]
abbrev dktJ5_getHigherEntry_1 : List UInt8 := dkwJ5_getHigherEntry_1 ++ dktJ5_getHigherEntry_2
def dkwJ5_getHigherEntry_0 : List UInt8 := [42, 180, 0, 101, 77, 44, 198, 0, 93, 42, 43, 44, 180, 0, 105, 182, 0, 123, 62, 29, 156, 0, 20, 44]
abbrev dktJ5_getHigherEntry_0 : List UInt8 := dkwJ5_getHigherEntry_0 ++ dktJ5_getHigherEntry_1
theorem dksJ5_getHigherEntry_0 : cJ5_getHigherEntry.data.toList.drop 0 = dktJ5_getHigherEntry_0 := by decide +kernel
theorem dksJ5_getHigherEntry_1 : cJ5_getHigherEntry.data.toList.drop 24 = dktJ5_getHigherEntry_1 := dk_seg dksJ5_getHigherEntry_0 24 rfl rfl
theorem dksJ5_getHigherEntry_2 : cJ5_getHigherEntry.data.toList.drop 48 = dktJ5_getHigherEntry_2 := dk_seg dksJ5_getHigherEntry_1 24 rfl rfl
theorem dksJ5_getHigherEntry_3 : cJ5_getHigherEntry.data.toList.drop 71 = dktJ5_getHigherEntry_3 := dk_seg dksJ5_getHigherEntry_2 23 rfl rfl
theorem dksJ5_getHigherEntry_4 : cJ5_getHigherEntry.data.toList.drop 95 = dktJ5_getHigherEntry_4 := dk_seg dksJ5_getHigherEntry_3 24 rfl rfl
theorem dJ5_getHigherEntry_0 : decode cJ5_getHigherEntry 0 = .ok (.aload_n 0, 1) := dk_42 (dk_at dksJ5_getHigherEntry_0 0 rfl rfl)
theorem dJ5_getHigherEntry_1 : decode cJ5_getHigherEntry 1 = .ok (.getfield 101, 3) := dk_180 0 101 (dk_at dksJ5_getHigherEntry_0 1 rfl rfl)
theorem dJ5_getHigherEntry_4 : decode cJ5_getHigherEntry 4 = .ok (.astore_n 2, 1) := dk_77 (dk_at dksJ5_getHigherEntry_0 4 rfl rfl)
theorem dJ5_getHigherEntry_5 : decode cJ5_getHigherEntry 5 = .ok (.aload_n 2, 1) := dk_44 (dk_at dksJ5_getHigherEntry_0 5 rfl rfl)
theorem dJ5_getHigherEntry_6 : decode cJ5_getHigherEntry 6 = .ok (.ifnull 93, 3) := dk_198 0 93 (dk_at dksJ5_getHigherEntry_0 6 rfl rfl)
theorem dJ5_getHigherEntry_9 : decode cJ5_getHigherEntry 9 = .ok (.aload_n 0, 1) := dk_42 (dk_at dksJ5_getHigherEntry_0 9 rfl rfl)
theorem dJ5_getHigherEntry_10 : decode cJ5_getHigherEntry 10 = .ok (.aload_n 1, 1) := dk_43 (dk_at dksJ5_getHigherEntry_0 10 rfl rfl)
theorem dJ5_getHigherEntry_11 : decode cJ5_getHigherEntry 11 = .ok (.aload_n 2, 1) := dk_44 (dk_at dksJ5_getHigherEntry_0 11 rfl rfl)
theorem dJ5_getHigherEntry_12 : decode cJ5_getHigherEntry 12 = .ok (.getfield 105, 3) := dk_180 0 105 (dk_at dksJ5_getHigherEntry_0 12 rfl rfl)
theorem dJ5_getHigherEntry_15 : decode cJ5_getHigherEntry 15 = .ok (.invokevirtual 123, 3) := dk_182 0 123 (dk_at dksJ5_getHigherEntry_0 15 rfl rfl)
theorem dJ5_getHigherEntry_18 : decode cJ5_getHigherEntry 18 = .ok (.istore_n 3, 1) := dk_62 (dk_at dksJ5_getHigherEntry_0 18 rfl rfl)
theorem dJ5_getHigherEntry_19 : decode cJ5_getHigherEntry 19 = .ok (.iload_n 3, 1) := dk_29 (dk_at dksJ5_getHigherEntry_0 19 rfl rfl)
theorem dJ5_getHigherEntry_20 : decode cJ5_getHigherEntry 20 = .ok (.ifCond .ge 20, 3) := dk_156 0 20 (dk_at dksJ5_getHigherEntry_0 20 rfl rfl)
theorem dJ5_getHigherEntry_23 : decode cJ5_getHigherEntry 23 = .ok (.aload_n 2, 1) := dk_44 (dk_at dksJ5_getHigherEntry_0 23 rfl rfl)
theorem dJ5_getHigherEntry_24 : decode cJ5_getHigherEntry 24 = .ok (.getfield 111, 3) := dk_180 0 111 (dk_at dksJ5_getHigherEntry_1 0 rfl rfl)
theorem dJ5_getHigherEntry_27 : decode cJ5_getHigherEntry 27 = .ok (.ifnull 11, 3) := dk_198 0 11 (dk_at dksJ5_getHigherEntry_1 3 rfl rfl)
theorem dJ5_getHigherEntry_30 : decode cJ5_getHigherEntry 30 = .ok (.aload_n 2, 1) := dk_44 (dk_at dksJ5_getHigherEntry_1 6 rfl rfl)
theorem dJ5_getHigherEntry_31 : decode cJ5_getHigherEntry 31 = .ok (.getfield 111, 3) := dk_180 0 111 (dk_at dksJ5_getHigherEntry_1 7 rfl rfl)
theorem dJ5_getHigherEntry_34 : decode cJ5_getHigherEntry 34 = .ok (.astore_n 2, 1) := dk_77 (dk_at dksJ5_getHigherEntry_1 10 rfl rfl)
theorem dJ5_getHigherEntry_35 : decode cJ5_getHigherEntry 35 = .ok (.goto 61, 3) := dk_167 0 61 (dk_at dksJ5_getHigherEntry_1 11 rfl rfl)
theorem dJ5_getHigherEntry_38 : decode cJ5_getHigherEntry 38 = .ok (.aload_n 2, 1) := dk_44 (dk_at dksJ5_getHigherEntry_1 14 rfl rfl)
theorem dJ5_getHigherEntry_39 : decode cJ5_getHigherEntry 39 = .ok (.areturn, 1) := dk_176 (dk_at dksJ5_getHigherEntry_1 15 rfl rfl)
theorem dJ5_getHigherEntry_40 : decode cJ5_getHigherEntry 40 = .ok (.aload_n 2, 1) := dk_44 (dk_at dksJ5_getHigherEntry_1 16 rfl rfl)
theorem dJ5_getHigherEntry_41 : decode cJ5_getHigherEntry 41 = .ok (.getfield 114, 3) := dk_180 0 114 (dk_at dksJ5_getHigherEntry_1 17 rfl rfl)
theorem dJ5_getHigherEntry_44 : decode cJ5_getHigherEntry 44 = .ok (.ifnull 11, 3) := dk_198 0 11 (dk_at dksJ5_getHigherEntry_1 20 rfl rfl)
theorem dJ5_getHigherEntry_47 : decode cJ5_getHigherEntry 47 = .ok (.aload_n 2, 1) := dk_44 (dk_at dksJ5_getHigherEntry_1 23 rfl rfl)
theorem dJ5_getHigherEntry_48 : decode cJ5_getHigherEntry 48 = .ok (.getfield 114, 3) := dk_180 0 114 (dk_at dksJ5_getHigherEntry_2 0 rfl rfl)
theorem dJ5_getHigherEntry_51 : decode cJ5_getHigherEntry 51 = .ok (.astore_n 2, 1) := dk_77 (dk_at dksJ5_getHigherEntry_2 3 rfl rfl)
theorem dJ5_getHigherEntry_52 : decode cJ5_getHigherEntry 52 = .ok (.goto 44, 3) := dk_167 0 44 (dk_at dksJ5_getHigherEntry_2 4 rfl rfl)
theorem dJ5_getHigherEntry_55 : decode cJ5_getHigherEntry 55 = .ok (.aload_n 2, 1) := dk_44 (dk_at dksJ5_getHigherEntry_2 7 rfl rfl)
theorem dJ5_getHigherEntry_56 : decode cJ5_getHigherEntry 56 = .ok (.getfield 124, 3) := dk_180 0 124 (dk_at dksJ5_getHigherEntry_2 8 rfl rfl)
theorem dJ5_getHigherEntry_59 : decode cJ5_getHigherEntry 59 = .ok (.astore 4, 2) := dk_58 4 (dk_at dksJ5_getHigherEntry_2 11 rfl rfl)
theorem dJ5_getHigherEntry_61 : decode cJ5_getHigherEntry 61 = .ok (.aload_n 2, 1) := dk_44 (dk_at dksJ5_getHigherEntry_2 13 rfl rfl)
theorem dJ5_getHigherEntry_62 : decode cJ5_getHigherEntry 62 = .ok (.astore 5, 2) := dk_58 5 (dk_at dksJ5_getHigherEntry_2 14 rfl rfl)
theorem dJ5_getHigherEntry_64 : decode cJ5_getHigherEntry 64 = .ok (.aload 4, 2) := dk_25 4 (dk_at dksJ5_getHigherEntry_2 16 rfl rfl)
theorem dJ5_getHigherEntry_66 : decode cJ5_getHigherEntry 66 = .ok (.ifnull 27, 3) := dk_198 0 27 (dk_at dksJ5_getHigherEntry_2 18 rfl rfl)
theorem dJ5_getHigherEntry_69 : decode cJ5_getHigherEntry 69 = .ok (.aload 5, 2) := dk_25 5 (dk_at dksJ5_getHigherEntry_2 21 rfl rfl)
theorem dJ5_getHigherEntry_71 : decode cJ5_getHigherEntry 71 = .ok (.aload 4, 2) := dk_25 4 (dk_at dksJ5_getHigherEntry_3 0 rfl rfl)
theorem dJ5_getHigherEntry_73 : decode cJ5_getHigherEntry 73 = .ok (.getfield 114, 3) := dk_180 0 114 (dk_at dksJ5_getHigherEntry_3 2 rfl rfl)
theorem dJ5_getHigherEntry_76 : decode cJ5_getHigherEntry 76 = .ok (.if_acmp .ne 17, 3) := dk_166 0 17 (dk_at dksJ5_getHigherEntry_3 5 rfl rfl)
theorem dJ5_getHigherEntry_79 : decode cJ5_getHigherEntry 79 = .ok (.aload 4, 2) := dk_25 4 (dk_at dksJ5_getHigherEntry_3 8 rfl rfl)
theorem dJ5_getHigherEntry_81 : decode cJ5_getHigherEntry 81 = .ok (.astore 5, 2) := dk_58 5 (dk_at dksJ5_getHigherEntry_3 10 rfl rfl)
theorem dJ5_getHigherEntry_83 : decode cJ5_getHigherEntry 83 = .ok (.aload 4, 2) := dk_25 4 (dk_at dksJ5_getHigherEntry_3 12 rfl rfl)
theorem dJ5_getHigherEntry_85 : decode cJ5_getHigherEntry 85 = .ok (.getfield 124, 3) := dk_180 0 124 (dk_at dksJ5_getHigherEntry_3 14 rfl rfl)
theorem dJ5_getHigherEntry_88 : decode cJ5_getHigherEntry 88 = .ok (.astore 4, 2) := dk_58 4 (dk_at dksJ5_getHigherEntry_3 17 rfl rfl)
theorem dJ5_getHigherEntry_90 : decode cJ5_getHigherEntry 90 = .ok (.goto (-26), 3) := dk_167 255 230 (dk_at dksJ5_getHigherEntry_3 19 rfl rfl)
theorem dJ5_getHigherEntry_93 : decode cJ5_getHigherEntry 93 = .ok (.aload 4, 2) := dk_25 4 (dk_at dksJ5_getHigherEntry_3 22 rfl rfl)
theorem dJ5_getHigherEntry_95 : decode cJ5_getHigherEntry 95 = .ok (.areturn, 1) := dk_176 (dk_at dksJ5_getHigherEntry_4 0 rfl rfl)
theorem dJ5_getHigherEntry_96 : decode cJ5_getHigherEntry 96 = .ok (.goto (-91), 3) := dk_167 255 165 (dk_at dksJ5_getHigherEntry_4 1 rfl rfl)
theorem dJ5_getHigherEntry_99 : decode cJ5_getHigherEntry 99 = .ok (.aconst_null, 1) := dk_1 (dk_at dksJ5_getHigherEntry_4 4 rfl rfl)
theorem dJ5_getHigherEntry_100 : decode cJ5_getHigherEntry 100 = .ok (.areturn, 1) := dk_176 (dk_at dksJ5_getHigherEntry_4 5 rfl rfl)
abbrev cJ5_successor : ByteArray := prog_60_method_74_code
def yJ5_successor : MethodName := ⟨RJ5, "successor", "(Ljava/util/TreeMap$Entry;)Ljava/util/TreeMap$Entry;"⟩
def dkwJ5_successor_2 : List UInt8 := [44, 43, 180, 0, 114, 166, 0, 13, 43, 77, 43, 180, 0, 124, 76, 167, 255, 237, 43, 176]
abbrev dktJ5_successor_2 : List UInt8 := dkwJ5_successor_2 ++ []
def dkwJ5_successor_1 : List UInt8 := [198, 0, 11, 43, 180, 0, 111, 76, 167, 255, 244, 43, 176, 42, 180, 0, 124, 76, 42, 77, 43, 198, 0, 21]
abbrev dktJ5_successor_1 : List UInt8 := dkwJ5_successor_1 ++ dktJ5_successor_2
def dkwJ5_successor_0 : List UInt8 := [42, 199, 0, 5, 1, 176, 42, 180, 0, 114, 198, 0, 25, 42, 180, 0, 114, 76, 43, 180, 0, 111]
abbrev dktJ5_successor_0 : List UInt8 := dkwJ5_successor_0 ++ dktJ5_successor_1
theorem dksJ5_successor_0 : cJ5_successor.data.toList.drop 0 = dktJ5_successor_0 := by decide +kernel
theorem dksJ5_successor_1 : cJ5_successor.data.toList.drop 22 = dktJ5_successor_1 := dk_seg dksJ5_successor_0 22 rfl rfl
theorem dksJ5_successor_2 : cJ5_successor.data.toList.drop 46 = dktJ5_successor_2 := dk_seg dksJ5_successor_1 24 rfl rfl
theorem dJ5_successor_0 : decode cJ5_successor 0 = .ok (.aload_n 0, 1) := dk_42 (dk_at dksJ5_successor_0 0 rfl rfl)
theorem dJ5_successor_1 : decode cJ5_successor 1 = .ok (.ifnonnull 5, 3) := dk_199 0 5 (dk_at dksJ5_successor_0 1 rfl rfl)
theorem dJ5_successor_4 : decode cJ5_successor 4 = .ok (.aconst_null, 1) := dk_1 (dk_at dksJ5_successor_0 4 rfl rfl)
theorem dJ5_successor_5 : decode cJ5_successor 5 = .ok (.areturn, 1) := dk_176 (dk_at dksJ5_successor_0 5 rfl rfl)
theorem dJ5_successor_6 : decode cJ5_successor 6 = .ok (.aload_n 0, 1) := dk_42 (dk_at dksJ5_successor_0 6 rfl rfl)
theorem dJ5_successor_7 : decode cJ5_successor 7 = .ok (.getfield 114, 3) := dk_180 0 114 (dk_at dksJ5_successor_0 7 rfl rfl)
theorem dJ5_successor_10 : decode cJ5_successor 10 = .ok (.ifnull 25, 3) := dk_198 0 25 (dk_at dksJ5_successor_0 10 rfl rfl)
theorem dJ5_successor_13 : decode cJ5_successor 13 = .ok (.aload_n 0, 1) := dk_42 (dk_at dksJ5_successor_0 13 rfl rfl)
theorem dJ5_successor_14 : decode cJ5_successor 14 = .ok (.getfield 114, 3) := dk_180 0 114 (dk_at dksJ5_successor_0 14 rfl rfl)
theorem dJ5_successor_17 : decode cJ5_successor 17 = .ok (.astore_n 1, 1) := dk_76 (dk_at dksJ5_successor_0 17 rfl rfl)
theorem dJ5_successor_18 : decode cJ5_successor 18 = .ok (.aload_n 1, 1) := dk_43 (dk_at dksJ5_successor_0 18 rfl rfl)
theorem dJ5_successor_19 : decode cJ5_successor 19 = .ok (.getfield 111, 3) := dk_180 0 111 (dk_at dksJ5_successor_0 19 rfl rfl)
theorem dJ5_successor_22 : decode cJ5_successor 22 = .ok (.ifnull 11, 3) := dk_198 0 11 (dk_at dksJ5_successor_1 0 rfl rfl)
theorem dJ5_successor_25 : decode cJ5_successor 25 = .ok (.aload_n 1, 1) := dk_43 (dk_at dksJ5_successor_1 3 rfl rfl)
theorem dJ5_successor_26 : decode cJ5_successor 26 = .ok (.getfield 111, 3) := dk_180 0 111 (dk_at dksJ5_successor_1 4 rfl rfl)
theorem dJ5_successor_29 : decode cJ5_successor 29 = .ok (.astore_n 1, 1) := dk_76 (dk_at dksJ5_successor_1 7 rfl rfl)
theorem dJ5_successor_30 : decode cJ5_successor 30 = .ok (.goto (-12), 3) := dk_167 255 244 (dk_at dksJ5_successor_1 8 rfl rfl)
theorem dJ5_successor_33 : decode cJ5_successor 33 = .ok (.aload_n 1, 1) := dk_43 (dk_at dksJ5_successor_1 11 rfl rfl)
theorem dJ5_successor_34 : decode cJ5_successor 34 = .ok (.areturn, 1) := dk_176 (dk_at dksJ5_successor_1 12 rfl rfl)
theorem dJ5_successor_35 : decode cJ5_successor 35 = .ok (.aload_n 0, 1) := dk_42 (dk_at dksJ5_successor_1 13 rfl rfl)
theorem dJ5_successor_36 : decode cJ5_successor 36 = .ok (.getfield 124, 3) := dk_180 0 124 (dk_at dksJ5_successor_1 14 rfl rfl)
theorem dJ5_successor_39 : decode cJ5_successor 39 = .ok (.astore_n 1, 1) := dk_76 (dk_at dksJ5_successor_1 17 rfl rfl)
theorem dJ5_successor_40 : decode cJ5_successor 40 = .ok (.aload_n 0, 1) := dk_42 (dk_at dksJ5_successor_1 18 rfl rfl)
theorem dJ5_successor_41 : decode cJ5_successor 41 = .ok (.astore_n 2, 1) := dk_77 (dk_at dksJ5_successor_1 19 rfl rfl)
theorem dJ5_successor_42 : decode cJ5_successor 42 = .ok (.aload_n 1, 1) := dk_43 (dk_at dksJ5_successor_1 20 rfl rfl)
theorem dJ5_successor_43 : decode cJ5_successor 43 = .ok (.ifnull 21, 3) := dk_198 0 21 (dk_at dksJ5_successor_1 21 rfl rfl)
theorem dJ5_successor_46 : decode cJ5_successor 46 = .ok (.aload_n 2, 1) := dk_44 (dk_at dksJ5_successor_2 0 rfl rfl)
theorem dJ5_successor_47 : decode cJ5_successor 47 = .ok (.aload_n 1, 1) := dk_43 (dk_at dksJ5_successor_2 1 rfl rfl)
theorem dJ5_successor_48 : decode cJ5_successor 48 = .ok (.getfield 114, 3) := dk_180 0 114 (dk_at dksJ5_successor_2 2 rfl rfl)
theorem dJ5_successor_51 : decode cJ5_successor 51 = .ok (.if_acmp .ne 13, 3) := dk_166 0 13 (dk_at dksJ5_successor_2 5 rfl rfl)
theorem dJ5_successor_54 : decode cJ5_successor 54 = .ok (.aload_n 1, 1) := dk_43 (dk_at dksJ5_successor_2 8 rfl rfl)
theorem dJ5_successor_55 : decode cJ5_successor 55 = .ok (.astore_n 2, 1) := dk_77 (dk_at dksJ5_successor_2 9 rfl rfl)
theorem dJ5_successor_56 : decode cJ5_successor 56 = .ok (.aload_n 1, 1) := dk_43 (dk_at dksJ5_successor_2 10 rfl rfl)
theorem dJ5_successor_57 : decode cJ5_successor 57 = .ok (.getfield 124, 3) := dk_180 0 124 (dk_at dksJ5_successor_2 11 rfl rfl)
theorem dJ5_successor_60 : decode cJ5_successor 60 = .ok (.astore_n 1, 1) := dk_76 (dk_at dksJ5_successor_2 14 rfl rfl)
theorem dJ5_successor_61 : decode cJ5_successor 61 = .ok (.goto (-19), 3) := dk_167 255 237 (dk_at dksJ5_successor_2 15 rfl rfl)
theorem dJ5_successor_64 : decode cJ5_successor 64 = .ok (.aload_n 1, 1) := dk_43 (dk_at dksJ5_successor_2 18 rfl rfl)
theorem dJ5_successor_65 : decode cJ5_successor 65 = .ok (.areturn, 1) := dk_176 (dk_at dksJ5_successor_2 19 rfl rfl)
abbrev cJ5_subMap : ByteArray := prog_60_method_58_code
def yJ5_subMap : MethodName := ⟨RJ5, "subMap", "(Ljava/lang/Object;Ljava/lang/Object;)Ljava/util/SortedMap;"⟩
def dkwJ5_subMap_0 : List UInt8 := [42, 43, 4, 44, 3, 182, 0, 253, 176]
abbrev dktJ5_subMap_0 : List UInt8 := dkwJ5_subMap_0 ++ []
theorem dksJ5_subMap_0 : cJ5_subMap.data.toList.drop 0 = dktJ5_subMap_0 := by decide +kernel
theorem dJ5_subMap_0 : decode cJ5_subMap 0 = .ok (.aload_n 0, 1) := dk_42 (dk_at dksJ5_subMap_0 0 rfl rfl)
theorem dJ5_subMap_1 : decode cJ5_subMap 1 = .ok (.aload_n 1, 1) := dk_43 (dk_at dksJ5_subMap_0 1 rfl rfl)
theorem dJ5_subMap_2 : decode cJ5_subMap 2 = .ok (.iconst 1, 1) := dk_4 (dk_at dksJ5_subMap_0 2 rfl rfl)
theorem dJ5_subMap_3 : decode cJ5_subMap 3 = .ok (.aload_n 2, 1) := dk_44 (dk_at dksJ5_subMap_0 3 rfl rfl)
theorem dJ5_subMap_4 : decode cJ5_subMap 4 = .ok (.iconst 0, 1) := dk_3 (dk_at dksJ5_subMap_0 4 rfl rfl)
theorem dJ5_subMap_5 : decode cJ5_subMap 5 = .ok (.invokevirtual 253, 3) := dk_182 0 253 (dk_at dksJ5_subMap_0 5 rfl rfl)
theorem dJ5_subMap_8 : decode cJ5_subMap 8 = .ok (.areturn, 1) := dk_176 (dk_at dksJ5_subMap_0 8 rfl rfl)
abbrev cJ5_subMap_2 : ByteArray := prog_60_method_55_code
def yJ5_subMap_2 : MethodName := ⟨RJ5, "subMap", "(Ljava/lang/Object;ZLjava/lang/Object;Z)Ljava/util/NavigableMap;"⟩
def dkwJ5_subMap_2_0 : List UInt8 := [187, 0, 250, 89, 42, 3, 43, 28, 3, 45, 21, 4, 183, 0, 252, 176]
abbrev dktJ5_subMap_2_0 : List UInt8 := dkwJ5_subMap_2_0 ++ []
theorem dksJ5_subMap_2_0 : cJ5_subMap_2.data.toList.drop 0 = dktJ5_subMap_2_0 := by decide +kernel
theorem dJ5_subMap_2_0 : decode cJ5_subMap_2 0 = .ok (.new 250, 3) := dk_187 0 250 (dk_at dksJ5_subMap_2_0 0 rfl rfl)
theorem dJ5_subMap_2_3 : decode cJ5_subMap_2 3 = .ok (.dup, 1) := dk_89 (dk_at dksJ5_subMap_2_0 3 rfl rfl)
theorem dJ5_subMap_2_4 : decode cJ5_subMap_2 4 = .ok (.aload_n 0, 1) := dk_42 (dk_at dksJ5_subMap_2_0 4 rfl rfl)
theorem dJ5_subMap_2_5 : decode cJ5_subMap_2 5 = .ok (.iconst 0, 1) := dk_3 (dk_at dksJ5_subMap_2_0 5 rfl rfl)
theorem dJ5_subMap_2_6 : decode cJ5_subMap_2 6 = .ok (.aload_n 1, 1) := dk_43 (dk_at dksJ5_subMap_2_0 6 rfl rfl)
theorem dJ5_subMap_2_7 : decode cJ5_subMap_2 7 = .ok (.iload_n 2, 1) := dk_28 (dk_at dksJ5_subMap_2_0 7 rfl rfl)
theorem dJ5_subMap_2_8 : decode cJ5_subMap_2 8 = .ok (.iconst 0, 1) := dk_3 (dk_at dksJ5_subMap_2_0 8 rfl rfl)
theorem dJ5_subMap_2_9 : decode cJ5_subMap_2 9 = .ok (.aload_n 3, 1) := dk_45 (dk_at dksJ5_subMap_2_0 9 rfl rfl)
theorem dJ5_subMap_2_10 : decode cJ5_subMap_2 10 = .ok (.iload 4, 2) := dk_21 4 (dk_at dksJ5_subMap_2_0 10 rfl rfl)
theorem dJ5_subMap_2_12 : decode cJ5_subMap_2 12 = .ok (.invokespecial 252, 3) := dk_183 0 252 (dk_at dksJ5_subMap_2_0 12 rfl rfl)
theorem dJ5_subMap_2_15 : decode cJ5_subMap_2 15 = .ok (.areturn, 1) := dk_176 (dk_at dksJ5_subMap_2_0 15 rfl rfl)
abbrev cJ5_values : ByteArray := prog_60_method_52_code
def yJ5_values : MethodName := ⟨RJ5, "values", "()Ljava/util/Collection;"⟩
def dkwJ5_values_1 : List UInt8 := [176]
abbrev dktJ5_values_1 : List UInt8 := dkwJ5_values_1 ++ []
def dkwJ5_values_0 : List UInt8 := [42, 180, 0, 233, 76, 43, 199, 0, 17, 187, 0, 237, 89, 42, 183, 0, 239, 76, 42, 43, 181, 0, 233, 43]
abbrev dktJ5_values_0 : List UInt8 := dkwJ5_values_0 ++ dktJ5_values_1
theorem dksJ5_values_0 : cJ5_values.data.toList.drop 0 = dktJ5_values_0 := by decide +kernel
theorem dksJ5_values_1 : cJ5_values.data.toList.drop 24 = dktJ5_values_1 := dk_seg dksJ5_values_0 24 rfl rfl
theorem dJ5_values_0 : decode cJ5_values 0 = .ok (.aload_n 0, 1) := dk_42 (dk_at dksJ5_values_0 0 rfl rfl)
theorem dJ5_values_1 : decode cJ5_values 1 = .ok (.getfield 233, 3) := dk_180 0 233 (dk_at dksJ5_values_0 1 rfl rfl)
theorem dJ5_values_4 : decode cJ5_values 4 = .ok (.astore_n 1, 1) := dk_76 (dk_at dksJ5_values_0 4 rfl rfl)
theorem dJ5_values_5 : decode cJ5_values 5 = .ok (.aload_n 1, 1) := dk_43 (dk_at dksJ5_values_0 5 rfl rfl)
theorem dJ5_values_6 : decode cJ5_values 6 = .ok (.ifnonnull 17, 3) := dk_199 0 17 (dk_at dksJ5_values_0 6 rfl rfl)
theorem dJ5_values_9 : decode cJ5_values 9 = .ok (.new 237, 3) := dk_187 0 237 (dk_at dksJ5_values_0 9 rfl rfl)
theorem dJ5_values_12 : decode cJ5_values 12 = .ok (.dup, 1) := dk_89 (dk_at dksJ5_values_0 12 rfl rfl)
theorem dJ5_values_13 : decode cJ5_values 13 = .ok (.aload_n 0, 1) := dk_42 (dk_at dksJ5_values_0 13 rfl rfl)
theorem dJ5_values_14 : decode cJ5_values 14 = .ok (.invokespecial 239, 3) := dk_183 0 239 (dk_at dksJ5_values_0 14 rfl rfl)
theorem dJ5_values_17 : decode cJ5_values 17 = .ok (.astore_n 1, 1) := dk_76 (dk_at dksJ5_values_0 17 rfl rfl)
theorem dJ5_values_18 : decode cJ5_values 18 = .ok (.aload_n 0, 1) := dk_42 (dk_at dksJ5_values_0 18 rfl rfl)
theorem dJ5_values_19 : decode cJ5_values 19 = .ok (.aload_n 1, 1) := dk_43 (dk_at dksJ5_values_0 19 rfl rfl)
theorem dJ5_values_20 : decode cJ5_values 20 = .ok (.putfield 233, 3) := dk_181 0 233 (dk_at dksJ5_values_0 20 rfl rfl)
theorem dJ5_values_23 : decode cJ5_values 23 = .ok (.aload_n 1, 1) := dk_43 (dk_at dksJ5_values_0 23 rfl rfl)
theorem dJ5_values_24 : decode cJ5_values 24 = .ok (.areturn, 1) := dk_176 (dk_at dksJ5_values_1 0 rfl rfl)
abbrev cJ5_entrySet : ByteArray := prog_60_method_53_code
def yJ5_entrySet : MethodName := ⟨RJ5, "entrySet", "()Ljava/util/Set;"⟩
def dkwJ5_entrySet_1 : List UInt8 := [181, 0, 188, 176]
abbrev dktJ5_entrySet_1 : List UInt8 := dkwJ5_entrySet_1 ++ []
def dkwJ5_entrySet_0 : List UInt8 := [42, 180, 0, 188, 76, 43, 198, 0, 7, 43, 167, 0, 16, 42, 187, 0, 242, 89, 42, 183, 0, 244, 90]
abbrev dktJ5_entrySet_0 : List UInt8 := dkwJ5_entrySet_0 ++ dktJ5_entrySet_1
theorem dksJ5_entrySet_0 : cJ5_entrySet.data.toList.drop 0 = dktJ5_entrySet_0 := by decide +kernel
theorem dksJ5_entrySet_1 : cJ5_entrySet.data.toList.drop 23 = dktJ5_entrySet_1 := dk_seg dksJ5_entrySet_0 23 rfl rfl
theorem dJ5_entrySet_0 : decode cJ5_entrySet 0 = .ok (.aload_n 0, 1) := dk_42 (dk_at dksJ5_entrySet_0 0 rfl rfl)
theorem dJ5_entrySet_1 : decode cJ5_entrySet 1 = .ok (.getfield 188, 3) := dk_180 0 188 (dk_at dksJ5_entrySet_0 1 rfl rfl)
theorem dJ5_entrySet_4 : decode cJ5_entrySet 4 = .ok (.astore_n 1, 1) := dk_76 (dk_at dksJ5_entrySet_0 4 rfl rfl)
theorem dJ5_entrySet_5 : decode cJ5_entrySet 5 = .ok (.aload_n 1, 1) := dk_43 (dk_at dksJ5_entrySet_0 5 rfl rfl)
theorem dJ5_entrySet_6 : decode cJ5_entrySet 6 = .ok (.ifnull 7, 3) := dk_198 0 7 (dk_at dksJ5_entrySet_0 6 rfl rfl)
theorem dJ5_entrySet_9 : decode cJ5_entrySet 9 = .ok (.aload_n 1, 1) := dk_43 (dk_at dksJ5_entrySet_0 9 rfl rfl)
theorem dJ5_entrySet_10 : decode cJ5_entrySet 10 = .ok (.goto 16, 3) := dk_167 0 16 (dk_at dksJ5_entrySet_0 10 rfl rfl)
theorem dJ5_entrySet_13 : decode cJ5_entrySet 13 = .ok (.aload_n 0, 1) := dk_42 (dk_at dksJ5_entrySet_0 13 rfl rfl)
theorem dJ5_entrySet_14 : decode cJ5_entrySet 14 = .ok (.new 242, 3) := dk_187 0 242 (dk_at dksJ5_entrySet_0 14 rfl rfl)
theorem dJ5_entrySet_17 : decode cJ5_entrySet 17 = .ok (.dup, 1) := dk_89 (dk_at dksJ5_entrySet_0 17 rfl rfl)
theorem dJ5_entrySet_18 : decode cJ5_entrySet 18 = .ok (.aload_n 0, 1) := dk_42 (dk_at dksJ5_entrySet_0 18 rfl rfl)
theorem dJ5_entrySet_19 : decode cJ5_entrySet 19 = .ok (.invokespecial 244, 3) := dk_183 0 244 (dk_at dksJ5_entrySet_0 19 rfl rfl)
theorem dJ5_entrySet_22 : decode cJ5_entrySet 22 = .ok (.dup_x1, 1) := dk_90 (dk_at dksJ5_entrySet_0 22 rfl rfl)
theorem dJ5_entrySet_23 : decode cJ5_entrySet 23 = .ok (.putfield 188, 3) := dk_181 0 188 (dk_at dksJ5_entrySet_1 0 rfl rfl)
theorem dJ5_entrySet_26 : decode cJ5_entrySet 26 = .ok (.areturn, 1) := dk_176 (dk_at dksJ5_entrySet_1 3 rfl rfl)
abbrev cJ5_keyIterator : ByteArray := prog_60_method_65_code
def yJ5_keyIterator : MethodName := ⟨RJ5, "keyIterator", "()Ljava/util/Iterator;"⟩
def dkwJ5_keyIterator_0 : List UInt8 := [187, 1, 13, 89, 42, 42, 182, 0, 54, 183, 1, 15, 176]
abbrev dktJ5_keyIterator_0 : List UInt8 := dkwJ5_keyIterator_0 ++ []
theorem dksJ5_keyIterator_0 : cJ5_keyIterator.data.toList.drop 0 = dktJ5_keyIterator_0 := by decide +kernel
theorem dJ5_keyIterator_0 : decode cJ5_keyIterator 0 = .ok (.new 269, 3) := dk_187 1 13 (dk_at dksJ5_keyIterator_0 0 rfl rfl)
theorem dJ5_keyIterator_3 : decode cJ5_keyIterator 3 = .ok (.dup, 1) := dk_89 (dk_at dksJ5_keyIterator_0 3 rfl rfl)
theorem dJ5_keyIterator_4 : decode cJ5_keyIterator 4 = .ok (.aload_n 0, 1) := dk_42 (dk_at dksJ5_keyIterator_0 4 rfl rfl)
theorem dJ5_keyIterator_5 : decode cJ5_keyIterator 5 = .ok (.aload_n 0, 1) := dk_42 (dk_at dksJ5_keyIterator_0 5 rfl rfl)
theorem dJ5_keyIterator_6 : decode cJ5_keyIterator 6 = .ok (.invokevirtual 54, 3) := dk_182 0 54 (dk_at dksJ5_keyIterator_0 6 rfl rfl)
theorem dJ5_keyIterator_9 : decode cJ5_keyIterator 9 = .ok (.invokespecial 271, 3) := dk_183 1 15 (dk_at dksJ5_keyIterator_0 9 rfl rfl)
theorem dJ5_keyIterator_12 : decode cJ5_keyIterator 12 = .ok (.areturn, 1) := dk_176 (dk_at dksJ5_keyIterator_0 12 rfl rfl)
abbrev cJ5_clear : ByteArray := prog_60_method_35_code
def yJ5_clear : MethodName := ⟨RJ5, "clear", "()V"⟩
def dkwJ5_clear_0 : List UInt8 := [42, 89, 180, 0, 13, 4, 96, 181, 0, 13, 42, 3, 181, 0, 7, 42, 1, 181, 0, 101, 177]
abbrev dktJ5_clear_0 : List UInt8 := dkwJ5_clear_0 ++ []
theorem dksJ5_clear_0 : cJ5_clear.data.toList.drop 0 = dktJ5_clear_0 := by decide +kernel
theorem dJ5_clear_0 : decode cJ5_clear 0 = .ok (.aload_n 0, 1) := dk_42 (dk_at dksJ5_clear_0 0 rfl rfl)
theorem dJ5_clear_1 : decode cJ5_clear 1 = .ok (.dup, 1) := dk_89 (dk_at dksJ5_clear_0 1 rfl rfl)
theorem dJ5_clear_2 : decode cJ5_clear 2 = .ok (.getfield 13, 3) := dk_180 0 13 (dk_at dksJ5_clear_0 2 rfl rfl)
theorem dJ5_clear_5 : decode cJ5_clear 5 = .ok (.iconst 1, 1) := dk_4 (dk_at dksJ5_clear_0 5 rfl rfl)
theorem dJ5_clear_6 : decode cJ5_clear 6 = .ok (.iadd, 1) := dk_96 (dk_at dksJ5_clear_0 6 rfl rfl)
theorem dJ5_clear_7 : decode cJ5_clear 7 = .ok (.putfield 13, 3) := dk_181 0 13 (dk_at dksJ5_clear_0 7 rfl rfl)
theorem dJ5_clear_10 : decode cJ5_clear 10 = .ok (.aload_n 0, 1) := dk_42 (dk_at dksJ5_clear_0 10 rfl rfl)
theorem dJ5_clear_11 : decode cJ5_clear 11 = .ok (.iconst 0, 1) := dk_3 (dk_at dksJ5_clear_0 11 rfl rfl)
theorem dJ5_clear_12 : decode cJ5_clear 12 = .ok (.putfield 7, 3) := dk_181 0 7 (dk_at dksJ5_clear_0 12 rfl rfl)
theorem dJ5_clear_15 : decode cJ5_clear 15 = .ok (.aload_n 0, 1) := dk_42 (dk_at dksJ5_clear_0 15 rfl rfl)
theorem dJ5_clear_16 : decode cJ5_clear 16 = .ok (.aconst_null, 1) := dk_1 (dk_at dksJ5_clear_0 16 rfl rfl)
theorem dJ5_clear_17 : decode cJ5_clear 17 = .ok (.putfield 101, 3) := dk_181 0 101 (dk_at dksJ5_clear_0 17 rfl rfl)
theorem dJ5_clear_20 : decode cJ5_clear 20 = .ok (.return_, 1) := dk_177 (dk_at dksJ5_clear_0 20 rfl rfl)
abbrev cJ5_deleteEntry : ByteArray := prog_60_method_84_code
def yJ5_deleteEntry : MethodName := ⟨RJ5, "deleteEntry", "(Ljava/util/TreeMap$Entry;)V"⟩
def dkwJ5_deleteEntry_10 : List UInt8 := [180, 0, 124, 1, 181, 0, 114, 43, 1, 181, 0, 124, 177]
abbrev dktJ5_deleteEntry_10 : List UInt8 := dkwJ5_deleteEntry_10 ++ []
def dkwJ5_deleteEntry_9 : List UInt8 := [180, 0, 124, 1, 181, 0, 111, 167, 0, 22, 43, 43, 180, 0, 124, 180, 0, 114, 166, 0, 11, 43]
abbrev dktJ5_deleteEntry_9 : List UInt8 := dkwJ5_deleteEntry_9 ++ dktJ5_deleteEntry_10
def dkwJ5_deleteEntry_8 : List UInt8 := [182, 1, 61, 43, 180, 0, 124, 198, 0, 49, 43, 43, 180, 0, 124, 180, 0, 111, 166, 0, 14, 43]
abbrev dktJ5_deleteEntry_8 : List UInt8 := dkwJ5_deleteEntry_8 ++ dktJ5_deleteEntry_9
def dkwJ5_deleteEntry_7 : List UInt8 := [180, 0, 124, 199, 0, 11, 42, 1, 181, 0, 101, 167, 0, 69, 43, 180, 1, 34, 4, 160, 0, 8, 42, 43]
abbrev dktJ5_deleteEntry_7 : List UInt8 := dkwJ5_deleteEntry_7 ++ dktJ5_deleteEntry_8
def dkwJ5_deleteEntry_6 : List UInt8 := [181, 0, 114, 181, 0, 111, 43, 180, 1, 34, 4, 160, 0, 92, 42, 44, 182, 1, 61, 167, 0, 84, 43]
abbrev dktJ5_deleteEntry_6 : List UInt8 := dkwJ5_deleteEntry_6 ++ dktJ5_deleteEntry_7
def dkwJ5_deleteEntry_5 : List UInt8 := [181, 0, 111, 167, 0, 11, 43, 180, 0, 124, 44, 181, 0, 114, 43, 43, 43, 1, 90, 181, 0, 124, 90]
abbrev dktJ5_deleteEntry_5 : List UInt8 := dkwJ5_deleteEntry_5 ++ dktJ5_deleteEntry_6
def dkwJ5_deleteEntry_4 : List UInt8 := [44, 181, 0, 101, 167, 0, 33, 43, 43, 180, 0, 124, 180, 0, 111, 166, 0, 14, 43, 180, 0, 124, 44]
abbrev dktJ5_deleteEntry_4 : List UInt8 := dkwJ5_deleteEntry_4 ++ dktJ5_deleteEntry_5
def dkwJ5_deleteEntry_3 : List UInt8 := [180, 0, 114, 77, 44, 198, 0, 87, 44, 43, 180, 0, 124, 181, 0, 124, 43, 180, 0, 124, 199, 0, 11, 42]
abbrev dktJ5_deleteEntry_3 : List UInt8 := dkwJ5_deleteEntry_3 ++ dktJ5_deleteEntry_4
def dkwJ5_deleteEntry_2 : List UInt8 := [44, 180, 0, 58, 181, 0, 58, 44, 76, 43, 180, 0, 111, 198, 0, 10, 43, 180, 0, 111, 167, 0, 7, 43]
abbrev dktJ5_deleteEntry_2 : List UInt8 := dkwJ5_deleteEntry_2 ++ dktJ5_deleteEntry_3
def dkwJ5_deleteEntry_1 : List UInt8 := [198, 0, 33, 43, 180, 0, 114, 198, 0, 26, 43, 184, 0, 68, 77, 43, 44, 180, 0, 105, 181, 0, 105, 43]
abbrev dktJ5_deleteEntry_1 : List UInt8 := dkwJ5_deleteEntry_1 ++ dktJ5_deleteEntry_2
def dkwJ5_deleteEntry_0 : List UInt8 := [42, 89, 180, 0, 13, 4, 96, 181, 0, 13, 42, 89, 180, 0, 7, 4, 100, 181, 0, 7, 43, 180, 0, 111]
abbrev dktJ5_deleteEntry_0 : List UInt8 := dkwJ5_deleteEntry_0 ++ dktJ5_deleteEntry_1
theorem dksJ5_deleteEntry_0 : cJ5_deleteEntry.data.toList.drop 0 = dktJ5_deleteEntry_0 := by decide +kernel
theorem dksJ5_deleteEntry_1 : cJ5_deleteEntry.data.toList.drop 24 = dktJ5_deleteEntry_1 := dk_seg dksJ5_deleteEntry_0 24 rfl rfl
theorem dksJ5_deleteEntry_2 : cJ5_deleteEntry.data.toList.drop 48 = dktJ5_deleteEntry_2 := dk_seg dksJ5_deleteEntry_1 24 rfl rfl
theorem dksJ5_deleteEntry_3 : cJ5_deleteEntry.data.toList.drop 72 = dktJ5_deleteEntry_3 := dk_seg dksJ5_deleteEntry_2 24 rfl rfl
theorem dksJ5_deleteEntry_4 : cJ5_deleteEntry.data.toList.drop 96 = dktJ5_deleteEntry_4 := dk_seg dksJ5_deleteEntry_3 24 rfl rfl
theorem dksJ5_deleteEntry_5 : cJ5_deleteEntry.data.toList.drop 119 = dktJ5_deleteEntry_5 := dk_seg dksJ5_deleteEntry_4 23 rfl rfl
theorem dksJ5_deleteEntry_6 : cJ5_deleteEntry.data.toList.drop 142 = dktJ5_deleteEntry_6 := dk_seg dksJ5_deleteEntry_5 23 rfl rfl
theorem dksJ5_deleteEntry_7 : cJ5_deleteEntry.data.toList.drop 165 = dktJ5_deleteEntry_7 := dk_seg dksJ5_deleteEntry_6 23 rfl rfl
theorem dksJ5_deleteEntry_8 : cJ5_deleteEntry.data.toList.drop 189 = dktJ5_deleteEntry_8 := dk_seg dksJ5_deleteEntry_7 24 rfl rfl
theorem dksJ5_deleteEntry_9 : cJ5_deleteEntry.data.toList.drop 211 = dktJ5_deleteEntry_9 := dk_seg dksJ5_deleteEntry_8 22 rfl rfl
theorem dksJ5_deleteEntry_10 : cJ5_deleteEntry.data.toList.drop 233 = dktJ5_deleteEntry_10 := dk_seg dksJ5_deleteEntry_9 22 rfl rfl
theorem dJ5_deleteEntry_0 : decode cJ5_deleteEntry 0 = .ok (.aload_n 0, 1) := dk_42 (dk_at dksJ5_deleteEntry_0 0 rfl rfl)
theorem dJ5_deleteEntry_1 : decode cJ5_deleteEntry 1 = .ok (.dup, 1) := dk_89 (dk_at dksJ5_deleteEntry_0 1 rfl rfl)
theorem dJ5_deleteEntry_2 : decode cJ5_deleteEntry 2 = .ok (.getfield 13, 3) := dk_180 0 13 (dk_at dksJ5_deleteEntry_0 2 rfl rfl)
theorem dJ5_deleteEntry_5 : decode cJ5_deleteEntry 5 = .ok (.iconst 1, 1) := dk_4 (dk_at dksJ5_deleteEntry_0 5 rfl rfl)
theorem dJ5_deleteEntry_6 : decode cJ5_deleteEntry 6 = .ok (.iadd, 1) := dk_96 (dk_at dksJ5_deleteEntry_0 6 rfl rfl)
theorem dJ5_deleteEntry_7 : decode cJ5_deleteEntry 7 = .ok (.putfield 13, 3) := dk_181 0 13 (dk_at dksJ5_deleteEntry_0 7 rfl rfl)
theorem dJ5_deleteEntry_10 : decode cJ5_deleteEntry 10 = .ok (.aload_n 0, 1) := dk_42 (dk_at dksJ5_deleteEntry_0 10 rfl rfl)
theorem dJ5_deleteEntry_11 : decode cJ5_deleteEntry 11 = .ok (.dup, 1) := dk_89 (dk_at dksJ5_deleteEntry_0 11 rfl rfl)
theorem dJ5_deleteEntry_12 : decode cJ5_deleteEntry 12 = .ok (.getfield 7, 3) := dk_180 0 7 (dk_at dksJ5_deleteEntry_0 12 rfl rfl)
theorem dJ5_deleteEntry_15 : decode cJ5_deleteEntry 15 = .ok (.iconst 1, 1) := dk_4 (dk_at dksJ5_deleteEntry_0 15 rfl rfl)
theorem dJ5_deleteEntry_16 : decode cJ5_deleteEntry 16 = .ok (.isub, 1) := dk_100 (dk_at dksJ5_deleteEntry_0 16 rfl rfl)
theorem dJ5_deleteEntry_17 : decode cJ5_deleteEntry 17 = .ok (.putfield 7, 3) := dk_181 0 7 (dk_at dksJ5_deleteEntry_0 17 rfl rfl)
theorem dJ5_deleteEntry_20 : decode cJ5_deleteEntry 20 = .ok (.aload_n 1, 1) := dk_43 (dk_at dksJ5_deleteEntry_0 20 rfl rfl)
theorem dJ5_deleteEntry_21 : decode cJ5_deleteEntry 21 = .ok (.getfield 111, 3) := dk_180 0 111 (dk_at dksJ5_deleteEntry_0 21 rfl rfl)
theorem dJ5_deleteEntry_24 : decode cJ5_deleteEntry 24 = .ok (.ifnull 33, 3) := dk_198 0 33 (dk_at dksJ5_deleteEntry_1 0 rfl rfl)
theorem dJ5_deleteEntry_27 : decode cJ5_deleteEntry 27 = .ok (.aload_n 1, 1) := dk_43 (dk_at dksJ5_deleteEntry_1 3 rfl rfl)
theorem dJ5_deleteEntry_28 : decode cJ5_deleteEntry 28 = .ok (.getfield 114, 3) := dk_180 0 114 (dk_at dksJ5_deleteEntry_1 4 rfl rfl)
theorem dJ5_deleteEntry_31 : decode cJ5_deleteEntry 31 = .ok (.ifnull 26, 3) := dk_198 0 26 (dk_at dksJ5_deleteEntry_1 7 rfl rfl)
theorem dJ5_deleteEntry_34 : decode cJ5_deleteEntry 34 = .ok (.aload_n 1, 1) := dk_43 (dk_at dksJ5_deleteEntry_1 10 rfl rfl)
theorem dJ5_deleteEntry_35 : decode cJ5_deleteEntry 35 = .ok (.invokestatic 68, 3) := dk_184 0 68 (dk_at dksJ5_deleteEntry_1 11 rfl rfl)
theorem dJ5_deleteEntry_38 : decode cJ5_deleteEntry 38 = .ok (.astore_n 2, 1) := dk_77 (dk_at dksJ5_deleteEntry_1 14 rfl rfl)
theorem dJ5_deleteEntry_39 : decode cJ5_deleteEntry 39 = .ok (.aload_n 1, 1) := dk_43 (dk_at dksJ5_deleteEntry_1 15 rfl rfl)
theorem dJ5_deleteEntry_40 : decode cJ5_deleteEntry 40 = .ok (.aload_n 2, 1) := dk_44 (dk_at dksJ5_deleteEntry_1 16 rfl rfl)
theorem dJ5_deleteEntry_41 : decode cJ5_deleteEntry 41 = .ok (.getfield 105, 3) := dk_180 0 105 (dk_at dksJ5_deleteEntry_1 17 rfl rfl)
theorem dJ5_deleteEntry_44 : decode cJ5_deleteEntry 44 = .ok (.putfield 105, 3) := dk_181 0 105 (dk_at dksJ5_deleteEntry_1 20 rfl rfl)
theorem dJ5_deleteEntry_47 : decode cJ5_deleteEntry 47 = .ok (.aload_n 1, 1) := dk_43 (dk_at dksJ5_deleteEntry_1 23 rfl rfl)
theorem dJ5_deleteEntry_48 : decode cJ5_deleteEntry 48 = .ok (.aload_n 2, 1) := dk_44 (dk_at dksJ5_deleteEntry_2 0 rfl rfl)
theorem dJ5_deleteEntry_49 : decode cJ5_deleteEntry 49 = .ok (.getfield 58, 3) := dk_180 0 58 (dk_at dksJ5_deleteEntry_2 1 rfl rfl)
theorem dJ5_deleteEntry_52 : decode cJ5_deleteEntry 52 = .ok (.putfield 58, 3) := dk_181 0 58 (dk_at dksJ5_deleteEntry_2 4 rfl rfl)
theorem dJ5_deleteEntry_55 : decode cJ5_deleteEntry 55 = .ok (.aload_n 2, 1) := dk_44 (dk_at dksJ5_deleteEntry_2 7 rfl rfl)
theorem dJ5_deleteEntry_56 : decode cJ5_deleteEntry 56 = .ok (.astore_n 1, 1) := dk_76 (dk_at dksJ5_deleteEntry_2 8 rfl rfl)
theorem dJ5_deleteEntry_57 : decode cJ5_deleteEntry 57 = .ok (.aload_n 1, 1) := dk_43 (dk_at dksJ5_deleteEntry_2 9 rfl rfl)
theorem dJ5_deleteEntry_58 : decode cJ5_deleteEntry 58 = .ok (.getfield 111, 3) := dk_180 0 111 (dk_at dksJ5_deleteEntry_2 10 rfl rfl)
theorem dJ5_deleteEntry_61 : decode cJ5_deleteEntry 61 = .ok (.ifnull 10, 3) := dk_198 0 10 (dk_at dksJ5_deleteEntry_2 13 rfl rfl)
theorem dJ5_deleteEntry_64 : decode cJ5_deleteEntry 64 = .ok (.aload_n 1, 1) := dk_43 (dk_at dksJ5_deleteEntry_2 16 rfl rfl)
theorem dJ5_deleteEntry_65 : decode cJ5_deleteEntry 65 = .ok (.getfield 111, 3) := dk_180 0 111 (dk_at dksJ5_deleteEntry_2 17 rfl rfl)
theorem dJ5_deleteEntry_68 : decode cJ5_deleteEntry 68 = .ok (.goto 7, 3) := dk_167 0 7 (dk_at dksJ5_deleteEntry_2 20 rfl rfl)
theorem dJ5_deleteEntry_71 : decode cJ5_deleteEntry 71 = .ok (.aload_n 1, 1) := dk_43 (dk_at dksJ5_deleteEntry_2 23 rfl rfl)
theorem dJ5_deleteEntry_72 : decode cJ5_deleteEntry 72 = .ok (.getfield 114, 3) := dk_180 0 114 (dk_at dksJ5_deleteEntry_3 0 rfl rfl)
theorem dJ5_deleteEntry_75 : decode cJ5_deleteEntry 75 = .ok (.astore_n 2, 1) := dk_77 (dk_at dksJ5_deleteEntry_3 3 rfl rfl)
theorem dJ5_deleteEntry_76 : decode cJ5_deleteEntry 76 = .ok (.aload_n 2, 1) := dk_44 (dk_at dksJ5_deleteEntry_3 4 rfl rfl)
theorem dJ5_deleteEntry_77 : decode cJ5_deleteEntry 77 = .ok (.ifnull 87, 3) := dk_198 0 87 (dk_at dksJ5_deleteEntry_3 5 rfl rfl)
theorem dJ5_deleteEntry_80 : decode cJ5_deleteEntry 80 = .ok (.aload_n 2, 1) := dk_44 (dk_at dksJ5_deleteEntry_3 8 rfl rfl)
theorem dJ5_deleteEntry_81 : decode cJ5_deleteEntry 81 = .ok (.aload_n 1, 1) := dk_43 (dk_at dksJ5_deleteEntry_3 9 rfl rfl)
theorem dJ5_deleteEntry_82 : decode cJ5_deleteEntry 82 = .ok (.getfield 124, 3) := dk_180 0 124 (dk_at dksJ5_deleteEntry_3 10 rfl rfl)
theorem dJ5_deleteEntry_85 : decode cJ5_deleteEntry 85 = .ok (.putfield 124, 3) := dk_181 0 124 (dk_at dksJ5_deleteEntry_3 13 rfl rfl)
theorem dJ5_deleteEntry_88 : decode cJ5_deleteEntry 88 = .ok (.aload_n 1, 1) := dk_43 (dk_at dksJ5_deleteEntry_3 16 rfl rfl)
theorem dJ5_deleteEntry_89 : decode cJ5_deleteEntry 89 = .ok (.getfield 124, 3) := dk_180 0 124 (dk_at dksJ5_deleteEntry_3 17 rfl rfl)
theorem dJ5_deleteEntry_92 : decode cJ5_deleteEntry 92 = .ok (.ifnonnull 11, 3) := dk_199 0 11 (dk_at dksJ5_deleteEntry_3 20 rfl rfl)
theorem dJ5_deleteEntry_95 : decode cJ5_deleteEntry 95 = .ok (.aload_n 0, 1) := dk_42 (dk_at dksJ5_deleteEntry_3 23 rfl rfl)
theorem dJ5_deleteEntry_96 : decode cJ5_deleteEntry 96 = .ok (.aload_n 2, 1) := dk_44 (dk_at dksJ5_deleteEntry_4 0 rfl rfl)
theorem dJ5_deleteEntry_97 : decode cJ5_deleteEntry 97 = .ok (.putfield 101, 3) := dk_181 0 101 (dk_at dksJ5_deleteEntry_4 1 rfl rfl)
theorem dJ5_deleteEntry_100 : decode cJ5_deleteEntry 100 = .ok (.goto 33, 3) := dk_167 0 33 (dk_at dksJ5_deleteEntry_4 4 rfl rfl)
theorem dJ5_deleteEntry_103 : decode cJ5_deleteEntry 103 = .ok (.aload_n 1, 1) := dk_43 (dk_at dksJ5_deleteEntry_4 7 rfl rfl)
theorem dJ5_deleteEntry_104 : decode cJ5_deleteEntry 104 = .ok (.aload_n 1, 1) := dk_43 (dk_at dksJ5_deleteEntry_4 8 rfl rfl)
theorem dJ5_deleteEntry_105 : decode cJ5_deleteEntry 105 = .ok (.getfield 124, 3) := dk_180 0 124 (dk_at dksJ5_deleteEntry_4 9 rfl rfl)
theorem dJ5_deleteEntry_108 : decode cJ5_deleteEntry 108 = .ok (.getfield 111, 3) := dk_180 0 111 (dk_at dksJ5_deleteEntry_4 12 rfl rfl)
theorem dJ5_deleteEntry_111 : decode cJ5_deleteEntry 111 = .ok (.if_acmp .ne 14, 3) := dk_166 0 14 (dk_at dksJ5_deleteEntry_4 15 rfl rfl)
theorem dJ5_deleteEntry_114 : decode cJ5_deleteEntry 114 = .ok (.aload_n 1, 1) := dk_43 (dk_at dksJ5_deleteEntry_4 18 rfl rfl)
theorem dJ5_deleteEntry_115 : decode cJ5_deleteEntry 115 = .ok (.getfield 124, 3) := dk_180 0 124 (dk_at dksJ5_deleteEntry_4 19 rfl rfl)
theorem dJ5_deleteEntry_118 : decode cJ5_deleteEntry 118 = .ok (.aload_n 2, 1) := dk_44 (dk_at dksJ5_deleteEntry_4 22 rfl rfl)
theorem dJ5_deleteEntry_119 : decode cJ5_deleteEntry 119 = .ok (.putfield 111, 3) := dk_181 0 111 (dk_at dksJ5_deleteEntry_5 0 rfl rfl)
theorem dJ5_deleteEntry_122 : decode cJ5_deleteEntry 122 = .ok (.goto 11, 3) := dk_167 0 11 (dk_at dksJ5_deleteEntry_5 3 rfl rfl)
theorem dJ5_deleteEntry_125 : decode cJ5_deleteEntry 125 = .ok (.aload_n 1, 1) := dk_43 (dk_at dksJ5_deleteEntry_5 6 rfl rfl)
theorem dJ5_deleteEntry_126 : decode cJ5_deleteEntry 126 = .ok (.getfield 124, 3) := dk_180 0 124 (dk_at dksJ5_deleteEntry_5 7 rfl rfl)
theorem dJ5_deleteEntry_129 : decode cJ5_deleteEntry 129 = .ok (.aload_n 2, 1) := dk_44 (dk_at dksJ5_deleteEntry_5 10 rfl rfl)
theorem dJ5_deleteEntry_130 : decode cJ5_deleteEntry 130 = .ok (.putfield 114, 3) := dk_181 0 114 (dk_at dksJ5_deleteEntry_5 11 rfl rfl)
theorem dJ5_deleteEntry_133 : decode cJ5_deleteEntry 133 = .ok (.aload_n 1, 1) := dk_43 (dk_at dksJ5_deleteEntry_5 14 rfl rfl)
theorem dJ5_deleteEntry_134 : decode cJ5_deleteEntry 134 = .ok (.aload_n 1, 1) := dk_43 (dk_at dksJ5_deleteEntry_5 15 rfl rfl)
theorem dJ5_deleteEntry_135 : decode cJ5_deleteEntry 135 = .ok (.aload_n 1, 1) := dk_43 (dk_at dksJ5_deleteEntry_5 16 rfl rfl)
theorem dJ5_deleteEntry_136 : decode cJ5_deleteEntry 136 = .ok (.aconst_null, 1) := dk_1 (dk_at dksJ5_deleteEntry_5 17 rfl rfl)
theorem dJ5_deleteEntry_137 : decode cJ5_deleteEntry 137 = .ok (.dup_x1, 1) := dk_90 (dk_at dksJ5_deleteEntry_5 18 rfl rfl)
theorem dJ5_deleteEntry_138 : decode cJ5_deleteEntry 138 = .ok (.putfield 124, 3) := dk_181 0 124 (dk_at dksJ5_deleteEntry_5 19 rfl rfl)
theorem dJ5_deleteEntry_141 : decode cJ5_deleteEntry 141 = .ok (.dup_x1, 1) := dk_90 (dk_at dksJ5_deleteEntry_5 22 rfl rfl)
theorem dJ5_deleteEntry_142 : decode cJ5_deleteEntry 142 = .ok (.putfield 114, 3) := dk_181 0 114 (dk_at dksJ5_deleteEntry_6 0 rfl rfl)
theorem dJ5_deleteEntry_145 : decode cJ5_deleteEntry 145 = .ok (.putfield 111, 3) := dk_181 0 111 (dk_at dksJ5_deleteEntry_6 3 rfl rfl)
theorem dJ5_deleteEntry_148 : decode cJ5_deleteEntry 148 = .ok (.aload_n 1, 1) := dk_43 (dk_at dksJ5_deleteEntry_6 6 rfl rfl)
theorem dJ5_deleteEntry_149 : decode cJ5_deleteEntry 149 = .ok (.getfield 290, 3) := dk_180 1 34 (dk_at dksJ5_deleteEntry_6 7 rfl rfl)
theorem dJ5_deleteEntry_152 : decode cJ5_deleteEntry 152 = .ok (.iconst 1, 1) := dk_4 (dk_at dksJ5_deleteEntry_6 10 rfl rfl)
theorem dJ5_deleteEntry_153 : decode cJ5_deleteEntry 153 = .ok (.if_icmp .ne 92, 3) := dk_160 0 92 (dk_at dksJ5_deleteEntry_6 11 rfl rfl)
theorem dJ5_deleteEntry_156 : decode cJ5_deleteEntry 156 = .ok (.aload_n 0, 1) := dk_42 (dk_at dksJ5_deleteEntry_6 14 rfl rfl)
theorem dJ5_deleteEntry_157 : decode cJ5_deleteEntry 157 = .ok (.aload_n 2, 1) := dk_44 (dk_at dksJ5_deleteEntry_6 15 rfl rfl)
theorem dJ5_deleteEntry_158 : decode cJ5_deleteEntry 158 = .ok (.invokevirtual 317, 3) := dk_182 1 61 (dk_at dksJ5_deleteEntry_6 16 rfl rfl)
theorem dJ5_deleteEntry_161 : decode cJ5_deleteEntry 161 = .ok (.goto 84, 3) := dk_167 0 84 (dk_at dksJ5_deleteEntry_6 19 rfl rfl)
theorem dJ5_deleteEntry_164 : decode cJ5_deleteEntry 164 = .ok (.aload_n 1, 1) := dk_43 (dk_at dksJ5_deleteEntry_6 22 rfl rfl)
theorem dJ5_deleteEntry_165 : decode cJ5_deleteEntry 165 = .ok (.getfield 124, 3) := dk_180 0 124 (dk_at dksJ5_deleteEntry_7 0 rfl rfl)
theorem dJ5_deleteEntry_168 : decode cJ5_deleteEntry 168 = .ok (.ifnonnull 11, 3) := dk_199 0 11 (dk_at dksJ5_deleteEntry_7 3 rfl rfl)
theorem dJ5_deleteEntry_171 : decode cJ5_deleteEntry 171 = .ok (.aload_n 0, 1) := dk_42 (dk_at dksJ5_deleteEntry_7 6 rfl rfl)
theorem dJ5_deleteEntry_172 : decode cJ5_deleteEntry 172 = .ok (.aconst_null, 1) := dk_1 (dk_at dksJ5_deleteEntry_7 7 rfl rfl)
theorem dJ5_deleteEntry_173 : decode cJ5_deleteEntry 173 = .ok (.putfield 101, 3) := dk_181 0 101 (dk_at dksJ5_deleteEntry_7 8 rfl rfl)
theorem dJ5_deleteEntry_176 : decode cJ5_deleteEntry 176 = .ok (.goto 69, 3) := dk_167 0 69 (dk_at dksJ5_deleteEntry_7 11 rfl rfl)
theorem dJ5_deleteEntry_179 : decode cJ5_deleteEntry 179 = .ok (.aload_n 1, 1) := dk_43 (dk_at dksJ5_deleteEntry_7 14 rfl rfl)
theorem dJ5_deleteEntry_180 : decode cJ5_deleteEntry 180 = .ok (.getfield 290, 3) := dk_180 1 34 (dk_at dksJ5_deleteEntry_7 15 rfl rfl)
theorem dJ5_deleteEntry_183 : decode cJ5_deleteEntry 183 = .ok (.iconst 1, 1) := dk_4 (dk_at dksJ5_deleteEntry_7 18 rfl rfl)
theorem dJ5_deleteEntry_184 : decode cJ5_deleteEntry 184 = .ok (.if_icmp .ne 8, 3) := dk_160 0 8 (dk_at dksJ5_deleteEntry_7 19 rfl rfl)
theorem dJ5_deleteEntry_187 : decode cJ5_deleteEntry 187 = .ok (.aload_n 0, 1) := dk_42 (dk_at dksJ5_deleteEntry_7 22 rfl rfl)
theorem dJ5_deleteEntry_188 : decode cJ5_deleteEntry 188 = .ok (.aload_n 1, 1) := dk_43 (dk_at dksJ5_deleteEntry_7 23 rfl rfl)
theorem dJ5_deleteEntry_189 : decode cJ5_deleteEntry 189 = .ok (.invokevirtual 317, 3) := dk_182 1 61 (dk_at dksJ5_deleteEntry_8 0 rfl rfl)
theorem dJ5_deleteEntry_192 : decode cJ5_deleteEntry 192 = .ok (.aload_n 1, 1) := dk_43 (dk_at dksJ5_deleteEntry_8 3 rfl rfl)
theorem dJ5_deleteEntry_193 : decode cJ5_deleteEntry 193 = .ok (.getfield 124, 3) := dk_180 0 124 (dk_at dksJ5_deleteEntry_8 4 rfl rfl)
theorem dJ5_deleteEntry_196 : decode cJ5_deleteEntry 196 = .ok (.ifnull 49, 3) := dk_198 0 49 (dk_at dksJ5_deleteEntry_8 7 rfl rfl)
theorem dJ5_deleteEntry_199 : decode cJ5_deleteEntry 199 = .ok (.aload_n 1, 1) := dk_43 (dk_at dksJ5_deleteEntry_8 10 rfl rfl)
theorem dJ5_deleteEntry_200 : decode cJ5_deleteEntry 200 = .ok (.aload_n 1, 1) := dk_43 (dk_at dksJ5_deleteEntry_8 11 rfl rfl)
theorem dJ5_deleteEntry_201 : decode cJ5_deleteEntry 201 = .ok (.getfield 124, 3) := dk_180 0 124 (dk_at dksJ5_deleteEntry_8 12 rfl rfl)
theorem dJ5_deleteEntry_204 : decode cJ5_deleteEntry 204 = .ok (.getfield 111, 3) := dk_180 0 111 (dk_at dksJ5_deleteEntry_8 15 rfl rfl)
theorem dJ5_deleteEntry_207 : decode cJ5_deleteEntry 207 = .ok (.if_acmp .ne 14, 3) := dk_166 0 14 (dk_at dksJ5_deleteEntry_8 18 rfl rfl)
theorem dJ5_deleteEntry_210 : decode cJ5_deleteEntry 210 = .ok (.aload_n 1, 1) := dk_43 (dk_at dksJ5_deleteEntry_8 21 rfl rfl)
theorem dJ5_deleteEntry_211 : decode cJ5_deleteEntry 211 = .ok (.getfield 124, 3) := dk_180 0 124 (dk_at dksJ5_deleteEntry_9 0 rfl rfl)
theorem dJ5_deleteEntry_214 : decode cJ5_deleteEntry 214 = .ok (.aconst_null, 1) := dk_1 (dk_at dksJ5_deleteEntry_9 3 rfl rfl)
theorem dJ5_deleteEntry_215 : decode cJ5_deleteEntry 215 = .ok (.putfield 111, 3) := dk_181 0 111 (dk_at dksJ5_deleteEntry_9 4 rfl rfl)
theorem dJ5_deleteEntry_218 : decode cJ5_deleteEntry 218 = .ok (.goto 22, 3) := dk_167 0 22 (dk_at dksJ5_deleteEntry_9 7 rfl rfl)
theorem dJ5_deleteEntry_221 : decode cJ5_deleteEntry 221 = .ok (.aload_n 1, 1) := dk_43 (dk_at dksJ5_deleteEntry_9 10 rfl rfl)
theorem dJ5_deleteEntry_222 : decode cJ5_deleteEntry 222 = .ok (.aload_n 1, 1) := dk_43 (dk_at dksJ5_deleteEntry_9 11 rfl rfl)
theorem dJ5_deleteEntry_223 : decode cJ5_deleteEntry 223 = .ok (.getfield 124, 3) := dk_180 0 124 (dk_at dksJ5_deleteEntry_9 12 rfl rfl)
theorem dJ5_deleteEntry_226 : decode cJ5_deleteEntry 226 = .ok (.getfield 114, 3) := dk_180 0 114 (dk_at dksJ5_deleteEntry_9 15 rfl rfl)
theorem dJ5_deleteEntry_229 : decode cJ5_deleteEntry 229 = .ok (.if_acmp .ne 11, 3) := dk_166 0 11 (dk_at dksJ5_deleteEntry_9 18 rfl rfl)
theorem dJ5_deleteEntry_232 : decode cJ5_deleteEntry 232 = .ok (.aload_n 1, 1) := dk_43 (dk_at dksJ5_deleteEntry_9 21 rfl rfl)
theorem dJ5_deleteEntry_233 : decode cJ5_deleteEntry 233 = .ok (.getfield 124, 3) := dk_180 0 124 (dk_at dksJ5_deleteEntry_10 0 rfl rfl)
theorem dJ5_deleteEntry_236 : decode cJ5_deleteEntry 236 = .ok (.aconst_null, 1) := dk_1 (dk_at dksJ5_deleteEntry_10 3 rfl rfl)
theorem dJ5_deleteEntry_237 : decode cJ5_deleteEntry 237 = .ok (.putfield 114, 3) := dk_181 0 114 (dk_at dksJ5_deleteEntry_10 4 rfl rfl)
theorem dJ5_deleteEntry_240 : decode cJ5_deleteEntry 240 = .ok (.aload_n 1, 1) := dk_43 (dk_at dksJ5_deleteEntry_10 7 rfl rfl)
theorem dJ5_deleteEntry_241 : decode cJ5_deleteEntry 241 = .ok (.aconst_null, 1) := dk_1 (dk_at dksJ5_deleteEntry_10 8 rfl rfl)
theorem dJ5_deleteEntry_242 : decode cJ5_deleteEntry 242 = .ok (.putfield 124, 3) := dk_181 0 124 (dk_at dksJ5_deleteEntry_10 9 rfl rfl)
theorem dJ5_deleteEntry_245 : decode cJ5_deleteEntry 245 = .ok (.return_, 1) := dk_177 (dk_at dksJ5_deleteEntry_10 12 rfl rfl)
abbrev cJ5_fixAfterDeletion : ByteArray := prog_60_method_85_code
def yJ5_fixAfterDeletion : MethodName := ⟨RJ5, "fixAfterDeletion", "(Ljava/util/TreeMap$Entry;)V"⟩
def dkwJ5_fixAfterDeletion_14 : List UInt8 := [182, 1, 58, 42, 180, 0, 101, 76, 167, 254, 170, 43, 4, 184, 1, 51, 177]
abbrev dktJ5_fixAfterDeletion_14 : List UInt8 := dkwJ5_fixAfterDeletion_14 ++ []
def dkwJ5_fixAfterDeletion_13 : List UInt8 := [184, 1, 51, 43, 184, 1, 38, 4, 184, 1, 51, 44, 184, 1, 41, 4, 184, 1, 51, 42, 43, 184, 1, 38]
abbrev dktJ5_fixAfterDeletion_13 : List UInt8 := dkwJ5_fixAfterDeletion_13 ++ dktJ5_fixAfterDeletion_14
def dkwJ5_fixAfterDeletion_12 : List UInt8 := [184, 1, 51, 42, 44, 182, 1, 55, 43, 184, 1, 38, 184, 1, 41, 77, 44, 43, 184, 1, 38, 184, 1, 47]
abbrev dktJ5_fixAfterDeletion_12 : List UInt8 := dkwJ5_fixAfterDeletion_12 ++ dktJ5_fixAfterDeletion_13
def dkwJ5_fixAfterDeletion_11 : List UInt8 := [167, 0, 80, 44, 184, 1, 41, 184, 1, 47, 4, 160, 0, 29, 44, 184, 1, 44, 4, 184, 1, 51, 44, 3]
abbrev dktJ5_fixAfterDeletion_11 : List UInt8 := dkwJ5_fixAfterDeletion_11 ++ dktJ5_fixAfterDeletion_12
def dkwJ5_fixAfterDeletion_10 : List UInt8 := [160, 0, 27, 44, 184, 1, 41, 184, 1, 47, 4, 160, 0, 16, 44, 3, 184, 1, 51, 43, 184, 1, 38, 76]
abbrev dktJ5_fixAfterDeletion_10 : List UInt8 := dkwJ5_fixAfterDeletion_10 ++ dktJ5_fixAfterDeletion_11
def dkwJ5_fixAfterDeletion_9 : List UInt8 := [42, 43, 184, 1, 38, 182, 1, 58, 43, 184, 1, 38, 184, 1, 41, 77, 44, 184, 1, 44, 184, 1, 47, 4]
abbrev dktJ5_fixAfterDeletion_9 : List UInt8 := dkwJ5_fixAfterDeletion_9 ++ dktJ5_fixAfterDeletion_10
def dkwJ5_fixAfterDeletion_8 : List UInt8 := [184, 1, 41, 77, 44, 184, 1, 47, 154, 0, 32, 44, 4, 184, 1, 51, 43, 184, 1, 38, 3, 184, 1, 51]
abbrev dktJ5_fixAfterDeletion_8 : List UInt8 := dkwJ5_fixAfterDeletion_8 ++ dktJ5_fixAfterDeletion_9
def dkwJ5_fixAfterDeletion_7 : List UInt8 := [4, 184, 1, 51, 42, 43, 184, 1, 38, 182, 1, 55, 42, 180, 0, 101, 76, 167, 255, 73, 43, 184, 1, 38]
abbrev dktJ5_fixAfterDeletion_7 : List UInt8 := dkwJ5_fixAfterDeletion_7 ++ dktJ5_fixAfterDeletion_8
def dkwJ5_fixAfterDeletion_6 : List UInt8 := [77, 44, 43, 184, 1, 38, 184, 1, 47, 184, 1, 51, 43, 184, 1, 38, 4, 184, 1, 51, 44, 184, 1, 44]
abbrev dktJ5_fixAfterDeletion_6 : List UInt8 := dkwJ5_fixAfterDeletion_6 ++ dktJ5_fixAfterDeletion_7
def dkwJ5_fixAfterDeletion_5 : List UInt8 := [184, 1, 41, 4, 184, 1, 51, 44, 3, 184, 1, 51, 42, 44, 182, 1, 58, 43, 184, 1, 38, 184, 1, 44]
abbrev dktJ5_fixAfterDeletion_5 : List UInt8 := dkwJ5_fixAfterDeletion_5 ++ dktJ5_fixAfterDeletion_6
def dkwJ5_fixAfterDeletion_4 : List UInt8 := [184, 1, 51, 43, 184, 1, 38, 76, 167, 0, 80, 44, 184, 1, 44, 184, 1, 47, 4, 160, 0, 29, 44]
abbrev dktJ5_fixAfterDeletion_4 : List UInt8 := dkwJ5_fixAfterDeletion_4 ++ dktJ5_fixAfterDeletion_5
def dkwJ5_fixAfterDeletion_3 : List UInt8 := [184, 1, 41, 184, 1, 47, 4, 160, 0, 27, 44, 184, 1, 44, 184, 1, 47, 4, 160, 0, 16, 44, 3]
abbrev dktJ5_fixAfterDeletion_3 : List UInt8 := dkwJ5_fixAfterDeletion_3 ++ dktJ5_fixAfterDeletion_4
def dkwJ5_fixAfterDeletion_2 : List UInt8 := [184, 1, 38, 3, 184, 1, 51, 42, 43, 184, 1, 38, 182, 1, 55, 43, 184, 1, 38, 184, 1, 44, 77, 44]
abbrev dktJ5_fixAfterDeletion_2 : List UInt8 := dkwJ5_fixAfterDeletion_2 ++ dktJ5_fixAfterDeletion_3
def dkwJ5_fixAfterDeletion_1 : List UInt8 := [166, 0, 162, 43, 184, 1, 38, 184, 1, 44, 77, 44, 184, 1, 47, 154, 0, 32, 44, 4, 184, 1, 51, 43]
abbrev dktJ5_fixAfterDeletion_1 : List UInt8 := dkwJ5_fixAfterDeletion_1 ++ dktJ5_fixAfterDeletion_2
def dkwJ5_fixAfterDeletion_0 : List UInt8 := [43, 42, 180, 0, 101, 165, 1, 84, 43, 184, 1, 47, 4, 160, 1, 76, 43, 43, 184, 1, 38, 184, 1, 41]
abbrev dktJ5_fixAfterDeletion_0 : List UInt8 := dkwJ5_fixAfterDeletion_0 ++ dktJ5_fixAfterDeletion_1
theorem dksJ5_fixAfterDeletion_0 : cJ5_fixAfterDeletion.data.toList.drop 0 = dktJ5_fixAfterDeletion_0 := by decide +kernel
theorem dksJ5_fixAfterDeletion_1 : cJ5_fixAfterDeletion.data.toList.drop 24 = dktJ5_fixAfterDeletion_1 := dk_seg dksJ5_fixAfterDeletion_0 24 rfl rfl
theorem dksJ5_fixAfterDeletion_2 : cJ5_fixAfterDeletion.data.toList.drop 48 = dktJ5_fixAfterDeletion_2 := dk_seg dksJ5_fixAfterDeletion_1 24 rfl rfl
theorem dksJ5_fixAfterDeletion_3 : cJ5_fixAfterDeletion.data.toList.drop 72 = dktJ5_fixAfterDeletion_3 := dk_seg dksJ5_fixAfterDeletion_2 24 rfl rfl
theorem dksJ5_fixAfterDeletion_4 : cJ5_fixAfterDeletion.data.toList.drop 95 = dktJ5_fixAfterDeletion_4 := dk_seg dksJ5_fixAfterDeletion_3 23 rfl rfl
theorem dksJ5_fixAfterDeletion_5 : cJ5_fixAfterDeletion.data.toList.drop 118 = dktJ5_fixAfterDeletion_5 := dk_seg dksJ5_fixAfterDeletion_4 23 rfl rfl
theorem dksJ5_fixAfterDeletion_6 : cJ5_fixAfterDeletion.data.toList.drop 142 = dktJ5_fixAfterDeletion_6 := dk_seg dksJ5_fixAfterDeletion_5 24 rfl rfl
theorem dksJ5_fixAfterDeletion_7 : cJ5_fixAfterDeletion.data.toList.drop 166 = dktJ5_fixAfterDeletion_7 := dk_seg dksJ5_fixAfterDeletion_6 24 rfl rfl
theorem dksJ5_fixAfterDeletion_8 : cJ5_fixAfterDeletion.data.toList.drop 190 = dktJ5_fixAfterDeletion_8 := dk_seg dksJ5_fixAfterDeletion_7 24 rfl rfl
theorem dksJ5_fixAfterDeletion_9 : cJ5_fixAfterDeletion.data.toList.drop 214 = dktJ5_fixAfterDeletion_9 := dk_seg dksJ5_fixAfterDeletion_8 24 rfl rfl
theorem dksJ5_fixAfterDeletion_10 : cJ5_fixAfterDeletion.data.toList.drop 238 = dktJ5_fixAfterDeletion_10 := dk_seg dksJ5_fixAfterDeletion_9 24 rfl rfl
theorem dksJ5_fixAfterDeletion_11 : cJ5_fixAfterDeletion.data.toList.drop 262 = dktJ5_fixAfterDeletion_11 := dk_seg dksJ5_fixAfterDeletion_10 24 rfl rfl
theorem dksJ5_fixAfterDeletion_12 : cJ5_fixAfterDeletion.data.toList.drop 286 = dktJ5_fixAfterDeletion_12 := dk_seg dksJ5_fixAfterDeletion_11 24 rfl rfl
theorem dksJ5_fixAfterDeletion_13 : cJ5_fixAfterDeletion.data.toList.drop 310 = dktJ5_fixAfterDeletion_13 := dk_seg dksJ5_fixAfterDeletion_12 24 rfl rfl
theorem dksJ5_fixAfterDeletion_14 : cJ5_fixAfterDeletion.data.toList.drop 334 = dktJ5_fixAfterDeletion_14 := dk_seg dksJ5_fixAfterDeletion_13 24 rfl rfl
theorem dJ5_fixAfterDeletion_0 : decode cJ5_fixAfterDeletion 0 = .ok (.aload_n 1, 1) := dk_43 (dk_at dksJ5_fixAfterDeletion_0 0 rfl rfl)
theorem dJ5_fixAfterDeletion_1 : decode cJ5_fixAfterDeletion 1 = .ok (.aload_n 0, 1) := dk_42 (dk_at dksJ5_fixAfterDeletion_0 1 rfl rfl)
theorem dJ5_fixAfterDeletion_2 : decode cJ5_fixAfterDeletion 2 = .ok (.getfield 101, 3) := dk_180 0 101 (dk_at dksJ5_fixAfterDeletion_0 2 rfl rfl)
theorem dJ5_fixAfterDeletion_5 : decode cJ5_fixAfterDeletion 5 = .ok (.if_acmp .eq 340, 3) := dk_165 1 84 (dk_at dksJ5_fixAfterDeletion_0 5 rfl rfl)
theorem dJ5_fixAfterDeletion_8 : decode cJ5_fixAfterDeletion 8 = .ok (.aload_n 1, 1) := dk_43 (dk_at dksJ5_fixAfterDeletion_0 8 rfl rfl)
theorem dJ5_fixAfterDeletion_9 : decode cJ5_fixAfterDeletion 9 = .ok (.invokestatic 303, 3) := dk_184 1 47 (dk_at dksJ5_fixAfterDeletion_0 9 rfl rfl)
theorem dJ5_fixAfterDeletion_12 : decode cJ5_fixAfterDeletion 12 = .ok (.iconst 1, 1) := dk_4 (dk_at dksJ5_fixAfterDeletion_0 12 rfl rfl)
theorem dJ5_fixAfterDeletion_13 : decode cJ5_fixAfterDeletion 13 = .ok (.if_icmp .ne 332, 3) := dk_160 1 76 (dk_at dksJ5_fixAfterDeletion_0 13 rfl rfl)
theorem dJ5_fixAfterDeletion_16 : decode cJ5_fixAfterDeletion 16 = .ok (.aload_n 1, 1) := dk_43 (dk_at dksJ5_fixAfterDeletion_0 16 rfl rfl)
theorem dJ5_fixAfterDeletion_17 : decode cJ5_fixAfterDeletion 17 = .ok (.aload_n 1, 1) := dk_43 (dk_at dksJ5_fixAfterDeletion_0 17 rfl rfl)
theorem dJ5_fixAfterDeletion_18 : decode cJ5_fixAfterDeletion 18 = .ok (.invokestatic 294, 3) := dk_184 1 38 (dk_at dksJ5_fixAfterDeletion_0 18 rfl rfl)
theorem dJ5_fixAfterDeletion_21 : decode cJ5_fixAfterDeletion 21 = .ok (.invokestatic 297, 3) := dk_184 1 41 (dk_at dksJ5_fixAfterDeletion_0 21 rfl rfl)
theorem dJ5_fixAfterDeletion_24 : decode cJ5_fixAfterDeletion 24 = .ok (.if_acmp .ne 162, 3) := dk_166 0 162 (dk_at dksJ5_fixAfterDeletion_1 0 rfl rfl)
theorem dJ5_fixAfterDeletion_27 : decode cJ5_fixAfterDeletion 27 = .ok (.aload_n 1, 1) := dk_43 (dk_at dksJ5_fixAfterDeletion_1 3 rfl rfl)
theorem dJ5_fixAfterDeletion_28 : decode cJ5_fixAfterDeletion 28 = .ok (.invokestatic 294, 3) := dk_184 1 38 (dk_at dksJ5_fixAfterDeletion_1 4 rfl rfl)
theorem dJ5_fixAfterDeletion_31 : decode cJ5_fixAfterDeletion 31 = .ok (.invokestatic 300, 3) := dk_184 1 44 (dk_at dksJ5_fixAfterDeletion_1 7 rfl rfl)
theorem dJ5_fixAfterDeletion_34 : decode cJ5_fixAfterDeletion 34 = .ok (.astore_n 2, 1) := dk_77 (dk_at dksJ5_fixAfterDeletion_1 10 rfl rfl)
theorem dJ5_fixAfterDeletion_35 : decode cJ5_fixAfterDeletion 35 = .ok (.aload_n 2, 1) := dk_44 (dk_at dksJ5_fixAfterDeletion_1 11 rfl rfl)
theorem dJ5_fixAfterDeletion_36 : decode cJ5_fixAfterDeletion 36 = .ok (.invokestatic 303, 3) := dk_184 1 47 (dk_at dksJ5_fixAfterDeletion_1 12 rfl rfl)
theorem dJ5_fixAfterDeletion_39 : decode cJ5_fixAfterDeletion 39 = .ok (.ifCond .ne 32, 3) := dk_154 0 32 (dk_at dksJ5_fixAfterDeletion_1 15 rfl rfl)
theorem dJ5_fixAfterDeletion_42 : decode cJ5_fixAfterDeletion 42 = .ok (.aload_n 2, 1) := dk_44 (dk_at dksJ5_fixAfterDeletion_1 18 rfl rfl)
theorem dJ5_fixAfterDeletion_43 : decode cJ5_fixAfterDeletion 43 = .ok (.iconst 1, 1) := dk_4 (dk_at dksJ5_fixAfterDeletion_1 19 rfl rfl)
theorem dJ5_fixAfterDeletion_44 : decode cJ5_fixAfterDeletion 44 = .ok (.invokestatic 307, 3) := dk_184 1 51 (dk_at dksJ5_fixAfterDeletion_1 20 rfl rfl)
theorem dJ5_fixAfterDeletion_47 : decode cJ5_fixAfterDeletion 47 = .ok (.aload_n 1, 1) := dk_43 (dk_at dksJ5_fixAfterDeletion_1 23 rfl rfl)
theorem dJ5_fixAfterDeletion_48 : decode cJ5_fixAfterDeletion 48 = .ok (.invokestatic 294, 3) := dk_184 1 38 (dk_at dksJ5_fixAfterDeletion_2 0 rfl rfl)
theorem dJ5_fixAfterDeletion_51 : decode cJ5_fixAfterDeletion 51 = .ok (.iconst 0, 1) := dk_3 (dk_at dksJ5_fixAfterDeletion_2 3 rfl rfl)
theorem dJ5_fixAfterDeletion_52 : decode cJ5_fixAfterDeletion 52 = .ok (.invokestatic 307, 3) := dk_184 1 51 (dk_at dksJ5_fixAfterDeletion_2 4 rfl rfl)
theorem dJ5_fixAfterDeletion_55 : decode cJ5_fixAfterDeletion 55 = .ok (.aload_n 0, 1) := dk_42 (dk_at dksJ5_fixAfterDeletion_2 7 rfl rfl)
theorem dJ5_fixAfterDeletion_56 : decode cJ5_fixAfterDeletion 56 = .ok (.aload_n 1, 1) := dk_43 (dk_at dksJ5_fixAfterDeletion_2 8 rfl rfl)
theorem dJ5_fixAfterDeletion_57 : decode cJ5_fixAfterDeletion 57 = .ok (.invokestatic 294, 3) := dk_184 1 38 (dk_at dksJ5_fixAfterDeletion_2 9 rfl rfl)
theorem dJ5_fixAfterDeletion_60 : decode cJ5_fixAfterDeletion 60 = .ok (.invokevirtual 311, 3) := dk_182 1 55 (dk_at dksJ5_fixAfterDeletion_2 12 rfl rfl)
theorem dJ5_fixAfterDeletion_63 : decode cJ5_fixAfterDeletion 63 = .ok (.aload_n 1, 1) := dk_43 (dk_at dksJ5_fixAfterDeletion_2 15 rfl rfl)
theorem dJ5_fixAfterDeletion_64 : decode cJ5_fixAfterDeletion 64 = .ok (.invokestatic 294, 3) := dk_184 1 38 (dk_at dksJ5_fixAfterDeletion_2 16 rfl rfl)
theorem dJ5_fixAfterDeletion_67 : decode cJ5_fixAfterDeletion 67 = .ok (.invokestatic 300, 3) := dk_184 1 44 (dk_at dksJ5_fixAfterDeletion_2 19 rfl rfl)
theorem dJ5_fixAfterDeletion_70 : decode cJ5_fixAfterDeletion 70 = .ok (.astore_n 2, 1) := dk_77 (dk_at dksJ5_fixAfterDeletion_2 22 rfl rfl)
theorem dJ5_fixAfterDeletion_71 : decode cJ5_fixAfterDeletion 71 = .ok (.aload_n 2, 1) := dk_44 (dk_at dksJ5_fixAfterDeletion_2 23 rfl rfl)
theorem dJ5_fixAfterDeletion_72 : decode cJ5_fixAfterDeletion 72 = .ok (.invokestatic 297, 3) := dk_184 1 41 (dk_at dksJ5_fixAfterDeletion_3 0 rfl rfl)
theorem dJ5_fixAfterDeletion_75 : decode cJ5_fixAfterDeletion 75 = .ok (.invokestatic 303, 3) := dk_184 1 47 (dk_at dksJ5_fixAfterDeletion_3 3 rfl rfl)
theorem dJ5_fixAfterDeletion_78 : decode cJ5_fixAfterDeletion 78 = .ok (.iconst 1, 1) := dk_4 (dk_at dksJ5_fixAfterDeletion_3 6 rfl rfl)
theorem dJ5_fixAfterDeletion_79 : decode cJ5_fixAfterDeletion 79 = .ok (.if_icmp .ne 27, 3) := dk_160 0 27 (dk_at dksJ5_fixAfterDeletion_3 7 rfl rfl)
theorem dJ5_fixAfterDeletion_82 : decode cJ5_fixAfterDeletion 82 = .ok (.aload_n 2, 1) := dk_44 (dk_at dksJ5_fixAfterDeletion_3 10 rfl rfl)
theorem dJ5_fixAfterDeletion_83 : decode cJ5_fixAfterDeletion 83 = .ok (.invokestatic 300, 3) := dk_184 1 44 (dk_at dksJ5_fixAfterDeletion_3 11 rfl rfl)
theorem dJ5_fixAfterDeletion_86 : decode cJ5_fixAfterDeletion 86 = .ok (.invokestatic 303, 3) := dk_184 1 47 (dk_at dksJ5_fixAfterDeletion_3 14 rfl rfl)
theorem dJ5_fixAfterDeletion_89 : decode cJ5_fixAfterDeletion 89 = .ok (.iconst 1, 1) := dk_4 (dk_at dksJ5_fixAfterDeletion_3 17 rfl rfl)
theorem dJ5_fixAfterDeletion_90 : decode cJ5_fixAfterDeletion 90 = .ok (.if_icmp .ne 16, 3) := dk_160 0 16 (dk_at dksJ5_fixAfterDeletion_3 18 rfl rfl)
theorem dJ5_fixAfterDeletion_93 : decode cJ5_fixAfterDeletion 93 = .ok (.aload_n 2, 1) := dk_44 (dk_at dksJ5_fixAfterDeletion_3 21 rfl rfl)
theorem dJ5_fixAfterDeletion_94 : decode cJ5_fixAfterDeletion 94 = .ok (.iconst 0, 1) := dk_3 (dk_at dksJ5_fixAfterDeletion_3 22 rfl rfl)
theorem dJ5_fixAfterDeletion_95 : decode cJ5_fixAfterDeletion 95 = .ok (.invokestatic 307, 3) := dk_184 1 51 (dk_at dksJ5_fixAfterDeletion_4 0 rfl rfl)
theorem dJ5_fixAfterDeletion_98 : decode cJ5_fixAfterDeletion 98 = .ok (.aload_n 1, 1) := dk_43 (dk_at dksJ5_fixAfterDeletion_4 3 rfl rfl)
theorem dJ5_fixAfterDeletion_99 : decode cJ5_fixAfterDeletion 99 = .ok (.invokestatic 294, 3) := dk_184 1 38 (dk_at dksJ5_fixAfterDeletion_4 4 rfl rfl)
theorem dJ5_fixAfterDeletion_102 : decode cJ5_fixAfterDeletion 102 = .ok (.astore_n 1, 1) := dk_76 (dk_at dksJ5_fixAfterDeletion_4 7 rfl rfl)
theorem dJ5_fixAfterDeletion_103 : decode cJ5_fixAfterDeletion 103 = .ok (.goto 80, 3) := dk_167 0 80 (dk_at dksJ5_fixAfterDeletion_4 8 rfl rfl)
theorem dJ5_fixAfterDeletion_106 : decode cJ5_fixAfterDeletion 106 = .ok (.aload_n 2, 1) := dk_44 (dk_at dksJ5_fixAfterDeletion_4 11 rfl rfl)
theorem dJ5_fixAfterDeletion_107 : decode cJ5_fixAfterDeletion 107 = .ok (.invokestatic 300, 3) := dk_184 1 44 (dk_at dksJ5_fixAfterDeletion_4 12 rfl rfl)
theorem dJ5_fixAfterDeletion_110 : decode cJ5_fixAfterDeletion 110 = .ok (.invokestatic 303, 3) := dk_184 1 47 (dk_at dksJ5_fixAfterDeletion_4 15 rfl rfl)
theorem dJ5_fixAfterDeletion_113 : decode cJ5_fixAfterDeletion 113 = .ok (.iconst 1, 1) := dk_4 (dk_at dksJ5_fixAfterDeletion_4 18 rfl rfl)
theorem dJ5_fixAfterDeletion_114 : decode cJ5_fixAfterDeletion 114 = .ok (.if_icmp .ne 29, 3) := dk_160 0 29 (dk_at dksJ5_fixAfterDeletion_4 19 rfl rfl)
theorem dJ5_fixAfterDeletion_117 : decode cJ5_fixAfterDeletion 117 = .ok (.aload_n 2, 1) := dk_44 (dk_at dksJ5_fixAfterDeletion_4 22 rfl rfl)
theorem dJ5_fixAfterDeletion_118 : decode cJ5_fixAfterDeletion 118 = .ok (.invokestatic 297, 3) := dk_184 1 41 (dk_at dksJ5_fixAfterDeletion_5 0 rfl rfl)
theorem dJ5_fixAfterDeletion_121 : decode cJ5_fixAfterDeletion 121 = .ok (.iconst 1, 1) := dk_4 (dk_at dksJ5_fixAfterDeletion_5 3 rfl rfl)
theorem dJ5_fixAfterDeletion_122 : decode cJ5_fixAfterDeletion 122 = .ok (.invokestatic 307, 3) := dk_184 1 51 (dk_at dksJ5_fixAfterDeletion_5 4 rfl rfl)
theorem dJ5_fixAfterDeletion_125 : decode cJ5_fixAfterDeletion 125 = .ok (.aload_n 2, 1) := dk_44 (dk_at dksJ5_fixAfterDeletion_5 7 rfl rfl)
theorem dJ5_fixAfterDeletion_126 : decode cJ5_fixAfterDeletion 126 = .ok (.iconst 0, 1) := dk_3 (dk_at dksJ5_fixAfterDeletion_5 8 rfl rfl)
theorem dJ5_fixAfterDeletion_127 : decode cJ5_fixAfterDeletion 127 = .ok (.invokestatic 307, 3) := dk_184 1 51 (dk_at dksJ5_fixAfterDeletion_5 9 rfl rfl)
theorem dJ5_fixAfterDeletion_130 : decode cJ5_fixAfterDeletion 130 = .ok (.aload_n 0, 1) := dk_42 (dk_at dksJ5_fixAfterDeletion_5 12 rfl rfl)
theorem dJ5_fixAfterDeletion_131 : decode cJ5_fixAfterDeletion 131 = .ok (.aload_n 2, 1) := dk_44 (dk_at dksJ5_fixAfterDeletion_5 13 rfl rfl)
theorem dJ5_fixAfterDeletion_132 : decode cJ5_fixAfterDeletion 132 = .ok (.invokevirtual 314, 3) := dk_182 1 58 (dk_at dksJ5_fixAfterDeletion_5 14 rfl rfl)
theorem dJ5_fixAfterDeletion_135 : decode cJ5_fixAfterDeletion 135 = .ok (.aload_n 1, 1) := dk_43 (dk_at dksJ5_fixAfterDeletion_5 17 rfl rfl)
theorem dJ5_fixAfterDeletion_136 : decode cJ5_fixAfterDeletion 136 = .ok (.invokestatic 294, 3) := dk_184 1 38 (dk_at dksJ5_fixAfterDeletion_5 18 rfl rfl)
theorem dJ5_fixAfterDeletion_139 : decode cJ5_fixAfterDeletion 139 = .ok (.invokestatic 300, 3) := dk_184 1 44 (dk_at dksJ5_fixAfterDeletion_5 21 rfl rfl)
theorem dJ5_fixAfterDeletion_142 : decode cJ5_fixAfterDeletion 142 = .ok (.astore_n 2, 1) := dk_77 (dk_at dksJ5_fixAfterDeletion_6 0 rfl rfl)
theorem dJ5_fixAfterDeletion_143 : decode cJ5_fixAfterDeletion 143 = .ok (.aload_n 2, 1) := dk_44 (dk_at dksJ5_fixAfterDeletion_6 1 rfl rfl)
theorem dJ5_fixAfterDeletion_144 : decode cJ5_fixAfterDeletion 144 = .ok (.aload_n 1, 1) := dk_43 (dk_at dksJ5_fixAfterDeletion_6 2 rfl rfl)
theorem dJ5_fixAfterDeletion_145 : decode cJ5_fixAfterDeletion 145 = .ok (.invokestatic 294, 3) := dk_184 1 38 (dk_at dksJ5_fixAfterDeletion_6 3 rfl rfl)
theorem dJ5_fixAfterDeletion_148 : decode cJ5_fixAfterDeletion 148 = .ok (.invokestatic 303, 3) := dk_184 1 47 (dk_at dksJ5_fixAfterDeletion_6 6 rfl rfl)
theorem dJ5_fixAfterDeletion_151 : decode cJ5_fixAfterDeletion 151 = .ok (.invokestatic 307, 3) := dk_184 1 51 (dk_at dksJ5_fixAfterDeletion_6 9 rfl rfl)
theorem dJ5_fixAfterDeletion_154 : decode cJ5_fixAfterDeletion 154 = .ok (.aload_n 1, 1) := dk_43 (dk_at dksJ5_fixAfterDeletion_6 12 rfl rfl)
theorem dJ5_fixAfterDeletion_155 : decode cJ5_fixAfterDeletion 155 = .ok (.invokestatic 294, 3) := dk_184 1 38 (dk_at dksJ5_fixAfterDeletion_6 13 rfl rfl)
theorem dJ5_fixAfterDeletion_158 : decode cJ5_fixAfterDeletion 158 = .ok (.iconst 1, 1) := dk_4 (dk_at dksJ5_fixAfterDeletion_6 16 rfl rfl)
theorem dJ5_fixAfterDeletion_159 : decode cJ5_fixAfterDeletion 159 = .ok (.invokestatic 307, 3) := dk_184 1 51 (dk_at dksJ5_fixAfterDeletion_6 17 rfl rfl)
theorem dJ5_fixAfterDeletion_162 : decode cJ5_fixAfterDeletion 162 = .ok (.aload_n 2, 1) := dk_44 (dk_at dksJ5_fixAfterDeletion_6 20 rfl rfl)
theorem dJ5_fixAfterDeletion_163 : decode cJ5_fixAfterDeletion 163 = .ok (.invokestatic 300, 3) := dk_184 1 44 (dk_at dksJ5_fixAfterDeletion_6 21 rfl rfl)
theorem dJ5_fixAfterDeletion_166 : decode cJ5_fixAfterDeletion 166 = .ok (.iconst 1, 1) := dk_4 (dk_at dksJ5_fixAfterDeletion_7 0 rfl rfl)
theorem dJ5_fixAfterDeletion_167 : decode cJ5_fixAfterDeletion 167 = .ok (.invokestatic 307, 3) := dk_184 1 51 (dk_at dksJ5_fixAfterDeletion_7 1 rfl rfl)
theorem dJ5_fixAfterDeletion_170 : decode cJ5_fixAfterDeletion 170 = .ok (.aload_n 0, 1) := dk_42 (dk_at dksJ5_fixAfterDeletion_7 4 rfl rfl)
theorem dJ5_fixAfterDeletion_171 : decode cJ5_fixAfterDeletion 171 = .ok (.aload_n 1, 1) := dk_43 (dk_at dksJ5_fixAfterDeletion_7 5 rfl rfl)
theorem dJ5_fixAfterDeletion_172 : decode cJ5_fixAfterDeletion 172 = .ok (.invokestatic 294, 3) := dk_184 1 38 (dk_at dksJ5_fixAfterDeletion_7 6 rfl rfl)
theorem dJ5_fixAfterDeletion_175 : decode cJ5_fixAfterDeletion 175 = .ok (.invokevirtual 311, 3) := dk_182 1 55 (dk_at dksJ5_fixAfterDeletion_7 9 rfl rfl)
theorem dJ5_fixAfterDeletion_178 : decode cJ5_fixAfterDeletion 178 = .ok (.aload_n 0, 1) := dk_42 (dk_at dksJ5_fixAfterDeletion_7 12 rfl rfl)
theorem dJ5_fixAfterDeletion_179 : decode cJ5_fixAfterDeletion 179 = .ok (.getfield 101, 3) := dk_180 0 101 (dk_at dksJ5_fixAfterDeletion_7 13 rfl rfl)
theorem dJ5_fixAfterDeletion_182 : decode cJ5_fixAfterDeletion 182 = .ok (.astore_n 1, 1) := dk_76 (dk_at dksJ5_fixAfterDeletion_7 16 rfl rfl)
theorem dJ5_fixAfterDeletion_183 : decode cJ5_fixAfterDeletion 183 = .ok (.goto (-183), 3) := dk_167 255 73 (dk_at dksJ5_fixAfterDeletion_7 17 rfl rfl)
theorem dJ5_fixAfterDeletion_186 : decode cJ5_fixAfterDeletion 186 = .ok (.aload_n 1, 1) := dk_43 (dk_at dksJ5_fixAfterDeletion_7 20 rfl rfl)
theorem dJ5_fixAfterDeletion_187 : decode cJ5_fixAfterDeletion 187 = .ok (.invokestatic 294, 3) := dk_184 1 38 (dk_at dksJ5_fixAfterDeletion_7 21 rfl rfl)
theorem dJ5_fixAfterDeletion_190 : decode cJ5_fixAfterDeletion 190 = .ok (.invokestatic 297, 3) := dk_184 1 41 (dk_at dksJ5_fixAfterDeletion_8 0 rfl rfl)
theorem dJ5_fixAfterDeletion_193 : decode cJ5_fixAfterDeletion 193 = .ok (.astore_n 2, 1) := dk_77 (dk_at dksJ5_fixAfterDeletion_8 3 rfl rfl)
theorem dJ5_fixAfterDeletion_194 : decode cJ5_fixAfterDeletion 194 = .ok (.aload_n 2, 1) := dk_44 (dk_at dksJ5_fixAfterDeletion_8 4 rfl rfl)
theorem dJ5_fixAfterDeletion_195 : decode cJ5_fixAfterDeletion 195 = .ok (.invokestatic 303, 3) := dk_184 1 47 (dk_at dksJ5_fixAfterDeletion_8 5 rfl rfl)
theorem dJ5_fixAfterDeletion_198 : decode cJ5_fixAfterDeletion 198 = .ok (.ifCond .ne 32, 3) := dk_154 0 32 (dk_at dksJ5_fixAfterDeletion_8 8 rfl rfl)
theorem dJ5_fixAfterDeletion_201 : decode cJ5_fixAfterDeletion 201 = .ok (.aload_n 2, 1) := dk_44 (dk_at dksJ5_fixAfterDeletion_8 11 rfl rfl)
theorem dJ5_fixAfterDeletion_202 : decode cJ5_fixAfterDeletion 202 = .ok (.iconst 1, 1) := dk_4 (dk_at dksJ5_fixAfterDeletion_8 12 rfl rfl)
theorem dJ5_fixAfterDeletion_203 : decode cJ5_fixAfterDeletion 203 = .ok (.invokestatic 307, 3) := dk_184 1 51 (dk_at dksJ5_fixAfterDeletion_8 13 rfl rfl)
theorem dJ5_fixAfterDeletion_206 : decode cJ5_fixAfterDeletion 206 = .ok (.aload_n 1, 1) := dk_43 (dk_at dksJ5_fixAfterDeletion_8 16 rfl rfl)
theorem dJ5_fixAfterDeletion_207 : decode cJ5_fixAfterDeletion 207 = .ok (.invokestatic 294, 3) := dk_184 1 38 (dk_at dksJ5_fixAfterDeletion_8 17 rfl rfl)
theorem dJ5_fixAfterDeletion_210 : decode cJ5_fixAfterDeletion 210 = .ok (.iconst 0, 1) := dk_3 (dk_at dksJ5_fixAfterDeletion_8 20 rfl rfl)
theorem dJ5_fixAfterDeletion_211 : decode cJ5_fixAfterDeletion 211 = .ok (.invokestatic 307, 3) := dk_184 1 51 (dk_at dksJ5_fixAfterDeletion_8 21 rfl rfl)
theorem dJ5_fixAfterDeletion_214 : decode cJ5_fixAfterDeletion 214 = .ok (.aload_n 0, 1) := dk_42 (dk_at dksJ5_fixAfterDeletion_9 0 rfl rfl)
theorem dJ5_fixAfterDeletion_215 : decode cJ5_fixAfterDeletion 215 = .ok (.aload_n 1, 1) := dk_43 (dk_at dksJ5_fixAfterDeletion_9 1 rfl rfl)
theorem dJ5_fixAfterDeletion_216 : decode cJ5_fixAfterDeletion 216 = .ok (.invokestatic 294, 3) := dk_184 1 38 (dk_at dksJ5_fixAfterDeletion_9 2 rfl rfl)
theorem dJ5_fixAfterDeletion_219 : decode cJ5_fixAfterDeletion 219 = .ok (.invokevirtual 314, 3) := dk_182 1 58 (dk_at dksJ5_fixAfterDeletion_9 5 rfl rfl)
theorem dJ5_fixAfterDeletion_222 : decode cJ5_fixAfterDeletion 222 = .ok (.aload_n 1, 1) := dk_43 (dk_at dksJ5_fixAfterDeletion_9 8 rfl rfl)
theorem dJ5_fixAfterDeletion_223 : decode cJ5_fixAfterDeletion 223 = .ok (.invokestatic 294, 3) := dk_184 1 38 (dk_at dksJ5_fixAfterDeletion_9 9 rfl rfl)
theorem dJ5_fixAfterDeletion_226 : decode cJ5_fixAfterDeletion 226 = .ok (.invokestatic 297, 3) := dk_184 1 41 (dk_at dksJ5_fixAfterDeletion_9 12 rfl rfl)
theorem dJ5_fixAfterDeletion_229 : decode cJ5_fixAfterDeletion 229 = .ok (.astore_n 2, 1) := dk_77 (dk_at dksJ5_fixAfterDeletion_9 15 rfl rfl)
theorem dJ5_fixAfterDeletion_230 : decode cJ5_fixAfterDeletion 230 = .ok (.aload_n 2, 1) := dk_44 (dk_at dksJ5_fixAfterDeletion_9 16 rfl rfl)
theorem dJ5_fixAfterDeletion_231 : decode cJ5_fixAfterDeletion 231 = .ok (.invokestatic 300, 3) := dk_184 1 44 (dk_at dksJ5_fixAfterDeletion_9 17 rfl rfl)
theorem dJ5_fixAfterDeletion_234 : decode cJ5_fixAfterDeletion 234 = .ok (.invokestatic 303, 3) := dk_184 1 47 (dk_at dksJ5_fixAfterDeletion_9 20 rfl rfl)
theorem dJ5_fixAfterDeletion_237 : decode cJ5_fixAfterDeletion 237 = .ok (.iconst 1, 1) := dk_4 (dk_at dksJ5_fixAfterDeletion_9 23 rfl rfl)
theorem dJ5_fixAfterDeletion_238 : decode cJ5_fixAfterDeletion 238 = .ok (.if_icmp .ne 27, 3) := dk_160 0 27 (dk_at dksJ5_fixAfterDeletion_10 0 rfl rfl)
theorem dJ5_fixAfterDeletion_241 : decode cJ5_fixAfterDeletion 241 = .ok (.aload_n 2, 1) := dk_44 (dk_at dksJ5_fixAfterDeletion_10 3 rfl rfl)
theorem dJ5_fixAfterDeletion_242 : decode cJ5_fixAfterDeletion 242 = .ok (.invokestatic 297, 3) := dk_184 1 41 (dk_at dksJ5_fixAfterDeletion_10 4 rfl rfl)
theorem dJ5_fixAfterDeletion_245 : decode cJ5_fixAfterDeletion 245 = .ok (.invokestatic 303, 3) := dk_184 1 47 (dk_at dksJ5_fixAfterDeletion_10 7 rfl rfl)
theorem dJ5_fixAfterDeletion_248 : decode cJ5_fixAfterDeletion 248 = .ok (.iconst 1, 1) := dk_4 (dk_at dksJ5_fixAfterDeletion_10 10 rfl rfl)
theorem dJ5_fixAfterDeletion_249 : decode cJ5_fixAfterDeletion 249 = .ok (.if_icmp .ne 16, 3) := dk_160 0 16 (dk_at dksJ5_fixAfterDeletion_10 11 rfl rfl)
theorem dJ5_fixAfterDeletion_252 : decode cJ5_fixAfterDeletion 252 = .ok (.aload_n 2, 1) := dk_44 (dk_at dksJ5_fixAfterDeletion_10 14 rfl rfl)
theorem dJ5_fixAfterDeletion_253 : decode cJ5_fixAfterDeletion 253 = .ok (.iconst 0, 1) := dk_3 (dk_at dksJ5_fixAfterDeletion_10 15 rfl rfl)
theorem dJ5_fixAfterDeletion_254 : decode cJ5_fixAfterDeletion 254 = .ok (.invokestatic 307, 3) := dk_184 1 51 (dk_at dksJ5_fixAfterDeletion_10 16 rfl rfl)
theorem dJ5_fixAfterDeletion_257 : decode cJ5_fixAfterDeletion 257 = .ok (.aload_n 1, 1) := dk_43 (dk_at dksJ5_fixAfterDeletion_10 19 rfl rfl)
theorem dJ5_fixAfterDeletion_258 : decode cJ5_fixAfterDeletion 258 = .ok (.invokestatic 294, 3) := dk_184 1 38 (dk_at dksJ5_fixAfterDeletion_10 20 rfl rfl)
theorem dJ5_fixAfterDeletion_261 : decode cJ5_fixAfterDeletion 261 = .ok (.astore_n 1, 1) := dk_76 (dk_at dksJ5_fixAfterDeletion_10 23 rfl rfl)
theorem dJ5_fixAfterDeletion_262 : decode cJ5_fixAfterDeletion 262 = .ok (.goto 80, 3) := dk_167 0 80 (dk_at dksJ5_fixAfterDeletion_11 0 rfl rfl)
theorem dJ5_fixAfterDeletion_265 : decode cJ5_fixAfterDeletion 265 = .ok (.aload_n 2, 1) := dk_44 (dk_at dksJ5_fixAfterDeletion_11 3 rfl rfl)
theorem dJ5_fixAfterDeletion_266 : decode cJ5_fixAfterDeletion 266 = .ok (.invokestatic 297, 3) := dk_184 1 41 (dk_at dksJ5_fixAfterDeletion_11 4 rfl rfl)
theorem dJ5_fixAfterDeletion_269 : decode cJ5_fixAfterDeletion 269 = .ok (.invokestatic 303, 3) := dk_184 1 47 (dk_at dksJ5_fixAfterDeletion_11 7 rfl rfl)
theorem dJ5_fixAfterDeletion_272 : decode cJ5_fixAfterDeletion 272 = .ok (.iconst 1, 1) := dk_4 (dk_at dksJ5_fixAfterDeletion_11 10 rfl rfl)
theorem dJ5_fixAfterDeletion_273 : decode cJ5_fixAfterDeletion 273 = .ok (.if_icmp .ne 29, 3) := dk_160 0 29 (dk_at dksJ5_fixAfterDeletion_11 11 rfl rfl)
theorem dJ5_fixAfterDeletion_276 : decode cJ5_fixAfterDeletion 276 = .ok (.aload_n 2, 1) := dk_44 (dk_at dksJ5_fixAfterDeletion_11 14 rfl rfl)
theorem dJ5_fixAfterDeletion_277 : decode cJ5_fixAfterDeletion 277 = .ok (.invokestatic 300, 3) := dk_184 1 44 (dk_at dksJ5_fixAfterDeletion_11 15 rfl rfl)
theorem dJ5_fixAfterDeletion_280 : decode cJ5_fixAfterDeletion 280 = .ok (.iconst 1, 1) := dk_4 (dk_at dksJ5_fixAfterDeletion_11 18 rfl rfl)
theorem dJ5_fixAfterDeletion_281 : decode cJ5_fixAfterDeletion 281 = .ok (.invokestatic 307, 3) := dk_184 1 51 (dk_at dksJ5_fixAfterDeletion_11 19 rfl rfl)
theorem dJ5_fixAfterDeletion_284 : decode cJ5_fixAfterDeletion 284 = .ok (.aload_n 2, 1) := dk_44 (dk_at dksJ5_fixAfterDeletion_11 22 rfl rfl)
theorem dJ5_fixAfterDeletion_285 : decode cJ5_fixAfterDeletion 285 = .ok (.iconst 0, 1) := dk_3 (dk_at dksJ5_fixAfterDeletion_11 23 rfl rfl)
theorem dJ5_fixAfterDeletion_286 : decode cJ5_fixAfterDeletion 286 = .ok (.invokestatic 307, 3) := dk_184 1 51 (dk_at dksJ5_fixAfterDeletion_12 0 rfl rfl)
theorem dJ5_fixAfterDeletion_289 : decode cJ5_fixAfterDeletion 289 = .ok (.aload_n 0, 1) := dk_42 (dk_at dksJ5_fixAfterDeletion_12 3 rfl rfl)
theorem dJ5_fixAfterDeletion_290 : decode cJ5_fixAfterDeletion 290 = .ok (.aload_n 2, 1) := dk_44 (dk_at dksJ5_fixAfterDeletion_12 4 rfl rfl)
theorem dJ5_fixAfterDeletion_291 : decode cJ5_fixAfterDeletion 291 = .ok (.invokevirtual 311, 3) := dk_182 1 55 (dk_at dksJ5_fixAfterDeletion_12 5 rfl rfl)
theorem dJ5_fixAfterDeletion_294 : decode cJ5_fixAfterDeletion 294 = .ok (.aload_n 1, 1) := dk_43 (dk_at dksJ5_fixAfterDeletion_12 8 rfl rfl)
theorem dJ5_fixAfterDeletion_295 : decode cJ5_fixAfterDeletion 295 = .ok (.invokestatic 294, 3) := dk_184 1 38 (dk_at dksJ5_fixAfterDeletion_12 9 rfl rfl)
theorem dJ5_fixAfterDeletion_298 : decode cJ5_fixAfterDeletion 298 = .ok (.invokestatic 297, 3) := dk_184 1 41 (dk_at dksJ5_fixAfterDeletion_12 12 rfl rfl)
theorem dJ5_fixAfterDeletion_301 : decode cJ5_fixAfterDeletion 301 = .ok (.astore_n 2, 1) := dk_77 (dk_at dksJ5_fixAfterDeletion_12 15 rfl rfl)
theorem dJ5_fixAfterDeletion_302 : decode cJ5_fixAfterDeletion 302 = .ok (.aload_n 2, 1) := dk_44 (dk_at dksJ5_fixAfterDeletion_12 16 rfl rfl)
theorem dJ5_fixAfterDeletion_303 : decode cJ5_fixAfterDeletion 303 = .ok (.aload_n 1, 1) := dk_43 (dk_at dksJ5_fixAfterDeletion_12 17 rfl rfl)
theorem dJ5_fixAfterDeletion_304 : decode cJ5_fixAfterDeletion 304 = .ok (.invokestatic 294, 3) := dk_184 1 38 (dk_at dksJ5_fixAfterDeletion_12 18 rfl rfl)
theorem dJ5_fixAfterDeletion_307 : decode cJ5_fixAfterDeletion 307 = .ok (.invokestatic 303, 3) := dk_184 1 47 (dk_at dksJ5_fixAfterDeletion_12 21 rfl rfl)
theorem dJ5_fixAfterDeletion_310 : decode cJ5_fixAfterDeletion 310 = .ok (.invokestatic 307, 3) := dk_184 1 51 (dk_at dksJ5_fixAfterDeletion_13 0 rfl rfl)
theorem dJ5_fixAfterDeletion_313 : decode cJ5_fixAfterDeletion 313 = .ok (.aload_n 1, 1) := dk_43 (dk_at dksJ5_fixAfterDeletion_13 3 rfl rfl)
theorem dJ5_fixAfterDeletion_314 : decode cJ5_fixAfterDeletion 314 = .ok (.invokestatic 294, 3) := dk_184 1 38 (dk_at dksJ5_fixAfterDeletion_13 4 rfl rfl)
theorem dJ5_fixAfterDeletion_317 : decode cJ5_fixAfterDeletion 317 = .ok (.iconst 1, 1) := dk_4 (dk_at dksJ5_fixAfterDeletion_13 7 rfl rfl)
theorem dJ5_fixAfterDeletion_318 : decode cJ5_fixAfterDeletion 318 = .ok (.invokestatic 307, 3) := dk_184 1 51 (dk_at dksJ5_fixAfterDeletion_13 8 rfl rfl)
theorem dJ5_fixAfterDeletion_321 : decode cJ5_fixAfterDeletion 321 = .ok (.aload_n 2, 1) := dk_44 (dk_at dksJ5_fixAfterDeletion_13 11 rfl rfl)
theorem dJ5_fixAfterDeletion_322 : decode cJ5_fixAfterDeletion 322 = .ok (.invokestatic 297, 3) := dk_184 1 41 (dk_at dksJ5_fixAfterDeletion_13 12 rfl rfl)
theorem dJ5_fixAfterDeletion_325 : decode cJ5_fixAfterDeletion 325 = .ok (.iconst 1, 1) := dk_4 (dk_at dksJ5_fixAfterDeletion_13 15 rfl rfl)
theorem dJ5_fixAfterDeletion_326 : decode cJ5_fixAfterDeletion 326 = .ok (.invokestatic 307, 3) := dk_184 1 51 (dk_at dksJ5_fixAfterDeletion_13 16 rfl rfl)
theorem dJ5_fixAfterDeletion_329 : decode cJ5_fixAfterDeletion 329 = .ok (.aload_n 0, 1) := dk_42 (dk_at dksJ5_fixAfterDeletion_13 19 rfl rfl)
theorem dJ5_fixAfterDeletion_330 : decode cJ5_fixAfterDeletion 330 = .ok (.aload_n 1, 1) := dk_43 (dk_at dksJ5_fixAfterDeletion_13 20 rfl rfl)
theorem dJ5_fixAfterDeletion_331 : decode cJ5_fixAfterDeletion 331 = .ok (.invokestatic 294, 3) := dk_184 1 38 (dk_at dksJ5_fixAfterDeletion_13 21 rfl rfl)
theorem dJ5_fixAfterDeletion_334 : decode cJ5_fixAfterDeletion 334 = .ok (.invokevirtual 314, 3) := dk_182 1 58 (dk_at dksJ5_fixAfterDeletion_14 0 rfl rfl)
theorem dJ5_fixAfterDeletion_337 : decode cJ5_fixAfterDeletion 337 = .ok (.aload_n 0, 1) := dk_42 (dk_at dksJ5_fixAfterDeletion_14 3 rfl rfl)
theorem dJ5_fixAfterDeletion_338 : decode cJ5_fixAfterDeletion 338 = .ok (.getfield 101, 3) := dk_180 0 101 (dk_at dksJ5_fixAfterDeletion_14 4 rfl rfl)
theorem dJ5_fixAfterDeletion_341 : decode cJ5_fixAfterDeletion 341 = .ok (.astore_n 1, 1) := dk_76 (dk_at dksJ5_fixAfterDeletion_14 7 rfl rfl)
theorem dJ5_fixAfterDeletion_342 : decode cJ5_fixAfterDeletion 342 = .ok (.goto (-342), 3) := dk_167 254 170 (dk_at dksJ5_fixAfterDeletion_14 8 rfl rfl)
theorem dJ5_fixAfterDeletion_345 : decode cJ5_fixAfterDeletion 345 = .ok (.aload_n 1, 1) := dk_43 (dk_at dksJ5_fixAfterDeletion_14 11 rfl rfl)
theorem dJ5_fixAfterDeletion_346 : decode cJ5_fixAfterDeletion 346 = .ok (.iconst 1, 1) := dk_4 (dk_at dksJ5_fixAfterDeletion_14 12 rfl rfl)
theorem dJ5_fixAfterDeletion_347 : decode cJ5_fixAfterDeletion 347 = .ok (.invokestatic 307, 3) := dk_184 1 51 (dk_at dksJ5_fixAfterDeletion_14 13 rfl rfl)
theorem dJ5_fixAfterDeletion_350 : decode cJ5_fixAfterDeletion 350 = .ok (.return_, 1) := dk_177 (dk_at dksJ5_fixAfterDeletion_14 16 rfl rfl)
abbrev cJ5_colorOf : ByteArray := prog_60_method_76_code
def yJ5_colorOf : MethodName := ⟨RJ5, "colorOf", "(Ljava/util/TreeMap$Entry;)Z"⟩
def dkwJ5_colorOf_0 : List UInt8 := [42, 199, 0, 7, 4, 167, 0, 7, 42, 180, 1, 34, 172]
abbrev dktJ5_colorOf_0 : List UInt8 := dkwJ5_colorOf_0 ++ []
theorem dksJ5_colorOf_0 : cJ5_colorOf.data.toList.drop 0 = dktJ5_colorOf_0 := by decide +kernel
theorem dJ5_colorOf_0 : decode cJ5_colorOf 0 = .ok (.aload_n 0, 1) := dk_42 (dk_at dksJ5_colorOf_0 0 rfl rfl)
theorem dJ5_colorOf_1 : decode cJ5_colorOf 1 = .ok (.ifnonnull 7, 3) := dk_199 0 7 (dk_at dksJ5_colorOf_0 1 rfl rfl)
theorem dJ5_colorOf_4 : decode cJ5_colorOf 4 = .ok (.iconst 1, 1) := dk_4 (dk_at dksJ5_colorOf_0 4 rfl rfl)
theorem dJ5_colorOf_5 : decode cJ5_colorOf 5 = .ok (.goto 7, 3) := dk_167 0 7 (dk_at dksJ5_colorOf_0 5 rfl rfl)
theorem dJ5_colorOf_8 : decode cJ5_colorOf 8 = .ok (.aload_n 0, 1) := dk_42 (dk_at dksJ5_colorOf_0 8 rfl rfl)
theorem dJ5_colorOf_9 : decode cJ5_colorOf 9 = .ok (.getfield 290, 3) := dk_180 1 34 (dk_at dksJ5_colorOf_0 9 rfl rfl)
theorem dJ5_colorOf_12 : decode cJ5_colorOf 12 = .ok (.ireturn, 1) := dk_172 (dk_at dksJ5_colorOf_0 12 rfl rfl)
abbrev cJ5_parentOf : ByteArray := prog_60_method_77_code
def yJ5_parentOf : MethodName := ⟨RJ5, "parentOf", "(Ljava/util/TreeMap$Entry;)Ljava/util/TreeMap$Entry;"⟩
def dkwJ5_parentOf_0 : List UInt8 := [42, 199, 0, 7, 1, 167, 0, 7, 42, 180, 0, 124, 176]
abbrev dktJ5_parentOf_0 : List UInt8 := dkwJ5_parentOf_0 ++ []
theorem dksJ5_parentOf_0 : cJ5_parentOf.data.toList.drop 0 = dktJ5_parentOf_0 := by decide +kernel
theorem dJ5_parentOf_0 : decode cJ5_parentOf 0 = .ok (.aload_n 0, 1) := dk_42 (dk_at dksJ5_parentOf_0 0 rfl rfl)
theorem dJ5_parentOf_1 : decode cJ5_parentOf 1 = .ok (.ifnonnull 7, 3) := dk_199 0 7 (dk_at dksJ5_parentOf_0 1 rfl rfl)
theorem dJ5_parentOf_4 : decode cJ5_parentOf 4 = .ok (.aconst_null, 1) := dk_1 (dk_at dksJ5_parentOf_0 4 rfl rfl)
theorem dJ5_parentOf_5 : decode cJ5_parentOf 5 = .ok (.goto 7, 3) := dk_167 0 7 (dk_at dksJ5_parentOf_0 5 rfl rfl)
theorem dJ5_parentOf_8 : decode cJ5_parentOf 8 = .ok (.aload_n 0, 1) := dk_42 (dk_at dksJ5_parentOf_0 8 rfl rfl)
theorem dJ5_parentOf_9 : decode cJ5_parentOf 9 = .ok (.getfield 124, 3) := dk_180 0 124 (dk_at dksJ5_parentOf_0 9 rfl rfl)
theorem dJ5_parentOf_12 : decode cJ5_parentOf 12 = .ok (.areturn, 1) := dk_176 (dk_at dksJ5_parentOf_0 12 rfl rfl)
abbrev cJ5_leftOf : ByteArray := prog_60_method_79_code
def yJ5_leftOf : MethodName := ⟨RJ5, "leftOf", "(Ljava/util/TreeMap$Entry;)Ljava/util/TreeMap$Entry;"⟩
def dkwJ5_leftOf_0 : List UInt8 := [42, 199, 0, 7, 1, 167, 0, 7, 42, 180, 0, 111, 176]
abbrev dktJ5_leftOf_0 : List UInt8 := dkwJ5_leftOf_0 ++ []
theorem dksJ5_leftOf_0 : cJ5_leftOf.data.toList.drop 0 = dktJ5_leftOf_0 := by decide +kernel
theorem dJ5_leftOf_0 : decode cJ5_leftOf 0 = .ok (.aload_n 0, 1) := dk_42 (dk_at dksJ5_leftOf_0 0 rfl rfl)
theorem dJ5_leftOf_1 : decode cJ5_leftOf 1 = .ok (.ifnonnull 7, 3) := dk_199 0 7 (dk_at dksJ5_leftOf_0 1 rfl rfl)
theorem dJ5_leftOf_4 : decode cJ5_leftOf 4 = .ok (.aconst_null, 1) := dk_1 (dk_at dksJ5_leftOf_0 4 rfl rfl)
theorem dJ5_leftOf_5 : decode cJ5_leftOf 5 = .ok (.goto 7, 3) := dk_167 0 7 (dk_at dksJ5_leftOf_0 5 rfl rfl)
theorem dJ5_leftOf_8 : decode cJ5_leftOf 8 = .ok (.aload_n 0, 1) := dk_42 (dk_at dksJ5_leftOf_0 8 rfl rfl)
theorem dJ5_leftOf_9 : decode cJ5_leftOf 9 = .ok (.getfield 111, 3) := dk_180 0 111 (dk_at dksJ5_leftOf_0 9 rfl rfl)
theorem dJ5_leftOf_12 : decode cJ5_leftOf 12 = .ok (.areturn, 1) := dk_176 (dk_at dksJ5_leftOf_0 12 rfl rfl)
abbrev cJ5_rightOf : ByteArray := prog_60_method_80_code
def yJ5_rightOf : MethodName := ⟨RJ5, "rightOf", "(Ljava/util/TreeMap$Entry;)Ljava/util/TreeMap$Entry;"⟩
def dkwJ5_rightOf_0 : List UInt8 := [42, 199, 0, 7, 1, 167, 0, 7, 42, 180, 0, 114, 176]
abbrev dktJ5_rightOf_0 : List UInt8 := dkwJ5_rightOf_0 ++ []
theorem dksJ5_rightOf_0 : cJ5_rightOf.data.toList.drop 0 = dktJ5_rightOf_0 := by decide +kernel
theorem dJ5_rightOf_0 : decode cJ5_rightOf 0 = .ok (.aload_n 0, 1) := dk_42 (dk_at dksJ5_rightOf_0 0 rfl rfl)
theorem dJ5_rightOf_1 : decode cJ5_rightOf 1 = .ok (.ifnonnull 7, 3) := dk_199 0 7 (dk_at dksJ5_rightOf_0 1 rfl rfl)
theorem dJ5_rightOf_4 : decode cJ5_rightOf 4 = .ok (.aconst_null, 1) := dk_1 (dk_at dksJ5_rightOf_0 4 rfl rfl)
theorem dJ5_rightOf_5 : decode cJ5_rightOf 5 = .ok (.goto 7, 3) := dk_167 0 7 (dk_at dksJ5_rightOf_0 5 rfl rfl)
theorem dJ5_rightOf_8 : decode cJ5_rightOf 8 = .ok (.aload_n 0, 1) := dk_42 (dk_at dksJ5_rightOf_0 8 rfl rfl)
theorem dJ5_rightOf_9 : decode cJ5_rightOf 9 = .ok (.getfield 114, 3) := dk_180 0 114 (dk_at dksJ5_rightOf_0 9 rfl rfl)
theorem dJ5_rightOf_12 : decode cJ5_rightOf 12 = .ok (.areturn, 1) := dk_176 (dk_at dksJ5_rightOf_0 12 rfl rfl)
abbrev cJ5_setColor : ByteArray := prog_60_method_78_code
def yJ5_setColor : MethodName := ⟨RJ5, "setColor", "(Ljava/util/TreeMap$Entry;Z)V"⟩
def dkwJ5_setColor_0 : List UInt8 := [42, 198, 0, 8, 42, 27, 181, 1, 34, 177]
abbrev dktJ5_setColor_0 : List UInt8 := dkwJ5_setColor_0 ++ []
theorem dksJ5_setColor_0 : cJ5_setColor.data.toList.drop 0 = dktJ5_setColor_0 := by decide +kernel
theorem dJ5_setColor_0 : decode cJ5_setColor 0 = .ok (.aload_n 0, 1) := dk_42 (dk_at dksJ5_setColor_0 0 rfl rfl)
theorem dJ5_setColor_1 : decode cJ5_setColor 1 = .ok (.ifnull 8, 3) := dk_198 0 8 (dk_at dksJ5_setColor_0 1 rfl rfl)
theorem dJ5_setColor_4 : decode cJ5_setColor 4 = .ok (.aload_n 0, 1) := dk_42 (dk_at dksJ5_setColor_0 4 rfl rfl)
theorem dJ5_setColor_5 : decode cJ5_setColor 5 = .ok (.iload_n 1, 1) := dk_27 (dk_at dksJ5_setColor_0 5 rfl rfl)
theorem dJ5_setColor_6 : decode cJ5_setColor 6 = .ok (.putfield 290, 3) := dk_181 1 34 (dk_at dksJ5_setColor_0 6 rfl rfl)
theorem dJ5_setColor_9 : decode cJ5_setColor 9 = .ok (.return_, 1) := dk_177 (dk_at dksJ5_setColor_0 9 rfl rfl)
abbrev cJ5_rotateLeft : ByteArray := prog_60_method_81_code
def yJ5_rotateLeft : MethodName := ⟨RJ5, "rotateLeft", "(Ljava/util/TreeMap$Entry;)V"⟩
def dkwJ5_rotateLeft_4 : List UInt8 := [177]
abbrev dktJ5_rotateLeft_4 : List UInt8 := dkwJ5_rotateLeft_4 ++ []
def dkwJ5_rotateLeft_3 : List UInt8 := [181, 0, 111, 167, 0, 11, 43, 180, 0, 124, 44, 181, 0, 114, 44, 43, 181, 0, 111, 43, 44, 181, 0, 124]
abbrev dktJ5_rotateLeft_3 : List UInt8 := dkwJ5_rotateLeft_3 ++ dktJ5_rotateLeft_4
def dkwJ5_rotateLeft_2 : List UInt8 := [44, 181, 0, 101, 167, 0, 33, 43, 180, 0, 124, 180, 0, 111, 43, 166, 0, 14, 43, 180, 0, 124, 44]
abbrev dktJ5_rotateLeft_2 : List UInt8 := dkwJ5_rotateLeft_2 ++ dktJ5_rotateLeft_3
def dkwJ5_rotateLeft_1 : List UInt8 := [44, 180, 0, 111, 43, 181, 0, 124, 44, 43, 180, 0, 124, 181, 0, 124, 43, 180, 0, 124, 199, 0, 11, 42]
abbrev dktJ5_rotateLeft_1 : List UInt8 := dkwJ5_rotateLeft_1 ++ dktJ5_rotateLeft_2
def dkwJ5_rotateLeft_0 : List UInt8 := [43, 198, 0, 94, 43, 180, 0, 114, 77, 43, 44, 180, 0, 111, 181, 0, 114, 44, 180, 0, 111, 198, 0, 11]
abbrev dktJ5_rotateLeft_0 : List UInt8 := dkwJ5_rotateLeft_0 ++ dktJ5_rotateLeft_1
theorem dksJ5_rotateLeft_0 : cJ5_rotateLeft.data.toList.drop 0 = dktJ5_rotateLeft_0 := by decide +kernel
theorem dksJ5_rotateLeft_1 : cJ5_rotateLeft.data.toList.drop 24 = dktJ5_rotateLeft_1 := dk_seg dksJ5_rotateLeft_0 24 rfl rfl
theorem dksJ5_rotateLeft_2 : cJ5_rotateLeft.data.toList.drop 48 = dktJ5_rotateLeft_2 := dk_seg dksJ5_rotateLeft_1 24 rfl rfl
theorem dksJ5_rotateLeft_3 : cJ5_rotateLeft.data.toList.drop 71 = dktJ5_rotateLeft_3 := dk_seg dksJ5_rotateLeft_2 23 rfl rfl
theorem dksJ5_rotateLeft_4 : cJ5_rotateLeft.data.toList.drop 95 = dktJ5_rotateLeft_4 := dk_seg dksJ5_rotateLeft_3 24 rfl rfl
theorem dJ5_rotateLeft_0 : decode cJ5_rotateLeft 0 = .ok (.aload_n 1, 1) := dk_43 (dk_at dksJ5_rotateLeft_0 0 rfl rfl)
theorem dJ5_rotateLeft_1 : decode cJ5_rotateLeft 1 = .ok (.ifnull 94, 3) := dk_198 0 94 (dk_at dksJ5_rotateLeft_0 1 rfl rfl)
theorem dJ5_rotateLeft_4 : decode cJ5_rotateLeft 4 = .ok (.aload_n 1, 1) := dk_43 (dk_at dksJ5_rotateLeft_0 4 rfl rfl)
theorem dJ5_rotateLeft_5 : decode cJ5_rotateLeft 5 = .ok (.getfield 114, 3) := dk_180 0 114 (dk_at dksJ5_rotateLeft_0 5 rfl rfl)
theorem dJ5_rotateLeft_8 : decode cJ5_rotateLeft 8 = .ok (.astore_n 2, 1) := dk_77 (dk_at dksJ5_rotateLeft_0 8 rfl rfl)
theorem dJ5_rotateLeft_9 : decode cJ5_rotateLeft 9 = .ok (.aload_n 1, 1) := dk_43 (dk_at dksJ5_rotateLeft_0 9 rfl rfl)
theorem dJ5_rotateLeft_10 : decode cJ5_rotateLeft 10 = .ok (.aload_n 2, 1) := dk_44 (dk_at dksJ5_rotateLeft_0 10 rfl rfl)
theorem dJ5_rotateLeft_11 : decode cJ5_rotateLeft 11 = .ok (.getfield 111, 3) := dk_180 0 111 (dk_at dksJ5_rotateLeft_0 11 rfl rfl)
theorem dJ5_rotateLeft_14 : decode cJ5_rotateLeft 14 = .ok (.putfield 114, 3) := dk_181 0 114 (dk_at dksJ5_rotateLeft_0 14 rfl rfl)
theorem dJ5_rotateLeft_17 : decode cJ5_rotateLeft 17 = .ok (.aload_n 2, 1) := dk_44 (dk_at dksJ5_rotateLeft_0 17 rfl rfl)
theorem dJ5_rotateLeft_18 : decode cJ5_rotateLeft 18 = .ok (.getfield 111, 3) := dk_180 0 111 (dk_at dksJ5_rotateLeft_0 18 rfl rfl)
theorem dJ5_rotateLeft_21 : decode cJ5_rotateLeft 21 = .ok (.ifnull 11, 3) := dk_198 0 11 (dk_at dksJ5_rotateLeft_0 21 rfl rfl)
theorem dJ5_rotateLeft_24 : decode cJ5_rotateLeft 24 = .ok (.aload_n 2, 1) := dk_44 (dk_at dksJ5_rotateLeft_1 0 rfl rfl)
theorem dJ5_rotateLeft_25 : decode cJ5_rotateLeft 25 = .ok (.getfield 111, 3) := dk_180 0 111 (dk_at dksJ5_rotateLeft_1 1 rfl rfl)
theorem dJ5_rotateLeft_28 : decode cJ5_rotateLeft 28 = .ok (.aload_n 1, 1) := dk_43 (dk_at dksJ5_rotateLeft_1 4 rfl rfl)
theorem dJ5_rotateLeft_29 : decode cJ5_rotateLeft 29 = .ok (.putfield 124, 3) := dk_181 0 124 (dk_at dksJ5_rotateLeft_1 5 rfl rfl)
theorem dJ5_rotateLeft_32 : decode cJ5_rotateLeft 32 = .ok (.aload_n 2, 1) := dk_44 (dk_at dksJ5_rotateLeft_1 8 rfl rfl)
theorem dJ5_rotateLeft_33 : decode cJ5_rotateLeft 33 = .ok (.aload_n 1, 1) := dk_43 (dk_at dksJ5_rotateLeft_1 9 rfl rfl)
theorem dJ5_rotateLeft_34 : decode cJ5_rotateLeft 34 = .ok (.getfield 124, 3) := dk_180 0 124 (dk_at dksJ5_rotateLeft_1 10 rfl rfl)
theorem dJ5_rotateLeft_37 : decode cJ5_rotateLeft 37 = .ok (.putfield 124, 3) := dk_181 0 124 (dk_at dksJ5_rotateLeft_1 13 rfl rfl)
theorem dJ5_rotateLeft_40 : decode cJ5_rotateLeft 40 = .ok (.aload_n 1, 1) := dk_43 (dk_at dksJ5_rotateLeft_1 16 rfl rfl)
theorem dJ5_rotateLeft_41 : decode cJ5_rotateLeft 41 = .ok (.getfield 124, 3) := dk_180 0 124 (dk_at dksJ5_rotateLeft_1 17 rfl rfl)
theorem dJ5_rotateLeft_44 : decode cJ5_rotateLeft 44 = .ok (.ifnonnull 11, 3) := dk_199 0 11 (dk_at dksJ5_rotateLeft_1 20 rfl rfl)
theorem dJ5_rotateLeft_47 : decode cJ5_rotateLeft 47 = .ok (.aload_n 0, 1) := dk_42 (dk_at dksJ5_rotateLeft_1 23 rfl rfl)
theorem dJ5_rotateLeft_48 : decode cJ5_rotateLeft 48 = .ok (.aload_n 2, 1) := dk_44 (dk_at dksJ5_rotateLeft_2 0 rfl rfl)
theorem dJ5_rotateLeft_49 : decode cJ5_rotateLeft 49 = .ok (.putfield 101, 3) := dk_181 0 101 (dk_at dksJ5_rotateLeft_2 1 rfl rfl)
theorem dJ5_rotateLeft_52 : decode cJ5_rotateLeft 52 = .ok (.goto 33, 3) := dk_167 0 33 (dk_at dksJ5_rotateLeft_2 4 rfl rfl)
theorem dJ5_rotateLeft_55 : decode cJ5_rotateLeft 55 = .ok (.aload_n 1, 1) := dk_43 (dk_at dksJ5_rotateLeft_2 7 rfl rfl)
theorem dJ5_rotateLeft_56 : decode cJ5_rotateLeft 56 = .ok (.getfield 124, 3) := dk_180 0 124 (dk_at dksJ5_rotateLeft_2 8 rfl rfl)
theorem dJ5_rotateLeft_59 : decode cJ5_rotateLeft 59 = .ok (.getfield 111, 3) := dk_180 0 111 (dk_at dksJ5_rotateLeft_2 11 rfl rfl)
theorem dJ5_rotateLeft_62 : decode cJ5_rotateLeft 62 = .ok (.aload_n 1, 1) := dk_43 (dk_at dksJ5_rotateLeft_2 14 rfl rfl)
theorem dJ5_rotateLeft_63 : decode cJ5_rotateLeft 63 = .ok (.if_acmp .ne 14, 3) := dk_166 0 14 (dk_at dksJ5_rotateLeft_2 15 rfl rfl)
theorem dJ5_rotateLeft_66 : decode cJ5_rotateLeft 66 = .ok (.aload_n 1, 1) := dk_43 (dk_at dksJ5_rotateLeft_2 18 rfl rfl)
theorem dJ5_rotateLeft_67 : decode cJ5_rotateLeft 67 = .ok (.getfield 124, 3) := dk_180 0 124 (dk_at dksJ5_rotateLeft_2 19 rfl rfl)
theorem dJ5_rotateLeft_70 : decode cJ5_rotateLeft 70 = .ok (.aload_n 2, 1) := dk_44 (dk_at dksJ5_rotateLeft_2 22 rfl rfl)
theorem dJ5_rotateLeft_71 : decode cJ5_rotateLeft 71 = .ok (.putfield 111, 3) := dk_181 0 111 (dk_at dksJ5_rotateLeft_3 0 rfl rfl)
theorem dJ5_rotateLeft_74 : decode cJ5_rotateLeft 74 = .ok (.goto 11, 3) := dk_167 0 11 (dk_at dksJ5_rotateLeft_3 3 rfl rfl)
theorem dJ5_rotateLeft_77 : decode cJ5_rotateLeft 77 = .ok (.aload_n 1, 1) := dk_43 (dk_at dksJ5_rotateLeft_3 6 rfl rfl)
theorem dJ5_rotateLeft_78 : decode cJ5_rotateLeft 78 = .ok (.getfield 124, 3) := dk_180 0 124 (dk_at dksJ5_rotateLeft_3 7 rfl rfl)
theorem dJ5_rotateLeft_81 : decode cJ5_rotateLeft 81 = .ok (.aload_n 2, 1) := dk_44 (dk_at dksJ5_rotateLeft_3 10 rfl rfl)
theorem dJ5_rotateLeft_82 : decode cJ5_rotateLeft 82 = .ok (.putfield 114, 3) := dk_181 0 114 (dk_at dksJ5_rotateLeft_3 11 rfl rfl)
theorem dJ5_rotateLeft_85 : decode cJ5_rotateLeft 85 = .ok (.aload_n 2, 1) := dk_44 (dk_at dksJ5_rotateLeft_3 14 rfl rfl)
theorem dJ5_rotateLeft_86 : decode cJ5_rotateLeft 86 = .ok (.aload_n 1, 1) := dk_43 (dk_at dksJ5_rotateLeft_3 15 rfl rfl)
theorem dJ5_rotateLeft_87 : decode cJ5_rotateLeft 87 = .ok (.putfield 111, 3) := dk_181 0 111 (dk_at dksJ5_rotateLeft_3 16 rfl rfl)
theorem dJ5_rotateLeft_90 : decode cJ5_rotateLeft 90 = .ok (.aload_n 1, 1) := dk_43 (dk_at dksJ5_rotateLeft_3 19 rfl rfl)
theorem dJ5_rotateLeft_91 : decode cJ5_rotateLeft 91 = .ok (.aload_n 2, 1) := dk_44 (dk_at dksJ5_rotateLeft_3 20 rfl rfl)
theorem dJ5_rotateLeft_92 : decode cJ5_rotateLeft 92 = .ok (.putfield 124, 3) := dk_181 0 124 (dk_at dksJ5_rotateLeft_3 21 rfl rfl)
theorem dJ5_rotateLeft_95 : decode cJ5_rotateLeft 95 = .ok (.return_, 1) := dk_177 (dk_at dksJ5_rotateLeft_4 0 rfl rfl)
abbrev cJ5_rotateRight : ByteArray := prog_60_method_82_code
def yJ5_rotateRight : MethodName := ⟨RJ5, "rotateRight", "(Ljava/util/TreeMap$Entry;)V"⟩
def dkwJ5_rotateRight_4 : List UInt8 := [177]
abbrev dktJ5_rotateRight_4 : List UInt8 := dkwJ5_rotateRight_4 ++ []
def dkwJ5_rotateRight_3 : List UInt8 := [181, 0, 114, 167, 0, 11, 43, 180, 0, 124, 44, 181, 0, 111, 44, 43, 181, 0, 114, 43, 44, 181, 0, 124]
abbrev dktJ5_rotateRight_3 : List UInt8 := dkwJ5_rotateRight_3 ++ dktJ5_rotateRight_4
def dkwJ5_rotateRight_2 : List UInt8 := [44, 181, 0, 101, 167, 0, 33, 43, 180, 0, 124, 180, 0, 114, 43, 166, 0, 14, 43, 180, 0, 124, 44]
abbrev dktJ5_rotateRight_2 : List UInt8 := dkwJ5_rotateRight_2 ++ dktJ5_rotateRight_3
def dkwJ5_rotateRight_1 : List UInt8 := [44, 180, 0, 114, 43, 181, 0, 124, 44, 43, 180, 0, 124, 181, 0, 124, 43, 180, 0, 124, 199, 0, 11, 42]
abbrev dktJ5_rotateRight_1 : List UInt8 := dkwJ5_rotateRight_1 ++ dktJ5_rotateRight_2
def dkwJ5_rotateRight_0 : List UInt8 := [43, 198, 0, 94, 43, 180, 0, 111, 77, 43, 44, 180, 0, 114, 181, 0, 111, 44, 180, 0, 114, 198, 0, 11]
abbrev dktJ5_rotateRight_0 : List UInt8 := dkwJ5_rotateRight_0 ++ dktJ5_rotateRight_1
theorem dksJ5_rotateRight_0 : cJ5_rotateRight.data.toList.drop 0 = dktJ5_rotateRight_0 := by decide +kernel
theorem dksJ5_rotateRight_1 : cJ5_rotateRight.data.toList.drop 24 = dktJ5_rotateRight_1 := dk_seg dksJ5_rotateRight_0 24 rfl rfl
theorem dksJ5_rotateRight_2 : cJ5_rotateRight.data.toList.drop 48 = dktJ5_rotateRight_2 := dk_seg dksJ5_rotateRight_1 24 rfl rfl
theorem dksJ5_rotateRight_3 : cJ5_rotateRight.data.toList.drop 71 = dktJ5_rotateRight_3 := dk_seg dksJ5_rotateRight_2 23 rfl rfl
theorem dksJ5_rotateRight_4 : cJ5_rotateRight.data.toList.drop 95 = dktJ5_rotateRight_4 := dk_seg dksJ5_rotateRight_3 24 rfl rfl
theorem dJ5_rotateRight_0 : decode cJ5_rotateRight 0 = .ok (.aload_n 1, 1) := dk_43 (dk_at dksJ5_rotateRight_0 0 rfl rfl)
theorem dJ5_rotateRight_1 : decode cJ5_rotateRight 1 = .ok (.ifnull 94, 3) := dk_198 0 94 (dk_at dksJ5_rotateRight_0 1 rfl rfl)
theorem dJ5_rotateRight_4 : decode cJ5_rotateRight 4 = .ok (.aload_n 1, 1) := dk_43 (dk_at dksJ5_rotateRight_0 4 rfl rfl)
theorem dJ5_rotateRight_5 : decode cJ5_rotateRight 5 = .ok (.getfield 111, 3) := dk_180 0 111 (dk_at dksJ5_rotateRight_0 5 rfl rfl)
theorem dJ5_rotateRight_8 : decode cJ5_rotateRight 8 = .ok (.astore_n 2, 1) := dk_77 (dk_at dksJ5_rotateRight_0 8 rfl rfl)
theorem dJ5_rotateRight_9 : decode cJ5_rotateRight 9 = .ok (.aload_n 1, 1) := dk_43 (dk_at dksJ5_rotateRight_0 9 rfl rfl)
theorem dJ5_rotateRight_10 : decode cJ5_rotateRight 10 = .ok (.aload_n 2, 1) := dk_44 (dk_at dksJ5_rotateRight_0 10 rfl rfl)
theorem dJ5_rotateRight_11 : decode cJ5_rotateRight 11 = .ok (.getfield 114, 3) := dk_180 0 114 (dk_at dksJ5_rotateRight_0 11 rfl rfl)
theorem dJ5_rotateRight_14 : decode cJ5_rotateRight 14 = .ok (.putfield 111, 3) := dk_181 0 111 (dk_at dksJ5_rotateRight_0 14 rfl rfl)
theorem dJ5_rotateRight_17 : decode cJ5_rotateRight 17 = .ok (.aload_n 2, 1) := dk_44 (dk_at dksJ5_rotateRight_0 17 rfl rfl)
theorem dJ5_rotateRight_18 : decode cJ5_rotateRight 18 = .ok (.getfield 114, 3) := dk_180 0 114 (dk_at dksJ5_rotateRight_0 18 rfl rfl)
theorem dJ5_rotateRight_21 : decode cJ5_rotateRight 21 = .ok (.ifnull 11, 3) := dk_198 0 11 (dk_at dksJ5_rotateRight_0 21 rfl rfl)
theorem dJ5_rotateRight_24 : decode cJ5_rotateRight 24 = .ok (.aload_n 2, 1) := dk_44 (dk_at dksJ5_rotateRight_1 0 rfl rfl)
theorem dJ5_rotateRight_25 : decode cJ5_rotateRight 25 = .ok (.getfield 114, 3) := dk_180 0 114 (dk_at dksJ5_rotateRight_1 1 rfl rfl)
theorem dJ5_rotateRight_28 : decode cJ5_rotateRight 28 = .ok (.aload_n 1, 1) := dk_43 (dk_at dksJ5_rotateRight_1 4 rfl rfl)
theorem dJ5_rotateRight_29 : decode cJ5_rotateRight 29 = .ok (.putfield 124, 3) := dk_181 0 124 (dk_at dksJ5_rotateRight_1 5 rfl rfl)
theorem dJ5_rotateRight_32 : decode cJ5_rotateRight 32 = .ok (.aload_n 2, 1) := dk_44 (dk_at dksJ5_rotateRight_1 8 rfl rfl)
theorem dJ5_rotateRight_33 : decode cJ5_rotateRight 33 = .ok (.aload_n 1, 1) := dk_43 (dk_at dksJ5_rotateRight_1 9 rfl rfl)
theorem dJ5_rotateRight_34 : decode cJ5_rotateRight 34 = .ok (.getfield 124, 3) := dk_180 0 124 (dk_at dksJ5_rotateRight_1 10 rfl rfl)
theorem dJ5_rotateRight_37 : decode cJ5_rotateRight 37 = .ok (.putfield 124, 3) := dk_181 0 124 (dk_at dksJ5_rotateRight_1 13 rfl rfl)
theorem dJ5_rotateRight_40 : decode cJ5_rotateRight 40 = .ok (.aload_n 1, 1) := dk_43 (dk_at dksJ5_rotateRight_1 16 rfl rfl)
theorem dJ5_rotateRight_41 : decode cJ5_rotateRight 41 = .ok (.getfield 124, 3) := dk_180 0 124 (dk_at dksJ5_rotateRight_1 17 rfl rfl)
theorem dJ5_rotateRight_44 : decode cJ5_rotateRight 44 = .ok (.ifnonnull 11, 3) := dk_199 0 11 (dk_at dksJ5_rotateRight_1 20 rfl rfl)
theorem dJ5_rotateRight_47 : decode cJ5_rotateRight 47 = .ok (.aload_n 0, 1) := dk_42 (dk_at dksJ5_rotateRight_1 23 rfl rfl)
theorem dJ5_rotateRight_48 : decode cJ5_rotateRight 48 = .ok (.aload_n 2, 1) := dk_44 (dk_at dksJ5_rotateRight_2 0 rfl rfl)
theorem dJ5_rotateRight_49 : decode cJ5_rotateRight 49 = .ok (.putfield 101, 3) := dk_181 0 101 (dk_at dksJ5_rotateRight_2 1 rfl rfl)
theorem dJ5_rotateRight_52 : decode cJ5_rotateRight 52 = .ok (.goto 33, 3) := dk_167 0 33 (dk_at dksJ5_rotateRight_2 4 rfl rfl)
theorem dJ5_rotateRight_55 : decode cJ5_rotateRight 55 = .ok (.aload_n 1, 1) := dk_43 (dk_at dksJ5_rotateRight_2 7 rfl rfl)
theorem dJ5_rotateRight_56 : decode cJ5_rotateRight 56 = .ok (.getfield 124, 3) := dk_180 0 124 (dk_at dksJ5_rotateRight_2 8 rfl rfl)
theorem dJ5_rotateRight_59 : decode cJ5_rotateRight 59 = .ok (.getfield 114, 3) := dk_180 0 114 (dk_at dksJ5_rotateRight_2 11 rfl rfl)
theorem dJ5_rotateRight_62 : decode cJ5_rotateRight 62 = .ok (.aload_n 1, 1) := dk_43 (dk_at dksJ5_rotateRight_2 14 rfl rfl)
theorem dJ5_rotateRight_63 : decode cJ5_rotateRight 63 = .ok (.if_acmp .ne 14, 3) := dk_166 0 14 (dk_at dksJ5_rotateRight_2 15 rfl rfl)
theorem dJ5_rotateRight_66 : decode cJ5_rotateRight 66 = .ok (.aload_n 1, 1) := dk_43 (dk_at dksJ5_rotateRight_2 18 rfl rfl)
theorem dJ5_rotateRight_67 : decode cJ5_rotateRight 67 = .ok (.getfield 124, 3) := dk_180 0 124 (dk_at dksJ5_rotateRight_2 19 rfl rfl)
theorem dJ5_rotateRight_70 : decode cJ5_rotateRight 70 = .ok (.aload_n 2, 1) := dk_44 (dk_at dksJ5_rotateRight_2 22 rfl rfl)
theorem dJ5_rotateRight_71 : decode cJ5_rotateRight 71 = .ok (.putfield 114, 3) := dk_181 0 114 (dk_at dksJ5_rotateRight_3 0 rfl rfl)
theorem dJ5_rotateRight_74 : decode cJ5_rotateRight 74 = .ok (.goto 11, 3) := dk_167 0 11 (dk_at dksJ5_rotateRight_3 3 rfl rfl)
theorem dJ5_rotateRight_77 : decode cJ5_rotateRight 77 = .ok (.aload_n 1, 1) := dk_43 (dk_at dksJ5_rotateRight_3 6 rfl rfl)
theorem dJ5_rotateRight_78 : decode cJ5_rotateRight 78 = .ok (.getfield 124, 3) := dk_180 0 124 (dk_at dksJ5_rotateRight_3 7 rfl rfl)
theorem dJ5_rotateRight_81 : decode cJ5_rotateRight 81 = .ok (.aload_n 2, 1) := dk_44 (dk_at dksJ5_rotateRight_3 10 rfl rfl)
theorem dJ5_rotateRight_82 : decode cJ5_rotateRight 82 = .ok (.putfield 111, 3) := dk_181 0 111 (dk_at dksJ5_rotateRight_3 11 rfl rfl)
theorem dJ5_rotateRight_85 : decode cJ5_rotateRight 85 = .ok (.aload_n 2, 1) := dk_44 (dk_at dksJ5_rotateRight_3 14 rfl rfl)
theorem dJ5_rotateRight_86 : decode cJ5_rotateRight 86 = .ok (.aload_n 1, 1) := dk_43 (dk_at dksJ5_rotateRight_3 15 rfl rfl)
theorem dJ5_rotateRight_87 : decode cJ5_rotateRight 87 = .ok (.putfield 114, 3) := dk_181 0 114 (dk_at dksJ5_rotateRight_3 16 rfl rfl)
theorem dJ5_rotateRight_90 : decode cJ5_rotateRight 90 = .ok (.aload_n 1, 1) := dk_43 (dk_at dksJ5_rotateRight_3 19 rfl rfl)
theorem dJ5_rotateRight_91 : decode cJ5_rotateRight 91 = .ok (.aload_n 2, 1) := dk_44 (dk_at dksJ5_rotateRight_3 20 rfl rfl)
theorem dJ5_rotateRight_92 : decode cJ5_rotateRight 92 = .ok (.putfield 124, 3) := dk_181 0 124 (dk_at dksJ5_rotateRight_3 21 rfl rfl)
theorem dJ5_rotateRight_95 : decode cJ5_rotateRight 95 = .ok (.return_, 1) := dk_177 (dk_at dksJ5_rotateRight_4 0 rfl rfl)
abbrev cJ5_floorKey : ByteArray := prog_60_method_44_code
def yJ5_floorKey : MethodName := ⟨RJ5, "floorKey", "(Ljava/lang/Object;)Ljava/lang/Object;"⟩
def dkwJ5_floorKey_0 : List UInt8 := [42, 43, 182, 0, 210, 184, 0, 207, 176]
abbrev dktJ5_floorKey_0 : List UInt8 := dkwJ5_floorKey_0 ++ []
theorem dksJ5_floorKey_0 : cJ5_floorKey.data.toList.drop 0 = dktJ5_floorKey_0 := by decide +kernel
theorem dJ5_floorKey_0 : decode cJ5_floorKey 0 = .ok (.aload_n 0, 1) := dk_42 (dk_at dksJ5_floorKey_0 0 rfl rfl)
theorem dJ5_floorKey_1 : decode cJ5_floorKey 1 = .ok (.aload_n 1, 1) := dk_43 (dk_at dksJ5_floorKey_0 1 rfl rfl)
theorem dJ5_floorKey_2 : decode cJ5_floorKey 2 = .ok (.invokevirtual 210, 3) := dk_182 0 210 (dk_at dksJ5_floorKey_0 2 rfl rfl)
theorem dJ5_floorKey_5 : decode cJ5_floorKey 5 = .ok (.invokestatic 207, 3) := dk_184 0 207 (dk_at dksJ5_floorKey_0 5 rfl rfl)
theorem dJ5_floorKey_8 : decode cJ5_floorKey 8 = .ok (.areturn, 1) := dk_176 (dk_at dksJ5_floorKey_0 8 rfl rfl)
abbrev cJ5_getFloorEntry : ByteArray := prog_60_method_18_code
def yJ5_getFloorEntry : MethodName := ⟨RJ5, "getFloorEntry", "(Ljava/lang/Object;)Ljava/util/TreeMap$Entry;"⟩
def dkwJ5_getFloorEntry_4 : List UInt8 := [167, 255, 230, 25, 4, 176, 44, 176, 167, 255, 159, 1, 176]
abbrev dktJ5_getFloorEntry_4 : List UInt8 := dkwJ5_getFloorEntry_4 ++ []
def dkwJ5_getFloorEntry_3 : List UInt8 := [198, 0, 27, 25, 5, 25, 4, 180, 0, 111, 166, 0, 17, 25, 4, 58, 5, 25, 4, 180, 0, 124, 58, 4]
abbrev dktJ5_getFloorEntry_3 : List UInt8 := dkwJ5_getFloorEntry_3 ++ dktJ5_getFloorEntry_4
def dkwJ5_getFloorEntry_2 : List UInt8 := [198, 0, 11, 44, 180, 0, 111, 77, 167, 0, 46, 44, 180, 0, 124, 58, 4, 44, 58, 5, 25, 4]
abbrev dktJ5_getFloorEntry_2 : List UInt8 := dkwJ5_getFloorEntry_2 ++ dktJ5_getFloorEntry_3
def dkwJ5_getFloorEntry_1 : List UInt8 := [180, 0, 114, 198, 0, 11, 44, 180, 0, 114, 77, 167, 0, 67, 44, 176, 29, 156, 0, 59, 44, 180, 0, 111]
abbrev dktJ5_getFloorEntry_1 : List UInt8 := dkwJ5_getFloorEntry_1 ++ dktJ5_getFloorEntry_2
def dkwJ5_getFloorEntry_0 : List UInt8 := [42, 180, 0, 101, 77, 44, 198, 0, 99, 42, 43, 44, 180, 0, 105, 182, 0, 123, 62, 29, 158, 0, 20, 44]
abbrev dktJ5_getFloorEntry_0 : List UInt8 := dkwJ5_getFloorEntry_0 ++ dktJ5_getFloorEntry_1
theorem dksJ5_getFloorEntry_0 : cJ5_getFloorEntry.data.toList.drop 0 = dktJ5_getFloorEntry_0 := by decide +kernel
theorem dksJ5_getFloorEntry_1 : cJ5_getFloorEntry.data.toList.drop 24 = dktJ5_getFloorEntry_1 := dk_seg dksJ5_getFloorEntry_0 24 rfl rfl
theorem dksJ5_getFloorEntry_2 : cJ5_getFloorEntry.data.toList.drop 48 = dktJ5_getFloorEntry_2 := dk_seg dksJ5_getFloorEntry_1 24 rfl rfl
theorem dksJ5_getFloorEntry_3 : cJ5_getFloorEntry.data.toList.drop 70 = dktJ5_getFloorEntry_3 := dk_seg dksJ5_getFloorEntry_2 22 rfl rfl
theorem dksJ5_getFloorEntry_4 : cJ5_getFloorEntry.data.toList.drop 94 = dktJ5_getFloorEntry_4 := dk_seg dksJ5_getFloorEntry_3 24 rfl rfl
theorem dJ5_getFloorEntry_0 : decode cJ5_getFloorEntry 0 = .ok (.aload_n 0, 1) := dk_42 (dk_at dksJ5_getFloorEntry_0 0 rfl rfl)
theorem dJ5_getFloorEntry_1 : decode cJ5_getFloorEntry 1 = .ok (.getfield 101, 3) := dk_180 0 101 (dk_at dksJ5_getFloorEntry_0 1 rfl rfl)
theorem dJ5_getFloorEntry_4 : decode cJ5_getFloorEntry 4 = .ok (.astore_n 2, 1) := dk_77 (dk_at dksJ5_getFloorEntry_0 4 rfl rfl)
theorem dJ5_getFloorEntry_5 : decode cJ5_getFloorEntry 5 = .ok (.aload_n 2, 1) := dk_44 (dk_at dksJ5_getFloorEntry_0 5 rfl rfl)
theorem dJ5_getFloorEntry_6 : decode cJ5_getFloorEntry 6 = .ok (.ifnull 99, 3) := dk_198 0 99 (dk_at dksJ5_getFloorEntry_0 6 rfl rfl)
theorem dJ5_getFloorEntry_9 : decode cJ5_getFloorEntry 9 = .ok (.aload_n 0, 1) := dk_42 (dk_at dksJ5_getFloorEntry_0 9 rfl rfl)
theorem dJ5_getFloorEntry_10 : decode cJ5_getFloorEntry 10 = .ok (.aload_n 1, 1) := dk_43 (dk_at dksJ5_getFloorEntry_0 10 rfl rfl)
theorem dJ5_getFloorEntry_11 : decode cJ5_getFloorEntry 11 = .ok (.aload_n 2, 1) := dk_44 (dk_at dksJ5_getFloorEntry_0 11 rfl rfl)
theorem dJ5_getFloorEntry_12 : decode cJ5_getFloorEntry 12 = .ok (.getfield 105, 3) := dk_180 0 105 (dk_at dksJ5_getFloorEntry_0 12 rfl rfl)
theorem dJ5_getFloorEntry_15 : decode cJ5_getFloorEntry 15 = .ok (.invokevirtual 123, 3) := dk_182 0 123 (dk_at dksJ5_getFloorEntry_0 15 rfl rfl)
theorem dJ5_getFloorEntry_18 : decode cJ5_getFloorEntry 18 = .ok (.istore_n 3, 1) := dk_62 (dk_at dksJ5_getFloorEntry_0 18 rfl rfl)
theorem dJ5_getFloorEntry_19 : decode cJ5_getFloorEntry 19 = .ok (.iload_n 3, 1) := dk_29 (dk_at dksJ5_getFloorEntry_0 19 rfl rfl)
theorem dJ5_getFloorEntry_20 : decode cJ5_getFloorEntry 20 = .ok (.ifCond .le 20, 3) := dk_158 0 20 (dk_at dksJ5_getFloorEntry_0 20 rfl rfl)
theorem dJ5_getFloorEntry_23 : decode cJ5_getFloorEntry 23 = .ok (.aload_n 2, 1) := dk_44 (dk_at dksJ5_getFloorEntry_0 23 rfl rfl)
theorem dJ5_getFloorEntry_24 : decode cJ5_getFloorEntry 24 = .ok (.getfield 114, 3) := dk_180 0 114 (dk_at dksJ5_getFloorEntry_1 0 rfl rfl)
theorem dJ5_getFloorEntry_27 : decode cJ5_getFloorEntry 27 = .ok (.ifnull 11, 3) := dk_198 0 11 (dk_at dksJ5_getFloorEntry_1 3 rfl rfl)
theorem dJ5_getFloorEntry_30 : decode cJ5_getFloorEntry 30 = .ok (.aload_n 2, 1) := dk_44 (dk_at dksJ5_getFloorEntry_1 6 rfl rfl)
theorem dJ5_getFloorEntry_31 : decode cJ5_getFloorEntry 31 = .ok (.getfield 114, 3) := dk_180 0 114 (dk_at dksJ5_getFloorEntry_1 7 rfl rfl)
theorem dJ5_getFloorEntry_34 : decode cJ5_getFloorEntry 34 = .ok (.astore_n 2, 1) := dk_77 (dk_at dksJ5_getFloorEntry_1 10 rfl rfl)
theorem dJ5_getFloorEntry_35 : decode cJ5_getFloorEntry 35 = .ok (.goto 67, 3) := dk_167 0 67 (dk_at dksJ5_getFloorEntry_1 11 rfl rfl)
theorem dJ5_getFloorEntry_38 : decode cJ5_getFloorEntry 38 = .ok (.aload_n 2, 1) := dk_44 (dk_at dksJ5_getFloorEntry_1 14 rfl rfl)
theorem dJ5_getFloorEntry_39 : decode cJ5_getFloorEntry 39 = .ok (.areturn, 1) := dk_176 (dk_at dksJ5_getFloorEntry_1 15 rfl rfl)
theorem dJ5_getFloorEntry_40 : decode cJ5_getFloorEntry 40 = .ok (.iload_n 3, 1) := dk_29 (dk_at dksJ5_getFloorEntry_1 16 rfl rfl)
theorem dJ5_getFloorEntry_41 : decode cJ5_getFloorEntry 41 = .ok (.ifCond .ge 59, 3) := dk_156 0 59 (dk_at dksJ5_getFloorEntry_1 17 rfl rfl)
theorem dJ5_getFloorEntry_44 : decode cJ5_getFloorEntry 44 = .ok (.aload_n 2, 1) := dk_44 (dk_at dksJ5_getFloorEntry_1 20 rfl rfl)
theorem dJ5_getFloorEntry_45 : decode cJ5_getFloorEntry 45 = .ok (.getfield 111, 3) := dk_180 0 111 (dk_at dksJ5_getFloorEntry_1 21 rfl rfl)
theorem dJ5_getFloorEntry_48 : decode cJ5_getFloorEntry 48 = .ok (.ifnull 11, 3) := dk_198 0 11 (dk_at dksJ5_getFloorEntry_2 0 rfl rfl)
theorem dJ5_getFloorEntry_51 : decode cJ5_getFloorEntry 51 = .ok (.aload_n 2, 1) := dk_44 (dk_at dksJ5_getFloorEntry_2 3 rfl rfl)
theorem dJ5_getFloorEntry_52 : decode cJ5_getFloorEntry 52 = .ok (.getfield 111, 3) := dk_180 0 111 (dk_at dksJ5_getFloorEntry_2 4 rfl rfl)
theorem dJ5_getFloorEntry_55 : decode cJ5_getFloorEntry 55 = .ok (.astore_n 2, 1) := dk_77 (dk_at dksJ5_getFloorEntry_2 7 rfl rfl)
theorem dJ5_getFloorEntry_56 : decode cJ5_getFloorEntry 56 = .ok (.goto 46, 3) := dk_167 0 46 (dk_at dksJ5_getFloorEntry_2 8 rfl rfl)
theorem dJ5_getFloorEntry_59 : decode cJ5_getFloorEntry 59 = .ok (.aload_n 2, 1) := dk_44 (dk_at dksJ5_getFloorEntry_2 11 rfl rfl)
theorem dJ5_getFloorEntry_60 : decode cJ5_getFloorEntry 60 = .ok (.getfield 124, 3) := dk_180 0 124 (dk_at dksJ5_getFloorEntry_2 12 rfl rfl)
theorem dJ5_getFloorEntry_63 : decode cJ5_getFloorEntry 63 = .ok (.astore 4, 2) := dk_58 4 (dk_at dksJ5_getFloorEntry_2 15 rfl rfl)
theorem dJ5_getFloorEntry_65 : decode cJ5_getFloorEntry 65 = .ok (.aload_n 2, 1) := dk_44 (dk_at dksJ5_getFloorEntry_2 17 rfl rfl)
theorem dJ5_getFloorEntry_66 : decode cJ5_getFloorEntry 66 = .ok (.astore 5, 2) := dk_58 5 (dk_at dksJ5_getFloorEntry_2 18 rfl rfl)
theorem dJ5_getFloorEntry_68 : decode cJ5_getFloorEntry 68 = .ok (.aload 4, 2) := dk_25 4 (dk_at dksJ5_getFloorEntry_2 20 rfl rfl)
theorem dJ5_getFloorEntry_70 : decode cJ5_getFloorEntry 70 = .ok (.ifnull 27, 3) := dk_198 0 27 (dk_at dksJ5_getFloorEntry_3 0 rfl rfl)
theorem dJ5_getFloorEntry_73 : decode cJ5_getFloorEntry 73 = .ok (.aload 5, 2) := dk_25 5 (dk_at dksJ5_getFloorEntry_3 3 rfl rfl)
theorem dJ5_getFloorEntry_75 : decode cJ5_getFloorEntry 75 = .ok (.aload 4, 2) := dk_25 4 (dk_at dksJ5_getFloorEntry_3 5 rfl rfl)
theorem dJ5_getFloorEntry_77 : decode cJ5_getFloorEntry 77 = .ok (.getfield 111, 3) := dk_180 0 111 (dk_at dksJ5_getFloorEntry_3 7 rfl rfl)
theorem dJ5_getFloorEntry_80 : decode cJ5_getFloorEntry 80 = .ok (.if_acmp .ne 17, 3) := dk_166 0 17 (dk_at dksJ5_getFloorEntry_3 10 rfl rfl)
theorem dJ5_getFloorEntry_83 : decode cJ5_getFloorEntry 83 = .ok (.aload 4, 2) := dk_25 4 (dk_at dksJ5_getFloorEntry_3 13 rfl rfl)
theorem dJ5_getFloorEntry_85 : decode cJ5_getFloorEntry 85 = .ok (.astore 5, 2) := dk_58 5 (dk_at dksJ5_getFloorEntry_3 15 rfl rfl)
theorem dJ5_getFloorEntry_87 : decode cJ5_getFloorEntry 87 = .ok (.aload 4, 2) := dk_25 4 (dk_at dksJ5_getFloorEntry_3 17 rfl rfl)
theorem dJ5_getFloorEntry_89 : decode cJ5_getFloorEntry 89 = .ok (.getfield 124, 3) := dk_180 0 124 (dk_at dksJ5_getFloorEntry_3 19 rfl rfl)
theorem dJ5_getFloorEntry_92 : decode cJ5_getFloorEntry 92 = .ok (.astore 4, 2) := dk_58 4 (dk_at dksJ5_getFloorEntry_3 22 rfl rfl)
theorem dJ5_getFloorEntry_94 : decode cJ5_getFloorEntry 94 = .ok (.goto (-26), 3) := dk_167 255 230 (dk_at dksJ5_getFloorEntry_4 0 rfl rfl)
theorem dJ5_getFloorEntry_97 : decode cJ5_getFloorEntry 97 = .ok (.aload 4, 2) := dk_25 4 (dk_at dksJ5_getFloorEntry_4 3 rfl rfl)
theorem dJ5_getFloorEntry_99 : decode cJ5_getFloorEntry 99 = .ok (.areturn, 1) := dk_176 (dk_at dksJ5_getFloorEntry_4 5 rfl rfl)
theorem dJ5_getFloorEntry_100 : decode cJ5_getFloorEntry 100 = .ok (.aload_n 2, 1) := dk_44 (dk_at dksJ5_getFloorEntry_4 6 rfl rfl)
theorem dJ5_getFloorEntry_101 : decode cJ5_getFloorEntry 101 = .ok (.areturn, 1) := dk_176 (dk_at dksJ5_getFloorEntry_4 7 rfl rfl)
theorem dJ5_getFloorEntry_102 : decode cJ5_getFloorEntry 102 = .ok (.goto (-97), 3) := dk_167 255 159 (dk_at dksJ5_getFloorEntry_4 8 rfl rfl)
theorem dJ5_getFloorEntry_105 : decode cJ5_getFloorEntry 105 = .ok (.aconst_null, 1) := dk_1 (dk_at dksJ5_getFloorEntry_4 11 rfl rfl)
theorem dJ5_getFloorEntry_106 : decode cJ5_getFloorEntry 106 = .ok (.areturn, 1) := dk_176 (dk_at dksJ5_getFloorEntry_4 12 rfl rfl)
abbrev cJ5_keyOrNull : ByteArray := prog_60_method_70_code
def yJ5_keyOrNull : MethodName := ⟨RJ5, "keyOrNull", "(Ljava/util/TreeMap$Entry;)Ljava/lang/Object;"⟩
def dkwJ5_keyOrNull_0 : List UInt8 := [42, 199, 0, 7, 1, 167, 0, 7, 42, 180, 0, 105, 176]
abbrev dktJ5_keyOrNull_0 : List UInt8 := dkwJ5_keyOrNull_0 ++ []
theorem dksJ5_keyOrNull_0 : cJ5_keyOrNull.data.toList.drop 0 = dktJ5_keyOrNull_0 := by decide +kernel
theorem dJ5_keyOrNull_0 : decode cJ5_keyOrNull 0 = .ok (.aload_n 0, 1) := dk_42 (dk_at dksJ5_keyOrNull_0 0 rfl rfl)
theorem dJ5_keyOrNull_1 : decode cJ5_keyOrNull 1 = .ok (.ifnonnull 7, 3) := dk_199 0 7 (dk_at dksJ5_keyOrNull_0 1 rfl rfl)
theorem dJ5_keyOrNull_4 : decode cJ5_keyOrNull 4 = .ok (.aconst_null, 1) := dk_1 (dk_at dksJ5_keyOrNull_0 4 rfl rfl)
theorem dJ5_keyOrNull_5 : decode cJ5_keyOrNull 5 = .ok (.goto 7, 3) := dk_167 0 7 (dk_at dksJ5_keyOrNull_0 5 rfl rfl)
theorem dJ5_keyOrNull_8 : decode cJ5_keyOrNull 8 = .ok (.aload_n 0, 1) := dk_42 (dk_at dksJ5_keyOrNull_0 8 rfl rfl)
theorem dJ5_keyOrNull_9 : decode cJ5_keyOrNull 9 = .ok (.getfield 105, 3) := dk_180 0 105 (dk_at dksJ5_keyOrNull_0 9 rfl rfl)
theorem dJ5_keyOrNull_12 : decode cJ5_keyOrNull 12 = .ok (.areturn, 1) := dk_176 (dk_at dksJ5_keyOrNull_0 12 rfl rfl)
abbrev cJ5_ceilingKey : ByteArray := prog_60_method_46_code
def yJ5_ceilingKey : MethodName := ⟨RJ5, "ceilingKey", "(Ljava/lang/Object;)Ljava/lang/Object;"⟩
def dkwJ5_ceilingKey_0 : List UInt8 := [42, 43, 182, 0, 213, 184, 0, 207, 176]
abbrev dktJ5_ceilingKey_0 : List UInt8 := dkwJ5_ceilingKey_0 ++ []
theorem dksJ5_ceilingKey_0 : cJ5_ceilingKey.data.toList.drop 0 = dktJ5_ceilingKey_0 := by decide +kernel
theorem dJ5_ceilingKey_0 : decode cJ5_ceilingKey 0 = .ok (.aload_n 0, 1) := dk_42 (dk_at dksJ5_ceilingKey_0 0 rfl rfl)
theorem dJ5_ceilingKey_1 : decode cJ5_ceilingKey 1 = .ok (.aload_n 1, 1) := dk_43 (dk_at dksJ5_ceilingKey_0 1 rfl rfl)
theorem dJ5_ceilingKey_2 : decode cJ5_ceilingKey 2 = .ok (.invokevirtual 213, 3) := dk_182 0 213 (dk_at dksJ5_ceilingKey_0 2 rfl rfl)
theorem dJ5_ceilingKey_5 : decode cJ5_ceilingKey 5 = .ok (.invokestatic 207, 3) := dk_184 0 207 (dk_at dksJ5_ceilingKey_0 5 rfl rfl)
theorem dJ5_ceilingKey_8 : decode cJ5_ceilingKey 8 = .ok (.areturn, 1) := dk_176 (dk_at dksJ5_ceilingKey_0 8 rfl rfl)
abbrev cJ5_containsKey : ByteArray := prog_60_method_6_code
def yJ5_containsKey : MethodName := ⟨RJ5, "containsKey", "(Ljava/lang/Object;)Z"⟩
def dkwJ5_containsKey_0 : List UInt8 := [42, 43, 182, 0, 50, 198, 0, 7, 4, 167, 0, 4, 3, 172]
abbrev dktJ5_containsKey_0 : List UInt8 := dkwJ5_containsKey_0 ++ []
theorem dksJ5_containsKey_0 : cJ5_containsKey.data.toList.drop 0 = dktJ5_containsKey_0 := by decide +kernel
theorem dJ5_containsKey_0 : decode cJ5_containsKey 0 = .ok (.aload_n 0, 1) := dk_42 (dk_at dksJ5_containsKey_0 0 rfl rfl)
theorem dJ5_containsKey_1 : decode cJ5_containsKey 1 = .ok (.aload_n 1, 1) := dk_43 (dk_at dksJ5_containsKey_0 1 rfl rfl)
theorem dJ5_containsKey_2 : decode cJ5_containsKey 2 = .ok (.invokevirtual 50, 3) := dk_182 0 50 (dk_at dksJ5_containsKey_0 2 rfl rfl)
theorem dJ5_containsKey_5 : decode cJ5_containsKey 5 = .ok (.ifnull 7, 3) := dk_198 0 7 (dk_at dksJ5_containsKey_0 5 rfl rfl)
theorem dJ5_containsKey_8 : decode cJ5_containsKey 8 = .ok (.iconst 1, 1) := dk_4 (dk_at dksJ5_containsKey_0 8 rfl rfl)
theorem dJ5_containsKey_9 : decode cJ5_containsKey 9 = .ok (.goto 4, 3) := dk_167 0 4 (dk_at dksJ5_containsKey_0 9 rfl rfl)
theorem dJ5_containsKey_12 : decode cJ5_containsKey 12 = .ok (.iconst 0, 1) := dk_3 (dk_at dksJ5_containsKey_0 12 rfl rfl)
theorem dJ5_containsKey_13 : decode cJ5_containsKey 13 = .ok (.ireturn, 1) := dk_172 (dk_at dksJ5_containsKey_0 13 rfl rfl)
abbrev cJ5_getEntry : ByteArray := prog_60_method_15_code
def yJ5_getEntry : MethodName := ⟨RJ5, "getEntry", "(Ljava/lang/Object;)Ljava/util/TreeMap$Entry;"⟩
def dkwJ5_getEntry_3 : List UInt8 := [45, 176, 167, 255, 212, 1, 176]
abbrev dktJ5_getEntry_3 : List UInt8 := dkwJ5_getEntry_3 ++ []
def dkwJ5_getEntry_2 : List UInt8 := [156, 0, 11, 45, 180, 0, 111, 78, 167, 0, 18, 21, 4, 158, 0, 11, 45, 180, 0, 114, 78, 167, 0, 5]
abbrev dktJ5_getEntry_2 : List UInt8 := dkwJ5_getEntry_2 ++ dktJ5_getEntry_3
def dkwJ5_getEntry_1 : List UInt8 := [180, 0, 101, 78, 45, 198, 0, 46, 44, 45, 180, 0, 105, 185, 0, 107, 2, 0, 54, 4, 21, 4]
abbrev dktJ5_getEntry_1 : List UInt8 := dkwJ5_getEntry_1 ++ dktJ5_getEntry_2
def dkwJ5_getEntry_0 : List UInt8 := [42, 180, 0, 16, 198, 0, 9, 42, 43, 182, 0, 92, 176, 43, 184, 0, 95, 87, 43, 192, 0, 99, 77, 42]
abbrev dktJ5_getEntry_0 : List UInt8 := dkwJ5_getEntry_0 ++ dktJ5_getEntry_1
theorem dksJ5_getEntry_0 : cJ5_getEntry.data.toList.drop 0 = dktJ5_getEntry_0 := by decide +kernel
theorem dksJ5_getEntry_1 : cJ5_getEntry.data.toList.drop 24 = dktJ5_getEntry_1 := dk_seg dksJ5_getEntry_0 24 rfl rfl
theorem dksJ5_getEntry_2 : cJ5_getEntry.data.toList.drop 46 = dktJ5_getEntry_2 := dk_seg dksJ5_getEntry_1 22 rfl rfl
theorem dksJ5_getEntry_3 : cJ5_getEntry.data.toList.drop 70 = dktJ5_getEntry_3 := dk_seg dksJ5_getEntry_2 24 rfl rfl
theorem dJ5_getEntry_0 : decode cJ5_getEntry 0 = .ok (.aload_n 0, 1) := dk_42 (dk_at dksJ5_getEntry_0 0 rfl rfl)
theorem dJ5_getEntry_1 : decode cJ5_getEntry 1 = .ok (.getfield 16, 3) := dk_180 0 16 (dk_at dksJ5_getEntry_0 1 rfl rfl)
theorem dJ5_getEntry_4 : decode cJ5_getEntry 4 = .ok (.ifnull 9, 3) := dk_198 0 9 (dk_at dksJ5_getEntry_0 4 rfl rfl)
theorem dJ5_getEntry_7 : decode cJ5_getEntry 7 = .ok (.aload_n 0, 1) := dk_42 (dk_at dksJ5_getEntry_0 7 rfl rfl)
theorem dJ5_getEntry_8 : decode cJ5_getEntry 8 = .ok (.aload_n 1, 1) := dk_43 (dk_at dksJ5_getEntry_0 8 rfl rfl)
theorem dJ5_getEntry_9 : decode cJ5_getEntry 9 = .ok (.invokevirtual 92, 3) := dk_182 0 92 (dk_at dksJ5_getEntry_0 9 rfl rfl)
theorem dJ5_getEntry_12 : decode cJ5_getEntry 12 = .ok (.areturn, 1) := dk_176 (dk_at dksJ5_getEntry_0 12 rfl rfl)
theorem dJ5_getEntry_13 : decode cJ5_getEntry 13 = .ok (.aload_n 1, 1) := dk_43 (dk_at dksJ5_getEntry_0 13 rfl rfl)
theorem dJ5_getEntry_14 : decode cJ5_getEntry 14 = .ok (.invokestatic 95, 3) := dk_184 0 95 (dk_at dksJ5_getEntry_0 14 rfl rfl)
theorem dJ5_getEntry_17 : decode cJ5_getEntry 17 = .ok (.pop, 1) := dk_87 (dk_at dksJ5_getEntry_0 17 rfl rfl)
theorem dJ5_getEntry_18 : decode cJ5_getEntry 18 = .ok (.aload_n 1, 1) := dk_43 (dk_at dksJ5_getEntry_0 18 rfl rfl)
theorem dJ5_getEntry_19 : decode cJ5_getEntry 19 = .ok (.checkcast 99, 3) := dk_192 0 99 (dk_at dksJ5_getEntry_0 19 rfl rfl)
theorem dJ5_getEntry_22 : decode cJ5_getEntry 22 = .ok (.astore_n 2, 1) := dk_77 (dk_at dksJ5_getEntry_0 22 rfl rfl)
theorem dJ5_getEntry_23 : decode cJ5_getEntry 23 = .ok (.aload_n 0, 1) := dk_42 (dk_at dksJ5_getEntry_0 23 rfl rfl)
theorem dJ5_getEntry_24 : decode cJ5_getEntry 24 = .ok (.getfield 101, 3) := dk_180 0 101 (dk_at dksJ5_getEntry_1 0 rfl rfl)
theorem dJ5_getEntry_27 : decode cJ5_getEntry 27 = .ok (.astore_n 3, 1) := dk_78 (dk_at dksJ5_getEntry_1 3 rfl rfl)
theorem dJ5_getEntry_28 : decode cJ5_getEntry 28 = .ok (.aload_n 3, 1) := dk_45 (dk_at dksJ5_getEntry_1 4 rfl rfl)
theorem dJ5_getEntry_29 : decode cJ5_getEntry 29 = .ok (.ifnull 46, 3) := dk_198 0 46 (dk_at dksJ5_getEntry_1 5 rfl rfl)
theorem dJ5_getEntry_32 : decode cJ5_getEntry 32 = .ok (.aload_n 2, 1) := dk_44 (dk_at dksJ5_getEntry_1 8 rfl rfl)
theorem dJ5_getEntry_33 : decode cJ5_getEntry 33 = .ok (.aload_n 3, 1) := dk_45 (dk_at dksJ5_getEntry_1 9 rfl rfl)
theorem dJ5_getEntry_34 : decode cJ5_getEntry 34 = .ok (.getfield 105, 3) := dk_180 0 105 (dk_at dksJ5_getEntry_1 10 rfl rfl)
theorem dJ5_getEntry_37 : decode cJ5_getEntry 37 = .ok (.invokeinterface 107 2, 5) := by decide +kernel
theorem dJ5_getEntry_42 : decode cJ5_getEntry 42 = .ok (.istore 4, 2) := dk_54 4 (dk_at dksJ5_getEntry_1 18 rfl rfl)
theorem dJ5_getEntry_44 : decode cJ5_getEntry 44 = .ok (.iload 4, 2) := dk_21 4 (dk_at dksJ5_getEntry_1 20 rfl rfl)
theorem dJ5_getEntry_46 : decode cJ5_getEntry 46 = .ok (.ifCond .ge 11, 3) := dk_156 0 11 (dk_at dksJ5_getEntry_2 0 rfl rfl)
theorem dJ5_getEntry_49 : decode cJ5_getEntry 49 = .ok (.aload_n 3, 1) := dk_45 (dk_at dksJ5_getEntry_2 3 rfl rfl)
theorem dJ5_getEntry_50 : decode cJ5_getEntry 50 = .ok (.getfield 111, 3) := dk_180 0 111 (dk_at dksJ5_getEntry_2 4 rfl rfl)
theorem dJ5_getEntry_53 : decode cJ5_getEntry 53 = .ok (.astore_n 3, 1) := dk_78 (dk_at dksJ5_getEntry_2 7 rfl rfl)
theorem dJ5_getEntry_54 : decode cJ5_getEntry 54 = .ok (.goto 18, 3) := dk_167 0 18 (dk_at dksJ5_getEntry_2 8 rfl rfl)
theorem dJ5_getEntry_57 : decode cJ5_getEntry 57 = .ok (.iload 4, 2) := dk_21 4 (dk_at dksJ5_getEntry_2 11 rfl rfl)
theorem dJ5_getEntry_59 : decode cJ5_getEntry 59 = .ok (.ifCond .le 11, 3) := dk_158 0 11 (dk_at dksJ5_getEntry_2 13 rfl rfl)
theorem dJ5_getEntry_62 : decode cJ5_getEntry 62 = .ok (.aload_n 3, 1) := dk_45 (dk_at dksJ5_getEntry_2 16 rfl rfl)
theorem dJ5_getEntry_63 : decode cJ5_getEntry 63 = .ok (.getfield 114, 3) := dk_180 0 114 (dk_at dksJ5_getEntry_2 17 rfl rfl)
theorem dJ5_getEntry_66 : decode cJ5_getEntry 66 = .ok (.astore_n 3, 1) := dk_78 (dk_at dksJ5_getEntry_2 20 rfl rfl)
theorem dJ5_getEntry_67 : decode cJ5_getEntry 67 = .ok (.goto 5, 3) := dk_167 0 5 (dk_at dksJ5_getEntry_2 21 rfl rfl)
theorem dJ5_getEntry_70 : decode cJ5_getEntry 70 = .ok (.aload_n 3, 1) := dk_45 (dk_at dksJ5_getEntry_3 0 rfl rfl)
theorem dJ5_getEntry_71 : decode cJ5_getEntry 71 = .ok (.areturn, 1) := dk_176 (dk_at dksJ5_getEntry_3 1 rfl rfl)
theorem dJ5_getEntry_72 : decode cJ5_getEntry 72 = .ok (.goto (-44), 3) := dk_167 255 212 (dk_at dksJ5_getEntry_3 2 rfl rfl)
theorem dJ5_getEntry_75 : decode cJ5_getEntry 75 = .ok (.aconst_null, 1) := dk_1 (dk_at dksJ5_getEntry_3 5 rfl rfl)
theorem dJ5_getEntry_76 : decode cJ5_getEntry 76 = .ok (.areturn, 1) := dk_176 (dk_at dksJ5_getEntry_3 6 rfl rfl)
abbrev cJ5_getEntryUsingComparator : ByteArray := prog_60_method_16_code
def yJ5_getEntryUsingComparator : MethodName := ⟨RJ5, "getEntryUsingComparator", "(Ljava/lang/Object;)Ljava/util/TreeMap$Entry;"⟩
def dkwJ5_getEntryUsingComparator_3 : List UInt8 := [1, 176]
abbrev dktJ5_getEntryUsingComparator_3 : List UInt8 := dkwJ5_getEntryUsingComparator_3 ++ []
def dkwJ5_getEntryUsingComparator_2 : List UInt8 := [167, 0, 21, 21, 5, 158, 0, 13, 25, 4, 180, 0, 114, 58, 4, 167, 0, 6, 25, 4, 176, 167, 255, 204]
abbrev dktJ5_getEntryUsingComparator_2 : List UInt8 := dkwJ5_getEntryUsingComparator_2 ++ dktJ5_getEntryUsingComparator_3
def dkwJ5_getEntryUsingComparator_1 : List UInt8 := [25, 4, 180, 0, 105, 185, 0, 117, 3, 0, 54, 5, 21, 5, 156, 0, 13, 25, 4, 180, 0, 111, 58, 4]
abbrev dktJ5_getEntryUsingComparator_1 : List UInt8 := dkwJ5_getEntryUsingComparator_1 ++ dktJ5_getEntryUsingComparator_2
def dkwJ5_getEntryUsingComparator_0 : List UInt8 := [43, 77, 42, 180, 0, 16, 78, 45, 198, 0, 64, 42, 180, 0, 101, 58, 4, 25, 4, 198, 0, 53, 45, 44]
abbrev dktJ5_getEntryUsingComparator_0 : List UInt8 := dkwJ5_getEntryUsingComparator_0 ++ dktJ5_getEntryUsingComparator_1
theorem dksJ5_getEntryUsingComparator_0 : cJ5_getEntryUsingComparator.data.toList.drop 0 = dktJ5_getEntryUsingComparator_0 := by decide +kernel
theorem dksJ5_getEntryUsingComparator_1 : cJ5_getEntryUsingComparator.data.toList.drop 24 = dktJ5_getEntryUsingComparator_1 := dk_seg dksJ5_getEntryUsingComparator_0 24 rfl rfl
theorem dksJ5_getEntryUsingComparator_2 : cJ5_getEntryUsingComparator.data.toList.drop 48 = dktJ5_getEntryUsingComparator_2 := dk_seg dksJ5_getEntryUsingComparator_1 24 rfl rfl
theorem dksJ5_getEntryUsingComparator_3 : cJ5_getEntryUsingComparator.data.toList.drop 72 = dktJ5_getEntryUsingComparator_3 := dk_seg dksJ5_getEntryUsingComparator_2 24 rfl rfl
theorem dJ5_getEntryUsingComparator_0 : decode cJ5_getEntryUsingComparator 0 = .ok (.aload_n 1, 1) := dk_43 (dk_at dksJ5_getEntryUsingComparator_0 0 rfl rfl)
theorem dJ5_getEntryUsingComparator_1 : decode cJ5_getEntryUsingComparator 1 = .ok (.astore_n 2, 1) := dk_77 (dk_at dksJ5_getEntryUsingComparator_0 1 rfl rfl)
theorem dJ5_getEntryUsingComparator_2 : decode cJ5_getEntryUsingComparator 2 = .ok (.aload_n 0, 1) := dk_42 (dk_at dksJ5_getEntryUsingComparator_0 2 rfl rfl)
theorem dJ5_getEntryUsingComparator_3 : decode cJ5_getEntryUsingComparator 3 = .ok (.getfield 16, 3) := dk_180 0 16 (dk_at dksJ5_getEntryUsingComparator_0 3 rfl rfl)
theorem dJ5_getEntryUsingComparator_6 : decode cJ5_getEntryUsingComparator 6 = .ok (.astore_n 3, 1) := dk_78 (dk_at dksJ5_getEntryUsingComparator_0 6 rfl rfl)
theorem dJ5_getEntryUsingComparator_7 : decode cJ5_getEntryUsingComparator 7 = .ok (.aload_n 3, 1) := dk_45 (dk_at dksJ5_getEntryUsingComparator_0 7 rfl rfl)
theorem dJ5_getEntryUsingComparator_8 : decode cJ5_getEntryUsingComparator 8 = .ok (.ifnull 64, 3) := dk_198 0 64 (dk_at dksJ5_getEntryUsingComparator_0 8 rfl rfl)
theorem dJ5_getEntryUsingComparator_11 : decode cJ5_getEntryUsingComparator 11 = .ok (.aload_n 0, 1) := dk_42 (dk_at dksJ5_getEntryUsingComparator_0 11 rfl rfl)
theorem dJ5_getEntryUsingComparator_12 : decode cJ5_getEntryUsingComparator 12 = .ok (.getfield 101, 3) := dk_180 0 101 (dk_at dksJ5_getEntryUsingComparator_0 12 rfl rfl)
theorem dJ5_getEntryUsingComparator_15 : decode cJ5_getEntryUsingComparator 15 = .ok (.astore 4, 2) := dk_58 4 (dk_at dksJ5_getEntryUsingComparator_0 15 rfl rfl)
theorem dJ5_getEntryUsingComparator_17 : decode cJ5_getEntryUsingComparator 17 = .ok (.aload 4, 2) := dk_25 4 (dk_at dksJ5_getEntryUsingComparator_0 17 rfl rfl)
theorem dJ5_getEntryUsingComparator_19 : decode cJ5_getEntryUsingComparator 19 = .ok (.ifnull 53, 3) := dk_198 0 53 (dk_at dksJ5_getEntryUsingComparator_0 19 rfl rfl)
theorem dJ5_getEntryUsingComparator_22 : decode cJ5_getEntryUsingComparator 22 = .ok (.aload_n 3, 1) := dk_45 (dk_at dksJ5_getEntryUsingComparator_0 22 rfl rfl)
theorem dJ5_getEntryUsingComparator_23 : decode cJ5_getEntryUsingComparator 23 = .ok (.aload_n 2, 1) := dk_44 (dk_at dksJ5_getEntryUsingComparator_0 23 rfl rfl)
theorem dJ5_getEntryUsingComparator_24 : decode cJ5_getEntryUsingComparator 24 = .ok (.aload 4, 2) := dk_25 4 (dk_at dksJ5_getEntryUsingComparator_1 0 rfl rfl)
theorem dJ5_getEntryUsingComparator_26 : decode cJ5_getEntryUsingComparator 26 = .ok (.getfield 105, 3) := dk_180 0 105 (dk_at dksJ5_getEntryUsingComparator_1 2 rfl rfl)
theorem dJ5_getEntryUsingComparator_29 : decode cJ5_getEntryUsingComparator 29 = .ok (.invokeinterface 117 3, 5) := by decide +kernel
theorem dJ5_getEntryUsingComparator_34 : decode cJ5_getEntryUsingComparator 34 = .ok (.istore 5, 2) := dk_54 5 (dk_at dksJ5_getEntryUsingComparator_1 10 rfl rfl)
theorem dJ5_getEntryUsingComparator_36 : decode cJ5_getEntryUsingComparator 36 = .ok (.iload 5, 2) := dk_21 5 (dk_at dksJ5_getEntryUsingComparator_1 12 rfl rfl)
theorem dJ5_getEntryUsingComparator_38 : decode cJ5_getEntryUsingComparator 38 = .ok (.ifCond .ge 13, 3) := dk_156 0 13 (dk_at dksJ5_getEntryUsingComparator_1 14 rfl rfl)
theorem dJ5_getEntryUsingComparator_41 : decode cJ5_getEntryUsingComparator 41 = .ok (.aload 4, 2) := dk_25 4 (dk_at dksJ5_getEntryUsingComparator_1 17 rfl rfl)
theorem dJ5_getEntryUsingComparator_43 : decode cJ5_getEntryUsingComparator 43 = .ok (.getfield 111, 3) := dk_180 0 111 (dk_at dksJ5_getEntryUsingComparator_1 19 rfl rfl)
theorem dJ5_getEntryUsingComparator_46 : decode cJ5_getEntryUsingComparator 46 = .ok (.astore 4, 2) := dk_58 4 (dk_at dksJ5_getEntryUsingComparator_1 22 rfl rfl)
theorem dJ5_getEntryUsingComparator_48 : decode cJ5_getEntryUsingComparator 48 = .ok (.goto 21, 3) := dk_167 0 21 (dk_at dksJ5_getEntryUsingComparator_2 0 rfl rfl)
theorem dJ5_getEntryUsingComparator_51 : decode cJ5_getEntryUsingComparator 51 = .ok (.iload 5, 2) := dk_21 5 (dk_at dksJ5_getEntryUsingComparator_2 3 rfl rfl)
theorem dJ5_getEntryUsingComparator_53 : decode cJ5_getEntryUsingComparator 53 = .ok (.ifCond .le 13, 3) := dk_158 0 13 (dk_at dksJ5_getEntryUsingComparator_2 5 rfl rfl)
theorem dJ5_getEntryUsingComparator_56 : decode cJ5_getEntryUsingComparator 56 = .ok (.aload 4, 2) := dk_25 4 (dk_at dksJ5_getEntryUsingComparator_2 8 rfl rfl)
theorem dJ5_getEntryUsingComparator_58 : decode cJ5_getEntryUsingComparator 58 = .ok (.getfield 114, 3) := dk_180 0 114 (dk_at dksJ5_getEntryUsingComparator_2 10 rfl rfl)
theorem dJ5_getEntryUsingComparator_61 : decode cJ5_getEntryUsingComparator 61 = .ok (.astore 4, 2) := dk_58 4 (dk_at dksJ5_getEntryUsingComparator_2 13 rfl rfl)
theorem dJ5_getEntryUsingComparator_63 : decode cJ5_getEntryUsingComparator 63 = .ok (.goto 6, 3) := dk_167 0 6 (dk_at dksJ5_getEntryUsingComparator_2 15 rfl rfl)
theorem dJ5_getEntryUsingComparator_66 : decode cJ5_getEntryUsingComparator 66 = .ok (.aload 4, 2) := dk_25 4 (dk_at dksJ5_getEntryUsingComparator_2 18 rfl rfl)
theorem dJ5_getEntryUsingComparator_68 : decode cJ5_getEntryUsingComparator 68 = .ok (.areturn, 1) := dk_176 (dk_at dksJ5_getEntryUsingComparator_2 20 rfl rfl)
theorem dJ5_getEntryUsingComparator_69 : decode cJ5_getEntryUsingComparator 69 = .ok (.goto (-52), 3) := dk_167 255 204 (dk_at dksJ5_getEntryUsingComparator_2 21 rfl rfl)
theorem dJ5_getEntryUsingComparator_72 : decode cJ5_getEntryUsingComparator 72 = .ok (.aconst_null, 1) := dk_1 (dk_at dksJ5_getEntryUsingComparator_3 0 rfl rfl)
theorem dJ5_getEntryUsingComparator_73 : decode cJ5_getEntryUsingComparator 73 = .ok (.areturn, 1) := dk_176 (dk_at dksJ5_getEntryUsingComparator_3 1 rfl rfl)
abbrev cJ5_keySet : ByteArray := prog_60_method_49_code
def yJ5_keySet : MethodName := ⟨RJ5, "keySet", "()Ljava/util/Set;"⟩
theorem dJ5_keySet_0 : decode cJ5_keySet 0 = .ok (.aload_n 0, 1) := by decide +kernel
theorem dJ5_keySet_1 : decode cJ5_keySet 1 = .ok (.invokevirtual 219, 3) := by decide +kernel
theorem dJ5_keySet_4 : decode cJ5_keySet 4 = .ok (.areturn, 1) := by decide +kernel
abbrev cJ5_navigableKeySet : ByteArray := prog_60_method_50_code
def yJ5_navigableKeySet : MethodName := ⟨RJ5, "navigableKeySet", "()Ljava/util/NavigableSet;"⟩
def dkwJ5_navigableKeySet_1 : List UInt8 := [181, 0, 191, 176]
abbrev dktJ5_navigableKeySet_1 : List UInt8 := dkwJ5_navigableKeySet_1 ++ []
def dkwJ5_navigableKeySet_0 : List UInt8 := [42, 180, 0, 191, 76, 43, 198, 0, 7, 43, 167, 0, 16, 42, 187, 0, 222, 89, 42, 183, 0, 224, 90]
abbrev dktJ5_navigableKeySet_0 : List UInt8 := dkwJ5_navigableKeySet_0 ++ dktJ5_navigableKeySet_1
theorem dksJ5_navigableKeySet_0 : cJ5_navigableKeySet.data.toList.drop 0 = dktJ5_navigableKeySet_0 := by decide +kernel
theorem dksJ5_navigableKeySet_1 : cJ5_navigableKeySet.data.toList.drop 23 = dktJ5_navigableKeySet_1 := dk_seg dksJ5_navigableKeySet_0 23 rfl rfl
theorem dJ5_navigableKeySet_0 : decode cJ5_navigableKeySet 0 = .ok (.aload_n 0, 1) := dk_42 (dk_at dksJ5_navigableKeySet_0 0 rfl rfl)
theorem dJ5_navigableKeySet_1 : decode cJ5_navigableKeySet 1 = .ok (.getfield 191, 3) := dk_180 0 191 (dk_at dksJ5_navigableKeySet_0 1 rfl rfl)
theorem dJ5_navigableKeySet_4 : decode cJ5_navigableKeySet 4 = .ok (.astore_n 1, 1) := dk_76 (dk_at dksJ5_navigableKeySet_0 4 rfl rfl)
theorem dJ5_navigableKeySet_5 : decode cJ5_navigableKeySet 5 = .ok (.aload_n 1, 1) := dk_43 (dk_at dksJ5_navigableKeySet_0 5 rfl rfl)
theorem dJ5_navigableKeySet_6 : decode cJ5_navigableKeySet 6 = .ok (.ifnull 7, 3) := dk_198 0 7 (dk_at dksJ5_navigableKeySet_0 6 rfl rfl)
theorem dJ5_navigableKeySet_9 : decode cJ5_navigableKeySet 9 = .ok (.aload_n 1, 1) := dk_43 (dk_at dksJ5_navigableKeySet_0 9 rfl rfl)
theorem dJ5_navigableKeySet_10 : decode cJ5_navigableKeySet 10 = .ok (.goto 16, 3) := dk_167 0 16 (dk_at dksJ5_navigableKeySet_0 10 rfl rfl)
theorem dJ5_navigableKeySet_13 : decode cJ5_navigableKeySet 13 = .ok (.aload_n 0, 1) := dk_42 (dk_at dksJ5_navigableKeySet_0 13 rfl rfl)
theorem dJ5_navigableKeySet_14 : decode cJ5_navigableKeySet 14 = .ok (.new 222, 3) := dk_187 0 222 (dk_at dksJ5_navigableKeySet_0 14 rfl rfl)
theorem dJ5_navigableKeySet_17 : decode cJ5_navigableKeySet 17 = .ok (.dup, 1) := dk_89 (dk_at dksJ5_navigableKeySet_0 17 rfl rfl)
theorem dJ5_navigableKeySet_18 : decode cJ5_navigableKeySet 18 = .ok (.aload_n 0, 1) := dk_42 (dk_at dksJ5_navigableKeySet_0 18 rfl rfl)
theorem dJ5_navigableKeySet_19 : decode cJ5_navigableKeySet 19 = .ok (.invokespecial 224, 3) := dk_183 0 224 (dk_at dksJ5_navigableKeySet_0 19 rfl rfl)
theorem dJ5_navigableKeySet_22 : decode cJ5_navigableKeySet 22 = .ok (.dup_x1, 1) := dk_90 (dk_at dksJ5_navigableKeySet_0 22 rfl rfl)
theorem dJ5_navigableKeySet_23 : decode cJ5_navigableKeySet 23 = .ok (.putfield 191, 3) := dk_181 0 191 (dk_at dksJ5_navigableKeySet_1 0 rfl rfl)
theorem dJ5_navigableKeySet_26 : decode cJ5_navigableKeySet 26 = .ok (.areturn, 1) := dk_176 (dk_at dksJ5_navigableKeySet_1 3 rfl rfl)
abbrev cJ5_put : ByteArray := prog_60_method_21_code
def yJ5_put : MethodName := ⟨RJ5, "put", "(Ljava/lang/Object;Ljava/lang/Object;)Ljava/lang/Object;"⟩
def dkwJ5_put_0 : List UInt8 := [42, 43, 44, 4, 182, 0, 127, 176]
abbrev dktJ5_put_0 : List UInt8 := dkwJ5_put_0 ++ []
theorem dksJ5_put_0 : cJ5_put.data.toList.drop 0 = dktJ5_put_0 := by decide +kernel
theorem dJ5_put_0 : decode cJ5_put 0 = .ok (.aload_n 0, 1) := dk_42 (dk_at dksJ5_put_0 0 rfl rfl)
theorem dJ5_put_1 : decode cJ5_put 1 = .ok (.aload_n 1, 1) := dk_43 (dk_at dksJ5_put_0 1 rfl rfl)
theorem dJ5_put_2 : decode cJ5_put 2 = .ok (.aload_n 2, 1) := dk_44 (dk_at dksJ5_put_0 2 rfl rfl)
theorem dJ5_put_3 : decode cJ5_put 3 = .ok (.iconst 1, 1) := dk_4 (dk_at dksJ5_put_0 3 rfl rfl)
theorem dJ5_put_4 : decode cJ5_put 4 = .ok (.invokevirtual 127, 3) := dk_182 0 127 (dk_at dksJ5_put_0 4 rfl rfl)
theorem dJ5_put_7 : decode cJ5_put 7 = .ok (.areturn, 1) := dk_176 (dk_at dksJ5_put_0 7 rfl rfl)
abbrev cJ5_put_2 : ByteArray := prog_60_method_31_code
def yJ5_put_2 : MethodName := ⟨RJ5, "put", "(Ljava/lang/Object;Ljava/lang/Object;Z)Ljava/lang/Object;"⟩
def dkwJ5_put_2_9 : List UInt8 := [4, 167, 0, 4, 3, 182, 0, 139, 1, 176]
abbrev dktJ5_put_2_9 : List UInt8 := dkwJ5_put_2_9 ++ []
def dkwJ5_put_2_8 : List UInt8 := [25, 4, 44, 181, 0, 58, 25, 9, 176, 25, 4, 199, 255, 181, 42, 43, 44, 25, 6, 21, 5, 156, 0, 7]
abbrev dktJ5_put_2_8 : List UInt8 := dkwJ5_put_2_8 ++ dktJ5_put_2_9
def dkwJ5_put_2_7 : List UInt8 := [180, 0, 114, 58, 4, 167, 0, 28, 25, 4, 180, 0, 58, 58, 9, 29, 154, 0, 8, 25, 9, 199, 0, 9]
abbrev dktJ5_put_2_7 : List UInt8 := dkwJ5_put_2_7 ++ dktJ5_put_2_8
def dkwJ5_put_2_6 : List UInt8 := [21, 5, 156, 0, 13, 25, 4, 180, 0, 111, 58, 4, 167, 0, 43, 21, 5, 158, 0, 13, 25, 4]
abbrev dktJ5_put_2_6 : List UInt8 := dkwJ5_put_2_6 ++ dktJ5_put_2_7
def dkwJ5_put_2_5 : List UInt8 := [192, 0, 99, 58, 8, 25, 4, 58, 6, 25, 8, 25, 4, 180, 0, 105, 185, 0, 107, 2, 0, 54, 5]
abbrev dktJ5_put_2_5 : List UInt8 := dkwJ5_put_2_5 ++ dktJ5_put_2_6
def dkwJ5_put_2_4 : List UInt8 := [25, 4, 44, 181, 0, 58, 25, 8, 176, 25, 4, 199, 255, 180, 167, 0, 92, 43, 184, 0, 95, 87, 43]
abbrev dktJ5_put_2_4 : List UInt8 := dkwJ5_put_2_4 ++ dktJ5_put_2_5
def dkwJ5_put_2_3 : List UInt8 := [180, 0, 114, 58, 4, 167, 0, 28, 25, 4, 180, 0, 58, 58, 8, 29, 154, 0, 8, 25, 8, 199, 0, 9]
abbrev dktJ5_put_2_3 : List UInt8 := dkwJ5_put_2_3 ++ dktJ5_put_2_4
def dkwJ5_put_2_2 : List UInt8 := [54, 5, 21, 5, 156, 0, 13, 25, 4, 180, 0, 111, 58, 4, 167, 0, 43, 21, 5, 158, 0, 13, 25, 4]
abbrev dktJ5_put_2_2 : List UInt8 := dkwJ5_put_2_2 ++ dktJ5_put_2_3
def dkwJ5_put_2_1 : List UInt8 := [58, 7, 25, 7, 198, 0, 85, 25, 4, 58, 6, 25, 7, 43, 25, 4, 180, 0, 105, 185, 0, 117, 3, 0]
abbrev dktJ5_put_2_1 : List UInt8 := dkwJ5_put_2_1 ++ dktJ5_put_2_2
def dkwJ5_put_2_0 : List UInt8 := [42, 180, 0, 101, 58, 4, 25, 4, 199, 0, 11, 42, 43, 44, 182, 0, 135, 1, 176, 42, 180, 0, 16]
abbrev dktJ5_put_2_0 : List UInt8 := dkwJ5_put_2_0 ++ dktJ5_put_2_1
theorem dksJ5_put_2_0 : cJ5_put_2.data.toList.drop 0 = dktJ5_put_2_0 := by decide +kernel
theorem dksJ5_put_2_1 : cJ5_put_2.data.toList.drop 23 = dktJ5_put_2_1 := dk_seg dksJ5_put_2_0 23 rfl rfl
theorem dksJ5_put_2_2 : cJ5_put_2.data.toList.drop 47 = dktJ5_put_2_2 := dk_seg dksJ5_put_2_1 24 rfl rfl
theorem dksJ5_put_2_3 : cJ5_put_2.data.toList.drop 71 = dktJ5_put_2_3 := dk_seg dksJ5_put_2_2 24 rfl rfl
theorem dksJ5_put_2_4 : cJ5_put_2.data.toList.drop 95 = dktJ5_put_2_4 := dk_seg dksJ5_put_2_3 24 rfl rfl
theorem dksJ5_put_2_5 : cJ5_put_2.data.toList.drop 118 = dktJ5_put_2_5 := dk_seg dksJ5_put_2_4 23 rfl rfl
theorem dksJ5_put_2_6 : cJ5_put_2.data.toList.drop 141 = dktJ5_put_2_6 := dk_seg dksJ5_put_2_5 23 rfl rfl
theorem dksJ5_put_2_7 : cJ5_put_2.data.toList.drop 163 = dktJ5_put_2_7 := dk_seg dksJ5_put_2_6 22 rfl rfl
theorem dksJ5_put_2_8 : cJ5_put_2.data.toList.drop 187 = dktJ5_put_2_8 := dk_seg dksJ5_put_2_7 24 rfl rfl
theorem dksJ5_put_2_9 : cJ5_put_2.data.toList.drop 211 = dktJ5_put_2_9 := dk_seg dksJ5_put_2_8 24 rfl rfl
theorem dJ5_put_2_0 : decode cJ5_put_2 0 = .ok (.aload_n 0, 1) := dk_42 (dk_at dksJ5_put_2_0 0 rfl rfl)
theorem dJ5_put_2_1 : decode cJ5_put_2 1 = .ok (.getfield 101, 3) := dk_180 0 101 (dk_at dksJ5_put_2_0 1 rfl rfl)
theorem dJ5_put_2_4 : decode cJ5_put_2 4 = .ok (.astore 4, 2) := dk_58 4 (dk_at dksJ5_put_2_0 4 rfl rfl)
theorem dJ5_put_2_6 : decode cJ5_put_2 6 = .ok (.aload 4, 2) := dk_25 4 (dk_at dksJ5_put_2_0 6 rfl rfl)
theorem dJ5_put_2_8 : decode cJ5_put_2 8 = .ok (.ifnonnull 11, 3) := dk_199 0 11 (dk_at dksJ5_put_2_0 8 rfl rfl)
theorem dJ5_put_2_11 : decode cJ5_put_2 11 = .ok (.aload_n 0, 1) := dk_42 (dk_at dksJ5_put_2_0 11 rfl rfl)
theorem dJ5_put_2_12 : decode cJ5_put_2 12 = .ok (.aload_n 1, 1) := dk_43 (dk_at dksJ5_put_2_0 12 rfl rfl)
theorem dJ5_put_2_13 : decode cJ5_put_2 13 = .ok (.aload_n 2, 1) := dk_44 (dk_at dksJ5_put_2_0 13 rfl rfl)
theorem dJ5_put_2_14 : decode cJ5_put_2 14 = .ok (.invokevirtual 135, 3) := dk_182 0 135 (dk_at dksJ5_put_2_0 14 rfl rfl)
theorem dJ5_put_2_17 : decode cJ5_put_2 17 = .ok (.aconst_null, 1) := dk_1 (dk_at dksJ5_put_2_0 17 rfl rfl)
theorem dJ5_put_2_18 : decode cJ5_put_2 18 = .ok (.areturn, 1) := dk_176 (dk_at dksJ5_put_2_0 18 rfl rfl)
theorem dJ5_put_2_19 : decode cJ5_put_2 19 = .ok (.aload_n 0, 1) := dk_42 (dk_at dksJ5_put_2_0 19 rfl rfl)
theorem dJ5_put_2_20 : decode cJ5_put_2 20 = .ok (.getfield 16, 3) := dk_180 0 16 (dk_at dksJ5_put_2_0 20 rfl rfl)
theorem dJ5_put_2_23 : decode cJ5_put_2 23 = .ok (.astore 7, 2) := dk_58 7 (dk_at dksJ5_put_2_1 0 rfl rfl)
theorem dJ5_put_2_25 : decode cJ5_put_2 25 = .ok (.aload 7, 2) := dk_25 7 (dk_at dksJ5_put_2_1 2 rfl rfl)
theorem dJ5_put_2_27 : decode cJ5_put_2 27 = .ok (.ifnull 85, 3) := dk_198 0 85 (dk_at dksJ5_put_2_1 4 rfl rfl)
theorem dJ5_put_2_30 : decode cJ5_put_2 30 = .ok (.aload 4, 2) := dk_25 4 (dk_at dksJ5_put_2_1 7 rfl rfl)
theorem dJ5_put_2_32 : decode cJ5_put_2 32 = .ok (.astore 6, 2) := dk_58 6 (dk_at dksJ5_put_2_1 9 rfl rfl)
theorem dJ5_put_2_34 : decode cJ5_put_2 34 = .ok (.aload 7, 2) := dk_25 7 (dk_at dksJ5_put_2_1 11 rfl rfl)
theorem dJ5_put_2_36 : decode cJ5_put_2 36 = .ok (.aload_n 1, 1) := dk_43 (dk_at dksJ5_put_2_1 13 rfl rfl)
theorem dJ5_put_2_37 : decode cJ5_put_2 37 = .ok (.aload 4, 2) := dk_25 4 (dk_at dksJ5_put_2_1 14 rfl rfl)
theorem dJ5_put_2_39 : decode cJ5_put_2 39 = .ok (.getfield 105, 3) := dk_180 0 105 (dk_at dksJ5_put_2_1 16 rfl rfl)
theorem dJ5_put_2_42 : decode cJ5_put_2 42 = .ok (.invokeinterface 117 3, 5) := by decide +kernel
theorem dJ5_put_2_47 : decode cJ5_put_2 47 = .ok (.istore 5, 2) := dk_54 5 (dk_at dksJ5_put_2_2 0 rfl rfl)
theorem dJ5_put_2_49 : decode cJ5_put_2 49 = .ok (.iload 5, 2) := dk_21 5 (dk_at dksJ5_put_2_2 2 rfl rfl)
theorem dJ5_put_2_51 : decode cJ5_put_2 51 = .ok (.ifCond .ge 13, 3) := dk_156 0 13 (dk_at dksJ5_put_2_2 4 rfl rfl)
theorem dJ5_put_2_54 : decode cJ5_put_2 54 = .ok (.aload 4, 2) := dk_25 4 (dk_at dksJ5_put_2_2 7 rfl rfl)
theorem dJ5_put_2_56 : decode cJ5_put_2 56 = .ok (.getfield 111, 3) := dk_180 0 111 (dk_at dksJ5_put_2_2 9 rfl rfl)
theorem dJ5_put_2_59 : decode cJ5_put_2 59 = .ok (.astore 4, 2) := dk_58 4 (dk_at dksJ5_put_2_2 12 rfl rfl)
theorem dJ5_put_2_61 : decode cJ5_put_2 61 = .ok (.goto 43, 3) := dk_167 0 43 (dk_at dksJ5_put_2_2 14 rfl rfl)
theorem dJ5_put_2_64 : decode cJ5_put_2 64 = .ok (.iload 5, 2) := dk_21 5 (dk_at dksJ5_put_2_2 17 rfl rfl)
theorem dJ5_put_2_66 : decode cJ5_put_2 66 = .ok (.ifCond .le 13, 3) := dk_158 0 13 (dk_at dksJ5_put_2_2 19 rfl rfl)
theorem dJ5_put_2_69 : decode cJ5_put_2 69 = .ok (.aload 4, 2) := dk_25 4 (dk_at dksJ5_put_2_2 22 rfl rfl)
theorem dJ5_put_2_71 : decode cJ5_put_2 71 = .ok (.getfield 114, 3) := dk_180 0 114 (dk_at dksJ5_put_2_3 0 rfl rfl)
theorem dJ5_put_2_74 : decode cJ5_put_2 74 = .ok (.astore 4, 2) := dk_58 4 (dk_at dksJ5_put_2_3 3 rfl rfl)
theorem dJ5_put_2_76 : decode cJ5_put_2 76 = .ok (.goto 28, 3) := dk_167 0 28 (dk_at dksJ5_put_2_3 5 rfl rfl)
theorem dJ5_put_2_79 : decode cJ5_put_2 79 = .ok (.aload 4, 2) := dk_25 4 (dk_at dksJ5_put_2_3 8 rfl rfl)
theorem dJ5_put_2_81 : decode cJ5_put_2 81 = .ok (.getfield 58, 3) := dk_180 0 58 (dk_at dksJ5_put_2_3 10 rfl rfl)
theorem dJ5_put_2_84 : decode cJ5_put_2 84 = .ok (.astore 8, 2) := dk_58 8 (dk_at dksJ5_put_2_3 13 rfl rfl)
theorem dJ5_put_2_86 : decode cJ5_put_2 86 = .ok (.iload_n 3, 1) := dk_29 (dk_at dksJ5_put_2_3 15 rfl rfl)
theorem dJ5_put_2_87 : decode cJ5_put_2 87 = .ok (.ifCond .ne 8, 3) := dk_154 0 8 (dk_at dksJ5_put_2_3 16 rfl rfl)
theorem dJ5_put_2_90 : decode cJ5_put_2 90 = .ok (.aload 8, 2) := dk_25 8 (dk_at dksJ5_put_2_3 19 rfl rfl)
theorem dJ5_put_2_92 : decode cJ5_put_2 92 = .ok (.ifnonnull 9, 3) := dk_199 0 9 (dk_at dksJ5_put_2_3 21 rfl rfl)
theorem dJ5_put_2_95 : decode cJ5_put_2 95 = .ok (.aload 4, 2) := dk_25 4 (dk_at dksJ5_put_2_4 0 rfl rfl)
theorem dJ5_put_2_97 : decode cJ5_put_2 97 = .ok (.aload_n 2, 1) := dk_44 (dk_at dksJ5_put_2_4 2 rfl rfl)
theorem dJ5_put_2_98 : decode cJ5_put_2 98 = .ok (.putfield 58, 3) := dk_181 0 58 (dk_at dksJ5_put_2_4 3 rfl rfl)
theorem dJ5_put_2_101 : decode cJ5_put_2 101 = .ok (.aload 8, 2) := dk_25 8 (dk_at dksJ5_put_2_4 6 rfl rfl)
theorem dJ5_put_2_103 : decode cJ5_put_2 103 = .ok (.areturn, 1) := dk_176 (dk_at dksJ5_put_2_4 8 rfl rfl)
theorem dJ5_put_2_104 : decode cJ5_put_2 104 = .ok (.aload 4, 2) := dk_25 4 (dk_at dksJ5_put_2_4 9 rfl rfl)
theorem dJ5_put_2_106 : decode cJ5_put_2 106 = .ok (.ifnonnull (-76), 3) := dk_199 255 180 (dk_at dksJ5_put_2_4 11 rfl rfl)
theorem dJ5_put_2_109 : decode cJ5_put_2 109 = .ok (.goto 92, 3) := dk_167 0 92 (dk_at dksJ5_put_2_4 14 rfl rfl)
theorem dJ5_put_2_112 : decode cJ5_put_2 112 = .ok (.aload_n 1, 1) := dk_43 (dk_at dksJ5_put_2_4 17 rfl rfl)
theorem dJ5_put_2_113 : decode cJ5_put_2 113 = .ok (.invokestatic 95, 3) := dk_184 0 95 (dk_at dksJ5_put_2_4 18 rfl rfl)
theorem dJ5_put_2_116 : decode cJ5_put_2 116 = .ok (.pop, 1) := dk_87 (dk_at dksJ5_put_2_4 21 rfl rfl)
theorem dJ5_put_2_117 : decode cJ5_put_2 117 = .ok (.aload_n 1, 1) := dk_43 (dk_at dksJ5_put_2_4 22 rfl rfl)
theorem dJ5_put_2_118 : decode cJ5_put_2 118 = .ok (.checkcast 99, 3) := dk_192 0 99 (dk_at dksJ5_put_2_5 0 rfl rfl)
theorem dJ5_put_2_121 : decode cJ5_put_2 121 = .ok (.astore 8, 2) := dk_58 8 (dk_at dksJ5_put_2_5 3 rfl rfl)
theorem dJ5_put_2_123 : decode cJ5_put_2 123 = .ok (.aload 4, 2) := dk_25 4 (dk_at dksJ5_put_2_5 5 rfl rfl)
theorem dJ5_put_2_125 : decode cJ5_put_2 125 = .ok (.astore 6, 2) := dk_58 6 (dk_at dksJ5_put_2_5 7 rfl rfl)
theorem dJ5_put_2_127 : decode cJ5_put_2 127 = .ok (.aload 8, 2) := dk_25 8 (dk_at dksJ5_put_2_5 9 rfl rfl)
theorem dJ5_put_2_129 : decode cJ5_put_2 129 = .ok (.aload 4, 2) := dk_25 4 (dk_at dksJ5_put_2_5 11 rfl rfl)
theorem dJ5_put_2_131 : decode cJ5_put_2 131 = .ok (.getfield 105, 3) := dk_180 0 105 (dk_at dksJ5_put_2_5 13 rfl rfl)
theorem dJ5_put_2_134 : decode cJ5_put_2 134 = .ok (.invokeinterface 107 2, 5) := by decide +kernel
theorem dJ5_put_2_139 : decode cJ5_put_2 139 = .ok (.istore 5, 2) := dk_54 5 (dk_at dksJ5_put_2_5 21 rfl rfl)
theorem dJ5_put_2_141 : decode cJ5_put_2 141 = .ok (.iload 5, 2) := dk_21 5 (dk_at dksJ5_put_2_6 0 rfl rfl)
theorem dJ5_put_2_143 : decode cJ5_put_2 143 = .ok (.ifCond .ge 13, 3) := dk_156 0 13 (dk_at dksJ5_put_2_6 2 rfl rfl)
theorem dJ5_put_2_146 : decode cJ5_put_2 146 = .ok (.aload 4, 2) := dk_25 4 (dk_at dksJ5_put_2_6 5 rfl rfl)
theorem dJ5_put_2_148 : decode cJ5_put_2 148 = .ok (.getfield 111, 3) := dk_180 0 111 (dk_at dksJ5_put_2_6 7 rfl rfl)
theorem dJ5_put_2_151 : decode cJ5_put_2 151 = .ok (.astore 4, 2) := dk_58 4 (dk_at dksJ5_put_2_6 10 rfl rfl)
theorem dJ5_put_2_153 : decode cJ5_put_2 153 = .ok (.goto 43, 3) := dk_167 0 43 (dk_at dksJ5_put_2_6 12 rfl rfl)
theorem dJ5_put_2_156 : decode cJ5_put_2 156 = .ok (.iload 5, 2) := dk_21 5 (dk_at dksJ5_put_2_6 15 rfl rfl)
theorem dJ5_put_2_158 : decode cJ5_put_2 158 = .ok (.ifCond .le 13, 3) := dk_158 0 13 (dk_at dksJ5_put_2_6 17 rfl rfl)
theorem dJ5_put_2_161 : decode cJ5_put_2 161 = .ok (.aload 4, 2) := dk_25 4 (dk_at dksJ5_put_2_6 20 rfl rfl)
theorem dJ5_put_2_163 : decode cJ5_put_2 163 = .ok (.getfield 114, 3) := dk_180 0 114 (dk_at dksJ5_put_2_7 0 rfl rfl)
theorem dJ5_put_2_166 : decode cJ5_put_2 166 = .ok (.astore 4, 2) := dk_58 4 (dk_at dksJ5_put_2_7 3 rfl rfl)
theorem dJ5_put_2_168 : decode cJ5_put_2 168 = .ok (.goto 28, 3) := dk_167 0 28 (dk_at dksJ5_put_2_7 5 rfl rfl)
theorem dJ5_put_2_171 : decode cJ5_put_2 171 = .ok (.aload 4, 2) := dk_25 4 (dk_at dksJ5_put_2_7 8 rfl rfl)
theorem dJ5_put_2_173 : decode cJ5_put_2 173 = .ok (.getfield 58, 3) := dk_180 0 58 (dk_at dksJ5_put_2_7 10 rfl rfl)
theorem dJ5_put_2_176 : decode cJ5_put_2 176 = .ok (.astore 9, 2) := dk_58 9 (dk_at dksJ5_put_2_7 13 rfl rfl)
theorem dJ5_put_2_178 : decode cJ5_put_2 178 = .ok (.iload_n 3, 1) := dk_29 (dk_at dksJ5_put_2_7 15 rfl rfl)
theorem dJ5_put_2_179 : decode cJ5_put_2 179 = .ok (.ifCond .ne 8, 3) := dk_154 0 8 (dk_at dksJ5_put_2_7 16 rfl rfl)
theorem dJ5_put_2_182 : decode cJ5_put_2 182 = .ok (.aload 9, 2) := dk_25 9 (dk_at dksJ5_put_2_7 19 rfl rfl)
theorem dJ5_put_2_184 : decode cJ5_put_2 184 = .ok (.ifnonnull 9, 3) := dk_199 0 9 (dk_at dksJ5_put_2_7 21 rfl rfl)
theorem dJ5_put_2_187 : decode cJ5_put_2 187 = .ok (.aload 4, 2) := dk_25 4 (dk_at dksJ5_put_2_8 0 rfl rfl)
theorem dJ5_put_2_189 : decode cJ5_put_2 189 = .ok (.aload_n 2, 1) := dk_44 (dk_at dksJ5_put_2_8 2 rfl rfl)
theorem dJ5_put_2_190 : decode cJ5_put_2 190 = .ok (.putfield 58, 3) := dk_181 0 58 (dk_at dksJ5_put_2_8 3 rfl rfl)
theorem dJ5_put_2_193 : decode cJ5_put_2 193 = .ok (.aload 9, 2) := dk_25 9 (dk_at dksJ5_put_2_8 6 rfl rfl)
theorem dJ5_put_2_195 : decode cJ5_put_2 195 = .ok (.areturn, 1) := dk_176 (dk_at dksJ5_put_2_8 8 rfl rfl)
theorem dJ5_put_2_196 : decode cJ5_put_2 196 = .ok (.aload 4, 2) := dk_25 4 (dk_at dksJ5_put_2_8 9 rfl rfl)
theorem dJ5_put_2_198 : decode cJ5_put_2 198 = .ok (.ifnonnull (-75), 3) := dk_199 255 181 (dk_at dksJ5_put_2_8 11 rfl rfl)
theorem dJ5_put_2_201 : decode cJ5_put_2 201 = .ok (.aload_n 0, 1) := dk_42 (dk_at dksJ5_put_2_8 14 rfl rfl)
theorem dJ5_put_2_202 : decode cJ5_put_2 202 = .ok (.aload_n 1, 1) := dk_43 (dk_at dksJ5_put_2_8 15 rfl rfl)
theorem dJ5_put_2_203 : decode cJ5_put_2 203 = .ok (.aload_n 2, 1) := dk_44 (dk_at dksJ5_put_2_8 16 rfl rfl)
theorem dJ5_put_2_204 : decode cJ5_put_2 204 = .ok (.aload 6, 2) := dk_25 6 (dk_at dksJ5_put_2_8 17 rfl rfl)
theorem dJ5_put_2_206 : decode cJ5_put_2 206 = .ok (.iload 5, 2) := dk_21 5 (dk_at dksJ5_put_2_8 19 rfl rfl)
theorem dJ5_put_2_208 : decode cJ5_put_2 208 = .ok (.ifCond .ge 7, 3) := dk_156 0 7 (dk_at dksJ5_put_2_8 21 rfl rfl)
theorem dJ5_put_2_211 : decode cJ5_put_2 211 = .ok (.iconst 1, 1) := dk_4 (dk_at dksJ5_put_2_9 0 rfl rfl)
theorem dJ5_put_2_212 : decode cJ5_put_2 212 = .ok (.goto 4, 3) := dk_167 0 4 (dk_at dksJ5_put_2_9 1 rfl rfl)
theorem dJ5_put_2_215 : decode cJ5_put_2 215 = .ok (.iconst 0, 1) := dk_3 (dk_at dksJ5_put_2_9 4 rfl rfl)
theorem dJ5_put_2_216 : decode cJ5_put_2 216 = .ok (.invokevirtual 139, 3) := dk_182 0 139 (dk_at dksJ5_put_2_9 5 rfl rfl)
theorem dJ5_put_2_219 : decode cJ5_put_2 219 = .ok (.aconst_null, 1) := dk_1 (dk_at dksJ5_put_2_9 8 rfl rfl)
theorem dJ5_put_2_220 : decode cJ5_put_2 220 = .ok (.areturn, 1) := dk_176 (dk_at dksJ5_put_2_9 9 rfl rfl)
abbrev cJ5_addEntryToEmptyMap : ByteArray := prog_60_method_30_code
def yJ5_addEntryToEmptyMap : MethodName := ⟨RJ5, "addEntryToEmptyMap", "(Ljava/lang/Object;Ljava/lang/Object;)V"⟩
def dkwJ5_addEntryToEmptyMap_1 : List UInt8 := [181, 0, 7, 42, 89, 180, 0, 13, 4, 96, 181, 0, 13, 177]
abbrev dktJ5_addEntryToEmptyMap_1 : List UInt8 := dkwJ5_addEntryToEmptyMap_1 ++ []
def dkwJ5_addEntryToEmptyMap_0 : List UInt8 := [42, 43, 43, 182, 0, 123, 87, 42, 187, 0, 59, 89, 43, 44, 1, 183, 0, 167, 181, 0, 101, 42, 4]
abbrev dktJ5_addEntryToEmptyMap_0 : List UInt8 := dkwJ5_addEntryToEmptyMap_0 ++ dktJ5_addEntryToEmptyMap_1
theorem dksJ5_addEntryToEmptyMap_0 : cJ5_addEntryToEmptyMap.data.toList.drop 0 = dktJ5_addEntryToEmptyMap_0 := by decide +kernel
theorem dksJ5_addEntryToEmptyMap_1 : cJ5_addEntryToEmptyMap.data.toList.drop 23 = dktJ5_addEntryToEmptyMap_1 := dk_seg dksJ5_addEntryToEmptyMap_0 23 rfl rfl
theorem dJ5_addEntryToEmptyMap_0 : decode cJ5_addEntryToEmptyMap 0 = .ok (.aload_n 0, 1) := dk_42 (dk_at dksJ5_addEntryToEmptyMap_0 0 rfl rfl)
theorem dJ5_addEntryToEmptyMap_1 : decode cJ5_addEntryToEmptyMap 1 = .ok (.aload_n 1, 1) := dk_43 (dk_at dksJ5_addEntryToEmptyMap_0 1 rfl rfl)
theorem dJ5_addEntryToEmptyMap_2 : decode cJ5_addEntryToEmptyMap 2 = .ok (.aload_n 1, 1) := dk_43 (dk_at dksJ5_addEntryToEmptyMap_0 2 rfl rfl)
theorem dJ5_addEntryToEmptyMap_3 : decode cJ5_addEntryToEmptyMap 3 = .ok (.invokevirtual 123, 3) := dk_182 0 123 (dk_at dksJ5_addEntryToEmptyMap_0 3 rfl rfl)
theorem dJ5_addEntryToEmptyMap_6 : decode cJ5_addEntryToEmptyMap 6 = .ok (.pop, 1) := dk_87 (dk_at dksJ5_addEntryToEmptyMap_0 6 rfl rfl)
theorem dJ5_addEntryToEmptyMap_7 : decode cJ5_addEntryToEmptyMap 7 = .ok (.aload_n 0, 1) := dk_42 (dk_at dksJ5_addEntryToEmptyMap_0 7 rfl rfl)
theorem dJ5_addEntryToEmptyMap_8 : decode cJ5_addEntryToEmptyMap 8 = .ok (.new 59, 3) := dk_187 0 59 (dk_at dksJ5_addEntryToEmptyMap_0 8 rfl rfl)
theorem dJ5_addEntryToEmptyMap_11 : decode cJ5_addEntryToEmptyMap 11 = .ok (.dup, 1) := dk_89 (dk_at dksJ5_addEntryToEmptyMap_0 11 rfl rfl)
theorem dJ5_addEntryToEmptyMap_12 : decode cJ5_addEntryToEmptyMap 12 = .ok (.aload_n 1, 1) := dk_43 (dk_at dksJ5_addEntryToEmptyMap_0 12 rfl rfl)
theorem dJ5_addEntryToEmptyMap_13 : decode cJ5_addEntryToEmptyMap 13 = .ok (.aload_n 2, 1) := dk_44 (dk_at dksJ5_addEntryToEmptyMap_0 13 rfl rfl)
theorem dJ5_addEntryToEmptyMap_14 : decode cJ5_addEntryToEmptyMap 14 = .ok (.aconst_null, 1) := dk_1 (dk_at dksJ5_addEntryToEmptyMap_0 14 rfl rfl)
theorem dJ5_addEntryToEmptyMap_15 : decode cJ5_addEntryToEmptyMap 15 = .ok (.invokespecial 167, 3) := dk_183 0 167 (dk_at dksJ5_addEntryToEmptyMap_0 15 rfl rfl)
theorem dJ5_addEntryToEmptyMap_18 : decode cJ5_addEntryToEmptyMap 18 = .ok (.putfield 101, 3) := dk_181 0 101 (dk_at dksJ5_addEntryToEmptyMap_0 18 rfl rfl)
theorem dJ5_addEntryToEmptyMap_21 : decode cJ5_addEntryToEmptyMap 21 = .ok (.aload_n 0, 1) := dk_42 (dk_at dksJ5_addEntryToEmptyMap_0 21 rfl rfl)
theorem dJ5_addEntryToEmptyMap_22 : decode cJ5_addEntryToEmptyMap 22 = .ok (.iconst 1, 1) := dk_4 (dk_at dksJ5_addEntryToEmptyMap_0 22 rfl rfl)
theorem dJ5_addEntryToEmptyMap_23 : decode cJ5_addEntryToEmptyMap 23 = .ok (.putfield 7, 3) := dk_181 0 7 (dk_at dksJ5_addEntryToEmptyMap_1 0 rfl rfl)
theorem dJ5_addEntryToEmptyMap_26 : decode cJ5_addEntryToEmptyMap 26 = .ok (.aload_n 0, 1) := dk_42 (dk_at dksJ5_addEntryToEmptyMap_1 3 rfl rfl)
theorem dJ5_addEntryToEmptyMap_27 : decode cJ5_addEntryToEmptyMap 27 = .ok (.dup, 1) := dk_89 (dk_at dksJ5_addEntryToEmptyMap_1 4 rfl rfl)
theorem dJ5_addEntryToEmptyMap_28 : decode cJ5_addEntryToEmptyMap 28 = .ok (.getfield 13, 3) := dk_180 0 13 (dk_at dksJ5_addEntryToEmptyMap_1 5 rfl rfl)
theorem dJ5_addEntryToEmptyMap_31 : decode cJ5_addEntryToEmptyMap 31 = .ok (.iconst 1, 1) := dk_4 (dk_at dksJ5_addEntryToEmptyMap_1 8 rfl rfl)
theorem dJ5_addEntryToEmptyMap_32 : decode cJ5_addEntryToEmptyMap 32 = .ok (.iadd, 1) := dk_96 (dk_at dksJ5_addEntryToEmptyMap_1 9 rfl rfl)
theorem dJ5_addEntryToEmptyMap_33 : decode cJ5_addEntryToEmptyMap 33 = .ok (.putfield 13, 3) := dk_181 0 13 (dk_at dksJ5_addEntryToEmptyMap_1 10 rfl rfl)
theorem dJ5_addEntryToEmptyMap_36 : decode cJ5_addEntryToEmptyMap 36 = .ok (.return_, 1) := dk_177 (dk_at dksJ5_addEntryToEmptyMap_1 13 rfl rfl)
abbrev cJ5_addEntry : ByteArray := prog_60_method_29_code
def yJ5_addEntry : MethodName := ⟨RJ5, "addEntry", "(Ljava/lang/Object;Ljava/lang/Object;Ljava/util/TreeMap$Entry;Z)V"⟩
def dkwJ5_addEntry_2 : List UInt8 := [181, 0, 7, 42, 89, 180, 0, 13, 4, 96, 181, 0, 13, 177]
abbrev dktJ5_addEntry_2 : List UInt8 := dkwJ5_addEntry_2 ++ []
def dkwJ5_addEntry_1 : List UInt8 := [167, 0, 9, 45, 25, 5, 181, 0, 114, 42, 25, 5, 182, 0, 170, 42, 89, 180, 0, 7, 4, 96]
abbrev dktJ5_addEntry_1 : List UInt8 := dkwJ5_addEntry_1 ++ dktJ5_addEntry_2
def dkwJ5_addEntry_0 : List UInt8 := [187, 0, 59, 89, 43, 44, 45, 183, 0, 167, 58, 5, 21, 4, 153, 0, 12, 45, 25, 5, 181, 0, 111]
abbrev dktJ5_addEntry_0 : List UInt8 := dkwJ5_addEntry_0 ++ dktJ5_addEntry_1
theorem dksJ5_addEntry_0 : cJ5_addEntry.data.toList.drop 0 = dktJ5_addEntry_0 := by decide +kernel
theorem dksJ5_addEntry_1 : cJ5_addEntry.data.toList.drop 23 = dktJ5_addEntry_1 := dk_seg dksJ5_addEntry_0 23 rfl rfl
theorem dksJ5_addEntry_2 : cJ5_addEntry.data.toList.drop 45 = dktJ5_addEntry_2 := dk_seg dksJ5_addEntry_1 22 rfl rfl
theorem dJ5_addEntry_0 : decode cJ5_addEntry 0 = .ok (.new 59, 3) := dk_187 0 59 (dk_at dksJ5_addEntry_0 0 rfl rfl)
theorem dJ5_addEntry_3 : decode cJ5_addEntry 3 = .ok (.dup, 1) := dk_89 (dk_at dksJ5_addEntry_0 3 rfl rfl)
theorem dJ5_addEntry_4 : decode cJ5_addEntry 4 = .ok (.aload_n 1, 1) := dk_43 (dk_at dksJ5_addEntry_0 4 rfl rfl)
theorem dJ5_addEntry_5 : decode cJ5_addEntry 5 = .ok (.aload_n 2, 1) := dk_44 (dk_at dksJ5_addEntry_0 5 rfl rfl)
theorem dJ5_addEntry_6 : decode cJ5_addEntry 6 = .ok (.aload_n 3, 1) := dk_45 (dk_at dksJ5_addEntry_0 6 rfl rfl)
theorem dJ5_addEntry_7 : decode cJ5_addEntry 7 = .ok (.invokespecial 167, 3) := dk_183 0 167 (dk_at dksJ5_addEntry_0 7 rfl rfl)
theorem dJ5_addEntry_10 : decode cJ5_addEntry 10 = .ok (.astore 5, 2) := dk_58 5 (dk_at dksJ5_addEntry_0 10 rfl rfl)
theorem dJ5_addEntry_12 : decode cJ5_addEntry 12 = .ok (.iload 4, 2) := dk_21 4 (dk_at dksJ5_addEntry_0 12 rfl rfl)
theorem dJ5_addEntry_14 : decode cJ5_addEntry 14 = .ok (.ifCond .eq 12, 3) := dk_153 0 12 (dk_at dksJ5_addEntry_0 14 rfl rfl)
theorem dJ5_addEntry_17 : decode cJ5_addEntry 17 = .ok (.aload_n 3, 1) := dk_45 (dk_at dksJ5_addEntry_0 17 rfl rfl)
theorem dJ5_addEntry_18 : decode cJ5_addEntry 18 = .ok (.aload 5, 2) := dk_25 5 (dk_at dksJ5_addEntry_0 18 rfl rfl)
theorem dJ5_addEntry_20 : decode cJ5_addEntry 20 = .ok (.putfield 111, 3) := dk_181 0 111 (dk_at dksJ5_addEntry_0 20 rfl rfl)
theorem dJ5_addEntry_23 : decode cJ5_addEntry 23 = .ok (.goto 9, 3) := dk_167 0 9 (dk_at dksJ5_addEntry_1 0 rfl rfl)
theorem dJ5_addEntry_26 : decode cJ5_addEntry 26 = .ok (.aload_n 3, 1) := dk_45 (dk_at dksJ5_addEntry_1 3 rfl rfl)
theorem dJ5_addEntry_27 : decode cJ5_addEntry 27 = .ok (.aload 5, 2) := dk_25 5 (dk_at dksJ5_addEntry_1 4 rfl rfl)
theorem dJ5_addEntry_29 : decode cJ5_addEntry 29 = .ok (.putfield 114, 3) := dk_181 0 114 (dk_at dksJ5_addEntry_1 6 rfl rfl)
theorem dJ5_addEntry_32 : decode cJ5_addEntry 32 = .ok (.aload_n 0, 1) := dk_42 (dk_at dksJ5_addEntry_1 9 rfl rfl)
theorem dJ5_addEntry_33 : decode cJ5_addEntry 33 = .ok (.aload 5, 2) := dk_25 5 (dk_at dksJ5_addEntry_1 10 rfl rfl)
theorem dJ5_addEntry_35 : decode cJ5_addEntry 35 = .ok (.invokevirtual 170, 3) := dk_182 0 170 (dk_at dksJ5_addEntry_1 12 rfl rfl)
theorem dJ5_addEntry_38 : decode cJ5_addEntry 38 = .ok (.aload_n 0, 1) := dk_42 (dk_at dksJ5_addEntry_1 15 rfl rfl)
theorem dJ5_addEntry_39 : decode cJ5_addEntry 39 = .ok (.dup, 1) := dk_89 (dk_at dksJ5_addEntry_1 16 rfl rfl)
theorem dJ5_addEntry_40 : decode cJ5_addEntry 40 = .ok (.getfield 7, 3) := dk_180 0 7 (dk_at dksJ5_addEntry_1 17 rfl rfl)
theorem dJ5_addEntry_43 : decode cJ5_addEntry 43 = .ok (.iconst 1, 1) := dk_4 (dk_at dksJ5_addEntry_1 20 rfl rfl)
theorem dJ5_addEntry_44 : decode cJ5_addEntry 44 = .ok (.iadd, 1) := dk_96 (dk_at dksJ5_addEntry_1 21 rfl rfl)
theorem dJ5_addEntry_45 : decode cJ5_addEntry 45 = .ok (.putfield 7, 3) := dk_181 0 7 (dk_at dksJ5_addEntry_2 0 rfl rfl)
theorem dJ5_addEntry_48 : decode cJ5_addEntry 48 = .ok (.aload_n 0, 1) := dk_42 (dk_at dksJ5_addEntry_2 3 rfl rfl)
theorem dJ5_addEntry_49 : decode cJ5_addEntry 49 = .ok (.dup, 1) := dk_89 (dk_at dksJ5_addEntry_2 4 rfl rfl)
theorem dJ5_addEntry_50 : decode cJ5_addEntry 50 = .ok (.getfield 13, 3) := dk_180 0 13 (dk_at dksJ5_addEntry_2 5 rfl rfl)
theorem dJ5_addEntry_53 : decode cJ5_addEntry 53 = .ok (.iconst 1, 1) := dk_4 (dk_at dksJ5_addEntry_2 8 rfl rfl)
theorem dJ5_addEntry_54 : decode cJ5_addEntry 54 = .ok (.iadd, 1) := dk_96 (dk_at dksJ5_addEntry_2 9 rfl rfl)
theorem dJ5_addEntry_55 : decode cJ5_addEntry 55 = .ok (.putfield 13, 3) := dk_181 0 13 (dk_at dksJ5_addEntry_2 10 rfl rfl)
theorem dJ5_addEntry_58 : decode cJ5_addEntry 58 = .ok (.return_, 1) := dk_177 (dk_at dksJ5_addEntry_2 13 rfl rfl)
abbrev cJ5_fixAfterInsertion : ByteArray := prog_60_method_83_code
def yJ5_fixAfterInsertion : MethodName := ⟨RJ5, "fixAfterInsertion", "(Ljava/util/TreeMap$Entry;)V"⟩
def dkwJ5_fixAfterInsertion_11 : List UInt8 := [42, 180, 0, 101, 4, 181, 1, 34, 177]
abbrev dktJ5_fixAfterInsertion_11 : List UInt8 := dkwJ5_fixAfterInsertion_11 ++ []
def dkwJ5_fixAfterInsertion_10 : List UInt8 := [184, 1, 38, 184, 1, 38, 3, 184, 1, 51, 42, 43, 184, 1, 38, 184, 1, 38, 182, 1, 55, 167, 255, 6]
abbrev dktJ5_fixAfterInsertion_10 : List UInt8 := dkwJ5_fixAfterInsertion_10 ++ dktJ5_fixAfterInsertion_11
def dkwJ5_fixAfterInsertion_9 : List UInt8 := [166, 0, 13, 43, 184, 1, 38, 76, 42, 43, 182, 1, 58, 43, 184, 1, 38, 4, 184, 1, 51, 43]
abbrev dktJ5_fixAfterInsertion_9 : List UInt8 := dkwJ5_fixAfterInsertion_9 ++ dktJ5_fixAfterInsertion_10
def dkwJ5_fixAfterInsertion_8 : List UInt8 := [184, 1, 51, 43, 184, 1, 38, 184, 1, 38, 76, 167, 0, 54, 43, 43, 184, 1, 38, 184, 1, 41]
abbrev dktJ5_fixAfterInsertion_8 : List UInt8 := dkwJ5_fixAfterInsertion_8 ++ dktJ5_fixAfterInsertion_9
def dkwJ5_fixAfterInsertion_7 : List UInt8 := [154, 0, 38, 43, 184, 1, 38, 4, 184, 1, 51, 44, 4, 184, 1, 51, 43, 184, 1, 38, 184, 1, 38, 3]
abbrev dktJ5_fixAfterInsertion_7 : List UInt8 := dkwJ5_fixAfterInsertion_7 ++ dktJ5_fixAfterInsertion_8
def dkwJ5_fixAfterInsertion_6 : List UInt8 := [184, 1, 38, 182, 1, 58, 167, 255, 113, 43, 184, 1, 38, 184, 1, 38, 184, 1, 41, 77, 44, 184, 1, 47]
abbrev dktJ5_fixAfterInsertion_6 : List UInt8 := dkwJ5_fixAfterInsertion_6 ++ dktJ5_fixAfterInsertion_7
def dkwJ5_fixAfterInsertion_5 : List UInt8 := [43, 184, 1, 38, 4, 184, 1, 51, 43, 184, 1, 38, 184, 1, 38, 3, 184, 1, 51, 42, 43, 184, 1, 38]
abbrev dktJ5_fixAfterInsertion_5 : List UInt8 := dkwJ5_fixAfterInsertion_5 ++ dktJ5_fixAfterInsertion_6
def dkwJ5_fixAfterInsertion_4 : List UInt8 := [167, 0, 54, 43, 43, 184, 1, 38, 184, 1, 44, 166, 0, 13, 43, 184, 1, 38, 76, 42, 43, 182, 1, 55]
abbrev dktJ5_fixAfterInsertion_4 : List UInt8 := dkwJ5_fixAfterInsertion_4 ++ dktJ5_fixAfterInsertion_5
def dkwJ5_fixAfterInsertion_3 : List UInt8 := [184, 1, 51, 43, 184, 1, 38, 184, 1, 38, 3, 184, 1, 51, 43, 184, 1, 38, 184, 1, 38, 76]
abbrev dktJ5_fixAfterInsertion_3 : List UInt8 := dkwJ5_fixAfterInsertion_3 ++ dktJ5_fixAfterInsertion_4
def dkwJ5_fixAfterInsertion_2 : List UInt8 := [184, 1, 38, 184, 1, 44, 77, 44, 184, 1, 47, 154, 0, 38, 43, 184, 1, 38, 4, 184, 1, 51, 44, 4]
abbrev dktJ5_fixAfterInsertion_2 : List UInt8 := dkwJ5_fixAfterInsertion_2 ++ dktJ5_fixAfterInsertion_3
def dkwJ5_fixAfterInsertion_1 : List UInt8 := [154, 0, 234, 43, 184, 1, 38, 43, 184, 1, 38, 184, 1, 38, 184, 1, 41, 166, 0, 110, 43, 184, 1, 38]
abbrev dktJ5_fixAfterInsertion_1 : List UInt8 := dkwJ5_fixAfterInsertion_1 ++ dktJ5_fixAfterInsertion_2
def dkwJ5_fixAfterInsertion_0 : List UInt8 := [43, 3, 181, 1, 34, 43, 198, 0, 252, 43, 42, 180, 0, 101, 165, 0, 244, 43, 180, 0, 124, 180, 1, 34]
abbrev dktJ5_fixAfterInsertion_0 : List UInt8 := dkwJ5_fixAfterInsertion_0 ++ dktJ5_fixAfterInsertion_1
theorem dksJ5_fixAfterInsertion_0 : cJ5_fixAfterInsertion.data.toList.drop 0 = dktJ5_fixAfterInsertion_0 := by decide +kernel
theorem dksJ5_fixAfterInsertion_1 : cJ5_fixAfterInsertion.data.toList.drop 24 = dktJ5_fixAfterInsertion_1 := dk_seg dksJ5_fixAfterInsertion_0 24 rfl rfl
theorem dksJ5_fixAfterInsertion_2 : cJ5_fixAfterInsertion.data.toList.drop 48 = dktJ5_fixAfterInsertion_2 := dk_seg dksJ5_fixAfterInsertion_1 24 rfl rfl
theorem dksJ5_fixAfterInsertion_3 : cJ5_fixAfterInsertion.data.toList.drop 72 = dktJ5_fixAfterInsertion_3 := dk_seg dksJ5_fixAfterInsertion_2 24 rfl rfl
theorem dksJ5_fixAfterInsertion_4 : cJ5_fixAfterInsertion.data.toList.drop 94 = dktJ5_fixAfterInsertion_4 := dk_seg dksJ5_fixAfterInsertion_3 22 rfl rfl
theorem dksJ5_fixAfterInsertion_5 : cJ5_fixAfterInsertion.data.toList.drop 118 = dktJ5_fixAfterInsertion_5 := dk_seg dksJ5_fixAfterInsertion_4 24 rfl rfl
theorem dksJ5_fixAfterInsertion_6 : cJ5_fixAfterInsertion.data.toList.drop 142 = dktJ5_fixAfterInsertion_6 := dk_seg dksJ5_fixAfterInsertion_5 24 rfl rfl
theorem dksJ5_fixAfterInsertion_7 : cJ5_fixAfterInsertion.data.toList.drop 166 = dktJ5_fixAfterInsertion_7 := dk_seg dksJ5_fixAfterInsertion_6 24 rfl rfl
theorem dksJ5_fixAfterInsertion_8 : cJ5_fixAfterInsertion.data.toList.drop 190 = dktJ5_fixAfterInsertion_8 := dk_seg dksJ5_fixAfterInsertion_7 24 rfl rfl
theorem dksJ5_fixAfterInsertion_9 : cJ5_fixAfterInsertion.data.toList.drop 212 = dktJ5_fixAfterInsertion_9 := dk_seg dksJ5_fixAfterInsertion_8 22 rfl rfl
theorem dksJ5_fixAfterInsertion_10 : cJ5_fixAfterInsertion.data.toList.drop 234 = dktJ5_fixAfterInsertion_10 := dk_seg dksJ5_fixAfterInsertion_9 22 rfl rfl
theorem dksJ5_fixAfterInsertion_11 : cJ5_fixAfterInsertion.data.toList.drop 258 = dktJ5_fixAfterInsertion_11 := dk_seg dksJ5_fixAfterInsertion_10 24 rfl rfl
theorem dJ5_fixAfterInsertion_0 : decode cJ5_fixAfterInsertion 0 = .ok (.aload_n 1, 1) := dk_43 (dk_at dksJ5_fixAfterInsertion_0 0 rfl rfl)
theorem dJ5_fixAfterInsertion_1 : decode cJ5_fixAfterInsertion 1 = .ok (.iconst 0, 1) := dk_3 (dk_at dksJ5_fixAfterInsertion_0 1 rfl rfl)
theorem dJ5_fixAfterInsertion_2 : decode cJ5_fixAfterInsertion 2 = .ok (.putfield 290, 3) := dk_181 1 34 (dk_at dksJ5_fixAfterInsertion_0 2 rfl rfl)
theorem dJ5_fixAfterInsertion_5 : decode cJ5_fixAfterInsertion 5 = .ok (.aload_n 1, 1) := dk_43 (dk_at dksJ5_fixAfterInsertion_0 5 rfl rfl)
theorem dJ5_fixAfterInsertion_6 : decode cJ5_fixAfterInsertion 6 = .ok (.ifnull 252, 3) := dk_198 0 252 (dk_at dksJ5_fixAfterInsertion_0 6 rfl rfl)
theorem dJ5_fixAfterInsertion_9 : decode cJ5_fixAfterInsertion 9 = .ok (.aload_n 1, 1) := dk_43 (dk_at dksJ5_fixAfterInsertion_0 9 rfl rfl)
theorem dJ5_fixAfterInsertion_10 : decode cJ5_fixAfterInsertion 10 = .ok (.aload_n 0, 1) := dk_42 (dk_at dksJ5_fixAfterInsertion_0 10 rfl rfl)
theorem dJ5_fixAfterInsertion_11 : decode cJ5_fixAfterInsertion 11 = .ok (.getfield 101, 3) := dk_180 0 101 (dk_at dksJ5_fixAfterInsertion_0 11 rfl rfl)
theorem dJ5_fixAfterInsertion_14 : decode cJ5_fixAfterInsertion 14 = .ok (.if_acmp .eq 244, 3) := dk_165 0 244 (dk_at dksJ5_fixAfterInsertion_0 14 rfl rfl)
theorem dJ5_fixAfterInsertion_17 : decode cJ5_fixAfterInsertion 17 = .ok (.aload_n 1, 1) := dk_43 (dk_at dksJ5_fixAfterInsertion_0 17 rfl rfl)
theorem dJ5_fixAfterInsertion_18 : decode cJ5_fixAfterInsertion 18 = .ok (.getfield 124, 3) := dk_180 0 124 (dk_at dksJ5_fixAfterInsertion_0 18 rfl rfl)
theorem dJ5_fixAfterInsertion_21 : decode cJ5_fixAfterInsertion 21 = .ok (.getfield 290, 3) := dk_180 1 34 (dk_at dksJ5_fixAfterInsertion_0 21 rfl rfl)
theorem dJ5_fixAfterInsertion_24 : decode cJ5_fixAfterInsertion 24 = .ok (.ifCond .ne 234, 3) := dk_154 0 234 (dk_at dksJ5_fixAfterInsertion_1 0 rfl rfl)
theorem dJ5_fixAfterInsertion_27 : decode cJ5_fixAfterInsertion 27 = .ok (.aload_n 1, 1) := dk_43 (dk_at dksJ5_fixAfterInsertion_1 3 rfl rfl)
theorem dJ5_fixAfterInsertion_28 : decode cJ5_fixAfterInsertion 28 = .ok (.invokestatic 294, 3) := dk_184 1 38 (dk_at dksJ5_fixAfterInsertion_1 4 rfl rfl)
theorem dJ5_fixAfterInsertion_31 : decode cJ5_fixAfterInsertion 31 = .ok (.aload_n 1, 1) := dk_43 (dk_at dksJ5_fixAfterInsertion_1 7 rfl rfl)
theorem dJ5_fixAfterInsertion_32 : decode cJ5_fixAfterInsertion 32 = .ok (.invokestatic 294, 3) := dk_184 1 38 (dk_at dksJ5_fixAfterInsertion_1 8 rfl rfl)
theorem dJ5_fixAfterInsertion_35 : decode cJ5_fixAfterInsertion 35 = .ok (.invokestatic 294, 3) := dk_184 1 38 (dk_at dksJ5_fixAfterInsertion_1 11 rfl rfl)
theorem dJ5_fixAfterInsertion_38 : decode cJ5_fixAfterInsertion 38 = .ok (.invokestatic 297, 3) := dk_184 1 41 (dk_at dksJ5_fixAfterInsertion_1 14 rfl rfl)
theorem dJ5_fixAfterInsertion_41 : decode cJ5_fixAfterInsertion 41 = .ok (.if_acmp .ne 110, 3) := dk_166 0 110 (dk_at dksJ5_fixAfterInsertion_1 17 rfl rfl)
theorem dJ5_fixAfterInsertion_44 : decode cJ5_fixAfterInsertion 44 = .ok (.aload_n 1, 1) := dk_43 (dk_at dksJ5_fixAfterInsertion_1 20 rfl rfl)
theorem dJ5_fixAfterInsertion_45 : decode cJ5_fixAfterInsertion 45 = .ok (.invokestatic 294, 3) := dk_184 1 38 (dk_at dksJ5_fixAfterInsertion_1 21 rfl rfl)
theorem dJ5_fixAfterInsertion_48 : decode cJ5_fixAfterInsertion 48 = .ok (.invokestatic 294, 3) := dk_184 1 38 (dk_at dksJ5_fixAfterInsertion_2 0 rfl rfl)
theorem dJ5_fixAfterInsertion_51 : decode cJ5_fixAfterInsertion 51 = .ok (.invokestatic 300, 3) := dk_184 1 44 (dk_at dksJ5_fixAfterInsertion_2 3 rfl rfl)
theorem dJ5_fixAfterInsertion_54 : decode cJ5_fixAfterInsertion 54 = .ok (.astore_n 2, 1) := dk_77 (dk_at dksJ5_fixAfterInsertion_2 6 rfl rfl)
theorem dJ5_fixAfterInsertion_55 : decode cJ5_fixAfterInsertion 55 = .ok (.aload_n 2, 1) := dk_44 (dk_at dksJ5_fixAfterInsertion_2 7 rfl rfl)
theorem dJ5_fixAfterInsertion_56 : decode cJ5_fixAfterInsertion 56 = .ok (.invokestatic 303, 3) := dk_184 1 47 (dk_at dksJ5_fixAfterInsertion_2 8 rfl rfl)
theorem dJ5_fixAfterInsertion_59 : decode cJ5_fixAfterInsertion 59 = .ok (.ifCond .ne 38, 3) := dk_154 0 38 (dk_at dksJ5_fixAfterInsertion_2 11 rfl rfl)
theorem dJ5_fixAfterInsertion_62 : decode cJ5_fixAfterInsertion 62 = .ok (.aload_n 1, 1) := dk_43 (dk_at dksJ5_fixAfterInsertion_2 14 rfl rfl)
theorem dJ5_fixAfterInsertion_63 : decode cJ5_fixAfterInsertion 63 = .ok (.invokestatic 294, 3) := dk_184 1 38 (dk_at dksJ5_fixAfterInsertion_2 15 rfl rfl)
theorem dJ5_fixAfterInsertion_66 : decode cJ5_fixAfterInsertion 66 = .ok (.iconst 1, 1) := dk_4 (dk_at dksJ5_fixAfterInsertion_2 18 rfl rfl)
theorem dJ5_fixAfterInsertion_67 : decode cJ5_fixAfterInsertion 67 = .ok (.invokestatic 307, 3) := dk_184 1 51 (dk_at dksJ5_fixAfterInsertion_2 19 rfl rfl)
theorem dJ5_fixAfterInsertion_70 : decode cJ5_fixAfterInsertion 70 = .ok (.aload_n 2, 1) := dk_44 (dk_at dksJ5_fixAfterInsertion_2 22 rfl rfl)
theorem dJ5_fixAfterInsertion_71 : decode cJ5_fixAfterInsertion 71 = .ok (.iconst 1, 1) := dk_4 (dk_at dksJ5_fixAfterInsertion_2 23 rfl rfl)
theorem dJ5_fixAfterInsertion_72 : decode cJ5_fixAfterInsertion 72 = .ok (.invokestatic 307, 3) := dk_184 1 51 (dk_at dksJ5_fixAfterInsertion_3 0 rfl rfl)
theorem dJ5_fixAfterInsertion_75 : decode cJ5_fixAfterInsertion 75 = .ok (.aload_n 1, 1) := dk_43 (dk_at dksJ5_fixAfterInsertion_3 3 rfl rfl)
theorem dJ5_fixAfterInsertion_76 : decode cJ5_fixAfterInsertion 76 = .ok (.invokestatic 294, 3) := dk_184 1 38 (dk_at dksJ5_fixAfterInsertion_3 4 rfl rfl)
theorem dJ5_fixAfterInsertion_79 : decode cJ5_fixAfterInsertion 79 = .ok (.invokestatic 294, 3) := dk_184 1 38 (dk_at dksJ5_fixAfterInsertion_3 7 rfl rfl)
theorem dJ5_fixAfterInsertion_82 : decode cJ5_fixAfterInsertion 82 = .ok (.iconst 0, 1) := dk_3 (dk_at dksJ5_fixAfterInsertion_3 10 rfl rfl)
theorem dJ5_fixAfterInsertion_83 : decode cJ5_fixAfterInsertion 83 = .ok (.invokestatic 307, 3) := dk_184 1 51 (dk_at dksJ5_fixAfterInsertion_3 11 rfl rfl)
theorem dJ5_fixAfterInsertion_86 : decode cJ5_fixAfterInsertion 86 = .ok (.aload_n 1, 1) := dk_43 (dk_at dksJ5_fixAfterInsertion_3 14 rfl rfl)
theorem dJ5_fixAfterInsertion_87 : decode cJ5_fixAfterInsertion 87 = .ok (.invokestatic 294, 3) := dk_184 1 38 (dk_at dksJ5_fixAfterInsertion_3 15 rfl rfl)
theorem dJ5_fixAfterInsertion_90 : decode cJ5_fixAfterInsertion 90 = .ok (.invokestatic 294, 3) := dk_184 1 38 (dk_at dksJ5_fixAfterInsertion_3 18 rfl rfl)
theorem dJ5_fixAfterInsertion_93 : decode cJ5_fixAfterInsertion 93 = .ok (.astore_n 1, 1) := dk_76 (dk_at dksJ5_fixAfterInsertion_3 21 rfl rfl)
theorem dJ5_fixAfterInsertion_94 : decode cJ5_fixAfterInsertion 94 = .ok (.goto 54, 3) := dk_167 0 54 (dk_at dksJ5_fixAfterInsertion_4 0 rfl rfl)
theorem dJ5_fixAfterInsertion_97 : decode cJ5_fixAfterInsertion 97 = .ok (.aload_n 1, 1) := dk_43 (dk_at dksJ5_fixAfterInsertion_4 3 rfl rfl)
theorem dJ5_fixAfterInsertion_98 : decode cJ5_fixAfterInsertion 98 = .ok (.aload_n 1, 1) := dk_43 (dk_at dksJ5_fixAfterInsertion_4 4 rfl rfl)
theorem dJ5_fixAfterInsertion_99 : decode cJ5_fixAfterInsertion 99 = .ok (.invokestatic 294, 3) := dk_184 1 38 (dk_at dksJ5_fixAfterInsertion_4 5 rfl rfl)
theorem dJ5_fixAfterInsertion_102 : decode cJ5_fixAfterInsertion 102 = .ok (.invokestatic 300, 3) := dk_184 1 44 (dk_at dksJ5_fixAfterInsertion_4 8 rfl rfl)
theorem dJ5_fixAfterInsertion_105 : decode cJ5_fixAfterInsertion 105 = .ok (.if_acmp .ne 13, 3) := dk_166 0 13 (dk_at dksJ5_fixAfterInsertion_4 11 rfl rfl)
theorem dJ5_fixAfterInsertion_108 : decode cJ5_fixAfterInsertion 108 = .ok (.aload_n 1, 1) := dk_43 (dk_at dksJ5_fixAfterInsertion_4 14 rfl rfl)
theorem dJ5_fixAfterInsertion_109 : decode cJ5_fixAfterInsertion 109 = .ok (.invokestatic 294, 3) := dk_184 1 38 (dk_at dksJ5_fixAfterInsertion_4 15 rfl rfl)
theorem dJ5_fixAfterInsertion_112 : decode cJ5_fixAfterInsertion 112 = .ok (.astore_n 1, 1) := dk_76 (dk_at dksJ5_fixAfterInsertion_4 18 rfl rfl)
theorem dJ5_fixAfterInsertion_113 : decode cJ5_fixAfterInsertion 113 = .ok (.aload_n 0, 1) := dk_42 (dk_at dksJ5_fixAfterInsertion_4 19 rfl rfl)
theorem dJ5_fixAfterInsertion_114 : decode cJ5_fixAfterInsertion 114 = .ok (.aload_n 1, 1) := dk_43 (dk_at dksJ5_fixAfterInsertion_4 20 rfl rfl)
theorem dJ5_fixAfterInsertion_115 : decode cJ5_fixAfterInsertion 115 = .ok (.invokevirtual 311, 3) := dk_182 1 55 (dk_at dksJ5_fixAfterInsertion_4 21 rfl rfl)
theorem dJ5_fixAfterInsertion_118 : decode cJ5_fixAfterInsertion 118 = .ok (.aload_n 1, 1) := dk_43 (dk_at dksJ5_fixAfterInsertion_5 0 rfl rfl)
theorem dJ5_fixAfterInsertion_119 : decode cJ5_fixAfterInsertion 119 = .ok (.invokestatic 294, 3) := dk_184 1 38 (dk_at dksJ5_fixAfterInsertion_5 1 rfl rfl)
theorem dJ5_fixAfterInsertion_122 : decode cJ5_fixAfterInsertion 122 = .ok (.iconst 1, 1) := dk_4 (dk_at dksJ5_fixAfterInsertion_5 4 rfl rfl)
theorem dJ5_fixAfterInsertion_123 : decode cJ5_fixAfterInsertion 123 = .ok (.invokestatic 307, 3) := dk_184 1 51 (dk_at dksJ5_fixAfterInsertion_5 5 rfl rfl)
theorem dJ5_fixAfterInsertion_126 : decode cJ5_fixAfterInsertion 126 = .ok (.aload_n 1, 1) := dk_43 (dk_at dksJ5_fixAfterInsertion_5 8 rfl rfl)
theorem dJ5_fixAfterInsertion_127 : decode cJ5_fixAfterInsertion 127 = .ok (.invokestatic 294, 3) := dk_184 1 38 (dk_at dksJ5_fixAfterInsertion_5 9 rfl rfl)
theorem dJ5_fixAfterInsertion_130 : decode cJ5_fixAfterInsertion 130 = .ok (.invokestatic 294, 3) := dk_184 1 38 (dk_at dksJ5_fixAfterInsertion_5 12 rfl rfl)
theorem dJ5_fixAfterInsertion_133 : decode cJ5_fixAfterInsertion 133 = .ok (.iconst 0, 1) := dk_3 (dk_at dksJ5_fixAfterInsertion_5 15 rfl rfl)
theorem dJ5_fixAfterInsertion_134 : decode cJ5_fixAfterInsertion 134 = .ok (.invokestatic 307, 3) := dk_184 1 51 (dk_at dksJ5_fixAfterInsertion_5 16 rfl rfl)
theorem dJ5_fixAfterInsertion_137 : decode cJ5_fixAfterInsertion 137 = .ok (.aload_n 0, 1) := dk_42 (dk_at dksJ5_fixAfterInsertion_5 19 rfl rfl)
theorem dJ5_fixAfterInsertion_138 : decode cJ5_fixAfterInsertion 138 = .ok (.aload_n 1, 1) := dk_43 (dk_at dksJ5_fixAfterInsertion_5 20 rfl rfl)
theorem dJ5_fixAfterInsertion_139 : decode cJ5_fixAfterInsertion 139 = .ok (.invokestatic 294, 3) := dk_184 1 38 (dk_at dksJ5_fixAfterInsertion_5 21 rfl rfl)
theorem dJ5_fixAfterInsertion_142 : decode cJ5_fixAfterInsertion 142 = .ok (.invokestatic 294, 3) := dk_184 1 38 (dk_at dksJ5_fixAfterInsertion_6 0 rfl rfl)
theorem dJ5_fixAfterInsertion_145 : decode cJ5_fixAfterInsertion 145 = .ok (.invokevirtual 314, 3) := dk_182 1 58 (dk_at dksJ5_fixAfterInsertion_6 3 rfl rfl)
theorem dJ5_fixAfterInsertion_148 : decode cJ5_fixAfterInsertion 148 = .ok (.goto (-143), 3) := dk_167 255 113 (dk_at dksJ5_fixAfterInsertion_6 6 rfl rfl)
theorem dJ5_fixAfterInsertion_151 : decode cJ5_fixAfterInsertion 151 = .ok (.aload_n 1, 1) := dk_43 (dk_at dksJ5_fixAfterInsertion_6 9 rfl rfl)
theorem dJ5_fixAfterInsertion_152 : decode cJ5_fixAfterInsertion 152 = .ok (.invokestatic 294, 3) := dk_184 1 38 (dk_at dksJ5_fixAfterInsertion_6 10 rfl rfl)
theorem dJ5_fixAfterInsertion_155 : decode cJ5_fixAfterInsertion 155 = .ok (.invokestatic 294, 3) := dk_184 1 38 (dk_at dksJ5_fixAfterInsertion_6 13 rfl rfl)
theorem dJ5_fixAfterInsertion_158 : decode cJ5_fixAfterInsertion 158 = .ok (.invokestatic 297, 3) := dk_184 1 41 (dk_at dksJ5_fixAfterInsertion_6 16 rfl rfl)
theorem dJ5_fixAfterInsertion_161 : decode cJ5_fixAfterInsertion 161 = .ok (.astore_n 2, 1) := dk_77 (dk_at dksJ5_fixAfterInsertion_6 19 rfl rfl)
theorem dJ5_fixAfterInsertion_162 : decode cJ5_fixAfterInsertion 162 = .ok (.aload_n 2, 1) := dk_44 (dk_at dksJ5_fixAfterInsertion_6 20 rfl rfl)
theorem dJ5_fixAfterInsertion_163 : decode cJ5_fixAfterInsertion 163 = .ok (.invokestatic 303, 3) := dk_184 1 47 (dk_at dksJ5_fixAfterInsertion_6 21 rfl rfl)
theorem dJ5_fixAfterInsertion_166 : decode cJ5_fixAfterInsertion 166 = .ok (.ifCond .ne 38, 3) := dk_154 0 38 (dk_at dksJ5_fixAfterInsertion_7 0 rfl rfl)
theorem dJ5_fixAfterInsertion_169 : decode cJ5_fixAfterInsertion 169 = .ok (.aload_n 1, 1) := dk_43 (dk_at dksJ5_fixAfterInsertion_7 3 rfl rfl)
theorem dJ5_fixAfterInsertion_170 : decode cJ5_fixAfterInsertion 170 = .ok (.invokestatic 294, 3) := dk_184 1 38 (dk_at dksJ5_fixAfterInsertion_7 4 rfl rfl)
theorem dJ5_fixAfterInsertion_173 : decode cJ5_fixAfterInsertion 173 = .ok (.iconst 1, 1) := dk_4 (dk_at dksJ5_fixAfterInsertion_7 7 rfl rfl)
theorem dJ5_fixAfterInsertion_174 : decode cJ5_fixAfterInsertion 174 = .ok (.invokestatic 307, 3) := dk_184 1 51 (dk_at dksJ5_fixAfterInsertion_7 8 rfl rfl)
theorem dJ5_fixAfterInsertion_177 : decode cJ5_fixAfterInsertion 177 = .ok (.aload_n 2, 1) := dk_44 (dk_at dksJ5_fixAfterInsertion_7 11 rfl rfl)
theorem dJ5_fixAfterInsertion_178 : decode cJ5_fixAfterInsertion 178 = .ok (.iconst 1, 1) := dk_4 (dk_at dksJ5_fixAfterInsertion_7 12 rfl rfl)
theorem dJ5_fixAfterInsertion_179 : decode cJ5_fixAfterInsertion 179 = .ok (.invokestatic 307, 3) := dk_184 1 51 (dk_at dksJ5_fixAfterInsertion_7 13 rfl rfl)
theorem dJ5_fixAfterInsertion_182 : decode cJ5_fixAfterInsertion 182 = .ok (.aload_n 1, 1) := dk_43 (dk_at dksJ5_fixAfterInsertion_7 16 rfl rfl)
theorem dJ5_fixAfterInsertion_183 : decode cJ5_fixAfterInsertion 183 = .ok (.invokestatic 294, 3) := dk_184 1 38 (dk_at dksJ5_fixAfterInsertion_7 17 rfl rfl)
theorem dJ5_fixAfterInsertion_186 : decode cJ5_fixAfterInsertion 186 = .ok (.invokestatic 294, 3) := dk_184 1 38 (dk_at dksJ5_fixAfterInsertion_7 20 rfl rfl)
theorem dJ5_fixAfterInsertion_189 : decode cJ5_fixAfterInsertion 189 = .ok (.iconst 0, 1) := dk_3 (dk_at dksJ5_fixAfterInsertion_7 23 rfl rfl)
theorem dJ5_fixAfterInsertion_190 : decode cJ5_fixAfterInsertion 190 = .ok (.invokestatic 307, 3) := dk_184 1 51 (dk_at dksJ5_fixAfterInsertion_8 0 rfl rfl)
theorem dJ5_fixAfterInsertion_193 : decode cJ5_fixAfterInsertion 193 = .ok (.aload_n 1, 1) := dk_43 (dk_at dksJ5_fixAfterInsertion_8 3 rfl rfl)
theorem dJ5_fixAfterInsertion_194 : decode cJ5_fixAfterInsertion 194 = .ok (.invokestatic 294, 3) := dk_184 1 38 (dk_at dksJ5_fixAfterInsertion_8 4 rfl rfl)
theorem dJ5_fixAfterInsertion_197 : decode cJ5_fixAfterInsertion 197 = .ok (.invokestatic 294, 3) := dk_184 1 38 (dk_at dksJ5_fixAfterInsertion_8 7 rfl rfl)
theorem dJ5_fixAfterInsertion_200 : decode cJ5_fixAfterInsertion 200 = .ok (.astore_n 1, 1) := dk_76 (dk_at dksJ5_fixAfterInsertion_8 10 rfl rfl)
theorem dJ5_fixAfterInsertion_201 : decode cJ5_fixAfterInsertion 201 = .ok (.goto 54, 3) := dk_167 0 54 (dk_at dksJ5_fixAfterInsertion_8 11 rfl rfl)
theorem dJ5_fixAfterInsertion_204 : decode cJ5_fixAfterInsertion 204 = .ok (.aload_n 1, 1) := dk_43 (dk_at dksJ5_fixAfterInsertion_8 14 rfl rfl)
theorem dJ5_fixAfterInsertion_205 : decode cJ5_fixAfterInsertion 205 = .ok (.aload_n 1, 1) := dk_43 (dk_at dksJ5_fixAfterInsertion_8 15 rfl rfl)
theorem dJ5_fixAfterInsertion_206 : decode cJ5_fixAfterInsertion 206 = .ok (.invokestatic 294, 3) := dk_184 1 38 (dk_at dksJ5_fixAfterInsertion_8 16 rfl rfl)
theorem dJ5_fixAfterInsertion_209 : decode cJ5_fixAfterInsertion 209 = .ok (.invokestatic 297, 3) := dk_184 1 41 (dk_at dksJ5_fixAfterInsertion_8 19 rfl rfl)
theorem dJ5_fixAfterInsertion_212 : decode cJ5_fixAfterInsertion 212 = .ok (.if_acmp .ne 13, 3) := dk_166 0 13 (dk_at dksJ5_fixAfterInsertion_9 0 rfl rfl)
theorem dJ5_fixAfterInsertion_215 : decode cJ5_fixAfterInsertion 215 = .ok (.aload_n 1, 1) := dk_43 (dk_at dksJ5_fixAfterInsertion_9 3 rfl rfl)
theorem dJ5_fixAfterInsertion_216 : decode cJ5_fixAfterInsertion 216 = .ok (.invokestatic 294, 3) := dk_184 1 38 (dk_at dksJ5_fixAfterInsertion_9 4 rfl rfl)
theorem dJ5_fixAfterInsertion_219 : decode cJ5_fixAfterInsertion 219 = .ok (.astore_n 1, 1) := dk_76 (dk_at dksJ5_fixAfterInsertion_9 7 rfl rfl)
theorem dJ5_fixAfterInsertion_220 : decode cJ5_fixAfterInsertion 220 = .ok (.aload_n 0, 1) := dk_42 (dk_at dksJ5_fixAfterInsertion_9 8 rfl rfl)
theorem dJ5_fixAfterInsertion_221 : decode cJ5_fixAfterInsertion 221 = .ok (.aload_n 1, 1) := dk_43 (dk_at dksJ5_fixAfterInsertion_9 9 rfl rfl)
theorem dJ5_fixAfterInsertion_222 : decode cJ5_fixAfterInsertion 222 = .ok (.invokevirtual 314, 3) := dk_182 1 58 (dk_at dksJ5_fixAfterInsertion_9 10 rfl rfl)
theorem dJ5_fixAfterInsertion_225 : decode cJ5_fixAfterInsertion 225 = .ok (.aload_n 1, 1) := dk_43 (dk_at dksJ5_fixAfterInsertion_9 13 rfl rfl)
theorem dJ5_fixAfterInsertion_226 : decode cJ5_fixAfterInsertion 226 = .ok (.invokestatic 294, 3) := dk_184 1 38 (dk_at dksJ5_fixAfterInsertion_9 14 rfl rfl)
theorem dJ5_fixAfterInsertion_229 : decode cJ5_fixAfterInsertion 229 = .ok (.iconst 1, 1) := dk_4 (dk_at dksJ5_fixAfterInsertion_9 17 rfl rfl)
theorem dJ5_fixAfterInsertion_230 : decode cJ5_fixAfterInsertion 230 = .ok (.invokestatic 307, 3) := dk_184 1 51 (dk_at dksJ5_fixAfterInsertion_9 18 rfl rfl)
theorem dJ5_fixAfterInsertion_233 : decode cJ5_fixAfterInsertion 233 = .ok (.aload_n 1, 1) := dk_43 (dk_at dksJ5_fixAfterInsertion_9 21 rfl rfl)
theorem dJ5_fixAfterInsertion_234 : decode cJ5_fixAfterInsertion 234 = .ok (.invokestatic 294, 3) := dk_184 1 38 (dk_at dksJ5_fixAfterInsertion_10 0 rfl rfl)
theorem dJ5_fixAfterInsertion_237 : decode cJ5_fixAfterInsertion 237 = .ok (.invokestatic 294, 3) := dk_184 1 38 (dk_at dksJ5_fixAfterInsertion_10 3 rfl rfl)
theorem dJ5_fixAfterInsertion_240 : decode cJ5_fixAfterInsertion 240 = .ok (.iconst 0, 1) := dk_3 (dk_at dksJ5_fixAfterInsertion_10 6 rfl rfl)
theorem dJ5_fixAfterInsertion_241 : decode cJ5_fixAfterInsertion 241 = .ok (.invokestatic 307, 3) := dk_184 1 51 (dk_at dksJ5_fixAfterInsertion_10 7 rfl rfl)
theorem dJ5_fixAfterInsertion_244 : decode cJ5_fixAfterInsertion 244 = .ok (.aload_n 0, 1) := dk_42 (dk_at dksJ5_fixAfterInsertion_10 10 rfl rfl)
theorem dJ5_fixAfterInsertion_245 : decode cJ5_fixAfterInsertion 245 = .ok (.aload_n 1, 1) := dk_43 (dk_at dksJ5_fixAfterInsertion_10 11 rfl rfl)
theorem dJ5_fixAfterInsertion_246 : decode cJ5_fixAfterInsertion 246 = .ok (.invokestatic 294, 3) := dk_184 1 38 (dk_at dksJ5_fixAfterInsertion_10 12 rfl rfl)
theorem dJ5_fixAfterInsertion_249 : decode cJ5_fixAfterInsertion 249 = .ok (.invokestatic 294, 3) := dk_184 1 38 (dk_at dksJ5_fixAfterInsertion_10 15 rfl rfl)
theorem dJ5_fixAfterInsertion_252 : decode cJ5_fixAfterInsertion 252 = .ok (.invokevirtual 311, 3) := dk_182 1 55 (dk_at dksJ5_fixAfterInsertion_10 18 rfl rfl)
theorem dJ5_fixAfterInsertion_255 : decode cJ5_fixAfterInsertion 255 = .ok (.goto (-250), 3) := dk_167 255 6 (dk_at dksJ5_fixAfterInsertion_10 21 rfl rfl)
theorem dJ5_fixAfterInsertion_258 : decode cJ5_fixAfterInsertion 258 = .ok (.aload_n 0, 1) := dk_42 (dk_at dksJ5_fixAfterInsertion_11 0 rfl rfl)
theorem dJ5_fixAfterInsertion_259 : decode cJ5_fixAfterInsertion 259 = .ok (.getfield 101, 3) := dk_180 0 101 (dk_at dksJ5_fixAfterInsertion_11 1 rfl rfl)
theorem dJ5_fixAfterInsertion_262 : decode cJ5_fixAfterInsertion 262 = .ok (.iconst 1, 1) := dk_4 (dk_at dksJ5_fixAfterInsertion_11 4 rfl rfl)
theorem dJ5_fixAfterInsertion_263 : decode cJ5_fixAfterInsertion 263 = .ok (.putfield 290, 3) := dk_181 1 34 (dk_at dksJ5_fixAfterInsertion_11 5 rfl rfl)
theorem dJ5_fixAfterInsertion_266 : decode cJ5_fixAfterInsertion 266 = .ok (.return_, 1) := dk_177 (dk_at dksJ5_fixAfterInsertion_11 8 rfl rfl)
abbrev cJ5_remove : ByteArray := prog_60_method_34_code
def yJ5_remove : MethodName := ⟨RJ5, "remove", "(Ljava/lang/Object;)Ljava/lang/Object;"⟩
def dkwJ5_remove_0 : List UInt8 := [42, 43, 182, 0, 50, 77, 44, 199, 0, 5, 1, 176, 44, 180, 0, 58, 78, 42, 44, 182, 0, 174, 45, 176]
abbrev dktJ5_remove_0 : List UInt8 := dkwJ5_remove_0 ++ []
theorem dksJ5_remove_0 : cJ5_remove.data.toList.drop 0 = dktJ5_remove_0 := by decide +kernel
theorem dJ5_remove_0 : decode cJ5_remove 0 = .ok (.aload_n 0, 1) := dk_42 (dk_at dksJ5_remove_0 0 rfl rfl)
theorem dJ5_remove_1 : decode cJ5_remove 1 = .ok (.aload_n 1, 1) := dk_43 (dk_at dksJ5_remove_0 1 rfl rfl)
theorem dJ5_remove_2 : decode cJ5_remove 2 = .ok (.invokevirtual 50, 3) := dk_182 0 50 (dk_at dksJ5_remove_0 2 rfl rfl)
theorem dJ5_remove_5 : decode cJ5_remove 5 = .ok (.astore_n 2, 1) := dk_77 (dk_at dksJ5_remove_0 5 rfl rfl)
theorem dJ5_remove_6 : decode cJ5_remove 6 = .ok (.aload_n 2, 1) := dk_44 (dk_at dksJ5_remove_0 6 rfl rfl)
theorem dJ5_remove_7 : decode cJ5_remove 7 = .ok (.ifnonnull 5, 3) := dk_199 0 5 (dk_at dksJ5_remove_0 7 rfl rfl)
theorem dJ5_remove_10 : decode cJ5_remove 10 = .ok (.aconst_null, 1) := dk_1 (dk_at dksJ5_remove_0 10 rfl rfl)
theorem dJ5_remove_11 : decode cJ5_remove 11 = .ok (.areturn, 1) := dk_176 (dk_at dksJ5_remove_0 11 rfl rfl)
theorem dJ5_remove_12 : decode cJ5_remove 12 = .ok (.aload_n 2, 1) := dk_44 (dk_at dksJ5_remove_0 12 rfl rfl)
theorem dJ5_remove_13 : decode cJ5_remove 13 = .ok (.getfield 58, 3) := dk_180 0 58 (dk_at dksJ5_remove_0 13 rfl rfl)
theorem dJ5_remove_16 : decode cJ5_remove 16 = .ok (.astore_n 3, 1) := dk_78 (dk_at dksJ5_remove_0 16 rfl rfl)
theorem dJ5_remove_17 : decode cJ5_remove 17 = .ok (.aload_n 0, 1) := dk_42 (dk_at dksJ5_remove_0 17 rfl rfl)
theorem dJ5_remove_18 : decode cJ5_remove 18 = .ok (.aload_n 2, 1) := dk_44 (dk_at dksJ5_remove_0 18 rfl rfl)
theorem dJ5_remove_19 : decode cJ5_remove 19 = .ok (.invokevirtual 174, 3) := dk_182 0 174 (dk_at dksJ5_remove_0 19 rfl rfl)
theorem dJ5_remove_22 : decode cJ5_remove 22 = .ok (.aload_n 3, 1) := dk_45 (dk_at dksJ5_remove_0 22 rfl rfl)
theorem dJ5_remove_23 : decode cJ5_remove 23 = .ok (.areturn, 1) := dk_176 (dk_at dksJ5_remove_0 23 rfl rfl)
abbrev cJ5_get : ByteArray := prog_60_method_8_code
def yJ5_get : MethodName := ⟨RJ5, "get", "(Ljava/lang/Object;)Ljava/lang/Object;"⟩
def dkwJ5_get_0 : List UInt8 := [42, 43, 182, 0, 50, 77, 44, 199, 0, 7, 1, 167, 0, 7, 44, 180, 0, 58, 176]
abbrev dktJ5_get_0 : List UInt8 := dkwJ5_get_0 ++ []
theorem dksJ5_get_0 : cJ5_get.data.toList.drop 0 = dktJ5_get_0 := by decide +kernel
theorem dJ5_get_0 : decode cJ5_get 0 = .ok (.aload_n 0, 1) := dk_42 (dk_at dksJ5_get_0 0 rfl rfl)
theorem dJ5_get_1 : decode cJ5_get 1 = .ok (.aload_n 1, 1) := dk_43 (dk_at dksJ5_get_0 1 rfl rfl)
theorem dJ5_get_2 : decode cJ5_get 2 = .ok (.invokevirtual 50, 3) := dk_182 0 50 (dk_at dksJ5_get_0 2 rfl rfl)
theorem dJ5_get_5 : decode cJ5_get 5 = .ok (.astore_n 2, 1) := dk_77 (dk_at dksJ5_get_0 5 rfl rfl)
theorem dJ5_get_6 : decode cJ5_get 6 = .ok (.aload_n 2, 1) := dk_44 (dk_at dksJ5_get_0 6 rfl rfl)
theorem dJ5_get_7 : decode cJ5_get 7 = .ok (.ifnonnull 7, 3) := dk_199 0 7 (dk_at dksJ5_get_0 7 rfl rfl)
theorem dJ5_get_10 : decode cJ5_get 10 = .ok (.aconst_null, 1) := dk_1 (dk_at dksJ5_get_0 10 rfl rfl)
theorem dJ5_get_11 : decode cJ5_get 11 = .ok (.goto 7, 3) := dk_167 0 7 (dk_at dksJ5_get_0 11 rfl rfl)
theorem dJ5_get_14 : decode cJ5_get 14 = .ok (.aload_n 2, 1) := dk_44 (dk_at dksJ5_get_0 14 rfl rfl)
theorem dJ5_get_15 : decode cJ5_get 15 = .ok (.getfield 58, 3) := dk_180 0 58 (dk_at dksJ5_get_0 15 rfl rfl)
theorem dJ5_get_18 : decode cJ5_get 18 = .ok (.areturn, 1) := dk_176 (dk_at dksJ5_get_0 18 rfl rfl)
abbrev cJ5_lowerKey : ByteArray := prog_60_method_42_code
def yJ5_lowerKey : MethodName := ⟨RJ5, "lowerKey", "(Ljava/lang/Object;)Ljava/lang/Object;"⟩
def dkwJ5_lowerKey_0 : List UInt8 := [42, 43, 182, 0, 204, 184, 0, 207, 176]
abbrev dktJ5_lowerKey_0 : List UInt8 := dkwJ5_lowerKey_0 ++ []
theorem dksJ5_lowerKey_0 : cJ5_lowerKey.data.toList.drop 0 = dktJ5_lowerKey_0 := by decide +kernel
theorem dJ5_lowerKey_0 : decode cJ5_lowerKey 0 = .ok (.aload_n 0, 1) := dk_42 (dk_at dksJ5_lowerKey_0 0 rfl rfl)
theorem dJ5_lowerKey_1 : decode cJ5_lowerKey 1 = .ok (.aload_n 1, 1) := dk_43 (dk_at dksJ5_lowerKey_0 1 rfl rfl)
theorem dJ5_lowerKey_2 : decode cJ5_lowerKey 2 = .ok (.invokevirtual 204, 3) := dk_182 0 204 (dk_at dksJ5_lowerKey_0 2 rfl rfl)
theorem dJ5_lowerKey_5 : decode cJ5_lowerKey 5 = .ok (.invokestatic 207, 3) := dk_184 0 207 (dk_at dksJ5_lowerKey_0 5 rfl rfl)
theorem dJ5_lowerKey_8 : decode cJ5_lowerKey 8 = .ok (.areturn, 1) := dk_176 (dk_at dksJ5_lowerKey_0 8 rfl rfl)
abbrev cJ5_getLowerEntry : ByteArray := prog_60_method_20_code
def yJ5_getLowerEntry : MethodName := ⟨RJ5, "getLowerEntry", "(Ljava/lang/Object;)Ljava/util/TreeMap$Entry;"⟩
def dkwJ5_getLowerEntry_4 : List UInt8 := [176, 167, 255, 165, 1, 176]
abbrev dktJ5_getLowerEntry_4 : List UInt8 := dkwJ5_getLowerEntry_4 ++ []
def dkwJ5_getLowerEntry_3 : List UInt8 := [25, 4, 180, 0, 111, 166, 0, 17, 25, 4, 58, 5, 25, 4, 180, 0, 124, 58, 4, 167, 255, 230, 25, 4]
abbrev dktJ5_getLowerEntry_3 : List UInt8 := dkwJ5_getLowerEntry_3 ++ dktJ5_getLowerEntry_4
def dkwJ5_getLowerEntry_2 : List UInt8 := [180, 0, 111, 77, 167, 0, 44, 44, 180, 0, 124, 58, 4, 44, 58, 5, 25, 4, 198, 0, 27, 25, 5]
abbrev dktJ5_getLowerEntry_2 : List UInt8 := dkwJ5_getLowerEntry_2 ++ dktJ5_getLowerEntry_3
def dkwJ5_getLowerEntry_1 : List UInt8 := [180, 0, 114, 198, 0, 11, 44, 180, 0, 114, 77, 167, 0, 61, 44, 176, 44, 180, 0, 111, 198, 0, 11, 44]
abbrev dktJ5_getLowerEntry_1 : List UInt8 := dkwJ5_getLowerEntry_1 ++ dktJ5_getLowerEntry_2
def dkwJ5_getLowerEntry_0 : List UInt8 := [42, 180, 0, 101, 77, 44, 198, 0, 93, 42, 43, 44, 180, 0, 105, 182, 0, 123, 62, 29, 158, 0, 20, 44]
abbrev dktJ5_getLowerEntry_0 : List UInt8 := dkwJ5_getLowerEntry_0 ++ dktJ5_getLowerEntry_1
theorem dksJ5_getLowerEntry_0 : cJ5_getLowerEntry.data.toList.drop 0 = dktJ5_getLowerEntry_0 := by decide +kernel
theorem dksJ5_getLowerEntry_1 : cJ5_getLowerEntry.data.toList.drop 24 = dktJ5_getLowerEntry_1 := dk_seg dksJ5_getLowerEntry_0 24 rfl rfl
theorem dksJ5_getLowerEntry_2 : cJ5_getLowerEntry.data.toList.drop 48 = dktJ5_getLowerEntry_2 := dk_seg dksJ5_getLowerEntry_1 24 rfl rfl
theorem dksJ5_getLowerEntry_3 : cJ5_getLowerEntry.data.toList.drop 71 = dktJ5_getLowerEntry_3 := dk_seg dksJ5_getLowerEntry_2 23 rfl rfl
theorem dksJ5_getLowerEntry_4 : cJ5_getLowerEntry.data.toList.drop 95 = dktJ5_getLowerEntry_4 := dk_seg dksJ5_getLowerEntry_3 24 rfl rfl
theorem dJ5_getLowerEntry_0 : decode cJ5_getLowerEntry 0 = .ok (.aload_n 0, 1) := dk_42 (dk_at dksJ5_getLowerEntry_0 0 rfl rfl)
theorem dJ5_getLowerEntry_1 : decode cJ5_getLowerEntry 1 = .ok (.getfield 101, 3) := dk_180 0 101 (dk_at dksJ5_getLowerEntry_0 1 rfl rfl)
theorem dJ5_getLowerEntry_4 : decode cJ5_getLowerEntry 4 = .ok (.astore_n 2, 1) := dk_77 (dk_at dksJ5_getLowerEntry_0 4 rfl rfl)
theorem dJ5_getLowerEntry_5 : decode cJ5_getLowerEntry 5 = .ok (.aload_n 2, 1) := dk_44 (dk_at dksJ5_getLowerEntry_0 5 rfl rfl)
theorem dJ5_getLowerEntry_6 : decode cJ5_getLowerEntry 6 = .ok (.ifnull 93, 3) := dk_198 0 93 (dk_at dksJ5_getLowerEntry_0 6 rfl rfl)
theorem dJ5_getLowerEntry_9 : decode cJ5_getLowerEntry 9 = .ok (.aload_n 0, 1) := dk_42 (dk_at dksJ5_getLowerEntry_0 9 rfl rfl)
theorem dJ5_getLowerEntry_10 : decode cJ5_getLowerEntry 10 = .ok (.aload_n 1, 1) := dk_43 (dk_at dksJ5_getLowerEntry_0 10 rfl rfl)
theorem dJ5_getLowerEntry_11 : decode cJ5_getLowerEntry 11 = .ok (.aload_n 2, 1) := dk_44 (dk_at dksJ5_getLowerEntry_0 11 rfl rfl)
theorem dJ5_getLowerEntry_12 : decode cJ5_getLowerEntry 12 = .ok (.getfield 105, 3) := dk_180 0 105 (dk_at dksJ5_getLowerEntry_0 12 rfl rfl)
theorem dJ5_getLowerEntry_15 : decode cJ5_getLowerEntry 15 = .ok (.invokevirtual 123, 3) := dk_182 0 123 (dk_at dksJ5_getLowerEntry_0 15 rfl rfl)
theorem dJ5_getLowerEntry_18 : decode cJ5_getLowerEntry 18 = .ok (.istore_n 3, 1) := dk_62 (dk_at dksJ5_getLowerEntry_0 18 rfl rfl)
theorem dJ5_getLowerEntry_19 : decode cJ5_getLowerEntry 19 = .ok (.iload_n 3, 1) := dk_29 (dk_at dksJ5_getLowerEntry_0 19 rfl rfl)
theorem dJ5_getLowerEntry_20 : decode cJ5_getLowerEntry 20 = .ok (.ifCond .le 20, 3) := dk_158 0 20 (dk_at dksJ5_getLowerEntry_0 20 rfl rfl)
theorem dJ5_getLowerEntry_23 : decode cJ5_getLowerEntry 23 = .ok (.aload_n 2, 1) := dk_44 (dk_at dksJ5_getLowerEntry_0 23 rfl rfl)
theorem dJ5_getLowerEntry_24 : decode cJ5_getLowerEntry 24 = .ok (.getfield 114, 3) := dk_180 0 114 (dk_at dksJ5_getLowerEntry_1 0 rfl rfl)
theorem dJ5_getLowerEntry_27 : decode cJ5_getLowerEntry 27 = .ok (.ifnull 11, 3) := dk_198 0 11 (dk_at dksJ5_getLowerEntry_1 3 rfl rfl)
theorem dJ5_getLowerEntry_30 : decode cJ5_getLowerEntry 30 = .ok (.aload_n 2, 1) := dk_44 (dk_at dksJ5_getLowerEntry_1 6 rfl rfl)
theorem dJ5_getLowerEntry_31 : decode cJ5_getLowerEntry 31 = .ok (.getfield 114, 3) := dk_180 0 114 (dk_at dksJ5_getLowerEntry_1 7 rfl rfl)
theorem dJ5_getLowerEntry_34 : decode cJ5_getLowerEntry 34 = .ok (.astore_n 2, 1) := dk_77 (dk_at dksJ5_getLowerEntry_1 10 rfl rfl)
theorem dJ5_getLowerEntry_35 : decode cJ5_getLowerEntry 35 = .ok (.goto 61, 3) := dk_167 0 61 (dk_at dksJ5_getLowerEntry_1 11 rfl rfl)
theorem dJ5_getLowerEntry_38 : decode cJ5_getLowerEntry 38 = .ok (.aload_n 2, 1) := dk_44 (dk_at dksJ5_getLowerEntry_1 14 rfl rfl)
theorem dJ5_getLowerEntry_39 : decode cJ5_getLowerEntry 39 = .ok (.areturn, 1) := dk_176 (dk_at dksJ5_getLowerEntry_1 15 rfl rfl)
theorem dJ5_getLowerEntry_40 : decode cJ5_getLowerEntry 40 = .ok (.aload_n 2, 1) := dk_44 (dk_at dksJ5_getLowerEntry_1 16 rfl rfl)
theorem dJ5_getLowerEntry_41 : decode cJ5_getLowerEntry 41 = .ok (.getfield 111, 3) := dk_180 0 111 (dk_at dksJ5_getLowerEntry_1 17 rfl rfl)
theorem dJ5_getLowerEntry_44 : decode cJ5_getLowerEntry 44 = .ok (.ifnull 11, 3) := dk_198 0 11 (dk_at dksJ5_getLowerEntry_1 20 rfl rfl)
theorem dJ5_getLowerEntry_47 : decode cJ5_getLowerEntry 47 = .ok (.aload_n 2, 1) := dk_44 (dk_at dksJ5_getLowerEntry_1 23 rfl rfl)
theorem dJ5_getLowerEntry_48 : decode cJ5_getLowerEntry 48 = .ok (.getfield 111, 3) := dk_180 0 111 (dk_at dksJ5_getLowerEntry_2 0 rfl rfl)
theorem dJ5_getLowerEntry_51 : decode cJ5_getLowerEntry 51 = .ok (.astore_n 2, 1) := dk_77 (dk_at dksJ5_getLowerEntry_2 3 rfl rfl)
theorem dJ5_getLowerEntry_52 : decode cJ5_getLowerEntry 52 = .ok (.goto 44, 3) := dk_167 0 44 (dk_at dksJ5_getLowerEntry_2 4 rfl rfl)
theorem dJ5_getLowerEntry_55 : decode cJ5_getLowerEntry 55 = .ok (.aload_n 2, 1) := dk_44 (dk_at dksJ5_getLowerEntry_2 7 rfl rfl)
theorem dJ5_getLowerEntry_56 : decode cJ5_getLowerEntry 56 = .ok (.getfield 124, 3) := dk_180 0 124 (dk_at dksJ5_getLowerEntry_2 8 rfl rfl)
theorem dJ5_getLowerEntry_59 : decode cJ5_getLowerEntry 59 = .ok (.astore 4, 2) := dk_58 4 (dk_at dksJ5_getLowerEntry_2 11 rfl rfl)
theorem dJ5_getLowerEntry_61 : decode cJ5_getLowerEntry 61 = .ok (.aload_n 2, 1) := dk_44 (dk_at dksJ5_getLowerEntry_2 13 rfl rfl)
theorem dJ5_getLowerEntry_62 : decode cJ5_getLowerEntry 62 = .ok (.astore 5, 2) := dk_58 5 (dk_at dksJ5_getLowerEntry_2 14 rfl rfl)
theorem dJ5_getLowerEntry_64 : decode cJ5_getLowerEntry 64 = .ok (.aload 4, 2) := dk_25 4 (dk_at dksJ5_getLowerEntry_2 16 rfl rfl)
theorem dJ5_getLowerEntry_66 : decode cJ5_getLowerEntry 66 = .ok (.ifnull 27, 3) := dk_198 0 27 (dk_at dksJ5_getLowerEntry_2 18 rfl rfl)
theorem dJ5_getLowerEntry_69 : decode cJ5_getLowerEntry 69 = .ok (.aload 5, 2) := dk_25 5 (dk_at dksJ5_getLowerEntry_2 21 rfl rfl)
theorem dJ5_getLowerEntry_71 : decode cJ5_getLowerEntry 71 = .ok (.aload 4, 2) := dk_25 4 (dk_at dksJ5_getLowerEntry_3 0 rfl rfl)
theorem dJ5_getLowerEntry_73 : decode cJ5_getLowerEntry 73 = .ok (.getfield 111, 3) := dk_180 0 111 (dk_at dksJ5_getLowerEntry_3 2 rfl rfl)
theorem dJ5_getLowerEntry_76 : decode cJ5_getLowerEntry 76 = .ok (.if_acmp .ne 17, 3) := dk_166 0 17 (dk_at dksJ5_getLowerEntry_3 5 rfl rfl)
theorem dJ5_getLowerEntry_79 : decode cJ5_getLowerEntry 79 = .ok (.aload 4, 2) := dk_25 4 (dk_at dksJ5_getLowerEntry_3 8 rfl rfl)
theorem dJ5_getLowerEntry_81 : decode cJ5_getLowerEntry 81 = .ok (.astore 5, 2) := dk_58 5 (dk_at dksJ5_getLowerEntry_3 10 rfl rfl)
theorem dJ5_getLowerEntry_83 : decode cJ5_getLowerEntry 83 = .ok (.aload 4, 2) := dk_25 4 (dk_at dksJ5_getLowerEntry_3 12 rfl rfl)
theorem dJ5_getLowerEntry_85 : decode cJ5_getLowerEntry 85 = .ok (.getfield 124, 3) := dk_180 0 124 (dk_at dksJ5_getLowerEntry_3 14 rfl rfl)
theorem dJ5_getLowerEntry_88 : decode cJ5_getLowerEntry 88 = .ok (.astore 4, 2) := dk_58 4 (dk_at dksJ5_getLowerEntry_3 17 rfl rfl)
theorem dJ5_getLowerEntry_90 : decode cJ5_getLowerEntry 90 = .ok (.goto (-26), 3) := dk_167 255 230 (dk_at dksJ5_getLowerEntry_3 19 rfl rfl)
theorem dJ5_getLowerEntry_93 : decode cJ5_getLowerEntry 93 = .ok (.aload 4, 2) := dk_25 4 (dk_at dksJ5_getLowerEntry_3 22 rfl rfl)
theorem dJ5_getLowerEntry_95 : decode cJ5_getLowerEntry 95 = .ok (.areturn, 1) := dk_176 (dk_at dksJ5_getLowerEntry_4 0 rfl rfl)
theorem dJ5_getLowerEntry_96 : decode cJ5_getLowerEntry 96 = .ok (.goto (-91), 3) := dk_167 255 165 (dk_at dksJ5_getLowerEntry_4 1 rfl rfl)
theorem dJ5_getLowerEntry_99 : decode cJ5_getLowerEntry 99 = .ok (.aconst_null, 1) := dk_1 (dk_at dksJ5_getLowerEntry_4 4 rfl rfl)
theorem dJ5_getLowerEntry_100 : decode cJ5_getLowerEntry 100 = .ok (.areturn, 1) := dk_176 (dk_at dksJ5_getLowerEntry_4 5 rfl rfl)
abbrev cJ5_higherKey : ByteArray := prog_60_method_48_code
def yJ5_higherKey : MethodName := ⟨RJ5, "higherKey", "(Ljava/lang/Object;)Ljava/lang/Object;"⟩
def dkwJ5_higherKey_0 : List UInt8 := [42, 43, 182, 0, 216, 184, 0, 207, 176]
abbrev dktJ5_higherKey_0 : List UInt8 := dkwJ5_higherKey_0 ++ []
theorem dksJ5_higherKey_0 : cJ5_higherKey.data.toList.drop 0 = dktJ5_higherKey_0 := by decide +kernel
theorem dJ5_higherKey_0 : decode cJ5_higherKey 0 = .ok (.aload_n 0, 1) := dk_42 (dk_at dksJ5_higherKey_0 0 rfl rfl)
theorem dJ5_higherKey_1 : decode cJ5_higherKey 1 = .ok (.aload_n 1, 1) := dk_43 (dk_at dksJ5_higherKey_0 1 rfl rfl)
theorem dJ5_higherKey_2 : decode cJ5_higherKey 2 = .ok (.invokevirtual 216, 3) := dk_182 0 216 (dk_at dksJ5_higherKey_0 2 rfl rfl)
theorem dJ5_higherKey_5 : decode cJ5_higherKey 5 = .ok (.invokestatic 207, 3) := dk_184 0 207 (dk_at dksJ5_higherKey_0 5 rfl rfl)
theorem dJ5_higherKey_8 : decode cJ5_higherKey 8 = .ok (.areturn, 1) := dk_176 (dk_at dksJ5_higherKey_0 8 rfl rfl)
abbrev cJ5_ceilingEntry : ByteArray := prog_60_method_45_code
def yJ5_ceilingEntry : MethodName := ⟨RJ5, "ceilingEntry", "(Ljava/lang/Object;)Ljava/util/Map$Entry;"⟩
def dkwJ5_ceilingEntry_0 : List UInt8 := [42, 43, 182, 0, 213, 184, 0, 200, 176]
abbrev dktJ5_ceilingEntry_0 : List UInt8 := dkwJ5_ceilingEntry_0 ++ []
theorem dksJ5_ceilingEntry_0 : cJ5_ceilingEntry.data.toList.drop 0 = dktJ5_ceilingEntry_0 := by decide +kernel
theorem dJ5_ceilingEntry_0 : decode cJ5_ceilingEntry 0 = .ok (.aload_n 0, 1) := dk_42 (dk_at dksJ5_ceilingEntry_0 0 rfl rfl)
theorem dJ5_ceilingEntry_1 : decode cJ5_ceilingEntry 1 = .ok (.aload_n 1, 1) := dk_43 (dk_at dksJ5_ceilingEntry_0 1 rfl rfl)
theorem dJ5_ceilingEntry_2 : decode cJ5_ceilingEntry 2 = .ok (.invokevirtual 213, 3) := dk_182 0 213 (dk_at dksJ5_ceilingEntry_0 2 rfl rfl)
theorem dJ5_ceilingEntry_5 : decode cJ5_ceilingEntry 5 = .ok (.invokestatic 200, 3) := dk_184 0 200 (dk_at dksJ5_ceilingEntry_0 5 rfl rfl)
theorem dJ5_ceilingEntry_8 : decode cJ5_ceilingEntry 8 = .ok (.areturn, 1) := dk_176 (dk_at dksJ5_ceilingEntry_0 8 rfl rfl)
abbrev cJ5_exportEntry : ByteArray := prog_60_method_69_code
def yJ5_exportEntry : MethodName := ⟨RJ5, "exportEntry", "(Ljava/util/TreeMap$Entry;)Ljava/util/Map$Entry;"⟩
def dkwJ5_exportEntry_0 : List UInt8 := [42, 199, 0, 7, 1, 167, 0, 11, 187, 1, 26, 89, 42, 183, 1, 28, 176]
abbrev dktJ5_exportEntry_0 : List UInt8 := dkwJ5_exportEntry_0 ++ []
theorem dksJ5_exportEntry_0 : cJ5_exportEntry.data.toList.drop 0 = dktJ5_exportEntry_0 := by decide +kernel
theorem dJ5_exportEntry_0 : decode cJ5_exportEntry 0 = .ok (.aload_n 0, 1) := dk_42 (dk_at dksJ5_exportEntry_0 0 rfl rfl)
theorem dJ5_exportEntry_1 : decode cJ5_exportEntry 1 = .ok (.ifnonnull 7, 3) := dk_199 0 7 (dk_at dksJ5_exportEntry_0 1 rfl rfl)
theorem dJ5_exportEntry_4 : decode cJ5_exportEntry 4 = .ok (.aconst_null, 1) := dk_1 (dk_at dksJ5_exportEntry_0 4 rfl rfl)
theorem dJ5_exportEntry_5 : decode cJ5_exportEntry 5 = .ok (.goto 11, 3) := dk_167 0 11 (dk_at dksJ5_exportEntry_0 5 rfl rfl)
theorem dJ5_exportEntry_8 : decode cJ5_exportEntry 8 = .ok (.new 282, 3) := dk_187 1 26 (dk_at dksJ5_exportEntry_0 8 rfl rfl)
theorem dJ5_exportEntry_11 : decode cJ5_exportEntry 11 = .ok (.dup, 1) := dk_89 (dk_at dksJ5_exportEntry_0 11 rfl rfl)
theorem dJ5_exportEntry_12 : decode cJ5_exportEntry 12 = .ok (.aload_n 0, 1) := dk_42 (dk_at dksJ5_exportEntry_0 12 rfl rfl)
theorem dJ5_exportEntry_13 : decode cJ5_exportEntry 13 = .ok (.invokespecial 284, 3) := dk_183 1 28 (dk_at dksJ5_exportEntry_0 13 rfl rfl)
theorem dJ5_exportEntry_16 : decode cJ5_exportEntry 16 = .ok (.areturn, 1) := dk_176 (dk_at dksJ5_exportEntry_0 16 rfl rfl)
abbrev cJ5_higherEntry : ByteArray := prog_60_method_47_code
def yJ5_higherEntry : MethodName := ⟨RJ5, "higherEntry", "(Ljava/lang/Object;)Ljava/util/Map$Entry;"⟩
def dkwJ5_higherEntry_0 : List UInt8 := [42, 43, 182, 0, 216, 184, 0, 200, 176]
abbrev dktJ5_higherEntry_0 : List UInt8 := dkwJ5_higherEntry_0 ++ []
theorem dksJ5_higherEntry_0 : cJ5_higherEntry.data.toList.drop 0 = dktJ5_higherEntry_0 := by decide +kernel
theorem dJ5_higherEntry_0 : decode cJ5_higherEntry 0 = .ok (.aload_n 0, 1) := dk_42 (dk_at dksJ5_higherEntry_0 0 rfl rfl)
theorem dJ5_higherEntry_1 : decode cJ5_higherEntry 1 = .ok (.aload_n 1, 1) := dk_43 (dk_at dksJ5_higherEntry_0 1 rfl rfl)
theorem dJ5_higherEntry_2 : decode cJ5_higherEntry 2 = .ok (.invokevirtual 216, 3) := dk_182 0 216 (dk_at dksJ5_higherEntry_0 2 rfl rfl)
theorem dJ5_higherEntry_5 : decode cJ5_higherEntry 5 = .ok (.invokestatic 200, 3) := dk_184 0 200 (dk_at dksJ5_higherEntry_0 5 rfl rfl)
theorem dJ5_higherEntry_8 : decode cJ5_higherEntry 8 = .ok (.areturn, 1) := dk_176 (dk_at dksJ5_higherEntry_0 8 rfl rfl)
abbrev cJ5_putAll : ByteArray := prog_60_method_14_code
def yJ5_putAll : MethodName := ⟨RJ5, "putAll", "(Ljava/util/Map;)V"⟩
def dkwJ5_putAll_3 : List UInt8 := [182, 0, 42, 167, 0, 4, 78, 177, 42, 43, 183, 0, 91, 177]
abbrev dktJ5_putAll_3 : List UInt8 := dkwJ5_putAll_3 ++ []
def dkwJ5_putAll_2 : List UInt8 := [180, 0, 13, 4, 96, 181, 0, 13, 42, 28, 43, 185, 0, 90, 1, 0, 185, 0, 36, 1, 0, 1, 1]
abbrev dktJ5_putAll_2 : List UInt8 := dkwJ5_putAll_2 ++ dktJ5_putAll_3
def dkwJ5_putAll_1 : List UInt8 := [153, 0, 55, 42, 180, 0, 16, 43, 192, 0, 25, 185, 0, 24, 1, 0, 184, 0, 85, 153, 0, 36, 42, 89]
abbrev dktJ5_putAll_1 : List UInt8 := dkwJ5_putAll_1 ++ dktJ5_putAll_2
def dkwJ5_putAll_0 : List UInt8 := [43, 185, 0, 82, 1, 0, 61, 42, 180, 0, 7, 154, 0, 66, 28, 153, 0, 62, 43, 193, 0, 25]
abbrev dktJ5_putAll_0 : List UInt8 := dkwJ5_putAll_0 ++ dktJ5_putAll_1
theorem dksJ5_putAll_0 : cJ5_putAll.data.toList.drop 0 = dktJ5_putAll_0 := by decide +kernel
theorem dksJ5_putAll_1 : cJ5_putAll.data.toList.drop 22 = dktJ5_putAll_1 := dk_seg dksJ5_putAll_0 22 rfl rfl
theorem dksJ5_putAll_2 : cJ5_putAll.data.toList.drop 46 = dktJ5_putAll_2 := dk_seg dksJ5_putAll_1 24 rfl rfl
theorem dksJ5_putAll_3 : cJ5_putAll.data.toList.drop 69 = dktJ5_putAll_3 := dk_seg dksJ5_putAll_2 23 rfl rfl
theorem dJ5_putAll_0 : decode cJ5_putAll 0 = .ok (.aload_n 1, 1) := dk_43 (dk_at dksJ5_putAll_0 0 rfl rfl)
theorem dJ5_putAll_1 : decode cJ5_putAll 1 = .ok (.invokeinterface 82 1, 5) := by decide +kernel
theorem dJ5_putAll_6 : decode cJ5_putAll 6 = .ok (.istore_n 2, 1) := dk_61 (dk_at dksJ5_putAll_0 6 rfl rfl)
theorem dJ5_putAll_7 : decode cJ5_putAll 7 = .ok (.aload_n 0, 1) := dk_42 (dk_at dksJ5_putAll_0 7 rfl rfl)
theorem dJ5_putAll_8 : decode cJ5_putAll 8 = .ok (.getfield 7, 3) := dk_180 0 7 (dk_at dksJ5_putAll_0 8 rfl rfl)
theorem dJ5_putAll_11 : decode cJ5_putAll 11 = .ok (.ifCond .ne 66, 3) := dk_154 0 66 (dk_at dksJ5_putAll_0 11 rfl rfl)
theorem dJ5_putAll_14 : decode cJ5_putAll 14 = .ok (.iload_n 2, 1) := dk_28 (dk_at dksJ5_putAll_0 14 rfl rfl)
theorem dJ5_putAll_15 : decode cJ5_putAll 15 = .ok (.ifCond .eq 62, 3) := dk_153 0 62 (dk_at dksJ5_putAll_0 15 rfl rfl)
theorem dJ5_putAll_18 : decode cJ5_putAll 18 = .ok (.aload_n 1, 1) := dk_43 (dk_at dksJ5_putAll_0 18 rfl rfl)
theorem dJ5_putAll_19 : decode cJ5_putAll 19 = .ok (.instanceof 25, 3) := dk_193 0 25 (dk_at dksJ5_putAll_0 19 rfl rfl)
theorem dJ5_putAll_22 : decode cJ5_putAll 22 = .ok (.ifCond .eq 55, 3) := dk_153 0 55 (dk_at dksJ5_putAll_1 0 rfl rfl)
theorem dJ5_putAll_25 : decode cJ5_putAll 25 = .ok (.aload_n 0, 1) := dk_42 (dk_at dksJ5_putAll_1 3 rfl rfl)
theorem dJ5_putAll_26 : decode cJ5_putAll 26 = .ok (.getfield 16, 3) := dk_180 0 16 (dk_at dksJ5_putAll_1 4 rfl rfl)
theorem dJ5_putAll_29 : decode cJ5_putAll 29 = .ok (.aload_n 1, 1) := dk_43 (dk_at dksJ5_putAll_1 7 rfl rfl)
theorem dJ5_putAll_30 : decode cJ5_putAll 30 = .ok (.checkcast 25, 3) := dk_192 0 25 (dk_at dksJ5_putAll_1 8 rfl rfl)
theorem dJ5_putAll_33 : decode cJ5_putAll 33 = .ok (.invokeinterface 24 1, 5) := by decide +kernel
theorem dJ5_putAll_38 : decode cJ5_putAll 38 = .ok (.invokestatic 85, 3) := dk_184 0 85 (dk_at dksJ5_putAll_1 16 rfl rfl)
theorem dJ5_putAll_41 : decode cJ5_putAll 41 = .ok (.ifCond .eq 36, 3) := dk_153 0 36 (dk_at dksJ5_putAll_1 19 rfl rfl)
theorem dJ5_putAll_44 : decode cJ5_putAll 44 = .ok (.aload_n 0, 1) := dk_42 (dk_at dksJ5_putAll_1 22 rfl rfl)
theorem dJ5_putAll_45 : decode cJ5_putAll 45 = .ok (.dup, 1) := dk_89 (dk_at dksJ5_putAll_1 23 rfl rfl)
theorem dJ5_putAll_46 : decode cJ5_putAll 46 = .ok (.getfield 13, 3) := dk_180 0 13 (dk_at dksJ5_putAll_2 0 rfl rfl)
theorem dJ5_putAll_49 : decode cJ5_putAll 49 = .ok (.iconst 1, 1) := dk_4 (dk_at dksJ5_putAll_2 3 rfl rfl)
theorem dJ5_putAll_50 : decode cJ5_putAll 50 = .ok (.iadd, 1) := dk_96 (dk_at dksJ5_putAll_2 4 rfl rfl)
theorem dJ5_putAll_51 : decode cJ5_putAll 51 = .ok (.putfield 13, 3) := dk_181 0 13 (dk_at dksJ5_putAll_2 5 rfl rfl)
theorem dJ5_putAll_54 : decode cJ5_putAll 54 = .ok (.aload_n 0, 1) := dk_42 (dk_at dksJ5_putAll_2 8 rfl rfl)
theorem dJ5_putAll_55 : decode cJ5_putAll 55 = .ok (.iload_n 2, 1) := dk_28 (dk_at dksJ5_putAll_2 9 rfl rfl)
theorem dJ5_putAll_56 : decode cJ5_putAll 56 = .ok (.aload_n 1, 1) := dk_43 (dk_at dksJ5_putAll_2 10 rfl rfl)
theorem dJ5_putAll_57 : decode cJ5_putAll 57 = .ok (.invokeinterface 90 1, 5) := by decide +kernel
theorem dJ5_putAll_62 : decode cJ5_putAll 62 = .ok (.invokeinterface 36 1, 5) := by decide +kernel
theorem dJ5_putAll_67 : decode cJ5_putAll 67 = .ok (.aconst_null, 1) := dk_1 (dk_at dksJ5_putAll_2 21 rfl rfl)
theorem dJ5_putAll_68 : decode cJ5_putAll 68 = .ok (.aconst_null, 1) := dk_1 (dk_at dksJ5_putAll_2 22 rfl rfl)
theorem dJ5_putAll_69 : decode cJ5_putAll 69 = .ok (.invokevirtual 42, 3) := dk_182 0 42 (dk_at dksJ5_putAll_3 0 rfl rfl)
theorem dJ5_putAll_72 : decode cJ5_putAll 72 = .ok (.goto 4, 3) := dk_167 0 4 (dk_at dksJ5_putAll_3 3 rfl rfl)
theorem dJ5_putAll_75 : decode cJ5_putAll 75 = .ok (.astore_n 3, 1) := dk_78 (dk_at dksJ5_putAll_3 6 rfl rfl)
theorem dJ5_putAll_76 : decode cJ5_putAll 76 = .ok (.return_, 1) := dk_177 (dk_at dksJ5_putAll_3 7 rfl rfl)
theorem dJ5_putAll_77 : decode cJ5_putAll 77 = .ok (.aload_n 0, 1) := dk_42 (dk_at dksJ5_putAll_3 8 rfl rfl)
theorem dJ5_putAll_78 : decode cJ5_putAll 78 = .ok (.aload_n 1, 1) := dk_43 (dk_at dksJ5_putAll_3 9 rfl rfl)
theorem dJ5_putAll_79 : decode cJ5_putAll 79 = .ok (.invokespecial 91, 3) := dk_183 0 91 (dk_at dksJ5_putAll_3 10 rfl rfl)
theorem dJ5_putAll_82 : decode cJ5_putAll 82 = .ok (.return_, 1) := dk_177 (dk_at dksJ5_putAll_3 13 rfl rfl)
abbrev cJ5_comparator : ByteArray := prog_60_method_9_code
def yJ5_comparator : MethodName := ⟨RJ5, "comparator", "()Ljava/util/Comparator;"⟩
theorem dJ5_comparator_0 : decode cJ5_comparator 0 = .ok (.aload_n 0, 1) := by decide +kernel
theorem dJ5_comparator_1 : decode cJ5_comparator 1 = .ok (.getfield 16, 3) := by decide +kernel
theorem dJ5_comparator_4 : decode cJ5_comparator 4 = .ok (.areturn, 1) := by decide +kernel
abbrev cJ5_buildFromSorted : ByteArray := prog_60_method_90_code
def yJ5_buildFromSorted : MethodName := ⟨RJ5, "buildFromSorted", "(ILjava/util/Iterator;Ljava/io/ObjectInputStream;Ljava/lang/Object;)V"⟩
def dkwJ5_buildFromSorted_1 : List UInt8 := [181, 0, 101, 177]
abbrev dktJ5_buildFromSorted_1 : List UInt8 := dkwJ5_buildFromSorted_1 ++ []
def dkwJ5_buildFromSorted_0 : List UInt8 := [42, 27, 181, 0, 7, 42, 42, 3, 3, 27, 4, 100, 27, 184, 1, 106, 44, 45, 25, 4, 182, 1, 110]
abbrev dktJ5_buildFromSorted_0 : List UInt8 := dkwJ5_buildFromSorted_0 ++ dktJ5_buildFromSorted_1
theorem dksJ5_buildFromSorted_0 : cJ5_buildFromSorted.data.toList.drop 0 = dktJ5_buildFromSorted_0 := by decide +kernel
theorem dksJ5_buildFromSorted_1 : cJ5_buildFromSorted.data.toList.drop 23 = dktJ5_buildFromSorted_1 := dk_seg dksJ5_buildFromSorted_0 23 rfl rfl
theorem dJ5_buildFromSorted_0 : decode cJ5_buildFromSorted 0 = .ok (.aload_n 0, 1) := dk_42 (dk_at dksJ5_buildFromSorted_0 0 rfl rfl)
theorem dJ5_buildFromSorted_1 : decode cJ5_buildFromSorted 1 = .ok (.iload_n 1, 1) := dk_27 (dk_at dksJ5_buildFromSorted_0 1 rfl rfl)
theorem dJ5_buildFromSorted_2 : decode cJ5_buildFromSorted 2 = .ok (.putfield 7, 3) := dk_181 0 7 (dk_at dksJ5_buildFromSorted_0 2 rfl rfl)
theorem dJ5_buildFromSorted_5 : decode cJ5_buildFromSorted 5 = .ok (.aload_n 0, 1) := dk_42 (dk_at dksJ5_buildFromSorted_0 5 rfl rfl)
theorem dJ5_buildFromSorted_6 : decode cJ5_buildFromSorted 6 = .ok (.aload_n 0, 1) := dk_42 (dk_at dksJ5_buildFromSorted_0 6 rfl rfl)
theorem dJ5_buildFromSorted_7 : decode cJ5_buildFromSorted 7 = .ok (.iconst 0, 1) := dk_3 (dk_at dksJ5_buildFromSorted_0 7 rfl rfl)
theorem dJ5_buildFromSorted_8 : decode cJ5_buildFromSorted 8 = .ok (.iconst 0, 1) := dk_3 (dk_at dksJ5_buildFromSorted_0 8 rfl rfl)
theorem dJ5_buildFromSorted_9 : decode cJ5_buildFromSorted 9 = .ok (.iload_n 1, 1) := dk_27 (dk_at dksJ5_buildFromSorted_0 9 rfl rfl)
theorem dJ5_buildFromSorted_10 : decode cJ5_buildFromSorted 10 = .ok (.iconst 1, 1) := dk_4 (dk_at dksJ5_buildFromSorted_0 10 rfl rfl)
theorem dJ5_buildFromSorted_11 : decode cJ5_buildFromSorted 11 = .ok (.isub, 1) := dk_100 (dk_at dksJ5_buildFromSorted_0 11 rfl rfl)
theorem dJ5_buildFromSorted_12 : decode cJ5_buildFromSorted 12 = .ok (.iload_n 1, 1) := dk_27 (dk_at dksJ5_buildFromSorted_0 12 rfl rfl)
theorem dJ5_buildFromSorted_13 : decode cJ5_buildFromSorted 13 = .ok (.invokestatic 362, 3) := dk_184 1 106 (dk_at dksJ5_buildFromSorted_0 13 rfl rfl)
theorem dJ5_buildFromSorted_16 : decode cJ5_buildFromSorted 16 = .ok (.aload_n 2, 1) := dk_44 (dk_at dksJ5_buildFromSorted_0 16 rfl rfl)
theorem dJ5_buildFromSorted_17 : decode cJ5_buildFromSorted 17 = .ok (.aload_n 3, 1) := dk_45 (dk_at dksJ5_buildFromSorted_0 17 rfl rfl)
theorem dJ5_buildFromSorted_18 : decode cJ5_buildFromSorted 18 = .ok (.aload 4, 2) := dk_25 4 (dk_at dksJ5_buildFromSorted_0 18 rfl rfl)
theorem dJ5_buildFromSorted_20 : decode cJ5_buildFromSorted 20 = .ok (.invokevirtual 366, 3) := dk_182 1 110 (dk_at dksJ5_buildFromSorted_0 20 rfl rfl)
theorem dJ5_buildFromSorted_23 : decode cJ5_buildFromSorted 23 = .ok (.putfield 101, 3) := dk_181 0 101 (dk_at dksJ5_buildFromSorted_1 0 rfl rfl)
theorem dJ5_buildFromSorted_26 : decode cJ5_buildFromSorted 26 = .ok (.return_, 1) := dk_177 (dk_at dksJ5_buildFromSorted_1 3 rfl rfl)
abbrev cJ5_computeRedLevel : ByteArray := prog_60_method_92_code
def yJ5_computeRedLevel : MethodName := ⟨RJ5, "computeRedLevel", "(I)I"⟩
def dkwJ5_computeRedLevel_0 : List UInt8 := [16, 31, 26, 4, 96, 184, 1, 116, 100, 172]
abbrev dktJ5_computeRedLevel_0 : List UInt8 := dkwJ5_computeRedLevel_0 ++ []
theorem dksJ5_computeRedLevel_0 : cJ5_computeRedLevel.data.toList.drop 0 = dktJ5_computeRedLevel_0 := by decide +kernel
theorem dJ5_computeRedLevel_0 : decode cJ5_computeRedLevel 0 = .ok (.bipush 31, 2) := dk_16 31 (dk_at dksJ5_computeRedLevel_0 0 rfl rfl)
theorem dJ5_computeRedLevel_2 : decode cJ5_computeRedLevel 2 = .ok (.iload_n 0, 1) := dk_26 (dk_at dksJ5_computeRedLevel_0 2 rfl rfl)
theorem dJ5_computeRedLevel_3 : decode cJ5_computeRedLevel 3 = .ok (.iconst 1, 1) := dk_4 (dk_at dksJ5_computeRedLevel_0 3 rfl rfl)
theorem dJ5_computeRedLevel_4 : decode cJ5_computeRedLevel 4 = .ok (.iadd, 1) := dk_96 (dk_at dksJ5_computeRedLevel_0 4 rfl rfl)
theorem dJ5_computeRedLevel_5 : decode cJ5_computeRedLevel 5 = .ok (.invokestatic 372, 3) := dk_184 1 116 (dk_at dksJ5_computeRedLevel_0 5 rfl rfl)
theorem dJ5_computeRedLevel_8 : decode cJ5_computeRedLevel 8 = .ok (.isub, 1) := dk_100 (dk_at dksJ5_computeRedLevel_0 8 rfl rfl)
theorem dJ5_computeRedLevel_9 : decode cJ5_computeRedLevel 9 = .ok (.ireturn, 1) := dk_172 (dk_at dksJ5_computeRedLevel_0 9 rfl rfl)
abbrev cJ5_buildFromSorted_2 : ByteArray := prog_60_method_91_code
def yJ5_buildFromSorted_2 : MethodName := ⟨RJ5, "buildFromSorted", "(IIIILjava/util/Iterator;Ljava/io/ObjectInputStream;Ljava/lang/Object;)Ljava/util/TreeMap$Entry;"⟩
def dkwJ5_buildFromSorted_2_9 : List UInt8 := [25, 13, 25, 12, 181, 0, 124, 25, 12, 176]
abbrev dktJ5_buildFromSorted_2_9 : List UInt8 := dkwJ5_buildFromSorted_2_9 ++ []
def dkwJ5_buildFromSorted_2_8 : List UInt8 := [4, 96, 29, 21, 4, 25, 5, 25, 6, 25, 7, 182, 1, 110, 58, 13, 25, 12, 25, 13, 181, 0, 114]
abbrev dktJ5_buildFromSorted_2_8 : List UInt8 := dkwJ5_buildFromSorted_2_8 ++ dktJ5_buildFromSorted_2_9
def dkwJ5_buildFromSorted_2_7 : List UInt8 := [25, 9, 181, 0, 111, 25, 9, 25, 12, 181, 0, 124, 21, 8, 29, 162, 0, 39, 42, 27, 4, 96, 21, 8]
abbrev dktJ5_buildFromSorted_2_7 : List UInt8 := dkwJ5_buildFromSorted_2_7 ++ dktJ5_buildFromSorted_2_8
def dkwJ5_buildFromSorted_2_6 : List UInt8 := [183, 0, 167, 58, 12, 27, 21, 4, 160, 0, 9, 25, 12, 3, 181, 1, 34, 25, 9, 198, 0, 17, 25, 12]
abbrev dktJ5_buildFromSorted_2_6 : List UInt8 := dkwJ5_buildFromSorted_2_6 ++ dktJ5_buildFromSorted_2_7
def dkwJ5_buildFromSorted_2_5 : List UInt8 := [198, 0, 8, 25, 7, 167, 0, 8, 25, 6, 182, 1, 113, 58, 11, 187, 0, 59, 89, 25, 10, 25, 11, 1]
abbrev dktJ5_buildFromSorted_2_5 : List UInt8 := dkwJ5_buildFromSorted_2_5 ++ dktJ5_buildFromSorted_2_6
def dkwJ5_buildFromSorted_2_4 : List UInt8 := [185, 1, 79, 1, 0, 58, 10, 25, 7, 58, 11, 167, 0, 27, 25, 6, 182, 1, 113, 58, 10, 25, 7]
abbrev dktJ5_buildFromSorted_2_4 : List UInt8 := dkwJ5_buildFromSorted_2_4 ++ dktJ5_buildFromSorted_2_5
def dkwJ5_buildFromSorted_2_3 : List UInt8 := [185, 1, 84, 1, 0, 58, 10, 25, 12, 185, 1, 91, 1, 0, 58, 11, 167, 0, 43, 25, 5]
abbrev dktJ5_buildFromSorted_2_3 : List UInt8 := dkwJ5_buildFromSorted_2_3 ++ dktJ5_buildFromSorted_2_4
def dkwJ5_buildFromSorted_2_2 : List UInt8 := [198, 0, 57, 25, 7, 199, 0, 36, 25, 5, 185, 1, 79, 1, 0, 192, 1, 82, 58, 12, 25, 12]
abbrev dktJ5_buildFromSorted_2_2 : List UInt8 := dkwJ5_buildFromSorted_2_2 ++ dktJ5_buildFromSorted_2_3
def dkwJ5_buildFromSorted_2_1 : List UInt8 := [27, 4, 96, 28, 21, 8, 4, 100, 21, 4, 25, 5, 25, 6, 25, 7, 182, 1, 110, 58, 9, 25, 5]
abbrev dktJ5_buildFromSorted_2_1 : List UInt8 := dkwJ5_buildFromSorted_2_1 ++ dktJ5_buildFromSorted_2_2
def dkwJ5_buildFromSorted_2_0 : List UInt8 := [29, 28, 162, 0, 5, 1, 176, 28, 29, 96, 4, 124, 54, 8, 1, 58, 9, 28, 21, 8, 162, 0, 25, 42]
abbrev dktJ5_buildFromSorted_2_0 : List UInt8 := dkwJ5_buildFromSorted_2_0 ++ dktJ5_buildFromSorted_2_1
theorem dksJ5_buildFromSorted_2_0 : cJ5_buildFromSorted_2.data.toList.drop 0 = dktJ5_buildFromSorted_2_0 := by decide +kernel
theorem dksJ5_buildFromSorted_2_1 : cJ5_buildFromSorted_2.data.toList.drop 24 = dktJ5_buildFromSorted_2_1 := dk_seg dksJ5_buildFromSorted_2_0 24 rfl rfl
theorem dksJ5_buildFromSorted_2_2 : cJ5_buildFromSorted_2.data.toList.drop 47 = dktJ5_buildFromSorted_2_2 := dk_seg dksJ5_buildFromSorted_2_1 23 rfl rfl
theorem dksJ5_buildFromSorted_2_3 : cJ5_buildFromSorted_2.data.toList.drop 69 = dktJ5_buildFromSorted_2_3 := dk_seg dksJ5_buildFromSorted_2_2 22 rfl rfl
theorem dksJ5_buildFromSorted_2_4 : cJ5_buildFromSorted_2.data.toList.drop 90 = dktJ5_buildFromSorted_2_4 := dk_seg dksJ5_buildFromSorted_2_3 21 rfl rfl
theorem dksJ5_buildFromSorted_2_5 : cJ5_buildFromSorted_2.data.toList.drop 113 = dktJ5_buildFromSorted_2_5 := dk_seg dksJ5_buildFromSorted_2_4 23 rfl rfl
theorem dksJ5_buildFromSorted_2_6 : cJ5_buildFromSorted_2.data.toList.drop 137 = dktJ5_buildFromSorted_2_6 := dk_seg dksJ5_buildFromSorted_2_5 24 rfl rfl
theorem dksJ5_buildFromSorted_2_7 : cJ5_buildFromSorted_2.data.toList.drop 161 = dktJ5_buildFromSorted_2_7 := dk_seg dksJ5_buildFromSorted_2_6 24 rfl rfl
theorem dksJ5_buildFromSorted_2_8 : cJ5_buildFromSorted_2.data.toList.drop 185 = dktJ5_buildFromSorted_2_8 := dk_seg dksJ5_buildFromSorted_2_7 24 rfl rfl
theorem dksJ5_buildFromSorted_2_9 : cJ5_buildFromSorted_2.data.toList.drop 208 = dktJ5_buildFromSorted_2_9 := dk_seg dksJ5_buildFromSorted_2_8 23 rfl rfl
theorem dJ5_buildFromSorted_2_0 : decode cJ5_buildFromSorted_2 0 = .ok (.iload_n 3, 1) := dk_29 (dk_at dksJ5_buildFromSorted_2_0 0 rfl rfl)
theorem dJ5_buildFromSorted_2_1 : decode cJ5_buildFromSorted_2 1 = .ok (.iload_n 2, 1) := dk_28 (dk_at dksJ5_buildFromSorted_2_0 1 rfl rfl)
theorem dJ5_buildFromSorted_2_2 : decode cJ5_buildFromSorted_2 2 = .ok (.if_icmp .ge 5, 3) := dk_162 0 5 (dk_at dksJ5_buildFromSorted_2_0 2 rfl rfl)
theorem dJ5_buildFromSorted_2_5 : decode cJ5_buildFromSorted_2 5 = .ok (.aconst_null, 1) := dk_1 (dk_at dksJ5_buildFromSorted_2_0 5 rfl rfl)
theorem dJ5_buildFromSorted_2_6 : decode cJ5_buildFromSorted_2 6 = .ok (.areturn, 1) := dk_176 (dk_at dksJ5_buildFromSorted_2_0 6 rfl rfl)
theorem dJ5_buildFromSorted_2_7 : decode cJ5_buildFromSorted_2 7 = .ok (.iload_n 2, 1) := dk_28 (dk_at dksJ5_buildFromSorted_2_0 7 rfl rfl)
theorem dJ5_buildFromSorted_2_8 : decode cJ5_buildFromSorted_2 8 = .ok (.iload_n 3, 1) := dk_29 (dk_at dksJ5_buildFromSorted_2_0 8 rfl rfl)
theorem dJ5_buildFromSorted_2_9 : decode cJ5_buildFromSorted_2 9 = .ok (.iadd, 1) := dk_96 (dk_at dksJ5_buildFromSorted_2_0 9 rfl rfl)
theorem dJ5_buildFromSorted_2_10 : decode cJ5_buildFromSorted_2 10 = .ok (.iconst 1, 1) := dk_4 (dk_at dksJ5_buildFromSorted_2_0 10 rfl rfl)
theorem dJ5_buildFromSorted_2_11 : decode cJ5_buildFromSorted_2 11 = .ok (.iushr, 1) := dk_124 (dk_at dksJ5_buildFromSorted_2_0 11 rfl rfl)
theorem dJ5_buildFromSorted_2_12 : decode cJ5_buildFromSorted_2 12 = .ok (.istore 8, 2) := dk_54 8 (dk_at dksJ5_buildFromSorted_2_0 12 rfl rfl)
theorem dJ5_buildFromSorted_2_14 : decode cJ5_buildFromSorted_2 14 = .ok (.aconst_null, 1) := dk_1 (dk_at dksJ5_buildFromSorted_2_0 14 rfl rfl)
theorem dJ5_buildFromSorted_2_15 : decode cJ5_buildFromSorted_2 15 = .ok (.astore 9, 2) := dk_58 9 (dk_at dksJ5_buildFromSorted_2_0 15 rfl rfl)
theorem dJ5_buildFromSorted_2_17 : decode cJ5_buildFromSorted_2 17 = .ok (.iload_n 2, 1) := dk_28 (dk_at dksJ5_buildFromSorted_2_0 17 rfl rfl)
theorem dJ5_buildFromSorted_2_18 : decode cJ5_buildFromSorted_2 18 = .ok (.iload 8, 2) := dk_21 8 (dk_at dksJ5_buildFromSorted_2_0 18 rfl rfl)
theorem dJ5_buildFromSorted_2_20 : decode cJ5_buildFromSorted_2 20 = .ok (.if_icmp .ge 25, 3) := dk_162 0 25 (dk_at dksJ5_buildFromSorted_2_0 20 rfl rfl)
theorem dJ5_buildFromSorted_2_23 : decode cJ5_buildFromSorted_2 23 = .ok (.aload_n 0, 1) := dk_42 (dk_at dksJ5_buildFromSorted_2_0 23 rfl rfl)
theorem dJ5_buildFromSorted_2_24 : decode cJ5_buildFromSorted_2 24 = .ok (.iload_n 1, 1) := dk_27 (dk_at dksJ5_buildFromSorted_2_1 0 rfl rfl)
theorem dJ5_buildFromSorted_2_25 : decode cJ5_buildFromSorted_2 25 = .ok (.iconst 1, 1) := dk_4 (dk_at dksJ5_buildFromSorted_2_1 1 rfl rfl)
theorem dJ5_buildFromSorted_2_26 : decode cJ5_buildFromSorted_2 26 = .ok (.iadd, 1) := dk_96 (dk_at dksJ5_buildFromSorted_2_1 2 rfl rfl)
theorem dJ5_buildFromSorted_2_27 : decode cJ5_buildFromSorted_2 27 = .ok (.iload_n 2, 1) := dk_28 (dk_at dksJ5_buildFromSorted_2_1 3 rfl rfl)
theorem dJ5_buildFromSorted_2_28 : decode cJ5_buildFromSorted_2 28 = .ok (.iload 8, 2) := dk_21 8 (dk_at dksJ5_buildFromSorted_2_1 4 rfl rfl)
theorem dJ5_buildFromSorted_2_30 : decode cJ5_buildFromSorted_2 30 = .ok (.iconst 1, 1) := dk_4 (dk_at dksJ5_buildFromSorted_2_1 6 rfl rfl)
theorem dJ5_buildFromSorted_2_31 : decode cJ5_buildFromSorted_2 31 = .ok (.isub, 1) := dk_100 (dk_at dksJ5_buildFromSorted_2_1 7 rfl rfl)
theorem dJ5_buildFromSorted_2_32 : decode cJ5_buildFromSorted_2 32 = .ok (.iload 4, 2) := dk_21 4 (dk_at dksJ5_buildFromSorted_2_1 8 rfl rfl)
theorem dJ5_buildFromSorted_2_34 : decode cJ5_buildFromSorted_2 34 = .ok (.aload 5, 2) := dk_25 5 (dk_at dksJ5_buildFromSorted_2_1 10 rfl rfl)
theorem dJ5_buildFromSorted_2_36 : decode cJ5_buildFromSorted_2 36 = .ok (.aload 6, 2) := dk_25 6 (dk_at dksJ5_buildFromSorted_2_1 12 rfl rfl)
theorem dJ5_buildFromSorted_2_38 : decode cJ5_buildFromSorted_2 38 = .ok (.aload 7, 2) := dk_25 7 (dk_at dksJ5_buildFromSorted_2_1 14 rfl rfl)
theorem dJ5_buildFromSorted_2_40 : decode cJ5_buildFromSorted_2 40 = .ok (.invokevirtual 366, 3) := dk_182 1 110 (dk_at dksJ5_buildFromSorted_2_1 16 rfl rfl)
theorem dJ5_buildFromSorted_2_43 : decode cJ5_buildFromSorted_2 43 = .ok (.astore 9, 2) := dk_58 9 (dk_at dksJ5_buildFromSorted_2_1 19 rfl rfl)
theorem dJ5_buildFromSorted_2_45 : decode cJ5_buildFromSorted_2 45 = .ok (.aload 5, 2) := dk_25 5 (dk_at dksJ5_buildFromSorted_2_1 21 rfl rfl)
theorem dJ5_buildFromSorted_2_47 : decode cJ5_buildFromSorted_2 47 = .ok (.ifnull 57, 3) := dk_198 0 57 (dk_at dksJ5_buildFromSorted_2_2 0 rfl rfl)
theorem dJ5_buildFromSorted_2_50 : decode cJ5_buildFromSorted_2 50 = .ok (.aload 7, 2) := dk_25 7 (dk_at dksJ5_buildFromSorted_2_2 3 rfl rfl)
theorem dJ5_buildFromSorted_2_52 : decode cJ5_buildFromSorted_2 52 = .ok (.ifnonnull 36, 3) := dk_199 0 36 (dk_at dksJ5_buildFromSorted_2_2 5 rfl rfl)
theorem dJ5_buildFromSorted_2_55 : decode cJ5_buildFromSorted_2 55 = .ok (.aload 5, 2) := dk_25 5 (dk_at dksJ5_buildFromSorted_2_2 8 rfl rfl)
theorem dJ5_buildFromSorted_2_57 : decode cJ5_buildFromSorted_2 57 = .ok (.invokeinterface 335 1, 5) := by decide +kernel
theorem dJ5_buildFromSorted_2_62 : decode cJ5_buildFromSorted_2 62 = .ok (.checkcast 338, 3) := dk_192 1 82 (dk_at dksJ5_buildFromSorted_2_2 15 rfl rfl)
theorem dJ5_buildFromSorted_2_65 : decode cJ5_buildFromSorted_2 65 = .ok (.astore 12, 2) := dk_58 12 (dk_at dksJ5_buildFromSorted_2_2 18 rfl rfl)
theorem dJ5_buildFromSorted_2_67 : decode cJ5_buildFromSorted_2 67 = .ok (.aload 12, 2) := dk_25 12 (dk_at dksJ5_buildFromSorted_2_2 20 rfl rfl)
theorem dJ5_buildFromSorted_2_69 : decode cJ5_buildFromSorted_2 69 = .ok (.invokeinterface 340 1, 5) := by decide +kernel
theorem dJ5_buildFromSorted_2_74 : decode cJ5_buildFromSorted_2 74 = .ok (.astore 10, 2) := dk_58 10 (dk_at dksJ5_buildFromSorted_2_3 5 rfl rfl)
theorem dJ5_buildFromSorted_2_76 : decode cJ5_buildFromSorted_2 76 = .ok (.aload 12, 2) := dk_25 12 (dk_at dksJ5_buildFromSorted_2_3 7 rfl rfl)
theorem dJ5_buildFromSorted_2_78 : decode cJ5_buildFromSorted_2 78 = .ok (.invokeinterface 347 1, 5) := by decide +kernel
theorem dJ5_buildFromSorted_2_83 : decode cJ5_buildFromSorted_2 83 = .ok (.astore 11, 2) := dk_58 11 (dk_at dksJ5_buildFromSorted_2_3 14 rfl rfl)
theorem dJ5_buildFromSorted_2_85 : decode cJ5_buildFromSorted_2 85 = .ok (.goto 43, 3) := dk_167 0 43 (dk_at dksJ5_buildFromSorted_2_3 16 rfl rfl)
theorem dJ5_buildFromSorted_2_88 : decode cJ5_buildFromSorted_2 88 = .ok (.aload 5, 2) := dk_25 5 (dk_at dksJ5_buildFromSorted_2_3 19 rfl rfl)
theorem dJ5_buildFromSorted_2_90 : decode cJ5_buildFromSorted_2 90 = .ok (.invokeinterface 335 1, 5) := by decide +kernel
theorem dJ5_buildFromSorted_2_95 : decode cJ5_buildFromSorted_2 95 = .ok (.astore 10, 2) := dk_58 10 (dk_at dksJ5_buildFromSorted_2_4 5 rfl rfl)
theorem dJ5_buildFromSorted_2_97 : decode cJ5_buildFromSorted_2 97 = .ok (.aload 7, 2) := dk_25 7 (dk_at dksJ5_buildFromSorted_2_4 7 rfl rfl)
theorem dJ5_buildFromSorted_2_99 : decode cJ5_buildFromSorted_2 99 = .ok (.astore 11, 2) := dk_58 11 (dk_at dksJ5_buildFromSorted_2_4 9 rfl rfl)
theorem dJ5_buildFromSorted_2_101 : decode cJ5_buildFromSorted_2 101 = .ok (.goto 27, 3) := dk_167 0 27 (dk_at dksJ5_buildFromSorted_2_4 11 rfl rfl)
theorem dJ5_buildFromSorted_2_104 : decode cJ5_buildFromSorted_2 104 = .ok (.aload 6, 2) := dk_25 6 (dk_at dksJ5_buildFromSorted_2_4 14 rfl rfl)
theorem dJ5_buildFromSorted_2_106 : decode cJ5_buildFromSorted_2 106 = .ok (.invokevirtual 369, 3) := dk_182 1 113 (dk_at dksJ5_buildFromSorted_2_4 16 rfl rfl)
theorem dJ5_buildFromSorted_2_109 : decode cJ5_buildFromSorted_2 109 = .ok (.astore 10, 2) := dk_58 10 (dk_at dksJ5_buildFromSorted_2_4 19 rfl rfl)
theorem dJ5_buildFromSorted_2_111 : decode cJ5_buildFromSorted_2 111 = .ok (.aload 7, 2) := dk_25 7 (dk_at dksJ5_buildFromSorted_2_4 21 rfl rfl)
theorem dJ5_buildFromSorted_2_113 : decode cJ5_buildFromSorted_2 113 = .ok (.ifnull 8, 3) := dk_198 0 8 (dk_at dksJ5_buildFromSorted_2_5 0 rfl rfl)
theorem dJ5_buildFromSorted_2_116 : decode cJ5_buildFromSorted_2 116 = .ok (.aload 7, 2) := dk_25 7 (dk_at dksJ5_buildFromSorted_2_5 3 rfl rfl)
theorem dJ5_buildFromSorted_2_118 : decode cJ5_buildFromSorted_2 118 = .ok (.goto 8, 3) := dk_167 0 8 (dk_at dksJ5_buildFromSorted_2_5 5 rfl rfl)
theorem dJ5_buildFromSorted_2_121 : decode cJ5_buildFromSorted_2 121 = .ok (.aload 6, 2) := dk_25 6 (dk_at dksJ5_buildFromSorted_2_5 8 rfl rfl)
theorem dJ5_buildFromSorted_2_123 : decode cJ5_buildFromSorted_2 123 = .ok (.invokevirtual 369, 3) := dk_182 1 113 (dk_at dksJ5_buildFromSorted_2_5 10 rfl rfl)
theorem dJ5_buildFromSorted_2_126 : decode cJ5_buildFromSorted_2 126 = .ok (.astore 11, 2) := dk_58 11 (dk_at dksJ5_buildFromSorted_2_5 13 rfl rfl)
theorem dJ5_buildFromSorted_2_128 : decode cJ5_buildFromSorted_2 128 = .ok (.new 59, 3) := dk_187 0 59 (dk_at dksJ5_buildFromSorted_2_5 15 rfl rfl)
theorem dJ5_buildFromSorted_2_131 : decode cJ5_buildFromSorted_2 131 = .ok (.dup, 1) := dk_89 (dk_at dksJ5_buildFromSorted_2_5 18 rfl rfl)
theorem dJ5_buildFromSorted_2_132 : decode cJ5_buildFromSorted_2 132 = .ok (.aload 10, 2) := dk_25 10 (dk_at dksJ5_buildFromSorted_2_5 19 rfl rfl)
theorem dJ5_buildFromSorted_2_134 : decode cJ5_buildFromSorted_2 134 = .ok (.aload 11, 2) := dk_25 11 (dk_at dksJ5_buildFromSorted_2_5 21 rfl rfl)
theorem dJ5_buildFromSorted_2_136 : decode cJ5_buildFromSorted_2 136 = .ok (.aconst_null, 1) := dk_1 (dk_at dksJ5_buildFromSorted_2_5 23 rfl rfl)
theorem dJ5_buildFromSorted_2_137 : decode cJ5_buildFromSorted_2 137 = .ok (.invokespecial 167, 3) := dk_183 0 167 (dk_at dksJ5_buildFromSorted_2_6 0 rfl rfl)
theorem dJ5_buildFromSorted_2_140 : decode cJ5_buildFromSorted_2 140 = .ok (.astore 12, 2) := dk_58 12 (dk_at dksJ5_buildFromSorted_2_6 3 rfl rfl)
theorem dJ5_buildFromSorted_2_142 : decode cJ5_buildFromSorted_2 142 = .ok (.iload_n 1, 1) := dk_27 (dk_at dksJ5_buildFromSorted_2_6 5 rfl rfl)
theorem dJ5_buildFromSorted_2_143 : decode cJ5_buildFromSorted_2 143 = .ok (.iload 4, 2) := dk_21 4 (dk_at dksJ5_buildFromSorted_2_6 6 rfl rfl)
theorem dJ5_buildFromSorted_2_145 : decode cJ5_buildFromSorted_2 145 = .ok (.if_icmp .ne 9, 3) := dk_160 0 9 (dk_at dksJ5_buildFromSorted_2_6 8 rfl rfl)
theorem dJ5_buildFromSorted_2_148 : decode cJ5_buildFromSorted_2 148 = .ok (.aload 12, 2) := dk_25 12 (dk_at dksJ5_buildFromSorted_2_6 11 rfl rfl)
theorem dJ5_buildFromSorted_2_150 : decode cJ5_buildFromSorted_2 150 = .ok (.iconst 0, 1) := dk_3 (dk_at dksJ5_buildFromSorted_2_6 13 rfl rfl)
theorem dJ5_buildFromSorted_2_151 : decode cJ5_buildFromSorted_2 151 = .ok (.putfield 290, 3) := dk_181 1 34 (dk_at dksJ5_buildFromSorted_2_6 14 rfl rfl)
theorem dJ5_buildFromSorted_2_154 : decode cJ5_buildFromSorted_2 154 = .ok (.aload 9, 2) := dk_25 9 (dk_at dksJ5_buildFromSorted_2_6 17 rfl rfl)
theorem dJ5_buildFromSorted_2_156 : decode cJ5_buildFromSorted_2 156 = .ok (.ifnull 17, 3) := dk_198 0 17 (dk_at dksJ5_buildFromSorted_2_6 19 rfl rfl)
theorem dJ5_buildFromSorted_2_159 : decode cJ5_buildFromSorted_2 159 = .ok (.aload 12, 2) := dk_25 12 (dk_at dksJ5_buildFromSorted_2_6 22 rfl rfl)
theorem dJ5_buildFromSorted_2_161 : decode cJ5_buildFromSorted_2 161 = .ok (.aload 9, 2) := dk_25 9 (dk_at dksJ5_buildFromSorted_2_7 0 rfl rfl)
theorem dJ5_buildFromSorted_2_163 : decode cJ5_buildFromSorted_2 163 = .ok (.putfield 111, 3) := dk_181 0 111 (dk_at dksJ5_buildFromSorted_2_7 2 rfl rfl)
theorem dJ5_buildFromSorted_2_166 : decode cJ5_buildFromSorted_2 166 = .ok (.aload 9, 2) := dk_25 9 (dk_at dksJ5_buildFromSorted_2_7 5 rfl rfl)
theorem dJ5_buildFromSorted_2_168 : decode cJ5_buildFromSorted_2 168 = .ok (.aload 12, 2) := dk_25 12 (dk_at dksJ5_buildFromSorted_2_7 7 rfl rfl)
theorem dJ5_buildFromSorted_2_170 : decode cJ5_buildFromSorted_2 170 = .ok (.putfield 124, 3) := dk_181 0 124 (dk_at dksJ5_buildFromSorted_2_7 9 rfl rfl)
theorem dJ5_buildFromSorted_2_173 : decode cJ5_buildFromSorted_2 173 = .ok (.iload 8, 2) := dk_21 8 (dk_at dksJ5_buildFromSorted_2_7 12 rfl rfl)
theorem dJ5_buildFromSorted_2_175 : decode cJ5_buildFromSorted_2 175 = .ok (.iload_n 3, 1) := dk_29 (dk_at dksJ5_buildFromSorted_2_7 14 rfl rfl)
theorem dJ5_buildFromSorted_2_176 : decode cJ5_buildFromSorted_2 176 = .ok (.if_icmp .ge 39, 3) := dk_162 0 39 (dk_at dksJ5_buildFromSorted_2_7 15 rfl rfl)
theorem dJ5_buildFromSorted_2_179 : decode cJ5_buildFromSorted_2 179 = .ok (.aload_n 0, 1) := dk_42 (dk_at dksJ5_buildFromSorted_2_7 18 rfl rfl)
theorem dJ5_buildFromSorted_2_180 : decode cJ5_buildFromSorted_2 180 = .ok (.iload_n 1, 1) := dk_27 (dk_at dksJ5_buildFromSorted_2_7 19 rfl rfl)
theorem dJ5_buildFromSorted_2_181 : decode cJ5_buildFromSorted_2 181 = .ok (.iconst 1, 1) := dk_4 (dk_at dksJ5_buildFromSorted_2_7 20 rfl rfl)
theorem dJ5_buildFromSorted_2_182 : decode cJ5_buildFromSorted_2 182 = .ok (.iadd, 1) := dk_96 (dk_at dksJ5_buildFromSorted_2_7 21 rfl rfl)
theorem dJ5_buildFromSorted_2_183 : decode cJ5_buildFromSorted_2 183 = .ok (.iload 8, 2) := dk_21 8 (dk_at dksJ5_buildFromSorted_2_7 22 rfl rfl)
theorem dJ5_buildFromSorted_2_185 : decode cJ5_buildFromSorted_2 185 = .ok (.iconst 1, 1) := dk_4 (dk_at dksJ5_buildFromSorted_2_8 0 rfl rfl)
theorem dJ5_buildFromSorted_2_186 : decode cJ5_buildFromSorted_2 186 = .ok (.iadd, 1) := dk_96 (dk_at dksJ5_buildFromSorted_2_8 1 rfl rfl)
theorem dJ5_buildFromSorted_2_187 : decode cJ5_buildFromSorted_2 187 = .ok (.iload_n 3, 1) := dk_29 (dk_at dksJ5_buildFromSorted_2_8 2 rfl rfl)
theorem dJ5_buildFromSorted_2_188 : decode cJ5_buildFromSorted_2 188 = .ok (.iload 4, 2) := dk_21 4 (dk_at dksJ5_buildFromSorted_2_8 3 rfl rfl)
theorem dJ5_buildFromSorted_2_190 : decode cJ5_buildFromSorted_2 190 = .ok (.aload 5, 2) := dk_25 5 (dk_at dksJ5_buildFromSorted_2_8 5 rfl rfl)
theorem dJ5_buildFromSorted_2_192 : decode cJ5_buildFromSorted_2 192 = .ok (.aload 6, 2) := dk_25 6 (dk_at dksJ5_buildFromSorted_2_8 7 rfl rfl)
theorem dJ5_buildFromSorted_2_194 : decode cJ5_buildFromSorted_2 194 = .ok (.aload 7, 2) := dk_25 7 (dk_at dksJ5_buildFromSorted_2_8 9 rfl rfl)
theorem dJ5_buildFromSorted_2_196 : decode cJ5_buildFromSorted_2 196 = .ok (.invokevirtual 366, 3) := dk_182 1 110 (dk_at dksJ5_buildFromSorted_2_8 11 rfl rfl)
theorem dJ5_buildFromSorted_2_199 : decode cJ5_buildFromSorted_2 199 = .ok (.astore 13, 2) := dk_58 13 (dk_at dksJ5_buildFromSorted_2_8 14 rfl rfl)
theorem dJ5_buildFromSorted_2_201 : decode cJ5_buildFromSorted_2 201 = .ok (.aload 12, 2) := dk_25 12 (dk_at dksJ5_buildFromSorted_2_8 16 rfl rfl)
theorem dJ5_buildFromSorted_2_203 : decode cJ5_buildFromSorted_2 203 = .ok (.aload 13, 2) := dk_25 13 (dk_at dksJ5_buildFromSorted_2_8 18 rfl rfl)
theorem dJ5_buildFromSorted_2_205 : decode cJ5_buildFromSorted_2 205 = .ok (.putfield 114, 3) := dk_181 0 114 (dk_at dksJ5_buildFromSorted_2_8 20 rfl rfl)
theorem dJ5_buildFromSorted_2_208 : decode cJ5_buildFromSorted_2 208 = .ok (.aload 13, 2) := dk_25 13 (dk_at dksJ5_buildFromSorted_2_9 0 rfl rfl)
theorem dJ5_buildFromSorted_2_210 : decode cJ5_buildFromSorted_2 210 = .ok (.aload 12, 2) := dk_25 12 (dk_at dksJ5_buildFromSorted_2_9 2 rfl rfl)
theorem dJ5_buildFromSorted_2_212 : decode cJ5_buildFromSorted_2 212 = .ok (.putfield 124, 3) := dk_181 0 124 (dk_at dksJ5_buildFromSorted_2_9 4 rfl rfl)
theorem dJ5_buildFromSorted_2_215 : decode cJ5_buildFromSorted_2 215 = .ok (.aload 12, 2) := dk_25 12 (dk_at dksJ5_buildFromSorted_2_9 7 rfl rfl)
theorem dJ5_buildFromSorted_2_217 : decode cJ5_buildFromSorted_2 217 = .ok (.areturn, 1) := dk_176 (dk_at dksJ5_buildFromSorted_2_9 9 rfl rfl)
theorem q47 : (Jvm.Cond.initialized "java/util/TreeMap") ∈ lw_all := lw_g (lw_at lw_m1 7 rfl) rfl
theorem q135 : (Jvm.Cond.instantiable "java/util/TreeMap" (9 : Nat)) ∈ lw_all := lw_g (lw_at lw_m1 95 rfl) rfl
theorem q137 : (Jvm.Cond.instanceMethod ({ cls := "java/util/TreeMap", name := "<init>", desc := "()V" } : Jvm.MethodName)) ∈ lw_all := lw_g (lw_at lw_m1 97 rfl) rfl
theorem q138 : (Jvm.Cond.code ({ cls := "java/util/TreeMap", name := "<init>", desc := "()V" } : Jvm.MethodName) prog_60_method_1_code (1 : Nat) (Option.none : Option Jvm.ClassFile.FieldType)) ∈ lw_all := lw_g (lw_at lw_m1 98 rfl) rfl
theorem q139 : (Jvm.Cond.methodLink "java/util/TreeMap" (1 : Nat) ({ cls := "java/util/AbstractMap", name := "<init>", desc := "()V" } : Jvm.MethodName)) ∈ lw_all := lw_g (lw_at lw_m1 99 rfl) rfl
theorem q143 : (Jvm.Cond.fieldLink "java/util/TreeMap" (16 : Nat) "java/util/TreeMap" "comparator" "Ljava/util/Comparator;") ∈ lw_all := lw_g (lw_at lw_m1 103 rfl) rfl
theorem q144 : (Jvm.Cond.fieldLink "java/util/TreeMap" (101 : Nat) "java/util/TreeMap" "root" "Ljava/util/TreeMap$Entry;") ∈ lw_all := lw_g (lw_at lw_m1 104 rfl) rfl
theorem q145 : (Jvm.Cond.fieldLink "java/util/TreeMap" (7 : Nat) "java/util/TreeMap" "size" "I") ∈ lw_all := lw_g (lw_at lw_m1 105 rfl) rfl
theorem q146 : (Jvm.Cond.fieldLink "java/util/TreeMap" (13 : Nat) "java/util/TreeMap" "modCount" "I") ∈ lw_all := lw_g (lw_at lw_m1 106 rfl) rfl
theorem q150 : (Jvm.Cond.fieldLink "java/util/TreeMap" (188 : Nat) "java/util/TreeMap" "entrySet" "Ljava/util/TreeMap$EntrySet;") ∈ lw_all := lw_g (lw_at lw_m1 110 rfl) rfl
theorem q151 : (Jvm.Cond.fieldLink "java/util/TreeMap" (191 : Nat) "java/util/TreeMap" "navigableKeySet" "Ljava/util/TreeMap$KeySet;") ∈ lw_all := lw_g (lw_at lw_m1 111 rfl) rfl
theorem q153 : (Jvm.Cond.fieldLink "java/util/TreeMap" (233 : Nat) "java/util/TreeMap" "values" "Ljava/util/Collection;") ∈ lw_all := lw_g (lw_at lw_m1 113 rfl) rfl
theorem q154 : (Jvm.Cond.sameField "java/util/TreeMap" "java/util/AbstractMap" "values" "Ljava/util/Collection;") ∈ lw_all := lw_g (lw_at lw_m1 114 rfl) rfl
theorem q155 : (Jvm.Cond.laysFinal "java/util/TreeMap" "java/util/TreeMap" "comparator" "Ljava/util/Comparator;") ∈ lw_all := lw_g (lw_at lw_m1 115 rfl) rfl
theorem q156 : (Jvm.Cond.soleField "java/util/TreeMap" "comparator") ∈ lw_all := lw_g (lw_at lw_m1 116 rfl) rfl
theorem q157 : (Jvm.Cond.lays "java/util/TreeMap" "java/util/TreeMap" "root" "Ljava/util/TreeMap$Entry;") ∈ lw_all := lw_g (lw_at lw_m1 117 rfl) rfl
theorem q158 : (Jvm.Cond.soleField "java/util/TreeMap" "root") ∈ lw_all := lw_g (lw_at lw_m1 118 rfl) rfl
theorem q159 : (Jvm.Cond.lays "java/util/TreeMap" "java/util/TreeMap" "size" "I") ∈ lw_all := lw_g (lw_at lw_m1 119 rfl) rfl
theorem q160 : (Jvm.Cond.soleField "java/util/TreeMap" "size") ∈ lw_all := lw_g (lw_at lw_m1 120 rfl) rfl
theorem q161 : (Jvm.Cond.lays "java/util/TreeMap" "java/util/TreeMap" "modCount" "I") ∈ lw_all := lw_g (lw_at lw_m1 121 rfl) rfl
theorem q162 : (Jvm.Cond.soleField "java/util/TreeMap" "modCount") ∈ lw_all := lw_g (lw_at lw_m1 122 rfl) rfl
theorem q163 : (Jvm.Cond.lays "java/util/TreeMap" "java/util/TreeMap" "entrySet" "Ljava/util/TreeMap$EntrySet;") ∈ lw_all := lw_g (lw_at lw_m1 123 rfl) rfl
theorem q164 : (Jvm.Cond.soleField "java/util/TreeMap" "entrySet") ∈ lw_all := lw_g (lw_at lw_m1 124 rfl) rfl
theorem q165 : (Jvm.Cond.lays "java/util/TreeMap" "java/util/TreeMap" "navigableKeySet" "Ljava/util/TreeMap$KeySet;") ∈ lw_all := lw_g (lw_at lw_m1 125 rfl) rfl
theorem q166 : (Jvm.Cond.soleField "java/util/TreeMap" "navigableKeySet") ∈ lw_all := lw_g (lw_at lw_m1 126 rfl) rfl
theorem q167 : (Jvm.Cond.lays "java/util/TreeMap" "java/util/TreeMap" "descendingMap" "Ljava/util/NavigableMap;") ∈ lw_all := lw_g (lw_at lw_m1 127 rfl) rfl
theorem q168 : (Jvm.Cond.soleField "java/util/TreeMap" "descendingMap") ∈ lw_all := lw_g (lw_at lw_m1 128 rfl) rfl
theorem q169 : (Jvm.Cond.lays "java/util/TreeMap" "java/util/AbstractMap" "keySet" "Ljava/util/Set;") ∈ lw_all := lw_g (lw_at lw_m1 129 rfl) rfl
theorem q171 : (Jvm.Cond.lays "java/util/TreeMap" "java/util/AbstractMap" "values" "Ljava/util/Collection;") ∈ lw_all := lw_g (lw_at lw_m1 131 rfl) rfl
theorem q173 : (Jvm.Cond.superclass "java/util/TreeMap" "java/util/AbstractMap") ∈ lw_all := lw_g (lw_at lw_m1 133 rfl) rfl
theorem q615 : (Jvm.Cond.instanceMethod ({ cls := "java/util/TreeMap", name := "size", desc := "()I" } : Jvm.MethodName)) ∈ lw_all := lw_g (lw_at lw_m3 95 rfl) rfl
theorem q616 : (Jvm.Cond.selects "java/util/TreeMap" ({ cls := "java/util/TreeMap", name := "size", desc := "()I" } : Jvm.MethodName) ({ cls := "java/util/TreeMap", name := "size", desc := "()I" } : Jvm.MethodName)) ∈ lw_all := lw_g (lw_at lw_m3 96 rfl) rfl
theorem q617 : (Jvm.Cond.code ({ cls := "java/util/TreeMap", name := "size", desc := "()I" } : Jvm.MethodName) prog_60_method_5_code (1 : Nat) (Option.some Jvm.ClassFile.FieldType.int)) ∈ lw_all := lw_g (lw_at lw_m3 97 rfl) rfl
theorem q623 : (Jvm.Cond.instanceMethod ({ cls := "java/util/TreeMap", name := "headMap", desc := "(Ljava/lang/Object;)Ljava/util/SortedMap;" } : Jvm.MethodName)) ∈ lw_all := lw_g (lw_at lw_m3 103 rfl) rfl
theorem q624 : (Jvm.Cond.selects "java/util/TreeMap" ({ cls := "java/util/TreeMap", name := "headMap", desc := "(Ljava/lang/Object;)Ljava/util/SortedMap;" } : Jvm.MethodName) ({ cls := "java/util/TreeMap", name := "headMap", desc := "(Ljava/lang/Object;)Ljava/util/SortedMap;" } : Jvm.MethodName)) ∈ lw_all := lw_g (lw_at lw_m3 104 rfl) rfl
theorem q625 : (Jvm.Cond.code ({ cls := "java/util/TreeMap", name := "headMap", desc := "(Ljava/lang/Object;)Ljava/util/SortedMap;" } : Jvm.MethodName) prog_60_method_59_code (2 : Nat) (Option.some (Jvm.ClassFile.FieldType.object "java/util/SortedMap"))) ∈ lw_all := lw_g (lw_at lw_m3 105 rfl) rfl
theorem q626 : (Jvm.Cond.methodLink "java/util/TreeMap" (257 : Nat) ({ cls := "java/util/TreeMap", name := "headMap", desc := "(Ljava/lang/Object;Z)Ljava/util/NavigableMap;" } : Jvm.MethodName)) ∈ lw_all := lw_g (lw_at lw_m3 106 rfl) rfl
theorem q627 : (Jvm.Cond.instanceMethod ({ cls := "java/util/TreeMap", name := "headMap", desc := "(Ljava/lang/Object;Z)Ljava/util/NavigableMap;" } : Jvm.MethodName)) ∈ lw_all := lw_g (lw_at lw_m3 107 rfl) rfl
theorem q628 : (Jvm.Cond.selects "java/util/TreeMap" ({ cls := "java/util/TreeMap", name := "headMap", desc := "(Ljava/lang/Object;Z)Ljava/util/NavigableMap;" } : Jvm.MethodName) ({ cls := "java/util/TreeMap", name := "headMap", desc := "(Ljava/lang/Object;Z)Ljava/util/NavigableMap;" } : Jvm.MethodName)) ∈ lw_all := lw_g (lw_at lw_m3 108 rfl) rfl
theorem q629 : (Jvm.Cond.code ({ cls := "java/util/TreeMap", name := "headMap", desc := "(Ljava/lang/Object;Z)Ljava/util/NavigableMap;" } : Jvm.MethodName) prog_60_method_56_code (3 : Nat) (Option.some (Jvm.ClassFile.FieldType.object "java/util/NavigableMap"))) ∈ lw_all := lw_g (lw_at lw_m3 109 rfl) rfl
theorem q630 : (Jvm.Cond.classLink "java/util/TreeMap" (250 : Nat) "java/util/TreeMap$AscendingSubMap") ∈ lw_all := lw_g (lw_at lw_m3 110 rfl) rfl
theorem q632 : (Jvm.Cond.methodLink "java/util/TreeMap" (252 : Nat) ({ cls := "java/util/TreeMap$AscendingSubMap", name := "<init>", desc := "(Ljava/util/TreeMap;ZLjava/lang/Object;ZZLjava/lang/Object;Z)V" } : Jvm.MethodName)) ∈ lw_all := lw_g (lw_at lw_m3 112 rfl) rfl
theorem q640 : (Jvm.Cond.instanceMethod ({ cls := "java/util/TreeMap", name := "compare", desc := "(Ljava/lang/Object;Ljava/lang/Object;)I" } : Jvm.MethodName)) ∈ lw_all := lw_g (lw_at lw_m3 120 rfl) rfl
theorem q641 : (Jvm.Cond.selects "java/util/TreeMap" ({ cls := "java/util/TreeMap", name := "compare", desc := "(Ljava/lang/Object;Ljava/lang/Object;)I" } : Jvm.MethodName) ({ cls := "java/util/TreeMap", name := "compare", desc := "(Ljava/lang/Object;Ljava/lang/Object;)I" } : Jvm.MethodName)) ∈ lw_all := lw_g (lw_at lw_m3 121 rfl) rfl
theorem q642 : (Jvm.Cond.code ({ cls := "java/util/TreeMap", name := "compare", desc := "(Ljava/lang/Object;Ljava/lang/Object;)I" } : Jvm.MethodName) prog_60_method_67_code (3 : Nat) (Option.some Jvm.ClassFile.FieldType.int)) ∈ lw_all := lw_g (lw_at lw_m3 122 rfl) rfl
theorem q643 : (Jvm.Cond.classLink "java/util/TreeMap" (99 : Nat) "java/lang/Comparable") ∈ lw_all := lw_g (lw_at lw_m3 123 rfl) rfl
theorem q644 : (Jvm.Cond.interfaceEntry "java/util/TreeMap" (107 : Nat)) ∈ lw_tbl := lw_at lw_m3 124 rfl
theorem q645 : (Jvm.Cond.methodLink "java/util/TreeMap" (107 : Nat) ({ cls := "java/lang/Comparable", name := "compareTo", desc := "(Ljava/lang/Object;)I" } : Jvm.MethodName)) ∈ lw_all := lw_g (lw_at lw_m3 125 rfl) rfl
theorem q834 : (Jvm.Cond.interfaceEntry "java/util/TreeMap" (117 : Nat)) ∈ lw_tbl := lw_at lw_m4 74 rfl
theorem q835 : (Jvm.Cond.methodLink "java/util/TreeMap" (117 : Nat) ({ cls := "java/util/Comparator", name := "compare", desc := "(Ljava/lang/Object;Ljava/lang/Object;)I" } : Jvm.MethodName)) ∈ lw_all := lw_g (lw_at lw_m4 75 rfl) rfl
theorem q882 : (Jvm.Cond.castable "java/util/TreeMap" "java/util/SortedMap") ∈ lw_tbl := lw_at lw_m4 122 rfl
theorem q883 : (Jvm.Cond.selects "java/util/TreeMap" ({ cls := "java/util/Map", name := "size", desc := "()I" } : Jvm.MethodName) ({ cls := "java/util/TreeMap", name := "size", desc := "()I" } : Jvm.MethodName)) ∈ lw_all := lw_g (lw_at lw_m4 123 rfl) rfl
theorem q884 : (Jvm.Cond.unhidden "java/util/TreeMap" "size" "()I") ∈ lw_tbl := lw_at lw_m4 124 rfl
theorem q885 : (Jvm.Cond.publicMethod ({ cls := "java/util/TreeMap", name := "size", desc := "()I" } : Jvm.MethodName)) ∈ lw_tbl := lw_at lw_m4 125 rfl
theorem q953 : (Jvm.Cond.instanceMethod ({ cls := "java/util/TreeMap", name := "getFirstEntry", desc := "()Ljava/util/TreeMap$Entry;" } : Jvm.MethodName)) ∈ lw_all := lw_g (lw_at lw_m4 193 rfl) rfl
theorem q954 : (Jvm.Cond.selects "java/util/TreeMap" ({ cls := "java/util/TreeMap", name := "getFirstEntry", desc := "()Ljava/util/TreeMap$Entry;" } : Jvm.MethodName) ({ cls := "java/util/TreeMap", name := "getFirstEntry", desc := "()Ljava/util/TreeMap$Entry;" } : Jvm.MethodName)) ∈ lw_all := lw_g (lw_at lw_m4 194 rfl) rfl
theorem q955 : (Jvm.Cond.code ({ cls := "java/util/TreeMap", name := "getFirstEntry", desc := "()Ljava/util/TreeMap$Entry;" } : Jvm.MethodName) prog_60_method_72_code (2 : Nat) (Option.some (Jvm.ClassFile.FieldType.object "java/util/TreeMap$Entry"))) ∈ lw_all := lw_g (lw_at lw_m4 195 rfl) rfl
theorem q957 : (Jvm.Cond.instanceMethod ({ cls := "java/util/TreeMap", name := "getCeilingEntry", desc := "(Ljava/lang/Object;)Ljava/util/TreeMap$Entry;" } : Jvm.MethodName)) ∈ lw_all := lw_g (lw_at lw_m4 197 rfl) rfl
theorem q958 : (Jvm.Cond.selects "java/util/TreeMap" ({ cls := "java/util/TreeMap", name := "getCeilingEntry", desc := "(Ljava/lang/Object;)Ljava/util/TreeMap$Entry;" } : Jvm.MethodName) ({ cls := "java/util/TreeMap", name := "getCeilingEntry", desc := "(Ljava/lang/Object;)Ljava/util/TreeMap$Entry;" } : Jvm.MethodName)) ∈ lw_all := lw_g (lw_at lw_m4 198 rfl) rfl
theorem q959 : (Jvm.Cond.code ({ cls := "java/util/TreeMap", name := "getCeilingEntry", desc := "(Ljava/lang/Object;)Ljava/util/TreeMap$Entry;" } : Jvm.MethodName) prog_60_method_17_code (6 : Nat) (Option.some (Jvm.ClassFile.FieldType.object "java/util/TreeMap$Entry"))) ∈ lw_all := lw_g (lw_at lw_m4 199 rfl) rfl
theorem q960 : (Jvm.Cond.methodLink "java/util/TreeMap" (123 : Nat) ({ cls := "java/util/TreeMap", name := "compare", desc := "(Ljava/lang/Object;Ljava/lang/Object;)I" } : Jvm.MethodName)) ∈ lw_all := lw_g (lw_at lw_m4 200 rfl) rfl
theorem q962 : (Jvm.Cond.instanceMethod ({ cls := "java/util/TreeMap", name := "getHigherEntry", desc := "(Ljava/lang/Object;)Ljava/util/TreeMap$Entry;" } : Jvm.MethodName)) ∈ lw_all := lw_g (lw_at lw_m4 202 rfl) rfl
theorem q963 : (Jvm.Cond.selects "java/util/TreeMap" ({ cls := "java/util/TreeMap", name := "getHigherEntry", desc := "(Ljava/lang/Object;)Ljava/util/TreeMap$Entry;" } : Jvm.MethodName) ({ cls := "java/util/TreeMap", name := "getHigherEntry", desc := "(Ljava/lang/Object;)Ljava/util/TreeMap$Entry;" } : Jvm.MethodName)) ∈ lw_all := lw_g (lw_at lw_m4 203 rfl) rfl
theorem q964 : (Jvm.Cond.code ({ cls := "java/util/TreeMap", name := "getHigherEntry", desc := "(Ljava/lang/Object;)Ljava/util/TreeMap$Entry;" } : Jvm.MethodName) prog_60_method_19_code (6 : Nat) (Option.some (Jvm.ClassFile.FieldType.object "java/util/TreeMap$Entry"))) ∈ lw_all := lw_g (lw_at lw_m4 204 rfl) rfl
theorem q984 : (Jvm.Cond.laysStatic "java/util/TreeMap" "UNBOUNDED" "Ljava/lang/Object;") ∈ lw_tbl := lw_at lw_m4 224 rfl
theorem q1082 : (Jvm.Cond.static ({ cls := "java/util/TreeMap", name := "successor", desc := "(Ljava/util/TreeMap$Entry;)Ljava/util/TreeMap$Entry;" } : Jvm.MethodName)) ∈ lw_all := lw_g (lw_at lw_m5 82 rfl) rfl
theorem q1083 : (Jvm.Cond.code ({ cls := "java/util/TreeMap", name := "successor", desc := "(Ljava/util/TreeMap$Entry;)Ljava/util/TreeMap$Entry;" } : Jvm.MethodName) prog_60_method_74_code (3 : Nat) (Option.some (Jvm.ClassFile.FieldType.object "java/util/TreeMap$Entry"))) ∈ lw_all := lw_g (lw_at lw_m5 83 rfl) rfl
theorem q1157 : (Jvm.Cond.castable "java/util/TreeMap" "java/util/NavigableMap") ∈ lw_tbl := lw_at lw_m5 157 rfl
theorem q1194 : (Jvm.Cond.instanceMethod ({ cls := "java/util/TreeMap", name := "subMap", desc := "(Ljava/lang/Object;Ljava/lang/Object;)Ljava/util/SortedMap;" } : Jvm.MethodName)) ∈ lw_all := lw_g (lw_at lw_m5 194 rfl) rfl
theorem q1195 : (Jvm.Cond.selects "java/util/TreeMap" ({ cls := "java/util/TreeMap", name := "subMap", desc := "(Ljava/lang/Object;Ljava/lang/Object;)Ljava/util/SortedMap;" } : Jvm.MethodName) ({ cls := "java/util/TreeMap", name := "subMap", desc := "(Ljava/lang/Object;Ljava/lang/Object;)Ljava/util/SortedMap;" } : Jvm.MethodName)) ∈ lw_all := lw_g (lw_at lw_m5 195 rfl) rfl
theorem q1196 : (Jvm.Cond.code ({ cls := "java/util/TreeMap", name := "subMap", desc := "(Ljava/lang/Object;Ljava/lang/Object;)Ljava/util/SortedMap;" } : Jvm.MethodName) prog_60_method_58_code (3 : Nat) (Option.some (Jvm.ClassFile.FieldType.object "java/util/SortedMap"))) ∈ lw_all := lw_g (lw_at lw_m5 196 rfl) rfl
theorem q1197 : (Jvm.Cond.methodLink "java/util/TreeMap" (253 : Nat) ({ cls := "java/util/TreeMap", name := "subMap", desc := "(Ljava/lang/Object;ZLjava/lang/Object;Z)Ljava/util/NavigableMap;" } : Jvm.MethodName)) ∈ lw_all := lw_g (lw_at lw_m5 197 rfl) rfl
theorem q1198 : (Jvm.Cond.instanceMethod ({ cls := "java/util/TreeMap", name := "subMap", desc := "(Ljava/lang/Object;ZLjava/lang/Object;Z)Ljava/util/NavigableMap;" } : Jvm.MethodName)) ∈ lw_all := lw_g (lw_at lw_m5 198 rfl) rfl
theorem q1199 : (Jvm.Cond.selects "java/util/TreeMap" ({ cls := "java/util/TreeMap", name := "subMap", desc := "(Ljava/lang/Object;ZLjava/lang/Object;Z)Ljava/util/NavigableMap;" } : Jvm.MethodName) ({ cls := "java/util/TreeMap", name := "subMap", desc := "(Ljava/lang/Object;ZLjava/lang/Object;Z)Ljava/util/NavigableMap;" } : Jvm.MethodName)) ∈ lw_all := lw_g (lw_at lw_m5 199 rfl) rfl
theorem q1200 : (Jvm.Cond.code ({ cls := "java/util/TreeMap", name := "subMap", desc := "(Ljava/lang/Object;ZLjava/lang/Object;Z)Ljava/util/NavigableMap;" } : Jvm.MethodName) prog_60_method_55_code (5 : Nat) (Option.some (Jvm.ClassFile.FieldType.object "java/util/NavigableMap"))) ∈ lw_all := lw_g (lw_at lw_m5 200 rfl) rfl
theorem q1209 : (Jvm.Cond.selects "java/util/TreeMap" ({ cls := "java/util/SortedMap", name := "values", desc := "()Ljava/util/Collection;" } : Jvm.MethodName) ({ cls := "java/util/TreeMap", name := "values", desc := "()Ljava/util/Collection;" } : Jvm.MethodName)) ∈ lw_all := lw_g (lw_at lw_m5 209 rfl) rfl
theorem q1210 : (Jvm.Cond.unhidden "java/util/TreeMap" "values" "()Ljava/util/Collection;") ∈ lw_tbl := lw_at lw_m5 210 rfl
theorem q1211 : (Jvm.Cond.instanceMethod ({ cls := "java/util/TreeMap", name := "values", desc := "()Ljava/util/Collection;" } : Jvm.MethodName)) ∈ lw_all := lw_g (lw_at lw_m5 211 rfl) rfl
theorem q1212 : (Jvm.Cond.publicMethod ({ cls := "java/util/TreeMap", name := "values", desc := "()Ljava/util/Collection;" } : Jvm.MethodName)) ∈ lw_tbl := lw_at lw_m5 212 rfl
theorem q1213 : (Jvm.Cond.code ({ cls := "java/util/TreeMap", name := "values", desc := "()Ljava/util/Collection;" } : Jvm.MethodName) prog_60_method_52_code (2 : Nat) (Option.some (Jvm.ClassFile.FieldType.object "java/util/Collection"))) ∈ lw_all := lw_g (lw_at lw_m5 213 rfl) rfl
theorem q1214 : (Jvm.Cond.classLink "java/util/TreeMap" (237 : Nat) "java/util/TreeMap$Values") ∈ lw_all := lw_g (lw_at lw_m5 214 rfl) rfl
theorem q1216 : (Jvm.Cond.methodLink "java/util/TreeMap" (239 : Nat) ({ cls := "java/util/TreeMap$Values", name := "<init>", desc := "(Ljava/util/TreeMap;)V" } : Jvm.MethodName)) ∈ lw_all := lw_g (lw_at lw_m5 216 rfl) rfl
theorem q1257 : (Jvm.Cond.instanceMethod ({ cls := "java/util/TreeMap", name := "entrySet", desc := "()Ljava/util/Set;" } : Jvm.MethodName)) ∈ lw_all := lw_g (lw_at lw_m6 17 rfl) rfl
theorem q1258 : (Jvm.Cond.code ({ cls := "java/util/TreeMap", name := "entrySet", desc := "()Ljava/util/Set;" } : Jvm.MethodName) prog_60_method_53_code (2 : Nat) (Option.some (Jvm.ClassFile.FieldType.object "java/util/Set"))) ∈ lw_all := lw_g (lw_at lw_m6 18 rfl) rfl
theorem q1259 : (Jvm.Cond.classLink "java/util/TreeMap" (242 : Nat) "java/util/TreeMap$EntrySet") ∈ lw_all := lw_g (lw_at lw_m6 19 rfl) rfl
theorem q1261 : (Jvm.Cond.methodLink "java/util/TreeMap" (244 : Nat) ({ cls := "java/util/TreeMap$EntrySet", name := "<init>", desc := "(Ljava/util/TreeMap;)V" } : Jvm.MethodName)) ∈ lw_all := lw_g (lw_at lw_m6 21 rfl) rfl
theorem q1311 : (Jvm.Cond.instanceMethod ({ cls := "java/util/TreeMap", name := "keyIterator", desc := "()Ljava/util/Iterator;" } : Jvm.MethodName)) ∈ lw_all := lw_g (lw_at lw_m6 71 rfl) rfl
theorem q1312 : (Jvm.Cond.selects "java/util/TreeMap" ({ cls := "java/util/TreeMap", name := "keyIterator", desc := "()Ljava/util/Iterator;" } : Jvm.MethodName) ({ cls := "java/util/TreeMap", name := "keyIterator", desc := "()Ljava/util/Iterator;" } : Jvm.MethodName)) ∈ lw_all := lw_g (lw_at lw_m6 72 rfl) rfl
theorem q1313 : (Jvm.Cond.code ({ cls := "java/util/TreeMap", name := "keyIterator", desc := "()Ljava/util/Iterator;" } : Jvm.MethodName) prog_60_method_65_code (1 : Nat) (Option.some (Jvm.ClassFile.FieldType.object "java/util/Iterator"))) ∈ lw_all := lw_g (lw_at lw_m6 73 rfl) rfl
theorem q1314 : (Jvm.Cond.classLink "java/util/TreeMap" (269 : Nat) "java/util/TreeMap$KeyIterator") ∈ lw_all := lw_g (lw_at lw_m6 74 rfl) rfl
theorem q1316 : (Jvm.Cond.methodLink "java/util/TreeMap" (54 : Nat) ({ cls := "java/util/TreeMap", name := "getFirstEntry", desc := "()Ljava/util/TreeMap$Entry;" } : Jvm.MethodName)) ∈ lw_all := lw_g (lw_at lw_m6 76 rfl) rfl
theorem q1317 : (Jvm.Cond.methodLink "java/util/TreeMap" (271 : Nat) ({ cls := "java/util/TreeMap$KeyIterator", name := "<init>", desc := "(Ljava/util/TreeMap;Ljava/util/TreeMap$Entry;)V" } : Jvm.MethodName)) ∈ lw_all := lw_g (lw_at lw_m6 77 rfl) rfl
theorem q1397 : (Jvm.Cond.selects "java/util/TreeMap" ({ cls := "java/util/Map", name := "clear", desc := "()V" } : Jvm.MethodName) ({ cls := "java/util/TreeMap", name := "clear", desc := "()V" } : Jvm.MethodName)) ∈ lw_all := lw_g (lw_at lw_m6 157 rfl) rfl
theorem q1398 : (Jvm.Cond.unhidden "java/util/TreeMap" "clear" "()V") ∈ lw_tbl := lw_at lw_m6 158 rfl
theorem q1399 : (Jvm.Cond.instanceMethod ({ cls := "java/util/TreeMap", name := "clear", desc := "()V" } : Jvm.MethodName)) ∈ lw_all := lw_g (lw_at lw_m6 159 rfl) rfl
theorem q1400 : (Jvm.Cond.publicMethod ({ cls := "java/util/TreeMap", name := "clear", desc := "()V" } : Jvm.MethodName)) ∈ lw_tbl := lw_at lw_m6 160 rfl
theorem q1401 : (Jvm.Cond.code ({ cls := "java/util/TreeMap", name := "clear", desc := "()V" } : Jvm.MethodName) prog_60_method_35_code (1 : Nat) (Option.none : Option Jvm.ClassFile.FieldType)) ∈ lw_all := lw_g (lw_at lw_m6 161 rfl) rfl
theorem q1454 : (Jvm.Cond.privateMethod ({ cls := "java/util/TreeMap", name := "deleteEntry", desc := "(Ljava/util/TreeMap$Entry;)V" } : Jvm.MethodName)) ∈ lw_tbl := lw_at lw_m6 214 rfl
theorem q1455 : (Jvm.Cond.instanceMethod ({ cls := "java/util/TreeMap", name := "deleteEntry", desc := "(Ljava/util/TreeMap$Entry;)V" } : Jvm.MethodName)) ∈ lw_all := lw_g (lw_at lw_m6 215 rfl) rfl
theorem q1456 : (Jvm.Cond.code ({ cls := "java/util/TreeMap", name := "deleteEntry", desc := "(Ljava/util/TreeMap$Entry;)V" } : Jvm.MethodName) prog_60_method_84_code (3 : Nat) (Option.none : Option Jvm.ClassFile.FieldType)) ∈ lw_all := lw_g (lw_at lw_m6 216 rfl) rfl
theorem q1457 : (Jvm.Cond.methodLink "java/util/TreeMap" (68 : Nat) ({ cls := "java/util/TreeMap", name := "successor", desc := "(Ljava/util/TreeMap$Entry;)Ljava/util/TreeMap$Entry;" } : Jvm.MethodName)) ∈ lw_all := lw_g (lw_at lw_m6 217 rfl) rfl
theorem q1458 : (Jvm.Cond.methodLink "java/util/TreeMap" (317 : Nat) ({ cls := "java/util/TreeMap", name := "fixAfterDeletion", desc := "(Ljava/util/TreeMap$Entry;)V" } : Jvm.MethodName)) ∈ lw_all := lw_g (lw_at lw_m6 218 rfl) rfl
theorem q1459 : (Jvm.Cond.privateMethod ({ cls := "java/util/TreeMap", name := "fixAfterDeletion", desc := "(Ljava/util/TreeMap$Entry;)V" } : Jvm.MethodName)) ∈ lw_tbl := lw_at lw_m6 219 rfl
theorem q1460 : (Jvm.Cond.instanceMethod ({ cls := "java/util/TreeMap", name := "fixAfterDeletion", desc := "(Ljava/util/TreeMap$Entry;)V" } : Jvm.MethodName)) ∈ lw_all := lw_g (lw_at lw_m6 220 rfl) rfl
theorem q1461 : (Jvm.Cond.code ({ cls := "java/util/TreeMap", name := "fixAfterDeletion", desc := "(Ljava/util/TreeMap$Entry;)V" } : Jvm.MethodName) prog_60_method_85_code (3 : Nat) (Option.none : Option Jvm.ClassFile.FieldType)) ∈ lw_all := lw_g (lw_at lw_m6 221 rfl) rfl
theorem q1462 : (Jvm.Cond.methodLink "java/util/TreeMap" (303 : Nat) ({ cls := "java/util/TreeMap", name := "colorOf", desc := "(Ljava/util/TreeMap$Entry;)Z" } : Jvm.MethodName)) ∈ lw_all := lw_g (lw_at lw_m6 222 rfl) rfl
theorem q1463 : (Jvm.Cond.static ({ cls := "java/util/TreeMap", name := "colorOf", desc := "(Ljava/util/TreeMap$Entry;)Z" } : Jvm.MethodName)) ∈ lw_all := lw_g (lw_at lw_m6 223 rfl) rfl
theorem q1464 : (Jvm.Cond.code ({ cls := "java/util/TreeMap", name := "colorOf", desc := "(Ljava/util/TreeMap$Entry;)Z" } : Jvm.MethodName) prog_60_method_76_code (1 : Nat) (Option.some Jvm.ClassFile.FieldType.boolean)) ∈ lw_all := lw_g (lw_at lw_m6 224 rfl) rfl
theorem q1465 : (Jvm.Cond.methodLink "java/util/TreeMap" (294 : Nat) ({ cls := "java/util/TreeMap", name := "parentOf", desc := "(Ljava/util/TreeMap$Entry;)Ljava/util/TreeMap$Entry;" } : Jvm.MethodName)) ∈ lw_all := lw_g (lw_at lw_m6 225 rfl) rfl
theorem q1466 : (Jvm.Cond.static ({ cls := "java/util/TreeMap", name := "parentOf", desc := "(Ljava/util/TreeMap$Entry;)Ljava/util/TreeMap$Entry;" } : Jvm.MethodName)) ∈ lw_all := lw_g (lw_at lw_m6 226 rfl) rfl
theorem q1467 : (Jvm.Cond.code ({ cls := "java/util/TreeMap", name := "parentOf", desc := "(Ljava/util/TreeMap$Entry;)Ljava/util/TreeMap$Entry;" } : Jvm.MethodName) prog_60_method_77_code (1 : Nat) (Option.some (Jvm.ClassFile.FieldType.object "java/util/TreeMap$Entry"))) ∈ lw_all := lw_g (lw_at lw_m6 227 rfl) rfl
theorem q1468 : (Jvm.Cond.methodLink "java/util/TreeMap" (297 : Nat) ({ cls := "java/util/TreeMap", name := "leftOf", desc := "(Ljava/util/TreeMap$Entry;)Ljava/util/TreeMap$Entry;" } : Jvm.MethodName)) ∈ lw_all := lw_g (lw_at lw_m6 228 rfl) rfl
theorem q1469 : (Jvm.Cond.static ({ cls := "java/util/TreeMap", name := "leftOf", desc := "(Ljava/util/TreeMap$Entry;)Ljava/util/TreeMap$Entry;" } : Jvm.MethodName)) ∈ lw_all := lw_g (lw_at lw_m6 229 rfl) rfl
theorem q1470 : (Jvm.Cond.code ({ cls := "java/util/TreeMap", name := "leftOf", desc := "(Ljava/util/TreeMap$Entry;)Ljava/util/TreeMap$Entry;" } : Jvm.MethodName) prog_60_method_79_code (1 : Nat) (Option.some (Jvm.ClassFile.FieldType.object "java/util/TreeMap$Entry"))) ∈ lw_all := lw_g (lw_at lw_m6 230 rfl) rfl
theorem q1471 : (Jvm.Cond.methodLink "java/util/TreeMap" (300 : Nat) ({ cls := "java/util/TreeMap", name := "rightOf", desc := "(Ljava/util/TreeMap$Entry;)Ljava/util/TreeMap$Entry;" } : Jvm.MethodName)) ∈ lw_all := lw_g (lw_at lw_m6 231 rfl) rfl
theorem q1472 : (Jvm.Cond.static ({ cls := "java/util/TreeMap", name := "rightOf", desc := "(Ljava/util/TreeMap$Entry;)Ljava/util/TreeMap$Entry;" } : Jvm.MethodName)) ∈ lw_all := lw_g (lw_at lw_m6 232 rfl) rfl
theorem q1473 : (Jvm.Cond.code ({ cls := "java/util/TreeMap", name := "rightOf", desc := "(Ljava/util/TreeMap$Entry;)Ljava/util/TreeMap$Entry;" } : Jvm.MethodName) prog_60_method_80_code (1 : Nat) (Option.some (Jvm.ClassFile.FieldType.object "java/util/TreeMap$Entry"))) ∈ lw_all := lw_g (lw_at lw_m6 233 rfl) rfl
theorem q1474 : (Jvm.Cond.methodLink "java/util/TreeMap" (307 : Nat) ({ cls := "java/util/TreeMap", name := "setColor", desc := "(Ljava/util/TreeMap$Entry;Z)V" } : Jvm.MethodName)) ∈ lw_all := lw_g (lw_at lw_m6 234 rfl) rfl
theorem q1475 : (Jvm.Cond.static ({ cls := "java/util/TreeMap", name := "setColor", desc := "(Ljava/util/TreeMap$Entry;Z)V" } : Jvm.MethodName)) ∈ lw_all := lw_g (lw_at lw_m6 235 rfl) rfl
theorem q1476 : (Jvm.Cond.code ({ cls := "java/util/TreeMap", name := "setColor", desc := "(Ljava/util/TreeMap$Entry;Z)V" } : Jvm.MethodName) prog_60_method_78_code (2 : Nat) (Option.none : Option Jvm.ClassFile.FieldType)) ∈ lw_all := lw_g (lw_at lw_m6 236 rfl) rfl
theorem q1477 : (Jvm.Cond.methodLink "java/util/TreeMap" (311 : Nat) ({ cls := "java/util/TreeMap", name := "rotateLeft", desc := "(Ljava/util/TreeMap$Entry;)V" } : Jvm.MethodName)) ∈ lw_all := lw_g (lw_at lw_m6 237 rfl) rfl
theorem q1478 : (Jvm.Cond.privateMethod ({ cls := "java/util/TreeMap", name := "rotateLeft", desc := "(Ljava/util/TreeMap$Entry;)V" } : Jvm.MethodName)) ∈ lw_tbl := lw_at lw_m6 238 rfl
theorem q1479 : (Jvm.Cond.instanceMethod ({ cls := "java/util/TreeMap", name := "rotateLeft", desc := "(Ljava/util/TreeMap$Entry;)V" } : Jvm.MethodName)) ∈ lw_all := lw_g (lw_at lw_m6 239 rfl) rfl
theorem q1480 : (Jvm.Cond.code ({ cls := "java/util/TreeMap", name := "rotateLeft", desc := "(Ljava/util/TreeMap$Entry;)V" } : Jvm.MethodName) prog_60_method_81_code (3 : Nat) (Option.none : Option Jvm.ClassFile.FieldType)) ∈ lw_all := lw_g (lw_at lw_m7 0 rfl) rfl
theorem q1481 : (Jvm.Cond.methodLink "java/util/TreeMap" (314 : Nat) ({ cls := "java/util/TreeMap", name := "rotateRight", desc := "(Ljava/util/TreeMap$Entry;)V" } : Jvm.MethodName)) ∈ lw_all := lw_g (lw_at lw_m7 1 rfl) rfl
theorem q1482 : (Jvm.Cond.privateMethod ({ cls := "java/util/TreeMap", name := "rotateRight", desc := "(Ljava/util/TreeMap$Entry;)V" } : Jvm.MethodName)) ∈ lw_tbl := lw_at lw_m7 2 rfl
theorem q1483 : (Jvm.Cond.instanceMethod ({ cls := "java/util/TreeMap", name := "rotateRight", desc := "(Ljava/util/TreeMap$Entry;)V" } : Jvm.MethodName)) ∈ lw_all := lw_g (lw_at lw_m7 3 rfl) rfl
theorem q1484 : (Jvm.Cond.code ({ cls := "java/util/TreeMap", name := "rotateRight", desc := "(Ljava/util/TreeMap$Entry;)V" } : Jvm.MethodName) prog_60_method_82_code (3 : Nat) (Option.none : Option Jvm.ClassFile.FieldType)) ∈ lw_all := lw_g (lw_at lw_m7 4 rfl) rfl
theorem q1528 : (Jvm.Cond.instanceMethod ({ cls := "java/util/TreeMap", name := "floorKey", desc := "(Ljava/lang/Object;)Ljava/lang/Object;" } : Jvm.MethodName)) ∈ lw_all := lw_g (lw_at lw_m7 48 rfl) rfl
theorem q1529 : (Jvm.Cond.selects "java/util/TreeMap" ({ cls := "java/util/TreeMap", name := "floorKey", desc := "(Ljava/lang/Object;)Ljava/lang/Object;" } : Jvm.MethodName) ({ cls := "java/util/TreeMap", name := "floorKey", desc := "(Ljava/lang/Object;)Ljava/lang/Object;" } : Jvm.MethodName)) ∈ lw_all := lw_g (lw_at lw_m7 49 rfl) rfl
theorem q1530 : (Jvm.Cond.code ({ cls := "java/util/TreeMap", name := "floorKey", desc := "(Ljava/lang/Object;)Ljava/lang/Object;" } : Jvm.MethodName) prog_60_method_44_code (2 : Nat) (Option.some (Jvm.ClassFile.FieldType.object "java/lang/Object"))) ∈ lw_all := lw_g (lw_at lw_m7 50 rfl) rfl
theorem q1531 : (Jvm.Cond.methodLink "java/util/TreeMap" (210 : Nat) ({ cls := "java/util/TreeMap", name := "getFloorEntry", desc := "(Ljava/lang/Object;)Ljava/util/TreeMap$Entry;" } : Jvm.MethodName)) ∈ lw_all := lw_g (lw_at lw_m7 51 rfl) rfl
theorem q1532 : (Jvm.Cond.instanceMethod ({ cls := "java/util/TreeMap", name := "getFloorEntry", desc := "(Ljava/lang/Object;)Ljava/util/TreeMap$Entry;" } : Jvm.MethodName)) ∈ lw_all := lw_g (lw_at lw_m7 52 rfl) rfl
theorem q1533 : (Jvm.Cond.selects "java/util/TreeMap" ({ cls := "java/util/TreeMap", name := "getFloorEntry", desc := "(Ljava/lang/Object;)Ljava/util/TreeMap$Entry;" } : Jvm.MethodName) ({ cls := "java/util/TreeMap", name := "getFloorEntry", desc := "(Ljava/lang/Object;)Ljava/util/TreeMap$Entry;" } : Jvm.MethodName)) ∈ lw_all := lw_g (lw_at lw_m7 53 rfl) rfl
theorem q1534 : (Jvm.Cond.code ({ cls := "java/util/TreeMap", name := "getFloorEntry", desc := "(Ljava/lang/Object;)Ljava/util/TreeMap$Entry;" } : Jvm.MethodName) prog_60_method_18_code (6 : Nat) (Option.some (Jvm.ClassFile.FieldType.object "java/util/TreeMap$Entry"))) ∈ lw_all := lw_g (lw_at lw_m7 54 rfl) rfl
theorem q1535 : (Jvm.Cond.methodLink "java/util/TreeMap" (207 : Nat) ({ cls := "java/util/TreeMap", name := "keyOrNull", desc := "(Ljava/util/TreeMap$Entry;)Ljava/lang/Object;" } : Jvm.MethodName)) ∈ lw_all := lw_g (lw_at lw_m7 55 rfl) rfl
theorem q1536 : (Jvm.Cond.static ({ cls := "java/util/TreeMap", name := "keyOrNull", desc := "(Ljava/util/TreeMap$Entry;)Ljava/lang/Object;" } : Jvm.MethodName)) ∈ lw_all := lw_g (lw_at lw_m7 56 rfl) rfl
theorem q1537 : (Jvm.Cond.code ({ cls := "java/util/TreeMap", name := "keyOrNull", desc := "(Ljava/util/TreeMap$Entry;)Ljava/lang/Object;" } : Jvm.MethodName) prog_60_method_70_code (1 : Nat) (Option.some (Jvm.ClassFile.FieldType.object "java/lang/Object"))) ∈ lw_all := lw_g (lw_at lw_m7 57 rfl) rfl
theorem q1539 : (Jvm.Cond.instanceMethod ({ cls := "java/util/TreeMap", name := "ceilingKey", desc := "(Ljava/lang/Object;)Ljava/lang/Object;" } : Jvm.MethodName)) ∈ lw_all := lw_g (lw_at lw_m7 59 rfl) rfl
theorem q1540 : (Jvm.Cond.selects "java/util/TreeMap" ({ cls := "java/util/TreeMap", name := "ceilingKey", desc := "(Ljava/lang/Object;)Ljava/lang/Object;" } : Jvm.MethodName) ({ cls := "java/util/TreeMap", name := "ceilingKey", desc := "(Ljava/lang/Object;)Ljava/lang/Object;" } : Jvm.MethodName)) ∈ lw_all := lw_g (lw_at lw_m7 60 rfl) rfl
theorem q1541 : (Jvm.Cond.code ({ cls := "java/util/TreeMap", name := "ceilingKey", desc := "(Ljava/lang/Object;)Ljava/lang/Object;" } : Jvm.MethodName) prog_60_method_46_code (2 : Nat) (Option.some (Jvm.ClassFile.FieldType.object "java/lang/Object"))) ∈ lw_all := lw_g (lw_at lw_m7 61 rfl) rfl
theorem q1542 : (Jvm.Cond.methodLink "java/util/TreeMap" (213 : Nat) ({ cls := "java/util/TreeMap", name := "getCeilingEntry", desc := "(Ljava/lang/Object;)Ljava/util/TreeMap$Entry;" } : Jvm.MethodName)) ∈ lw_all := lw_g (lw_at lw_m7 62 rfl) rfl
theorem q1594 : (Jvm.Cond.instanceMethod ({ cls := "java/util/TreeMap", name := "containsKey", desc := "(Ljava/lang/Object;)Z" } : Jvm.MethodName)) ∈ lw_all := lw_g (lw_at lw_m7 114 rfl) rfl
theorem q1595 : (Jvm.Cond.selects "java/util/TreeMap" ({ cls := "java/util/TreeMap", name := "containsKey", desc := "(Ljava/lang/Object;)Z" } : Jvm.MethodName) ({ cls := "java/util/TreeMap", name := "containsKey", desc := "(Ljava/lang/Object;)Z" } : Jvm.MethodName)) ∈ lw_all := lw_g (lw_at lw_m7 115 rfl) rfl
theorem q1596 : (Jvm.Cond.code ({ cls := "java/util/TreeMap", name := "containsKey", desc := "(Ljava/lang/Object;)Z" } : Jvm.MethodName) prog_60_method_6_code (2 : Nat) (Option.some Jvm.ClassFile.FieldType.boolean)) ∈ lw_all := lw_g (lw_at lw_m7 116 rfl) rfl
theorem q1597 : (Jvm.Cond.methodLink "java/util/TreeMap" (50 : Nat) ({ cls := "java/util/TreeMap", name := "getEntry", desc := "(Ljava/lang/Object;)Ljava/util/TreeMap$Entry;" } : Jvm.MethodName)) ∈ lw_all := lw_g (lw_at lw_m7 117 rfl) rfl
theorem q1598 : (Jvm.Cond.instanceMethod ({ cls := "java/util/TreeMap", name := "getEntry", desc := "(Ljava/lang/Object;)Ljava/util/TreeMap$Entry;" } : Jvm.MethodName)) ∈ lw_all := lw_g (lw_at lw_m7 118 rfl) rfl
theorem q1599 : (Jvm.Cond.selects "java/util/TreeMap" ({ cls := "java/util/TreeMap", name := "getEntry", desc := "(Ljava/lang/Object;)Ljava/util/TreeMap$Entry;" } : Jvm.MethodName) ({ cls := "java/util/TreeMap", name := "getEntry", desc := "(Ljava/lang/Object;)Ljava/util/TreeMap$Entry;" } : Jvm.MethodName)) ∈ lw_all := lw_g (lw_at lw_m7 119 rfl) rfl
theorem q1600 : (Jvm.Cond.code ({ cls := "java/util/TreeMap", name := "getEntry", desc := "(Ljava/lang/Object;)Ljava/util/TreeMap$Entry;" } : Jvm.MethodName) prog_60_method_15_code (5 : Nat) (Option.some (Jvm.ClassFile.FieldType.object "java/util/TreeMap$Entry"))) ∈ lw_all := lw_g (lw_at lw_m7 120 rfl) rfl
theorem q1601 : (Jvm.Cond.methodLink "java/util/TreeMap" (92 : Nat) ({ cls := "java/util/TreeMap", name := "getEntryUsingComparator", desc := "(Ljava/lang/Object;)Ljava/util/TreeMap$Entry;" } : Jvm.MethodName)) ∈ lw_all := lw_g (lw_at lw_m7 121 rfl) rfl
theorem q1602 : (Jvm.Cond.instanceMethod ({ cls := "java/util/TreeMap", name := "getEntryUsingComparator", desc := "(Ljava/lang/Object;)Ljava/util/TreeMap$Entry;" } : Jvm.MethodName)) ∈ lw_all := lw_g (lw_at lw_m7 122 rfl) rfl
theorem q1603 : (Jvm.Cond.selects "java/util/TreeMap" ({ cls := "java/util/TreeMap", name := "getEntryUsingComparator", desc := "(Ljava/lang/Object;)Ljava/util/TreeMap$Entry;" } : Jvm.MethodName) ({ cls := "java/util/TreeMap", name := "getEntryUsingComparator", desc := "(Ljava/lang/Object;)Ljava/util/TreeMap$Entry;" } : Jvm.MethodName)) ∈ lw_all := lw_g (lw_at lw_m7 123 rfl) rfl
theorem q1604 : (Jvm.Cond.code ({ cls := "java/util/TreeMap", name := "getEntryUsingComparator", desc := "(Ljava/lang/Object;)Ljava/util/TreeMap$Entry;" } : Jvm.MethodName) prog_60_method_16_code (6 : Nat) (Option.some (Jvm.ClassFile.FieldType.object "java/util/TreeMap$Entry"))) ∈ lw_all := lw_g (lw_at lw_m7 124 rfl) rfl
theorem q1605 : (Jvm.Cond.methodLink "java/util/TreeMap" (95 : Nat) ({ cls := "java/util/Objects", name := "requireNonNull", desc := "(Ljava/lang/Object;)Ljava/lang/Object;" } : Jvm.MethodName)) ∈ lw_all := lw_g (lw_at lw_m7 125 rfl) rfl
theorem q1623 : (Jvm.Cond.instanceMethod ({ cls := "java/util/TreeMap", name := "keySet", desc := "()Ljava/util/Set;" } : Jvm.MethodName)) ∈ lw_all := lw_g (lw_at lw_m7 143 rfl) rfl
theorem q1624 : (Jvm.Cond.selects "java/util/TreeMap" ({ cls := "java/util/TreeMap", name := "keySet", desc := "()Ljava/util/Set;" } : Jvm.MethodName) ({ cls := "java/util/TreeMap", name := "keySet", desc := "()Ljava/util/Set;" } : Jvm.MethodName)) ∈ lw_all := lw_g (lw_at lw_m7 144 rfl) rfl
theorem q1625 : (Jvm.Cond.code ({ cls := "java/util/TreeMap", name := "keySet", desc := "()Ljava/util/Set;" } : Jvm.MethodName) prog_60_method_49_code (1 : Nat) (Option.some (Jvm.ClassFile.FieldType.object "java/util/Set"))) ∈ lw_all := lw_g (lw_at lw_m7 145 rfl) rfl
theorem q1626 : (Jvm.Cond.methodLink "java/util/TreeMap" (219 : Nat) ({ cls := "java/util/TreeMap", name := "navigableKeySet", desc := "()Ljava/util/NavigableSet;" } : Jvm.MethodName)) ∈ lw_all := lw_g (lw_at lw_m7 146 rfl) rfl
theorem q1627 : (Jvm.Cond.instanceMethod ({ cls := "java/util/TreeMap", name := "navigableKeySet", desc := "()Ljava/util/NavigableSet;" } : Jvm.MethodName)) ∈ lw_all := lw_g (lw_at lw_m7 147 rfl) rfl
theorem q1628 : (Jvm.Cond.selects "java/util/TreeMap" ({ cls := "java/util/TreeMap", name := "navigableKeySet", desc := "()Ljava/util/NavigableSet;" } : Jvm.MethodName) ({ cls := "java/util/TreeMap", name := "navigableKeySet", desc := "()Ljava/util/NavigableSet;" } : Jvm.MethodName)) ∈ lw_all := lw_g (lw_at lw_m7 148 rfl) rfl
theorem q1629 : (Jvm.Cond.code ({ cls := "java/util/TreeMap", name := "navigableKeySet", desc := "()Ljava/util/NavigableSet;" } : Jvm.MethodName) prog_60_method_50_code (2 : Nat) (Option.some (Jvm.ClassFile.FieldType.object "java/util/NavigableSet"))) ∈ lw_all := lw_g (lw_at lw_m7 149 rfl) rfl
theorem q1630 : (Jvm.Cond.classLink "java/util/TreeMap" (222 : Nat) "java/util/TreeMap$KeySet") ∈ lw_all := lw_g (lw_at lw_m7 150 rfl) rfl
theorem q1632 : (Jvm.Cond.methodLink "java/util/TreeMap" (224 : Nat) ({ cls := "java/util/TreeMap$KeySet", name := "<init>", desc := "(Ljava/util/NavigableMap;)V" } : Jvm.MethodName)) ∈ lw_all := lw_g (lw_at lw_m7 152 rfl) rfl
theorem q1863 : (Jvm.Cond.instanceMethod ({ cls := "java/util/TreeMap", name := "put", desc := "(Ljava/lang/Object;Ljava/lang/Object;)Ljava/lang/Object;" } : Jvm.MethodName)) ∈ lw_all := lw_g (lw_at lw_m8 143 rfl) rfl
theorem q1864 : (Jvm.Cond.selects "java/util/TreeMap" ({ cls := "java/util/TreeMap", name := "put", desc := "(Ljava/lang/Object;Ljava/lang/Object;)Ljava/lang/Object;" } : Jvm.MethodName) ({ cls := "java/util/TreeMap", name := "put", desc := "(Ljava/lang/Object;Ljava/lang/Object;)Ljava/lang/Object;" } : Jvm.MethodName)) ∈ lw_all := lw_g (lw_at lw_m8 144 rfl) rfl
theorem q1865 : (Jvm.Cond.code ({ cls := "java/util/TreeMap", name := "put", desc := "(Ljava/lang/Object;Ljava/lang/Object;)Ljava/lang/Object;" } : Jvm.MethodName) prog_60_method_21_code (3 : Nat) (Option.some (Jvm.ClassFile.FieldType.object "java/lang/Object"))) ∈ lw_all := lw_g (lw_at lw_m8 145 rfl) rfl
theorem q1866 : (Jvm.Cond.methodLink "java/util/TreeMap" (127 : Nat) ({ cls := "java/util/TreeMap", name := "put", desc := "(Ljava/lang/Object;Ljava/lang/Object;Z)Ljava/lang/Object;" } : Jvm.MethodName)) ∈ lw_all := lw_g (lw_at lw_m8 146 rfl) rfl
theorem q1867 : (Jvm.Cond.privateMethod ({ cls := "java/util/TreeMap", name := "put", desc := "(Ljava/lang/Object;Ljava/lang/Object;Z)Ljava/lang/Object;" } : Jvm.MethodName)) ∈ lw_tbl := lw_at lw_m8 147 rfl
theorem q1868 : (Jvm.Cond.instanceMethod ({ cls := "java/util/TreeMap", name := "put", desc := "(Ljava/lang/Object;Ljava/lang/Object;Z)Ljava/lang/Object;" } : Jvm.MethodName)) ∈ lw_all := lw_g (lw_at lw_m8 148 rfl) rfl
theorem q1869 : (Jvm.Cond.code ({ cls := "java/util/TreeMap", name := "put", desc := "(Ljava/lang/Object;Ljava/lang/Object;Z)Ljava/lang/Object;" } : Jvm.MethodName) prog_60_method_31_code (10 : Nat) (Option.some (Jvm.ClassFile.FieldType.object "java/lang/Object"))) ∈ lw_all := lw_g (lw_at lw_m8 149 rfl) rfl
theorem q1870 : (Jvm.Cond.methodLink "java/util/TreeMap" (135 : Nat) ({ cls := "java/util/TreeMap", name := "addEntryToEmptyMap", desc := "(Ljava/lang/Object;Ljava/lang/Object;)V" } : Jvm.MethodName)) ∈ lw_all := lw_g (lw_at lw_m8 150 rfl) rfl
theorem q1871 : (Jvm.Cond.privateMethod ({ cls := "java/util/TreeMap", name := "addEntryToEmptyMap", desc := "(Ljava/lang/Object;Ljava/lang/Object;)V" } : Jvm.MethodName)) ∈ lw_tbl := lw_at lw_m8 151 rfl
theorem q1872 : (Jvm.Cond.instanceMethod ({ cls := "java/util/TreeMap", name := "addEntryToEmptyMap", desc := "(Ljava/lang/Object;Ljava/lang/Object;)V" } : Jvm.MethodName)) ∈ lw_all := lw_g (lw_at lw_m8 152 rfl) rfl
theorem q1873 : (Jvm.Cond.code ({ cls := "java/util/TreeMap", name := "addEntryToEmptyMap", desc := "(Ljava/lang/Object;Ljava/lang/Object;)V" } : Jvm.MethodName) prog_60_method_30_code (3 : Nat) (Option.none : Option Jvm.ClassFile.FieldType)) ∈ lw_all := lw_g (lw_at lw_m8 153 rfl) rfl
theorem q1874 : (Jvm.Cond.classLink "java/util/TreeMap" (59 : Nat) "java/util/TreeMap$Entry") ∈ lw_all := lw_g (lw_at lw_m8 154 rfl) rfl
theorem q1876 : (Jvm.Cond.methodLink "java/util/TreeMap" (167 : Nat) ({ cls := "java/util/TreeMap$Entry", name := "<init>", desc := "(Ljava/lang/Object;Ljava/lang/Object;Ljava/util/TreeMap$Entry;)V" } : Jvm.MethodName)) ∈ lw_all := lw_g (lw_at lw_m8 156 rfl) rfl
theorem q1885 : (Jvm.Cond.fieldLink "java/util/TreeMap" (105 : Nat) "java/util/TreeMap$Entry" "key" "Ljava/lang/Object;") ∈ lw_all := lw_g (lw_at lw_m8 165 rfl) rfl
theorem q1888 : (Jvm.Cond.fieldLink "java/util/TreeMap" (58 : Nat) "java/util/TreeMap$Entry" "value" "Ljava/lang/Object;") ∈ lw_all := lw_g (lw_at lw_m8 168 rfl) rfl
theorem q1891 : (Jvm.Cond.fieldLink "java/util/TreeMap" (111 : Nat) "java/util/TreeMap$Entry" "left" "Ljava/util/TreeMap$Entry;") ∈ lw_all := lw_g (lw_at lw_m8 171 rfl) rfl
theorem q1894 : (Jvm.Cond.fieldLink "java/util/TreeMap" (114 : Nat) "java/util/TreeMap$Entry" "right" "Ljava/util/TreeMap$Entry;") ∈ lw_all := lw_g (lw_at lw_m8 174 rfl) rfl
theorem q1896 : (Jvm.Cond.fieldLink "java/util/TreeMap" (124 : Nat) "java/util/TreeMap$Entry" "parent" "Ljava/util/TreeMap$Entry;") ∈ lw_all := lw_g (lw_at lw_m8 176 rfl) rfl
theorem q1898 : (Jvm.Cond.fieldLink "java/util/TreeMap" (290 : Nat) "java/util/TreeMap$Entry" "color" "Z") ∈ lw_all := lw_g (lw_at lw_m8 178 rfl) rfl
theorem q1912 : (Jvm.Cond.methodLink "java/util/TreeMap" (139 : Nat) ({ cls := "java/util/TreeMap", name := "addEntry", desc := "(Ljava/lang/Object;Ljava/lang/Object;Ljava/util/TreeMap$Entry;Z)V" } : Jvm.MethodName)) ∈ lw_all := lw_g (lw_at lw_m8 192 rfl) rfl
theorem q1913 : (Jvm.Cond.privateMethod ({ cls := "java/util/TreeMap", name := "addEntry", desc := "(Ljava/lang/Object;Ljava/lang/Object;Ljava/util/TreeMap$Entry;Z)V" } : Jvm.MethodName)) ∈ lw_tbl := lw_at lw_m8 193 rfl
theorem q1914 : (Jvm.Cond.instanceMethod ({ cls := "java/util/TreeMap", name := "addEntry", desc := "(Ljava/lang/Object;Ljava/lang/Object;Ljava/util/TreeMap$Entry;Z)V" } : Jvm.MethodName)) ∈ lw_all := lw_g (lw_at lw_m8 194 rfl) rfl
theorem q1915 : (Jvm.Cond.code ({ cls := "java/util/TreeMap", name := "addEntry", desc := "(Ljava/lang/Object;Ljava/lang/Object;Ljava/util/TreeMap$Entry;Z)V" } : Jvm.MethodName) prog_60_method_29_code (6 : Nat) (Option.none : Option Jvm.ClassFile.FieldType)) ∈ lw_all := lw_g (lw_at lw_m8 195 rfl) rfl
theorem q1916 : (Jvm.Cond.methodLink "java/util/TreeMap" (170 : Nat) ({ cls := "java/util/TreeMap", name := "fixAfterInsertion", desc := "(Ljava/util/TreeMap$Entry;)V" } : Jvm.MethodName)) ∈ lw_all := lw_g (lw_at lw_m8 196 rfl) rfl
theorem q1917 : (Jvm.Cond.privateMethod ({ cls := "java/util/TreeMap", name := "fixAfterInsertion", desc := "(Ljava/util/TreeMap$Entry;)V" } : Jvm.MethodName)) ∈ lw_tbl := lw_at lw_m8 197 rfl
theorem q1918 : (Jvm.Cond.instanceMethod ({ cls := "java/util/TreeMap", name := "fixAfterInsertion", desc := "(Ljava/util/TreeMap$Entry;)V" } : Jvm.MethodName)) ∈ lw_all := lw_g (lw_at lw_m8 198 rfl) rfl
theorem q1919 : (Jvm.Cond.code ({ cls := "java/util/TreeMap", name := "fixAfterInsertion", desc := "(Ljava/util/TreeMap$Entry;)V" } : Jvm.MethodName) prog_60_method_83_code (3 : Nat) (Option.none : Option Jvm.ClassFile.FieldType)) ∈ lw_all := lw_g (lw_at lw_m8 199 rfl) rfl
theorem q1928 : (Jvm.Cond.instanceMethod ({ cls := "java/util/TreeMap", name := "remove", desc := "(Ljava/lang/Object;)Ljava/lang/Object;" } : Jvm.MethodName)) ∈ lw_all := lw_g (lw_at lw_m8 208 rfl) rfl
theorem q1929 : (Jvm.Cond.selects "java/util/TreeMap" ({ cls := "java/util/TreeMap", name := "remove", desc := "(Ljava/lang/Object;)Ljava/lang/Object;" } : Jvm.MethodName) ({ cls := "java/util/TreeMap", name := "remove", desc := "(Ljava/lang/Object;)Ljava/lang/Object;" } : Jvm.MethodName)) ∈ lw_all := lw_g (lw_at lw_m8 209 rfl) rfl
theorem q1930 : (Jvm.Cond.code ({ cls := "java/util/TreeMap", name := "remove", desc := "(Ljava/lang/Object;)Ljava/lang/Object;" } : Jvm.MethodName) prog_60_method_34_code (4 : Nat) (Option.some (Jvm.ClassFile.FieldType.object "java/lang/Object"))) ∈ lw_all := lw_g (lw_at lw_m8 210 rfl) rfl
theorem q1931 : (Jvm.Cond.methodLink "java/util/TreeMap" (174 : Nat) ({ cls := "java/util/TreeMap", name := "deleteEntry", desc := "(Ljava/util/TreeMap$Entry;)V" } : Jvm.MethodName)) ∈ lw_all := lw_g (lw_at lw_m8 211 rfl) rfl
theorem q1940 : (Jvm.Cond.instanceMethod ({ cls := "java/util/TreeMap", name := "get", desc := "(Ljava/lang/Object;)Ljava/lang/Object;" } : Jvm.MethodName)) ∈ lw_all := lw_g (lw_at lw_m8 220 rfl) rfl
theorem q1941 : (Jvm.Cond.selects "java/util/TreeMap" ({ cls := "java/util/TreeMap", name := "get", desc := "(Ljava/lang/Object;)Ljava/lang/Object;" } : Jvm.MethodName) ({ cls := "java/util/TreeMap", name := "get", desc := "(Ljava/lang/Object;)Ljava/lang/Object;" } : Jvm.MethodName)) ∈ lw_all := lw_g (lw_at lw_m8 221 rfl) rfl
theorem q1942 : (Jvm.Cond.code ({ cls := "java/util/TreeMap", name := "get", desc := "(Ljava/lang/Object;)Ljava/lang/Object;" } : Jvm.MethodName) prog_60_method_8_code (3 : Nat) (Option.some (Jvm.ClassFile.FieldType.object "java/lang/Object"))) ∈ lw_all := lw_g (lw_at lw_m8 222 rfl) rfl
theorem q1962 : (Jvm.Cond.instanceMethod ({ cls := "java/util/TreeMap", name := "lowerKey", desc := "(Ljava/lang/Object;)Ljava/lang/Object;" } : Jvm.MethodName)) ∈ lw_all := lw_g (lw_at lw_m9 2 rfl) rfl
theorem q1963 : (Jvm.Cond.selects "java/util/TreeMap" ({ cls := "java/util/TreeMap", name := "lowerKey", desc := "(Ljava/lang/Object;)Ljava/lang/Object;" } : Jvm.MethodName) ({ cls := "java/util/TreeMap", name := "lowerKey", desc := "(Ljava/lang/Object;)Ljava/lang/Object;" } : Jvm.MethodName)) ∈ lw_all := lw_g (lw_at lw_m9 3 rfl) rfl
theorem q1964 : (Jvm.Cond.code ({ cls := "java/util/TreeMap", name := "lowerKey", desc := "(Ljava/lang/Object;)Ljava/lang/Object;" } : Jvm.MethodName) prog_60_method_42_code (2 : Nat) (Option.some (Jvm.ClassFile.FieldType.object "java/lang/Object"))) ∈ lw_all := lw_g (lw_at lw_m9 4 rfl) rfl
theorem q1965 : (Jvm.Cond.methodLink "java/util/TreeMap" (204 : Nat) ({ cls := "java/util/TreeMap", name := "getLowerEntry", desc := "(Ljava/lang/Object;)Ljava/util/TreeMap$Entry;" } : Jvm.MethodName)) ∈ lw_all := lw_g (lw_at lw_m9 5 rfl) rfl
theorem q1966 : (Jvm.Cond.instanceMethod ({ cls := "java/util/TreeMap", name := "getLowerEntry", desc := "(Ljava/lang/Object;)Ljava/util/TreeMap$Entry;" } : Jvm.MethodName)) ∈ lw_all := lw_g (lw_at lw_m9 6 rfl) rfl
theorem q1967 : (Jvm.Cond.selects "java/util/TreeMap" ({ cls := "java/util/TreeMap", name := "getLowerEntry", desc := "(Ljava/lang/Object;)Ljava/util/TreeMap$Entry;" } : Jvm.MethodName) ({ cls := "java/util/TreeMap", name := "getLowerEntry", desc := "(Ljava/lang/Object;)Ljava/util/TreeMap$Entry;" } : Jvm.MethodName)) ∈ lw_all := lw_g (lw_at lw_m9 7 rfl) rfl
theorem q1968 : (Jvm.Cond.code ({ cls := "java/util/TreeMap", name := "getLowerEntry", desc := "(Ljava/lang/Object;)Ljava/util/TreeMap$Entry;" } : Jvm.MethodName) prog_60_method_20_code (6 : Nat) (Option.some (Jvm.ClassFile.FieldType.object "java/util/TreeMap$Entry"))) ∈ lw_all := lw_g (lw_at lw_m9 8 rfl) rfl
theorem q1970 : (Jvm.Cond.instanceMethod ({ cls := "java/util/TreeMap", name := "higherKey", desc := "(Ljava/lang/Object;)Ljava/lang/Object;" } : Jvm.MethodName)) ∈ lw_all := lw_g (lw_at lw_m9 10 rfl) rfl
theorem q1971 : (Jvm.Cond.selects "java/util/TreeMap" ({ cls := "java/util/TreeMap", name := "higherKey", desc := "(Ljava/lang/Object;)Ljava/lang/Object;" } : Jvm.MethodName) ({ cls := "java/util/TreeMap", name := "higherKey", desc := "(Ljava/lang/Object;)Ljava/lang/Object;" } : Jvm.MethodName)) ∈ lw_all := lw_g (lw_at lw_m9 11 rfl) rfl
theorem q1972 : (Jvm.Cond.code ({ cls := "java/util/TreeMap", name := "higherKey", desc := "(Ljava/lang/Object;)Ljava/lang/Object;" } : Jvm.MethodName) prog_60_method_48_code (2 : Nat) (Option.some (Jvm.ClassFile.FieldType.object "java/lang/Object"))) ∈ lw_all := lw_g (lw_at lw_m9 12 rfl) rfl
theorem q1973 : (Jvm.Cond.methodLink "java/util/TreeMap" (216 : Nat) ({ cls := "java/util/TreeMap", name := "getHigherEntry", desc := "(Ljava/lang/Object;)Ljava/util/TreeMap$Entry;" } : Jvm.MethodName)) ∈ lw_all := lw_g (lw_at lw_m9 13 rfl) rfl
theorem q1982 : (Jvm.Cond.instanceMethod ({ cls := "java/util/TreeMap", name := "ceilingEntry", desc := "(Ljava/lang/Object;)Ljava/util/Map$Entry;" } : Jvm.MethodName)) ∈ lw_all := lw_g (lw_at lw_m9 22 rfl) rfl
theorem q1983 : (Jvm.Cond.selects "java/util/TreeMap" ({ cls := "java/util/TreeMap", name := "ceilingEntry", desc := "(Ljava/lang/Object;)Ljava/util/Map$Entry;" } : Jvm.MethodName) ({ cls := "java/util/TreeMap", name := "ceilingEntry", desc := "(Ljava/lang/Object;)Ljava/util/Map$Entry;" } : Jvm.MethodName)) ∈ lw_all := lw_g (lw_at lw_m9 23 rfl) rfl
theorem q1984 : (Jvm.Cond.code ({ cls := "java/util/TreeMap", name := "ceilingEntry", desc := "(Ljava/lang/Object;)Ljava/util/Map$Entry;" } : Jvm.MethodName) prog_60_method_45_code (2 : Nat) (Option.some (Jvm.ClassFile.FieldType.object "java/util/Map$Entry"))) ∈ lw_all := lw_g (lw_at lw_m9 24 rfl) rfl
theorem q1985 : (Jvm.Cond.methodLink "java/util/TreeMap" (200 : Nat) ({ cls := "java/util/TreeMap", name := "exportEntry", desc := "(Ljava/util/TreeMap$Entry;)Ljava/util/Map$Entry;" } : Jvm.MethodName)) ∈ lw_all := lw_g (lw_at lw_m9 25 rfl) rfl
theorem q1986 : (Jvm.Cond.static ({ cls := "java/util/TreeMap", name := "exportEntry", desc := "(Ljava/util/TreeMap$Entry;)Ljava/util/Map$Entry;" } : Jvm.MethodName)) ∈ lw_all := lw_g (lw_at lw_m9 26 rfl) rfl
theorem q1987 : (Jvm.Cond.code ({ cls := "java/util/TreeMap", name := "exportEntry", desc := "(Ljava/util/TreeMap$Entry;)Ljava/util/Map$Entry;" } : Jvm.MethodName) prog_60_method_69_code (1 : Nat) (Option.some (Jvm.ClassFile.FieldType.object "java/util/Map$Entry"))) ∈ lw_all := lw_g (lw_at lw_m9 27 rfl) rfl
theorem q1988 : (Jvm.Cond.classLink "java/util/TreeMap" (282 : Nat) "java/util/AbstractMap$SimpleImmutableEntry") ∈ lw_all := lw_g (lw_at lw_m9 28 rfl) rfl
theorem q1990 : (Jvm.Cond.methodLink "java/util/TreeMap" (284 : Nat) ({ cls := "java/util/AbstractMap$SimpleImmutableEntry", name := "<init>", desc := "(Ljava/util/Map$Entry;)V" } : Jvm.MethodName)) ∈ lw_all := lw_g (lw_at lw_m9 30 rfl) rfl
theorem q2006 : (Jvm.Cond.instanceMethod ({ cls := "java/util/TreeMap", name := "higherEntry", desc := "(Ljava/lang/Object;)Ljava/util/Map$Entry;" } : Jvm.MethodName)) ∈ lw_all := lw_g (lw_at lw_m9 46 rfl) rfl
theorem q2007 : (Jvm.Cond.selects "java/util/TreeMap" ({ cls := "java/util/TreeMap", name := "higherEntry", desc := "(Ljava/lang/Object;)Ljava/util/Map$Entry;" } : Jvm.MethodName) ({ cls := "java/util/TreeMap", name := "higherEntry", desc := "(Ljava/lang/Object;)Ljava/util/Map$Entry;" } : Jvm.MethodName)) ∈ lw_all := lw_g (lw_at lw_m9 47 rfl) rfl
theorem q2008 : (Jvm.Cond.code ({ cls := "java/util/TreeMap", name := "higherEntry", desc := "(Ljava/lang/Object;)Ljava/util/Map$Entry;" } : Jvm.MethodName) prog_60_method_47_code (2 : Nat) (Option.some (Jvm.ClassFile.FieldType.object "java/util/Map$Entry"))) ∈ lw_all := lw_g (lw_at lw_m9 48 rfl) rfl
theorem q2057 : (Jvm.Cond.instanceMethod ({ cls := "java/util/TreeMap", name := "putAll", desc := "(Ljava/util/Map;)V" } : Jvm.MethodName)) ∈ lw_all := lw_g (lw_at lw_m9 97 rfl) rfl
theorem q2058 : (Jvm.Cond.selects "java/util/TreeMap" ({ cls := "java/util/TreeMap", name := "putAll", desc := "(Ljava/util/Map;)V" } : Jvm.MethodName) ({ cls := "java/util/TreeMap", name := "putAll", desc := "(Ljava/util/Map;)V" } : Jvm.MethodName)) ∈ lw_all := lw_g (lw_at lw_m9 98 rfl) rfl
theorem q2059 : (Jvm.Cond.codeWith ({ cls := "java/util/TreeMap", name := "putAll", desc := "(Ljava/util/Map;)V" } : Jvm.MethodName) prog_60_method_14_code (4 : Nat) (Option.none : Option Jvm.ClassFile.FieldType) [((54 : Nat), (72 : Nat), (75 : Nat), (46 : Nat)), ((54 : Nat), (72 : Nat), (75 : Nat), (48 : Nat))]) ∈ lw_all := lw_g (lw_at lw_m9 99 rfl) rfl
theorem q2060 : (Jvm.Cond.interfaceEntry "java/util/TreeMap" (82 : Nat)) ∈ lw_tbl := lw_at lw_m9 100 rfl
theorem q2061 : (Jvm.Cond.methodLink "java/util/TreeMap" (82 : Nat) ({ cls := "java/util/Map", name := "size", desc := "()I" } : Jvm.MethodName)) ∈ lw_all := lw_g (lw_at lw_m9 101 rfl) rfl
theorem q2063 : (Jvm.Cond.castable "java/util/TreeMap" "java/util/Map") ∈ lw_tbl := lw_at lw_m9 103 rfl
theorem q2065 : (Jvm.Cond.classLink "java/util/TreeMap" (25 : Nat) "java/util/SortedMap") ∈ lw_all := lw_g (lw_at lw_m9 105 rfl) rfl
theorem q2066 : (Jvm.Cond.interfaceEntry "java/util/TreeMap" (24 : Nat)) ∈ lw_tbl := lw_at lw_m9 106 rfl
theorem q2067 : (Jvm.Cond.methodLink "java/util/TreeMap" (24 : Nat) ({ cls := "java/util/SortedMap", name := "comparator", desc := "()Ljava/util/Comparator;" } : Jvm.MethodName)) ∈ lw_all := lw_g (lw_at lw_m9 107 rfl) rfl
theorem q2070 : (Jvm.Cond.selects "java/util/TreeMap" ({ cls := "java/util/SortedMap", name := "comparator", desc := "()Ljava/util/Comparator;" } : Jvm.MethodName) ({ cls := "java/util/TreeMap", name := "comparator", desc := "()Ljava/util/Comparator;" } : Jvm.MethodName)) ∈ lw_all := lw_g (lw_at lw_m9 110 rfl) rfl
theorem q2071 : (Jvm.Cond.unhidden "java/util/TreeMap" "comparator" "()Ljava/util/Comparator;") ∈ lw_tbl := lw_at lw_m9 111 rfl
theorem q2072 : (Jvm.Cond.instanceMethod ({ cls := "java/util/TreeMap", name := "comparator", desc := "()Ljava/util/Comparator;" } : Jvm.MethodName)) ∈ lw_all := lw_g (lw_at lw_m9 112 rfl) rfl
theorem q2073 : (Jvm.Cond.publicMethod ({ cls := "java/util/TreeMap", name := "comparator", desc := "()Ljava/util/Comparator;" } : Jvm.MethodName)) ∈ lw_tbl := lw_at lw_m9 113 rfl
theorem q2074 : (Jvm.Cond.code ({ cls := "java/util/TreeMap", name := "comparator", desc := "()Ljava/util/Comparator;" } : Jvm.MethodName) prog_60_method_9_code (1 : Nat) (Option.some (Jvm.ClassFile.FieldType.object "java/util/Comparator"))) ∈ lw_all := lw_g (lw_at lw_m9 114 rfl) rfl
theorem q2081 : (Jvm.Cond.methodLink "java/util/TreeMap" (85 : Nat) ({ cls := "java/util/Objects", name := "equals", desc := "(Ljava/lang/Object;Ljava/lang/Object;)Z" } : Jvm.MethodName)) ∈ lw_all := lw_g (lw_at lw_m9 121 rfl) rfl
theorem q2104 : (Jvm.Cond.interfaceEntry "java/util/TreeMap" (90 : Nat)) ∈ lw_tbl := lw_at lw_m9 144 rfl
theorem q2105 : (Jvm.Cond.methodLink "java/util/TreeMap" (90 : Nat) ({ cls := "java/util/Map", name := "entrySet", desc := "()Ljava/util/Set;" } : Jvm.MethodName)) ∈ lw_all := lw_g (lw_at lw_m9 145 rfl) rfl
theorem q2108 : (Jvm.Cond.selects "java/util/TreeMap" ({ cls := "java/util/Map", name := "entrySet", desc := "()Ljava/util/Set;" } : Jvm.MethodName) ({ cls := "java/util/TreeMap", name := "entrySet", desc := "()Ljava/util/Set;" } : Jvm.MethodName)) ∈ lw_all := lw_g (lw_at lw_m9 148 rfl) rfl
theorem q2109 : (Jvm.Cond.unhidden "java/util/TreeMap" "entrySet" "()Ljava/util/Set;") ∈ lw_tbl := lw_at lw_m9 149 rfl
theorem q2110 : (Jvm.Cond.publicMethod ({ cls := "java/util/TreeMap", name := "entrySet", desc := "()Ljava/util/Set;" } : Jvm.MethodName)) ∈ lw_tbl := lw_at lw_m9 150 rfl
theorem q2114 : (Jvm.Cond.interfaceEntry "java/util/TreeMap" (36 : Nat)) ∈ lw_tbl := lw_at lw_m9 154 rfl
theorem q2115 : (Jvm.Cond.methodLink "java/util/TreeMap" (36 : Nat) ({ cls := "java/util/Set", name := "iterator", desc := "()Ljava/util/Iterator;" } : Jvm.MethodName)) ∈ lw_all := lw_g (lw_at lw_m9 155 rfl) rfl
theorem q2116 : (Jvm.Cond.methodLink "java/util/TreeMap" (42 : Nat) ({ cls := "java/util/TreeMap", name := "buildFromSorted", desc := "(ILjava/util/Iterator;Ljava/io/ObjectInputStream;Ljava/lang/Object;)V" } : Jvm.MethodName)) ∈ lw_all := lw_g (lw_at lw_m9 156 rfl) rfl
theorem q2117 : (Jvm.Cond.privateMethod ({ cls := "java/util/TreeMap", name := "buildFromSorted", desc := "(ILjava/util/Iterator;Ljava/io/ObjectInputStream;Ljava/lang/Object;)V" } : Jvm.MethodName)) ∈ lw_tbl := lw_at lw_m9 157 rfl
theorem q2118 : (Jvm.Cond.instanceMethod ({ cls := "java/util/TreeMap", name := "buildFromSorted", desc := "(ILjava/util/Iterator;Ljava/io/ObjectInputStream;Ljava/lang/Object;)V" } : Jvm.MethodName)) ∈ lw_all := lw_g (lw_at lw_m9 158 rfl) rfl
theorem q2119 : (Jvm.Cond.code ({ cls := "java/util/TreeMap", name := "buildFromSorted", desc := "(ILjava/util/Iterator;Ljava/io/ObjectInputStream;Ljava/lang/Object;)V" } : Jvm.MethodName) prog_60_method_90_code (5 : Nat) (Option.none : Option Jvm.ClassFile.FieldType)) ∈ lw_all := lw_g (lw_at lw_m9 159 rfl) rfl
theorem q2120 : (Jvm.Cond.methodLink "java/util/TreeMap" (362 : Nat) ({ cls := "java/util/TreeMap", name := "computeRedLevel", desc := "(I)I" } : Jvm.MethodName)) ∈ lw_all := lw_g (lw_at lw_m9 160 rfl) rfl
theorem q2121 : (Jvm.Cond.static ({ cls := "java/util/TreeMap", name := "computeRedLevel", desc := "(I)I" } : Jvm.MethodName)) ∈ lw_all := lw_g (lw_at lw_m9 161 rfl) rfl
theorem q2122 : (Jvm.Cond.code ({ cls := "java/util/TreeMap", name := "computeRedLevel", desc := "(I)I" } : Jvm.MethodName) prog_60_method_92_code (1 : Nat) (Option.some Jvm.ClassFile.FieldType.int)) ∈ lw_all := lw_g (lw_at lw_m9 162 rfl) rfl
theorem q2123 : (Jvm.Cond.methodLink "java/util/TreeMap" (372 : Nat) ({ cls := "java/lang/Integer", name := "numberOfLeadingZeros", desc := "(I)I" } : Jvm.MethodName)) ∈ lw_all := lw_g (lw_at lw_m9 163 rfl) rfl
theorem q2124 : (Jvm.Cond.methodLink "java/util/TreeMap" (366 : Nat) ({ cls := "java/util/TreeMap", name := "buildFromSorted", desc := "(IIIILjava/util/Iterator;Ljava/io/ObjectInputStream;Ljava/lang/Object;)Ljava/util/TreeMap$Entry;" } : Jvm.MethodName)) ∈ lw_all := lw_g (lw_at lw_m9 164 rfl) rfl
theorem q2125 : (Jvm.Cond.privateMethod ({ cls := "java/util/TreeMap", name := "buildFromSorted", desc := "(IIIILjava/util/Iterator;Ljava/io/ObjectInputStream;Ljava/lang/Object;)Ljava/util/TreeMap$Entry;" } : Jvm.MethodName)) ∈ lw_tbl := lw_at lw_m9 165 rfl
theorem q2126 : (Jvm.Cond.instanceMethod ({ cls := "java/util/TreeMap", name := "buildFromSorted", desc := "(IIIILjava/util/Iterator;Ljava/io/ObjectInputStream;Ljava/lang/Object;)Ljava/util/TreeMap$Entry;" } : Jvm.MethodName)) ∈ lw_all := lw_g (lw_at lw_m9 166 rfl) rfl
theorem q2127 : (Jvm.Cond.code ({ cls := "java/util/TreeMap", name := "buildFromSorted", desc := "(IIIILjava/util/Iterator;Ljava/io/ObjectInputStream;Ljava/lang/Object;)Ljava/util/TreeMap$Entry;" } : Jvm.MethodName) prog_60_method_91_code (14 : Nat) (Option.some (Jvm.ClassFile.FieldType.object "java/util/TreeMap$Entry"))) ∈ lw_all := lw_g (lw_at lw_m9 167 rfl) rfl
theorem q2128 : (Jvm.Cond.interfaceEntry "java/util/TreeMap" (335 : Nat)) ∈ lw_tbl := lw_at lw_m9 168 rfl
theorem q2129 : (Jvm.Cond.methodLink "java/util/TreeMap" (335 : Nat) ({ cls := "java/util/Iterator", name := "next", desc := "()Ljava/lang/Object;" } : Jvm.MethodName)) ∈ lw_all := lw_g (lw_at lw_m9 169 rfl) rfl
theorem q2130 : (Jvm.Cond.classLink "java/util/TreeMap" (338 : Nat) "java/util/Map$Entry") ∈ lw_all := lw_g (lw_at lw_m9 170 rfl) rfl
theorem q2131 : (Jvm.Cond.interfaceEntry "java/util/TreeMap" (340 : Nat)) ∈ lw_tbl := lw_at lw_m9 171 rfl
theorem q2132 : (Jvm.Cond.methodLink "java/util/TreeMap" (340 : Nat) ({ cls := "java/util/Map$Entry", name := "getKey", desc := "()Ljava/lang/Object;" } : Jvm.MethodName)) ∈ lw_all := lw_g (lw_at lw_m9 172 rfl) rfl
theorem q2133 : (Jvm.Cond.interfaceEntry "java/util/TreeMap" (347 : Nat)) ∈ lw_tbl := lw_at lw_m9 173 rfl
theorem q2134 : (Jvm.Cond.methodLink "java/util/TreeMap" (347 : Nat) ({ cls := "java/util/Map$Entry", name := "getValue", desc := "()Ljava/lang/Object;" } : Jvm.MethodName)) ∈ lw_all := lw_g (lw_at lw_m9 174 rfl) rfl
theorem q2135 : (Jvm.Cond.methodLink "java/util/TreeMap" (91 : Nat) ({ cls := "java/util/AbstractMap", name := "putAll", desc := "(Ljava/util/Map;)V" } : Jvm.MethodName)) ∈ lw_all := lw_g (lw_at lw_m9 175 rfl) rfl
theorem q2154 : (Jvm.Cond.selects "java/util/TreeMap" ({ cls := "java/util/AbstractMap", name := "put", desc := "(Ljava/lang/Object;Ljava/lang/Object;)Ljava/lang/Object;" } : Jvm.MethodName) ({ cls := "java/util/TreeMap", name := "put", desc := "(Ljava/lang/Object;Ljava/lang/Object;)Ljava/lang/Object;" } : Jvm.MethodName)) ∈ lw_all := lw_g (lw_at lw_m9 194 rfl) rfl
theorem q2457 : (Jvm.Cond.selects "java/util/TreeMap" ({ cls := "java/util/AbstractMap", name := "entrySet", desc := "()Ljava/util/Set;" } : Jvm.MethodName) ({ cls := "java/util/TreeMap", name := "entrySet", desc := "()Ljava/util/Set;" } : Jvm.MethodName)) ∈ lw_all := lw_g (lw_at lw_m11 17 rfl) rfl
theorem q2465 : (Jvm.Cond.selects "java/util/TreeMap" ({ cls := "java/util/TreeMap", name := "clear", desc := "()V" } : Jvm.MethodName) ({ cls := "java/util/TreeMap", name := "clear", desc := "()V" } : Jvm.MethodName)) ∈ lw_all := lw_g (lw_at lw_m11 25 rfl) rfl
theorem q2469 : (Jvm.Cond.selects "java/util/TreeMap" ({ cls := "java/util/TreeMap", name := "entrySet", desc := "()Ljava/util/Set;" } : Jvm.MethodName) ({ cls := "java/util/TreeMap", name := "entrySet", desc := "()Ljava/util/Set;" } : Jvm.MethodName)) ∈ lw_all := lw_g (lw_at lw_m11 29 rfl) rfl
theorem q2474 : (Jvm.Cond.selects "java/util/TreeMap" ({ cls := "java/util/TreeMap", name := "comparator", desc := "()Ljava/util/Comparator;" } : Jvm.MethodName) ({ cls := "java/util/TreeMap", name := "comparator", desc := "()Ljava/util/Comparator;" } : Jvm.MethodName)) ∈ lw_all := lw_g (lw_at lw_m11 34 rfl) rfl
theorem q2483 : (Jvm.Cond.castable "java/util/TreeMap" "java/lang/Object") ∈ lw_tbl := lw_at lw_m11 43 rfl
theorem in_J5 : ∀ w ∈ wsJ50, w ∈ lw_all := lw_in wsJ50 [169, 171, 155, 157, 159, 161, 163, 165, 167] (by decide +kernel) (by decide +kernel)
