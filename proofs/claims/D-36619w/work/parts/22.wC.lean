set_option maxRecDepth 100000
theorem fkJ5_7_J5 : g_Fd "java/util/TreeMap" 7 3 4 .int false := ⟨RJ5, TJ5, 9, tyJ5, "java/util/TreeMap", rfl, in_J5, by decide, q145, Or.inl rfl, tyJ5_ok, (g_nmL nmJ5), rfl, rfl, fun h => by cases h⟩
theorem fkJ5_13_J5 : g_Fd "java/util/TreeMap" 13 3 5 .int false := ⟨RJ5, TJ5, 9, tyJ5, "java/util/TreeMap", rfl, in_J5, by decide, q146, Or.inl rfl, tyJ5_ok, (g_nmL nmJ5), rfl, rfl, fun h => by cases h⟩
theorem fkJ5_16_J5 : g_Fd "java/util/TreeMap" 16 3 2 (.object "java/util/Comparator") true := ⟨RJ5, TJ5, 9, tyJ5, "java/util/TreeMap", rfl, in_J5, by decide, q143, Or.inl rfl, tyJ5_ok, (g_nmL nmJ5), rfl, rfl, fun _ => rfl⟩
theorem fkJ28_20_J29 : g_Fd "java/util/TreeMap$NavigableSubMap" 20 5 0 (.object "java/util/TreeMap") true := ⟨RJ29, TJ29, 12, tyJ29, "java/util/TreeMap$NavigableSubMap", rfl, in_J29, by decide, q842, Or.inl rfl, tyJ29_ok, (g_nmL nmJ29), rfl, rfl, fun _ => rfl⟩
theorem fkJ28_26_J29 : g_Fd "java/util/TreeMap$NavigableSubMap" 26 5 3 .boolean true := ⟨RJ29, TJ29, 12, tyJ29, "java/util/TreeMap$NavigableSubMap", rfl, in_J29, by decide, q848, Or.inl rfl, tyJ29_ok, (g_nmL nmJ29), rfl, rfl, fun _ => rfl⟩
theorem fkJ28_30_J29 : g_Fd "java/util/TreeMap$NavigableSubMap" 30 5 1 (.object "java/lang/Object") true := ⟨RJ29, TJ29, 12, tyJ29, "java/util/TreeMap$NavigableSubMap", rfl, in_J29, by decide, q846, Or.inl rfl, tyJ29_ok, (g_nmL nmJ29), rfl, rfl, fun _ => rfl⟩
theorem fkJ28_34_J29 : g_Fd "java/util/TreeMap$NavigableSubMap" 34 5 5 .boolean true := ⟨RJ29, TJ29, 12, tyJ29, "java/util/TreeMap$NavigableSubMap", rfl, in_J29, by decide, q852, Or.inl rfl, tyJ29_ok, (g_nmL nmJ29), rfl, rfl, fun _ => rfl⟩
theorem fkJ28_37_J29 : g_Fd "java/util/TreeMap$NavigableSubMap" 37 5 4 .boolean true := ⟨RJ29, TJ29, 12, tyJ29, "java/util/TreeMap$NavigableSubMap", rfl, in_J29, by decide, q850, Or.inl rfl, tyJ29_ok, (g_nmL nmJ29), rfl, rfl, fun _ => rfl⟩
theorem fkJ28_40_J29 : g_Fd "java/util/TreeMap$NavigableSubMap" 40 5 2 (.object "java/lang/Object") true := ⟨RJ29, TJ29, 12, tyJ29, "java/util/TreeMap$NavigableSubMap", rfl, in_J29, by decide, q847, Or.inl rfl, tyJ29_ok, (g_nmL nmJ29), rfl, rfl, fun _ => rfl⟩
theorem fkJ28_43_J29 : g_Fd "java/util/TreeMap$NavigableSubMap" 43 5 6 .boolean true := ⟨RJ29, TJ29, 12, tyJ29, "java/util/TreeMap$NavigableSubMap", rfl, in_J29, by decide, q853, Or.inl rfl, tyJ29_ok, (g_nmL nmJ29), rfl, rfl, fun _ => rfl⟩
theorem nwJ5_250 : g_Nw "java/util/TreeMap" 250 5 [va_rf none, va_rf none, va_rf none, .int 0, .int 0, .int 0, .int 0, va_rf none, va_rf none, va_rf none, va_rf none, va_rf none] := ⟨RJ29, TJ29, tyJ29, rfl, in_J29, tyJ29_ok, q630, q631, q75, g_dv rfl⟩
theorem fkJ32_1_J33 : g_Fd "java/util/TreeMap$NavigableSubMap$EntrySetView" 1 6 2 (.object "java/util/TreeMap$NavigableSubMap") true := ⟨RJ33, TJ33, 4, tyJ33, "java/util/TreeMap$NavigableSubMap$EntrySetView", rfl, in_J33, by decide, q917, Or.inl rfl, tyJ33_ok, g_nm33, rfl, rfl, fun _ => rfl⟩
theorem fkJ32_13_J33 : g_Fd "java/util/TreeMap$NavigableSubMap$EntrySetView" 13 6 0 .int false := ⟨RJ33, TJ33, 4, tyJ33, "java/util/TreeMap$NavigableSubMap$EntrySetView", rfl, in_J33, by decide, q915, Or.inl rfl, tyJ33_ok, g_nm33, rfl, rfl, fun h => by cases h⟩
theorem fkJ33_1_J33 : g_Fd "java/util/TreeMap$AscendingSubMap$AscendingEntrySetView" 1 6 3 (.object "java/util/TreeMap$AscendingSubMap") true := ⟨RJ33, TJ33, 4, tyJ33, "java/util/TreeMap$AscendingSubMap$AscendingEntrySetView", rfl, in_J33, by decide, q914, Or.inl rfl, tyJ33_ok, g_nm33, rfl, rfl, fun _ => rfl⟩
theorem fkJ29_81_J29 : g_Fd "java/util/TreeMap$AscendingSubMap" 81 5 8 (.object "java/util/TreeMap$NavigableSubMap$EntrySetView") false := ⟨RJ29, TJ29, 12, tyJ29, "java/util/TreeMap$AscendingSubMap", rfl, in_J29, by decide, q854, Or.inr q855, tyJ29_ok, (g_nmL nmJ29), rfl, rfl, fun h => by cases h⟩
theorem nwJ29_85 : g_Nw "java/util/TreeMap$AscendingSubMap" 85 6 [.int 0, .int 0, va_rf none, va_rf none] := ⟨RJ33, TJ33, tyJ33, rfl, in_J33, tyJ33_ok, q899, q900, q79, g_dv rfl⟩
theorem fkJ5_101_J5 : g_Fd "java/util/TreeMap" 101 3 3 (.object "java/util/TreeMap$Entry") false := ⟨RJ5, TJ5, 9, tyJ5, "java/util/TreeMap", rfl, in_J5, by decide, q144, Or.inl rfl, tyJ5_ok, (g_nmL nmJ5), rfl, rfl, fun h => by cases h⟩
theorem fkJ5_105_J27 : g_Fd "java/util/TreeMap" 105 4 0 (.object "java/lang/Object") false := ⟨RJ27, TJ27, 6, tyJ27, "java/util/TreeMap$Entry", rfl, in_J27, by decide, q1885, Or.inl rfl, tyJ27_ok, (g_nmL nmJ27), rfl, rfl, fun h => by cases h⟩
theorem fkJ5_114_J27 : g_Fd "java/util/TreeMap" 114 4 3 (.object "java/util/TreeMap$Entry") false := ⟨RJ27, TJ27, 6, tyJ27, "java/util/TreeMap$Entry", rfl, in_J27, by decide, q1894, Or.inl rfl, tyJ27_ok, (g_nmL nmJ27), rfl, rfl, fun h => by cases h⟩
theorem fkJ5_124_J27 : g_Fd "java/util/TreeMap" 124 4 4 (.object "java/util/TreeMap$Entry") false := ⟨RJ27, TJ27, 6, tyJ27, "java/util/TreeMap$Entry", rfl, in_J27, by decide, q1896, Or.inl rfl, tyJ27_ok, (g_nmL nmJ27), rfl, rfl, fun h => by cases h⟩
theorem fkJ5_111_J27 : g_Fd "java/util/TreeMap" 111 4 2 (.object "java/util/TreeMap$Entry") false := ⟨RJ27, TJ27, 6, tyJ27, "java/util/TreeMap$Entry", rfl, in_J27, by decide, q1891, Or.inl rfl, tyJ27_ok, (g_nmL nmJ27), rfl, rfl, fun h => by cases h⟩
theorem fkJ28_70_J27 : g_Fd "java/util/TreeMap$NavigableSubMap" 70 4 0 (.object "java/lang/Object") false := ⟨RJ27, TJ27, 6, tyJ27, "java/util/TreeMap$Entry", rfl, in_J27, by decide, q1884, Or.inl rfl, tyJ27_ok, (g_nmL nmJ27), rfl, rfl, fun h => by cases h⟩
theorem fkJ34_1_J35 : g_Fd "java/util/TreeMap$NavigableSubMap$SubMapIterator" 1 7 4 (.object "java/util/TreeMap$NavigableSubMap") true := ⟨RJ35, TJ35, 5, tyJ35, "java/util/TreeMap$NavigableSubMap$SubMapIterator", rfl, in_J35, by decide, q989, Or.inl rfl, tyJ35_ok, (g_nmL nmJ35), rfl, rfl, fun _ => rfl⟩
theorem fkJ34_13_J29 : g_FdR "java/util/TreeMap$NavigableSubMap$SubMapIterator" 13 5 0 := ⟨RJ29, TJ29, 12, "java/util/TreeMap$NavigableSubMap", rfl, in_J29, by decide, q841, Or.inl rfl⟩
theorem fkJ34_19_J5 : g_FdN "java/util/TreeMap$NavigableSubMap$SubMapIterator" 19 3 5 .int false := ⟨RJ5, TJ5, 9, tyJ5, "java/util/TreeMap", "java/util/TreeMap", rfl, in_J5, by decide, ge_80, rfl, tyJ5_ok, (g_nmL nmJ5), rfl, rfl⟩
theorem fkJ34_25_J35 : g_Fd "java/util/TreeMap$NavigableSubMap$SubMapIterator" 25 7 3 .int false := ⟨RJ35, TJ35, 5, tyJ35, "java/util/TreeMap$NavigableSubMap$SubMapIterator", rfl, in_J35, by decide, q988, Or.inl rfl, tyJ35_ok, (g_nmL nmJ35), rfl, rfl, fun h => by cases h⟩
theorem fkJ34_28_J35 : g_Fd "java/util/TreeMap$NavigableSubMap$SubMapIterator" 28 7 0 (.object "java/util/TreeMap$Entry") false := ⟨RJ35, TJ35, 5, tyJ35, "java/util/TreeMap$NavigableSubMap$SubMapIterator", rfl, in_J35, by decide, q985, Or.inl rfl, tyJ35_ok, (g_nmL nmJ35), rfl, rfl, fun h => by cases h⟩
theorem fkJ34_32_J35 : g_Fd "java/util/TreeMap$NavigableSubMap$SubMapIterator" 32 7 1 (.object "java/util/TreeMap$Entry") false := ⟨RJ35, TJ35, 5, tyJ35, "java/util/TreeMap$NavigableSubMap$SubMapIterator", rfl, in_J35, by decide, q986, Or.inl rfl, tyJ35_ok, (g_nmL nmJ35), rfl, rfl, fun h => by cases h⟩
theorem fkJ34_44_J35 : g_Fd "java/util/TreeMap$NavigableSubMap$SubMapIterator" 44 7 2 (.object "java/lang/Object") true := ⟨RJ35, TJ35, 5, tyJ35, "java/util/TreeMap$NavigableSubMap$SubMapIterator", rfl, in_J35, by decide, q987, Or.inl rfl, tyJ35_ok, (g_nmL nmJ35), rfl, rfl, fun _ => rfl⟩
theorem fkJ34_39_J27 : g_Fd "java/util/TreeMap$NavigableSubMap$SubMapIterator" 39 4 0 (.object "java/lang/Object") false := ⟨RJ27, TJ27, 6, tyJ27, "java/util/TreeMap$Entry", rfl, in_J27, by decide, q1881, Or.inl rfl, tyJ27_ok, (g_nmL nmJ27), rfl, rfl, fun h => by cases h⟩
theorem nwJ33_13 : g_Nw "java/util/TreeMap$AscendingSubMap$AscendingEntrySetView" 13 7 [va_rf none, va_rf none, va_rf none, .int 0, va_rf none] := ⟨RJ35, TJ35, tyJ35, rfl, in_J35, tyJ35_ok, q944, q945, q81, g_dv rfl⟩
theorem fkJ32_17_J29 : g_FdR "java/util/TreeMap$NavigableSubMap$EntrySetView" 17 5 3 := ⟨RJ29, TJ29, 12, "java/util/TreeMap$NavigableSubMap", rfl, in_J29, by decide, q849, Or.inl rfl⟩
theorem fkJ32_26_J29 : g_FdR "java/util/TreeMap$NavigableSubMap$EntrySetView" 26 5 0 := ⟨RJ29, TJ29, 12, "java/util/TreeMap$NavigableSubMap", rfl, in_J29, by decide, q845, Or.inl rfl⟩
theorem fkJ32_38_J5 : g_FdN "java/util/TreeMap$NavigableSubMap$EntrySetView" 38 3 5 .int false := ⟨RJ5, TJ5, 9, tyJ5, "java/util/TreeMap", "java/util/TreeMap", rfl, in_J5, by decide, ge_79, rfl, tyJ5_ok, (g_nmL nmJ5), rfl, rfl⟩
theorem fkJ32_35_J33 : g_Fd "java/util/TreeMap$NavigableSubMap$EntrySetView" 35 6 1 .int false := ⟨RJ33, TJ33, 4, tyJ33, "java/util/TreeMap$NavigableSubMap$EntrySetView", rfl, in_J33, by decide, q916, Or.inl rfl, tyJ33_ok, g_nm33, rfl, rfl, fun h => by cases h⟩
theorem fkJ32_23_J29 : g_FdR "java/util/TreeMap$NavigableSubMap$EntrySetView" 23 5 4 := ⟨RJ29, TJ29, 12, "java/util/TreeMap$NavigableSubMap", rfl, in_J29, by decide, q851, Or.inl rfl⟩
theorem fkJ43_1_J43 : g_Fd "java/util/AbstractMap$2" 1 12 0 (.object "java/util/AbstractMap") true := ⟨RJ43, TJ43, 1, tyJ43, "java/util/AbstractMap$2", rfl, in_J43, by decide, q1235, Or.inl rfl, tyJ43_ok, (g_nmL nmJ43), rfl, rfl, fun _ => rfl⟩
theorem fkJ4_71_J29 : g_Fd "java/util/AbstractMap" 71 5 11 (.object "java/util/Collection") false := ⟨RJ29, TJ29, 12, tyJ29, "java/util/AbstractMap", rfl, in_J29, by decide, q152, Or.inl rfl, tyJ29_ok, (g_nmL nmJ29), rfl, rfl, fun h => by cases h⟩
theorem nwJ4_75 : g_Nw "java/util/AbstractMap" 75 12 [va_rf none] := ⟨RJ43, TJ43, tyJ43, rfl, in_J43, tyJ43_ok, q1229, q1230, q89, g_dv rfl⟩
theorem fkJ44_1_J44 : g_Fd "java/util/AbstractMap$2$1" 1 13 1 (.object "java/util/AbstractMap$2") true := ⟨RJ44, TJ44, 2, tyJ44, "java/util/AbstractMap$2$1", rfl, in_J44, by decide, q1351, Or.inl rfl, tyJ44_ok, (g_nmL nmJ44), rfl, rfl, fun _ => rfl⟩
theorem fkJ44_13_J43 : g_FdR "java/util/AbstractMap$2$1" 13 12 0 := ⟨RJ43, TJ43, 1, "java/util/AbstractMap$2", rfl, in_J43, by decide, q1236, Or.inl rfl⟩
theorem fkJ44_31_J44 : g_Fd "java/util/AbstractMap$2$1" 31 13 0 (.object "java/util/Iterator") false := ⟨RJ44, TJ44, 2, tyJ44, "java/util/AbstractMap$2$1", rfl, in_J44, by decide, q1350, Or.inl rfl, tyJ44_ok, (g_nmL nmJ44), rfl, rfl, fun h => by cases h⟩
theorem nwJ43_13 : g_Nw "java/util/AbstractMap$2" 13 13 [va_rf none, va_rf none] := ⟨RJ44, TJ44, tyJ44, rfl, in_J44, tyJ44_ok, q1250, q1251, q90, g_dv rfl⟩
theorem fkJ27_19_J27 : g_Fd "java/util/TreeMap$Entry" 19 4 1 (.object "java/lang/Object") false := ⟨RJ27, TJ27, 6, tyJ27, "java/util/TreeMap$Entry", rfl, in_J27, by decide, q1886, Or.inl rfl, tyJ27_ok, (g_nmL nmJ27), rfl, rfl, fun h => by cases h⟩
theorem fkJ5_290_J27 : g_Fd "java/util/TreeMap" 290 4 5 .boolean false := ⟨RJ27, TJ27, 6, tyJ27, "java/util/TreeMap$Entry", rfl, in_J27, by decide, q1898, Or.inl rfl, tyJ27_ok, (g_nmL nmJ27), rfl, rfl, fun h => by cases h⟩
theorem fkJ5_58_J27 : g_Fd "java/util/TreeMap" 58 4 1 (.object "java/lang/Object") false := ⟨RJ27, TJ27, 6, tyJ27, "java/util/TreeMap$Entry", rfl, in_J27, by decide, q1888, Or.inl rfl, tyJ27_ok, (g_nmL nmJ27), rfl, rfl, fun h => by cases h⟩
theorem fkJ34_63_J27 : g_Fd "java/util/TreeMap$NavigableSubMap$SubMapIterator" 63 4 2 (.object "java/util/TreeMap$Entry") false := ⟨RJ27, TJ27, 6, tyJ27, "java/util/TreeMap$Entry", rfl, in_J27, by decide, q1890, Or.inl rfl, tyJ27_ok, (g_nmL nmJ27), rfl, rfl, fun h => by cases h⟩
theorem fkJ34_66_J27 : g_Fd "java/util/TreeMap$NavigableSubMap$SubMapIterator" 66 4 3 (.object "java/util/TreeMap$Entry") false := ⟨RJ27, TJ27, 6, tyJ27, "java/util/TreeMap$Entry", rfl, in_J27, by decide, q1893, Or.inl rfl, tyJ27_ok, (g_nmL nmJ27), rfl, rfl, fun h => by cases h⟩
theorem fkJ36_7_J36 : g_Fd "java/util/TreeMap$KeySet" 7 8 0 (.object "java/util/NavigableMap") true := ⟨RJ36, TJ36, 1, tyJ36, "java/util/TreeMap$KeySet", rfl, in_J36, by decide, q1636, Or.inl rfl, tyJ36_ok, (g_nmL nmJ36), rfl, rfl, fun _ => rfl⟩
theorem fkJ5_191_J5 : g_Fd "java/util/TreeMap" 191 3 7 (.object "java/util/TreeMap$KeySet") false := ⟨RJ5, TJ5, 9, tyJ5, "java/util/TreeMap", rfl, in_J5, by decide, q151, Or.inl rfl, tyJ5_ok, (g_nmL nmJ5), rfl, rfl, fun h => by cases h⟩
theorem nwJ5_222 : g_Nw "java/util/TreeMap" 222 8 [va_rf none] := ⟨RJ36, TJ36, tyJ36, rfl, in_J36, tyJ36_ok, q1630, q1631, q82, g_dv rfl⟩
theorem fkJ37_1_J39 : g_Fd "java/util/TreeMap$PrivateEntryIterator" 1 10 3 (.object "java/util/TreeMap") true := ⟨RJ39, TJ39, 4, tyJ39, "java/util/TreeMap$PrivateEntryIterator", rfl, in_J39, by decide, q1294, Or.inl rfl, tyJ39_ok, (g_nmL nmJ39), rfl, rfl, fun _ => rfl⟩
theorem fkJ37_13_J5 : g_FdN "java/util/TreeMap$PrivateEntryIterator" 13 3 5 .int false := ⟨RJ5, TJ5, 9, tyJ5, "java/util/TreeMap", "java/util/TreeMap", rfl, in_J5, by decide, ge_82, rfl, tyJ5_ok, (g_nmL nmJ5), rfl, rfl⟩
theorem fkJ37_19_J39 : g_Fd "java/util/TreeMap$PrivateEntryIterator" 19 10 2 .int false := ⟨RJ39, TJ39, 4, tyJ39, "java/util/TreeMap$PrivateEntryIterator", rfl, in_J39, by decide, q1293, Or.inl rfl, tyJ39_ok, (g_nmL nmJ39), rfl, rfl, fun h => by cases h⟩
theorem fkJ37_22_J39 : g_Fd "java/util/TreeMap$PrivateEntryIterator" 22 10 1 (.object "java/util/TreeMap$Entry") false := ⟨RJ39, TJ39, 4, tyJ39, "java/util/TreeMap$PrivateEntryIterator", rfl, in_J39, by decide, q1292, Or.inl rfl, tyJ39_ok, (g_nmL nmJ39), rfl, rfl, fun h => by cases h⟩
theorem fkJ37_26_J39 : g_Fd "java/util/TreeMap$PrivateEntryIterator" 26 10 0 (.object "java/util/TreeMap$Entry") false := ⟨RJ39, TJ39, 4, tyJ39, "java/util/TreeMap$PrivateEntryIterator", rfl, in_J39, by decide, q1291, Or.inl rfl, tyJ39_ok, (g_nmL nmJ39), rfl, rfl, fun h => by cases h⟩
theorem nwJ5_269 : g_Nw "java/util/TreeMap" 269 10 [va_rf none, va_rf none, .int 0, va_rf none] := ⟨RJ39, TJ39, tyJ39, rfl, in_J39, tyJ39_ok, q1314, q1315, q85, g_dv rfl⟩
theorem fkJ39_13_J27 : g_Fd "java/util/TreeMap$KeyIterator" 13 4 0 (.object "java/lang/Object") false := ⟨RJ27, TJ27, 6, tyJ27, "java/util/TreeMap$Entry", rfl, in_J27, by decide, q1882, Or.inl rfl, tyJ27_ok, (g_nmL nmJ27), rfl, rfl, fun h => by cases h⟩
theorem fkJ45_1_J45 : g_Fd "java/util/TreeMap$EntrySet" 1 14 0 (.object "java/util/TreeMap") true := ⟨RJ45, TJ45, 1, tyJ45, "java/util/TreeMap$EntrySet", rfl, in_J45, by decide, q1265, Or.inl rfl, tyJ45_ok, (g_nmL nmJ45), rfl, rfl, fun _ => rfl⟩
theorem fkJ5_188_J5 : g_Fd "java/util/TreeMap" 188 3 6 (.object "java/util/TreeMap$EntrySet") false := ⟨RJ5, TJ5, 9, tyJ5, "java/util/TreeMap", rfl, in_J5, by decide, q150, Or.inl rfl, tyJ5_ok, (g_nmL nmJ5), rfl, rfl, fun h => by cases h⟩
theorem nwJ5_242 : g_Nw "java/util/TreeMap" 242 14 [va_rf none] := ⟨RJ45, TJ45, tyJ45, rfl, in_J45, tyJ45_ok, q1259, q1260, q91, g_dv rfl⟩
theorem fkJ37_1_J38 : g_Fd "java/util/TreeMap$PrivateEntryIterator" 1 9 3 (.object "java/util/TreeMap") true := ⟨RJ38, TJ38, 4, tyJ38, "java/util/TreeMap$PrivateEntryIterator", rfl, in_J38, by decide, q1294, Or.inl rfl, tyJ38_ok, (g_nmL nmJ38), rfl, rfl, fun _ => rfl⟩
theorem fkJ37_19_J38 : g_Fd "java/util/TreeMap$PrivateEntryIterator" 19 9 2 .int false := ⟨RJ38, TJ38, 4, tyJ38, "java/util/TreeMap$PrivateEntryIterator", rfl, in_J38, by decide, q1293, Or.inl rfl, tyJ38_ok, (g_nmL nmJ38), rfl, rfl, fun h => by cases h⟩
theorem fkJ37_22_J38 : g_Fd "java/util/TreeMap$PrivateEntryIterator" 22 9 1 (.object "java/util/TreeMap$Entry") false := ⟨RJ38, TJ38, 4, tyJ38, "java/util/TreeMap$PrivateEntryIterator", rfl, in_J38, by decide, q1292, Or.inl rfl, tyJ38_ok, (g_nmL nmJ38), rfl, rfl, fun h => by cases h⟩
theorem fkJ37_26_J38 : g_Fd "java/util/TreeMap$PrivateEntryIterator" 26 9 0 (.object "java/util/TreeMap$Entry") false := ⟨RJ38, TJ38, 4, tyJ38, "java/util/TreeMap$PrivateEntryIterator", rfl, in_J38, by decide, q1291, Or.inl rfl, tyJ38_ok, (g_nmL nmJ38), rfl, rfl, fun h => by cases h⟩
theorem nwJ45_13 : g_Nw "java/util/TreeMap$EntrySet" 13 9 [va_rf none, va_rf none, .int 0, va_rf none] := ⟨RJ38, TJ38, tyJ38, rfl, in_J38, tyJ38_ok, q1281, q1282, q84, g_dv rfl⟩
theorem fkJ27_15_J27 : g_Fd "java/util/TreeMap$Entry" 15 4 0 (.object "java/lang/Object") false := ⟨RJ27, TJ27, 6, tyJ27, "java/util/TreeMap$Entry", rfl, in_J27, by decide, q1880, Or.inl rfl, tyJ27_ok, (g_nmL nmJ27), rfl, rfl, fun h => by cases h⟩
theorem fkJ27_9_J27 : g_Fd "java/util/TreeMap$Entry" 9 4 5 .boolean false := ⟨RJ27, TJ27, 6, tyJ27, "java/util/TreeMap$Entry", rfl, in_J27, by decide, q1897, Or.inl rfl, tyJ27_ok, (g_nmL nmJ27), rfl, rfl, fun h => by cases h⟩
theorem fkJ27_22_J27 : g_Fd "java/util/TreeMap$Entry" 22 4 4 (.object "java/util/TreeMap$Entry") false := ⟨RJ27, TJ27, 6, tyJ27, "java/util/TreeMap$Entry", rfl, in_J27, by decide, q1895, Or.inl rfl, tyJ27_ok, (g_nmL nmJ27), rfl, rfl, fun h => by cases h⟩
theorem nwJ5_59 : g_Nw "java/util/TreeMap" 59 4 [va_rf none, va_rf none, va_rf none, va_rf none, va_rf none, .int 0] := ⟨RJ27, TJ27, tyJ27, rfl, in_J27, tyJ27_ok, q1874, q1875, q73, g_dv rfl⟩
theorem fkJ41_7_J41 : g_Fd "java/util/AbstractMap$SimpleImmutableEntry" 7 11 0 (.object "java/lang/Object") true := ⟨RJ41, TJ41, 2, tyJ41, "java/util/AbstractMap$SimpleImmutableEntry", rfl, in_J41, by decide, q1998, Or.inl rfl, tyJ41_ok, (g_nmL nmJ41), rfl, rfl, fun _ => rfl⟩
theorem fkJ41_13_J41 : g_Fd "java/util/AbstractMap$SimpleImmutableEntry" 13 11 1 (.object "java/lang/Object") true := ⟨RJ41, TJ41, 2, tyJ41, "java/util/AbstractMap$SimpleImmutableEntry", rfl, in_J41, by decide, q1999, Or.inl rfl, tyJ41_ok, (g_nmL nmJ41), rfl, rfl, fun _ => rfl⟩
theorem nwJ5_282 : g_Nw "java/util/TreeMap" 282 11 [va_rf none, va_rf none] := ⟨RJ41, TJ41, tyJ41, rfl, in_J41, tyJ41_ok, q1988, q1989, q87, g_dv rfl⟩
abbrev wp_J4_init_J5 (l : Launch) (E : g_E) (mc ms : Nat) (av : List Value) (st : g_St) (Q : g_St → Prop) : Prop := g_WPv l E yJ4_init cJ4_init 1 none 1 40 mc ms av st Q
def vc_J4_init_J5 (l : Launch) (E : g_E) (a0 : Nat) (st : g_St) (Q : g_St → Prop) : Prop :=
  Q st
set_option maxHeartbeats 4000000 in
theorem wb_J4_init_J5 {p : Program} {l : Launch} {e : Env} {R : Room} {s : State} {m : MethodId} {args : Array Value} {below : List Frame} {meth : Method} {c : Code} {E : g_E} {st0 : g_St} {Z : State → Prop} (hC : g_Cx p s m args meth c cJ4_init 1 "java/util/AbstractMap" none "<init>" E st0) (hR : g_Rm 1 40 R) {a0 : Nat} {st : g_St} {cb sb : Nat} {Q : g_St → Prop} (hret : ∀ (pc : Nat) (lv : List (Nat × Value)) (st1 : g_St) (cb sb : Nat), decode cJ4_init pc = .ok (.return_, 1) → Q st1 → g_J p l e R s m args below meth c 1 E st0 Z pc lv [] st1 cb sb) (hvc : vc_J4_init_J5 l E a0 st Q) : g_J p l e R s m args below meth c 1 E st0 Z 0 [(0, va_rf (some a0))] [] st cb sb := by
  unfold vc_J4_init_J5 at hvc
  refine j_aload_n hC dJ4_init_0 rfl 0 rfl ?_
  refine j_objInit hC q142 q99 q100 (Nat.le_trans (Nat.le_of_ble_eq_true rfl) hR.1) (Nat.le_trans (g_sumO rfl) hR.2) dJ4_init_1 ?_
  exact hret _ _ _ _ _ dJ4_init_4 hvc
theorem wk_J4_init_J5 {l : Launch} {E : g_E} {a0 : Nat} {st : g_St} {mc ms : Nat} {Q : g_St → Prop} (hvc : vc_J4_init_J5 l E a0 st Q) : wp_J4_init_J5 l E mc ms [va_rf (some a0)] st Q :=
  g_enter (lv0 := [(0, va_rf (some a0))]) (plainFor_of_name (by decide +kernel)) (by simp [lv_args, g_c1, g_ci, g_cL]) (by simp [lg_sl, g_c1, g_ci, g_cL]) (fun p e s m args below meth c hC => wb_J4_init_J5 hC ⟨Nat.le_refl _, Nat.le_refl _⟩ (fun pc lv st1 cb sb hd hq => j_return hC rfl hd ⟨rfl, hq⟩) hvc)
abbrev wp_J5_init (l : Launch) (E : g_E) (mc ms : Nat) (av : List Value) (st : g_St) (Q : g_St → Prop) : Prop := g_WPv l E yJ5_init cJ5_init 1 none 2 60 mc ms av st Q
def vc_J5_init (l : Launch) (E : g_E) (a0 : Nat) (st : g_St) (Q : g_St → Prop) : Prop :=
  wp_J4_init_J5 l E 0 0 [va_rf (some a0)] st (fun stx => stx = st ∧ ∃ fs1 : List Value, st.2.1 a0 = some (.inr (3, fs1)) ∧ ∀ st2 : g_St, st2 = g_put st a0 (.inr (3, fs1.set 4 (.int (nI 0)))) → ∃ fs3 : List Value, st2.2.1 a0 = some (.inr (3, fs3)) ∧ ∀ st4 : g_St, st4 = g_put st2 a0 (.inr (3, fs3.set 5 (.int (nI 0)))) → ∃ fs5 : List Value, st4.2.1 a0 = some (.inr (3, fs5)) ∧ ∀ st6 : g_St, st6 = g_put st4 a0 (.inr (3, fs5.set 2 (va_rf none))) → Q st6)
set_option maxHeartbeats 4000000 in
theorem wb_J5_init {p : Program} {l : Launch} {e : Env} {R : Room} {s : State} {m : MethodId} {args : Array Value} {below : List Frame} {meth : Method} {c : Code} {E : g_E} {st0 : g_St} {Z : State → Prop} (hC : g_Cx p s m args meth c cJ5_init 1 "java/util/TreeMap" none "<init>" E st0) (hR : g_Rm 2 60 R) {a0 : Nat} {st : g_St} {cb sb : Nat} {Q : g_St → Prop} (hret : ∀ (pc : Nat) (lv : List (Nat × Value)) (st1 : g_St) (cb sb : Nat), decode cJ5_init pc = .ok (.return_, 1) → Q st1 → g_J p l e R s m args below meth c 1 E st0 Z pc lv [] st1 cb sb) (hvc : vc_J5_init l E a0 st Q) : g_J p l e R s m args below meth c 1 E st0 Z 0 [(0, va_rf (some a0))] [] st cb sb := by
  unfold vc_J5_init at hvc
  refine j_aload_n hC dJ5_init_0 rfl 0 rfl ?_
  refine j_callI (As := []) (rest := []) (n := 0) hC hvc (lw_meth q141) q46 q139 q140 rfl (by decide +kernel) (g_rm hR rfl rfl) rfl rfl (g_sum rfl) dJ5_init_1 (Nat.zero_le _) (Nat.zero_le _) (g_Kvp fun hv2 => ?_)
  replace hvc := hv2; clear hv2
  refine j_aload_n hC dJ5_init_4 rfl 0 rfl ?_
  refine j_iconst hC (nI 0) dJ5_init_5 rfl ?_
  obtain ⟨fs1, hm, hvc⟩ := hvc
  refine j_put hC fkJ5_7_J5 dJ5_init_6 hm rfl rfl (fun st2 e1 => ?_)
  replace hvc := hvc st2 e1; clear hm e1
  refine j_aload_n hC dJ5_init_9 rfl 0 rfl ?_
  refine j_iconst hC (nI 0) dJ5_init_10 rfl ?_
  obtain ⟨fs3, hm, hvc⟩ := hvc
  refine j_put hC fkJ5_13_J5 dJ5_init_11 hm rfl rfl (fun st4 e1 => ?_)
  replace hvc := hvc st4 e1; clear hm e1
  refine j_aload_n hC dJ5_init_14 rfl 0 rfl ?_
  refine j_null hC dJ5_init_15 ?_
  obtain ⟨fs5, hm, hvc⟩ := hvc
  refine j_putF hC fkJ5_16_J5 rfl dJ5_init_16 hm g_no g_fo (fun st6 e1 => ?_)
  replace hvc := hvc st6 e1; clear hm e1
  exact hret _ _ _ _ _ dJ5_init_19 hvc
theorem wk_J5_init {l : Launch} {E : g_E} {a0 : Nat} {st : g_St} {mc ms : Nat} {Q : g_St → Prop} (hvc : vc_J5_init l E a0 st Q) : wp_J5_init l E mc ms [va_rf (some a0)] st Q :=
  g_enter (lv0 := [(0, va_rf (some a0))]) (plainFor_of_name (by decide +kernel)) (by simp [lv_args, g_c1, g_ci, g_cL]) (by simp [lg_sl, g_c1, g_ci, g_cL]) (fun p e s m args below meth c hC => wb_J5_init hC ⟨Nat.le_refl _, Nat.le_refl _⟩ (fun pc lv st1 cb sb hd hq => j_return hC rfl hd ⟨rfl, hq⟩) hvc)
abbrev wp_J5_size (l : Launch) (E : g_E) (mc ms : Nat) (av : List Value) (st : g_St) (Q : Int32 → g_St → Prop) : Prop := g_WPi l E yJ5_size cJ5_size 1 (some .int) 1 40 mc ms av st Q
def vc_J5_size (l : Launch) (E : g_E) (a0 : Nat) (st : g_St) (Q : Int32 → g_St → Prop) : Prop :=
  ∃ x1 : Int32, g_gi st a0 3 4 x1 ∧ Q x1 st
set_option maxHeartbeats 4000000 in
theorem wb_J5_size {p : Program} {l : Launch} {e : Env} {R : Room} {s : State} {m : MethodId} {args : Array Value} {below : List Frame} {meth : Method} {c : Code} {E : g_E} {st0 : g_St} {Z : State → Prop} (hC : g_Cx p s m args meth c cJ5_size 1 "java/util/TreeMap" (some .int) "size" E st0) (hR : g_Rm 1 40 R) {a0 : Nat} {st : g_St} {cb sb : Nat} {Q : Int32 → g_St → Prop} (hret : ∀ (pc : Nat) (lv : List (Nat × Value)) (v : Int32) (st1 : g_St) (cb sb : Nat), decode cJ5_size pc = .ok (.ireturn, 1) → narrow .int (.int v) = .int v → Q v st1 → g_J p l e R s m args below meth c 1 E st0 Z pc lv [.int v] st1 cb sb) (hvc : vc_J5_size l E a0 st Q) : g_J p l e R s m args below meth c 1 E st0 Z 0 [(0, va_rf (some a0))] [] st cb sb := by
  unfold vc_J5_size at hvc
  refine j_aload_n hC dJ5_size_0 rfl 0 rfl ?_
  obtain ⟨x1, ⟨fs, hr, hv⟩, hvc⟩ := hvc
  refine j_get hC fkJ5_7_J5 dJ5_size_1 hr hv ?_
  clear hv hr fs
  exact hret _ _ _ _ _ _ dJ5_size_4 rfl hvc
theorem wk_J5_size {l : Launch} {E : g_E} {a0 : Nat} {st : g_St} {mc ms : Nat} {Q : Int32 → g_St → Prop} (hvc : vc_J5_size l E a0 st Q) : wp_J5_size l E mc ms [va_rf (some a0)] st Q :=
  g_enter (lv0 := [(0, va_rf (some a0))]) (plainFor_of_name (by decide +kernel)) (by simp [lv_args, g_c1, g_ci, g_cL]) (by simp [lg_sl, g_c1, g_ci, g_cL]) (fun p e s m args below meth c hC => wb_J5_size hC ⟨Nat.le_refl _, Nat.le_refl _⟩ (fun pc lv v st1 cb sb hd hn hq => j_ireturn hC rfl hn hd (g_iv hq)) hvc)
abbrev wp_J4_init_J29 (l : Launch) (E : g_E) (mc ms : Nat) (av : List Value) (st : g_St) (Q : g_St → Prop) : Prop := g_WPv l E yJ4_init cJ4_init 1 none 1 40 mc ms av st Q
def vc_J4_init_J29 (l : Launch) (E : g_E) (a0 : Nat) (st : g_St) (Q : g_St → Prop) : Prop :=
  Q st
set_option maxHeartbeats 4000000 in
theorem wb_J4_init_J29 {p : Program} {l : Launch} {e : Env} {R : Room} {s : State} {m : MethodId} {args : Array Value} {below : List Frame} {meth : Method} {c : Code} {E : g_E} {st0 : g_St} {Z : State → Prop} (hC : g_Cx p s m args meth c cJ4_init 1 "java/util/AbstractMap" none "<init>" E st0) (hR : g_Rm 1 40 R) {a0 : Nat} {st : g_St} {cb sb : Nat} {Q : g_St → Prop} (hret : ∀ (pc : Nat) (lv : List (Nat × Value)) (st1 : g_St) (cb sb : Nat), decode cJ4_init pc = .ok (.return_, 1) → Q st1 → g_J p l e R s m args below meth c 1 E st0 Z pc lv [] st1 cb sb) (hvc : vc_J4_init_J29 l E a0 st Q) : g_J p l e R s m args below meth c 1 E st0 Z 0 [(0, va_rf (some a0))] [] st cb sb := by
  unfold vc_J4_init_J29 at hvc
  refine j_aload_n hC dJ4_init_0 rfl 0 rfl ?_
  refine j_objInit hC q142 q99 q100 (Nat.le_trans (Nat.le_of_ble_eq_true rfl) hR.1) (Nat.le_trans (g_sumO rfl) hR.2) dJ4_init_1 ?_
  exact hret _ _ _ _ _ dJ4_init_4 hvc
theorem wk_J4_init_J29 {l : Launch} {E : g_E} {a0 : Nat} {st : g_St} {mc ms : Nat} {Q : g_St → Prop} (hvc : vc_J4_init_J29 l E a0 st Q) : wp_J4_init_J29 l E mc ms [va_rf (some a0)] st Q :=
  g_enter (lv0 := [(0, va_rf (some a0))]) (plainFor_of_name (by decide +kernel)) (by simp [lv_args, g_c1, g_ci, g_cL]) (by simp [lg_sl, g_c1, g_ci, g_cL]) (fun p e s m args below meth c hC => wb_J4_init_J29 hC ⟨Nat.le_refl _, Nat.le_refl _⟩ (fun pc lv st1 cb sb hd hq => j_return hC rfl hd ⟨rfl, hq⟩) hvc)
abbrev wp_J5_compare (l : Launch) (E : g_E) (mc ms : Nat) (av : List Value) (st : g_St) (Q : Int32 → g_St → Prop) : Prop := g_WPi l E yJ5_compare cJ5_compare 3 (some .int) 9 237 mc ms av st Q
def vc_J5_compare (l : Launch) (E : g_E) (a0 : Nat) (p0 : Option Nat) (p1 : Option Nat) (st : g_St) (Q : Int32 → g_St → Prop) : Prop :=
  ∃ o1 : Option Nat, g_gr st a0 3 2 o1 ∧ (o1 = none → g_isN st p0 1 ∧ ∃ a4 : Nat, p0 = some a4 ∧ g_is st a4 1 ∧ wp_J2_compareTo l E 0 0 [va_rf (some a4), va_rf p1] st (fun x5 stx => stx = st ∧ Q x5 st)) ∧ (∀ a3 : Nat, o1 = some a3 → ∃ o6 : Option Nat, g_gr st a0 3 2 o6 ∧ False)
set_option maxHeartbeats 4000000 in
theorem wb_J5_compare {p : Program} {l : Launch} {e : Env} {R : Room} {s : State} {m : MethodId} {args : Array Value} {below : List Frame} {meth : Method} {c : Code} {E : g_E} {st0 : g_St} {Z : State → Prop} (hC : g_Cx p s m args meth c cJ5_compare 3 "java/util/TreeMap" (some .int) "compare" E st0) (hR : g_Rm 9 237 R) {a0 : Nat} {p0 : Option Nat} {p1 : Option Nat} {st : g_St} {cb sb : Nat} {Q : Int32 → g_St → Prop} (hret : ∀ (pc : Nat) (lv : List (Nat × Value)) (v : Int32) (st1 : g_St) (cb sb : Nat), decode cJ5_compare pc = .ok (.ireturn, 1) → narrow .int (.int v) = .int v → Q v st1 → g_J p l e R s m args below meth c 3 E st0 Z pc lv [.int v] st1 cb sb) (hvc : vc_J5_compare l E a0 p0 p1 st Q) : g_J p l e R s m args below meth c 3 E st0 Z 0 [(0, va_rf (some a0)), (1, va_rf p0), (2, va_rf p1)] [] st cb sb := by
  unfold vc_J5_compare at hvc
  refine j_aload_n hC dJ5_compare_0 rfl 0 rfl ?_
  obtain ⟨o1, ⟨fs, hr, hv⟩, hvc⟩ := hvc
  refine j_get hC fkJ5_16_J5 dJ5_compare_1 hr hv ?_
  clear hv hr fs
  refine j_ifnonnull (tgt := 20) hC dJ5_compare_4 rfl (fun a3 c2 => ?_) (fun c2 => ?_)
  · subst c2; replace hvc := hvc.2 a3 rfl
    refine j_aload_n hC dJ5_compare_20 rfl 0 rfl ?_
    obtain ⟨o6, ⟨fs, hr, hv⟩, hvc⟩ := hvc
    refine j_get hC fkJ5_16_J5 dJ5_compare_21 hr hv ?_
    clear hv hr fs
    refine j_aload_n hC dJ5_compare_24 rfl 1 rfl ?_
    refine j_aload_n hC dJ5_compare_25 rfl 2 rfl ?_
    exact hvc.elim
  · subst c2; replace hvc := hvc.1 rfl
    refine j_aload_n hC dJ5_compare_7 rfl 1 rfl ?_
    obtain ⟨hv, hvc⟩ := hvc
    refine j_cast hC (C := "java/lang/String") (ci := 1) q643 rfl (Or.inr ge_7) hv dJ5_compare_8 ?_
    clear hv
    refine j_aload_n hC dJ5_compare_11 rfl 2 rfl ?_
    obtain ⟨a4, rfl, hvc⟩ := hvc
    obtain ⟨⟨fs, hr⟩, hvc⟩ := hvc
    refine j_callF (As := [va_rf p1]) (rest := []) (n := 1) (x := ⟨"java/lang/Comparable", "compareTo", "(Ljava/lang/Object;)I"⟩) (C := "java/lang/String") (ci := 1) hC hvc (lw_F q645 q663 q665 q44 q667) gf_2 (by decide +kernel) (g_rm hR rfl rfl) rfl hr rfl rfl (g_sum rfl) dJ5_compare_12 (Nat.zero_le _) (Nat.zero_le _) (g_Kip fun x5 hv2 => ?_)
    replace hvc := hv2; clear hv2
    clear hr fs
    refine j_goto (tgt := 31) hC dJ5_compare_17 rfl ?_
    exact hret _ _ _ _ _ _ dJ5_compare_31 rfl hvc
theorem wk_J5_compare {l : Launch} {E : g_E} {a0 : Nat} {p0 : Option Nat} {p1 : Option Nat} {st : g_St} {mc ms : Nat} {Q : Int32 → g_St → Prop} (hvc : vc_J5_compare l E a0 p0 p1 st Q) : wp_J5_compare l E mc ms [va_rf (some a0), va_rf p0, va_rf p1] st Q :=
  g_enter (lv0 := [(0, va_rf (some a0)), (1, va_rf p0), (2, va_rf p1)]) (plainFor_of_name (by decide +kernel)) (by simp [lv_args, g_c1, g_ci, g_cL]) (by simp [lg_sl, g_c1, g_ci, g_cL]) (fun p e s m args below meth c hC => wb_J5_compare hC ⟨Nat.le_refl _, Nat.le_refl _⟩ (fun pc lv v st1 cb sb hd hn hq => j_ireturn hC rfl hn hd (g_iv hq)) hvc)
abbrev wp_J28_init (l : Launch) (E : g_E) (mc ms : Nat) (av : List Value) (st : g_St) (Q : g_St → Prop) : Prop := g_WPv l E yJ28_init cJ28_init 8 none 10 259 mc ms av st Q
def vc_J28_init (l : Launch) (E : g_E) (a0 : Nat) (p0 : Option Nat) (p1 : Int32) (p2 : Option Nat) (p3 : Int32) (p4 : Int32) (p5 : Option Nat) (p6 : Int32) (st : g_St) (Q : g_St → Prop) : Prop :=
  wp_J4_init_J29 l E 0 0 [va_rf (some a0)] st (fun stx => stx = st ∧ g_jn0 (fun (K1 : Prop) => g_jn0 (fun (K17 : Prop) => (¬ p1 = 0 → K17) ∧ (p1 = 0 → (¬ p4 = 0 → K17) ∧ (p4 = 0 → ∃ a30 : Nat, p0 = some a30 ∧ g_is st a30 3 ∧ wp_J5_compare l E 0 0 [va_rf (some a30), va_rf p2, va_rf p5] st (fun x31 stx => stx = st ∧ (x31 ≤ 0 → K1) ∧ (¬ x31 ≤ 0 → False))))) (g_jn0 (fun (K19 : Prop) => (¬ p1 = 0 → K19) ∧ (p1 = 0 → ∃ a25 : Nat, p0 = some a25 ∧ g_is st a25 3 ∧ wp_J5_compare l E 0 0 [va_rf (some a25), va_rf p2, va_rf p2] st (fun x26 stx => stx = st ∧ K19))) ((¬ p4 = 0 → K1) ∧ (p4 = 0 → ∃ a22 : Nat, p0 = some a22 ∧ g_is st a22 3 ∧ wp_J5_compare l E 0 0 [va_rf (some a22), va_rf p5, va_rf p5] st (fun x23 stx => stx = st ∧ K1))))) (∃ fs3 : List Value, st.2.1 a0 = some (.inr (5, fs3)) ∧ ∀ st4 : g_St, st4 = g_put st a0 (.inr (5, fs3.set 0 (va_rf p0))) → g_okf .boolean p1 ∧ ∃ fs5 : List Value, st4.2.1 a0 = some (.inr (5, fs5)) ∧ ∀ st6 : g_St, st6 = g_put st4 a0 (.inr (5, fs5.set 3 (.int p1))) → ∃ fs7 : List Value, st6.2.1 a0 = some (.inr (5, fs7)) ∧ ∀ st8 : g_St, st8 = g_put st6 a0 (.inr (5, fs7.set 1 (va_rf p2))) → g_okf .boolean p3 ∧ ∃ fs9 : List Value, st8.2.1 a0 = some (.inr (5, fs9)) ∧ ∀ st10 : g_St, st10 = g_put st8 a0 (.inr (5, fs9.set 5 (.int p3))) → g_okf .boolean p4 ∧ ∃ fs11 : List Value, st10.2.1 a0 = some (.inr (5, fs11)) ∧ ∀ st12 : g_St, st12 = g_put st10 a0 (.inr (5, fs11.set 4 (.int p4))) → ∃ fs13 : List Value, st12.2.1 a0 = some (.inr (5, fs13)) ∧ ∀ st14 : g_St, st14 = g_put st12 a0 (.inr (5, fs13.set 2 (va_rf p5))) → g_okf .boolean p6 ∧ ∃ fs15 : List Value, st14.2.1 a0 = some (.inr (5, fs15)) ∧ ∀ st16 : g_St, st16 = g_put st14 a0 (.inr (5, fs15.set 6 (.int p6))) → Q st16))
set_option maxHeartbeats 4000000 in
theorem wb_J28_init {p : Program} {l : Launch} {e : Env} {R : Room} {s : State} {m : MethodId} {args : Array Value} {below : List Frame} {meth : Method} {c : Code} {E : g_E} {st0 : g_St} {Z : State → Prop} (hC : g_Cx p s m args meth c cJ28_init 8 "java/util/TreeMap$NavigableSubMap" none "<init>" E st0) (hR : g_Rm 10 259 R) {a0 : Nat} {p0 : Option Nat} {p1 : Int32} {p2 : Option Nat} {p3 : Int32} {p4 : Int32} {p5 : Option Nat} {p6 : Int32} {st : g_St} {cb sb : Nat} {Q : g_St → Prop} (hret : ∀ (pc : Nat) (lv : List (Nat × Value)) (st1 : g_St) (cb sb : Nat), decode cJ28_init pc = .ok (.return_, 1) → Q st1 → g_J p l e R s m args below meth c 8 E st0 Z pc lv [] st1 cb sb) (hvc : vc_J28_init l E a0 p0 p1 p2 p3 p4 p5 p6 st Q) : g_J p l e R s m args below meth c 8 E st0 Z 0 [(0, va_rf (some a0)), (1, va_rf p0), (2, .int p1), (3, va_rf p2), (4, .int p3), (5, .int p4), (6, va_rf p5), (7, .int p6)] [] st cb sb := by
  unfold vc_J28_init at hvc
  refine j_aload_n hC dJ28_init_0 rfl 0 rfl ?_
  refine j_callI (As := []) (rest := []) (n := 0) hC hvc (lw_meth q141) q46 q638 q140 rfl (by decide +kernel) (g_rm hR rfl rfl) rfl rfl (g_sum rfl) dJ28_init_1 (Nat.zero_le _) (Nat.zero_le _) (g_Kvp fun hv2 => ?_)
  replace hvc := hv2; clear hv2
  refine j_iload_n hC dJ28_init_4 rfl 2 rfl ?_
  replace hvc := g_jn0_o hvc
  obtain ⟨K1, hK34, hvc⟩ := hvc
  have kh2 : K1 → g_J p l e R s m args below meth c 8 E st0 Z 58 [(0, va_rf (some a0)), (1, va_rf p0), (2, .int p1), (3, va_rf p2), (4, .int p3), (5, .int p4), (6, va_rf p5), (7, .int p6)] [] st cb sb := by
    clear hvc
    intro hvc
    replace hvc := hK34 hvc
    refine j_aload_n hC dJ28_init_58 rfl 0 rfl ?_
    refine j_aload_n hC dJ28_init_59 rfl 1 rfl ?_
    obtain ⟨fs3, hm, hvc⟩ := hvc
    refine j_putF hC fkJ28_20_J29 rfl dJ28_init_60 hm g_no g_fo (fun st4 e1 => ?_)
    replace hvc := hvc st4 e1; clear hm e1
    refine j_aload_n hC dJ28_init_63 rfl 0 rfl ?_
    refine j_iload_n hC dJ28_init_64 rfl 2 rfl ?_
    obtain ⟨⟨hn1, hn2⟩, hvc⟩ := hvc
    obtain ⟨fs5, hm, hvc⟩ := hvc
    refine j_putF hC fkJ28_26_J29 rfl dJ28_init_65 hm hn1 hn2 (fun st6 e1 => ?_)
    replace hvc := hvc st6 e1; clear hm e1
    refine j_aload_n hC dJ28_init_68 rfl 0 rfl ?_
    refine j_aload_n hC dJ28_init_69 rfl 3 rfl ?_
    obtain ⟨fs7, hm, hvc⟩ := hvc
    refine j_putF hC fkJ28_30_J29 rfl dJ28_init_70 hm g_no g_fo (fun st8 e1 => ?_)
    replace hvc := hvc st8 e1; clear hm e1
    refine j_aload_n hC dJ28_init_73 rfl 0 rfl ?_
    refine j_iload hC dJ28_init_74 4 rfl ?_
    obtain ⟨⟨hn1, hn2⟩, hvc⟩ := hvc
    obtain ⟨fs9, hm, hvc⟩ := hvc
    refine j_putF hC fkJ28_34_J29 rfl dJ28_init_76 hm hn1 hn2 (fun st10 e1 => ?_)
    replace hvc := hvc st10 e1; clear hm e1
    refine j_aload_n hC dJ28_init_79 rfl 0 rfl ?_
    refine j_iload hC dJ28_init_80 5 rfl ?_
    obtain ⟨⟨hn1, hn2⟩, hvc⟩ := hvc
    obtain ⟨fs11, hm, hvc⟩ := hvc
    refine j_putF hC fkJ28_37_J29 rfl dJ28_init_82 hm hn1 hn2 (fun st12 e1 => ?_)
    replace hvc := hvc st12 e1; clear hm e1
    refine j_aload_n hC dJ28_init_85 rfl 0 rfl ?_
    refine j_aload hC dJ28_init_86 6 rfl ?_
    obtain ⟨fs13, hm, hvc⟩ := hvc
    refine j_putF hC fkJ28_40_J29 rfl dJ28_init_88 hm g_no g_fo (fun st14 e1 => ?_)
    replace hvc := hvc st14 e1; clear hm e1
    refine j_aload_n hC dJ28_init_91 rfl 0 rfl ?_
    refine j_iload hC dJ28_init_92 7 rfl ?_
    obtain ⟨⟨hn1, hn2⟩, hvc⟩ := hvc
    obtain ⟨fs15, hm, hvc⟩ := hvc
    refine j_putF hC fkJ28_43_J29 rfl dJ28_init_94 hm hn1 hn2 (fun st16 e1 => ?_)
    replace hvc := hvc st16 e1; clear hm e1
    exact hret _ _ _ _ _ dJ28_init_97 hvc
  replace hvc := g_jn0_o hvc
  obtain ⟨K17, hK33, hvc⟩ := hvc
  have kh18 : K17 → g_J p l e R s m args below meth c 8 E st0 Z 33 [(0, va_rf (some a0)), (1, va_rf p0), (2, .int p1), (3, va_rf p2), (4, .int p3), (5, .int p4), (6, va_rf p5), (7, .int p6)] [] st cb sb := by
    clear hvc
    intro hvc
    replace hvc := hK33 hvc
    refine j_iload_n hC dJ28_init_33 rfl 2 rfl ?_
    replace hvc := g_jn0_o hvc
    obtain ⟨K19, hK27, hvc⟩ := hvc
    have kh20 : K19 → g_J p l e R s m args below meth c 8 E st0 Z 44 [(0, va_rf (some a0)), (1, va_rf p0), (2, .int p1), (3, va_rf p2), (4, .int p3), (5, .int p4), (6, va_rf p5), (7, .int p6)] [] st cb sb := by
      clear hvc
      intro hvc
      replace hvc := hK27 hvc
      refine j_iload hC dJ28_init_44 5 rfl ?_
      refine j_if_ne (tgt := 58) hC dJ28_init_46 rfl (fun c21 => ?_) (fun c21 => ?_)
      · replace hvc := hvc.1 c21
        exact j_sub [0, 1, 2, 3, 4, 5, 6, 7] rfl (kh2 hvc)
      · replace hvc := hvc.2 c21
        refine j_aload_n hC dJ28_init_49 rfl 1 rfl ?_
        refine j_aload hC dJ28_init_50 6 rfl ?_
        refine j_aload hC dJ28_init_52 6 rfl ?_
        obtain ⟨a22, rfl, hvc⟩ := hvc
        obtain ⟨⟨fs, hr⟩, hvc⟩ := hvc
        refine j_callV (As := [va_rf p5, va_rf p5]) (rest := []) (n := 2) (ci := 3) hC hvc (lw_V q639 q640 q641 q47 q642) (by decide +kernel) (g_rm hR rfl rfl) rfl hr rfl rfl (g_sum rfl) dJ28_init_54 (Nat.zero_le _) (Nat.zero_le _) (g_Kip fun x23 hv2 => ?_)
        replace hvc := hv2; clear hv2
        clear hr fs
        refine j_pop hC dJ28_init_57 rfl ?_
        exact j_sub [0, 1, 2, 3, 4, 5, 6, 7] rfl (kh2 hvc)
    refine j_if_ne (tgt := 44) hC dJ28_init_34 rfl (fun c24 => ?_) (fun c24 => ?_)
    · replace hvc := hvc.1 c24
      exact j_sub [0, 1, 2, 3, 4, 5, 6, 7] rfl (kh20 hvc)
    · replace hvc := hvc.2 c24
      refine j_aload_n hC dJ28_init_37 rfl 1 rfl ?_
      refine j_aload_n hC dJ28_init_38 rfl 3 rfl ?_
      refine j_aload_n hC dJ28_init_39 rfl 3 rfl ?_
      obtain ⟨a25, rfl, hvc⟩ := hvc
      obtain ⟨⟨fs, hr⟩, hvc⟩ := hvc
      refine j_callV (As := [va_rf p2, va_rf p2]) (rest := []) (n := 2) (ci := 3) hC hvc (lw_V q639 q640 q641 q47 q642) (by decide +kernel) (g_rm hR rfl rfl) rfl hr rfl rfl (g_sum rfl) dJ28_init_40 (Nat.zero_le _) (Nat.zero_le _) (g_Kip fun x26 hv2 => ?_)
      replace hvc := hv2; clear hv2
      clear hr fs
      refine j_pop hC dJ28_init_43 rfl ?_
      exact j_sub [0, 1, 2, 3, 4, 5, 6, 7] rfl (kh20 hvc)
  refine j_if_ne (tgt := 33) hC dJ28_init_5 rfl (fun c28 => ?_) (fun c28 => ?_)
  · replace hvc := hvc.1 c28
    exact j_sub [0, 1, 2, 3, 4, 5, 6, 7] rfl (kh18 hvc)
  · replace hvc := hvc.2 c28
    refine j_iload hC dJ28_init_8 5 rfl ?_
    refine j_if_ne (tgt := 33) hC dJ28_init_10 rfl (fun c29 => ?_) (fun c29 => ?_)
    · replace hvc := hvc.1 c29
      exact j_sub [0, 1, 2, 3, 4, 5, 6, 7] rfl (kh18 hvc)
    · replace hvc := hvc.2 c29
      refine j_aload_n hC dJ28_init_13 rfl 1 rfl ?_
      refine j_aload_n hC dJ28_init_14 rfl 3 rfl ?_
      refine j_aload hC dJ28_init_15 6 rfl ?_
      obtain ⟨a30, rfl, hvc⟩ := hvc
      obtain ⟨⟨fs, hr⟩, hvc⟩ := hvc
      refine j_callV (As := [va_rf p2, va_rf p5]) (rest := []) (n := 2) (ci := 3) hC hvc (lw_V q639 q640 q641 q47 q642) (by decide +kernel) (g_rm hR rfl rfl) rfl hr rfl rfl (g_sum rfl) dJ28_init_17 (Nat.zero_le _) (Nat.zero_le _) (g_Kip fun x31 hv2 => ?_)
      replace hvc := hv2; clear hv2
      clear hr fs
      refine j_if_le (tgt := 58) hC dJ28_init_20 rfl (fun c32 => ?_) (fun c32 => ?_)
      · replace hvc := hvc.1 c32
        exact j_sub [0, 1, 2, 3, 4, 5, 6, 7] rfl (kh2 hvc)
      · replace hvc := hvc.2 c32
        exact hvc.elim
theorem wk_J28_init {l : Launch} {E : g_E} {a0 : Nat} {p0 : Option Nat} {p1 : Int32} {p2 : Option Nat} {p3 : Int32} {p4 : Int32} {p5 : Option Nat} {p6 : Int32} {st : g_St} {mc ms : Nat} {Q : g_St → Prop} (hvc : vc_J28_init l E a0 p0 p1 p2 p3 p4 p5 p6 st Q) : wp_J28_init l E mc ms [va_rf (some a0), va_rf p0, .int p1, va_rf p2, .int p3, .int p4, va_rf p5, .int p6] st Q :=
  g_enter (lv0 := [(0, va_rf (some a0)), (1, va_rf p0), (2, .int p1), (3, va_rf p2), (4, .int p3), (5, .int p4), (6, va_rf p5), (7, .int p6)]) (plainFor_of_name (by decide +kernel)) (by simp [lv_args, g_c1, g_ci, g_cL]) (by simp [lg_sl, g_c1, g_ci, g_cL]) (fun p e s m args below meth c hC => wb_J28_init hC ⟨Nat.le_refl _, Nat.le_refl _⟩ (fun pc lv st1 cb sb hd hq => j_return hC rfl hd ⟨rfl, hq⟩) hvc)
abbrev wp_J29_init (l : Launch) (E : g_E) (mc ms : Nat) (av : List Value) (st : g_St) (Q : g_St → Prop) : Prop := g_WPv l E yJ29_init cJ29_init 8 none 11 286 mc ms av st Q
def vc_J29_init (l : Launch) (E : g_E) (a0 : Nat) (p0 : Option Nat) (p1 : Int32) (p2 : Option Nat) (p3 : Int32) (p4 : Int32) (p5 : Option Nat) (p6 : Int32) (st : g_St) (Q : g_St → Prop) : Prop :=
  wp_J28_init l E 0 0 [va_rf (some a0), va_rf p0, .int p1, va_rf p2, .int p3, .int p4, va_rf p5, .int p6] st (fun st1 => g_Ext st st1 → Q st1)
set_option maxHeartbeats 4000000 in
theorem wb_J29_init {p : Program} {l : Launch} {e : Env} {R : Room} {s : State} {m : MethodId} {args : Array Value} {below : List Frame} {meth : Method} {c : Code} {E : g_E} {st0 : g_St} {Z : State → Prop} (hC : g_Cx p s m args meth c cJ29_init 8 "java/util/TreeMap$AscendingSubMap" none "<init>" E st0) (hR : g_Rm 11 286 R) {a0 : Nat} {p0 : Option Nat} {p1 : Int32} {p2 : Option Nat} {p3 : Int32} {p4 : Int32} {p5 : Option Nat} {p6 : Int32} {st : g_St} {cb sb : Nat} {Q : g_St → Prop} (hret : ∀ (pc : Nat) (lv : List (Nat × Value)) (st1 : g_St) (cb sb : Nat), decode cJ29_init pc = .ok (.return_, 1) → Q st1 → g_J p l e R s m args below meth c 8 E st0 Z pc lv [] st1 cb sb) (hvc : vc_J29_init l E a0 p0 p1 p2 p3 p4 p5 p6 st Q) : g_J p l e R s m args below meth c 8 E st0 Z 0 [(0, va_rf (some a0)), (1, va_rf p0), (2, .int p1), (3, va_rf p2), (4, .int p3), (5, .int p4), (6, va_rf p5), (7, .int p6)] [] st cb sb := by
  unfold vc_J29_init at hvc
  refine j_aload_n hC dJ29_init_0 rfl 0 rfl ?_
  refine j_aload_n hC dJ29_init_1 rfl 1 rfl ?_
  refine j_iload_n hC dJ29_init_2 rfl 2 rfl ?_
  refine j_aload_n hC dJ29_init_3 rfl 3 rfl ?_
  refine j_iload hC dJ29_init_4 4 rfl ?_
  refine j_iload hC dJ29_init_6 5 rfl ?_
  refine j_aload hC dJ29_init_8 6 rfl ?_
  refine j_iload hC dJ29_init_10 7 rfl ?_
  refine j_callI (As := [va_rf p0, .int p1, va_rf p2, .int p3, .int p4, va_rf p5, .int p6]) (rest := []) (n := 7) hC hvc (lw_meth q637) q74 q635 q636 rfl (by decide +kernel) (g_rm hR rfl rfl) rfl rfl (g_sum rfl) dJ29_init_12 (Nat.zero_le _) (Nat.zero_le _) (g_Kv fun st1 hv2 hx => ?_)
  replace hvc := hv2 hx; clear hx hv2
  exact hret _ _ _ _ _ dJ29_init_15 hvc
theorem wk_J29_init {l : Launch} {E : g_E} {a0 : Nat} {p0 : Option Nat} {p1 : Int32} {p2 : Option Nat} {p3 : Int32} {p4 : Int32} {p5 : Option Nat} {p6 : Int32} {st : g_St} {mc ms : Nat} {Q : g_St → Prop} (hvc : vc_J29_init l E a0 p0 p1 p2 p3 p4 p5 p6 st Q) : wp_J29_init l E mc ms [va_rf (some a0), va_rf p0, .int p1, va_rf p2, .int p3, .int p4, va_rf p5, .int p6] st Q :=
  g_enter (lv0 := [(0, va_rf (some a0)), (1, va_rf p0), (2, .int p1), (3, va_rf p2), (4, .int p3), (5, .int p4), (6, va_rf p5), (7, .int p6)]) (plainFor_of_name (by decide +kernel)) (by simp [lv_args, g_c1, g_ci, g_cL]) (by simp [lg_sl, g_c1, g_ci, g_cL]) (fun p e s m args below meth c hC => wb_J29_init hC ⟨Nat.le_refl _, Nat.le_refl _⟩ (fun pc lv st1 cb sb hd hq => j_return hC rfl hd ⟨rfl, hq⟩) hvc)
abbrev wp_J5_headMap_2 (l : Launch) (E : g_E) (mc ms : Nat) (av : List Value) (st : g_St) (Q : Option Nat → g_St → Prop) : Prop := g_WPa l E yJ5_headMap_2 cJ5_headMap_2 3 (some (.object "java/util/NavigableMap")) 12 313 mc ms av st Q
def vc_J5_headMap_2 (l : Launch) (E : g_E) (a0 : Nat) (p0 : Option Nat) (p1 : Int32) (st : g_St) (cb sb : Nat) (Q : Option Nat → g_St → Prop) : Prop :=
  1 ≤ cb ∧ 12 ≤ sb ∧ ∀ (q1 : Nat) (st2 : g_St), q1 = st.2.2 → st2 = g_new st (.inr (5, [va_rf none, va_rf none, va_rf none, .int 0, .int 0, .int 0, .int 0, va_rf none, va_rf none, va_rf none, va_rf none, va_rf none])) → wp_J29_init l E 0 0 [va_rf (some q1), va_rf (some a0), .int (nI 1), va_rf none, .int (nI 1), .int (nI 0), va_rf p0, .int p1] st2 (fun st3 => g_Ext st2 st3 → Q (some q1) st3)
set_option maxHeartbeats 4000000 in
theorem wb_J5_headMap_2 {p : Program} {l : Launch} {e : Env} {R : Room} {s : State} {m : MethodId} {args : Array Value} {below : List Frame} {meth : Method} {c : Code} {E : g_E} {st0 : g_St} {Z : State → Prop} (hC : g_Cx p s m args meth c cJ5_headMap_2 3 "java/util/TreeMap" (some (.object "java/util/NavigableMap")) "headMap" E st0) (hR : g_Rm 12 313 R) {a0 : Nat} {p0 : Option Nat} {p1 : Int32} {st : g_St} {cb sb : Nat} {Q : Option Nat → g_St → Prop} (hret : ∀ (pc : Nat) (lv : List (Nat × Value)) (v : Option Nat) (st1 : g_St) (cb sb : Nat), decode cJ5_headMap_2 pc = .ok (.areturn, 1) → Q v st1 → g_J p l e R s m args below meth c 3 E st0 Z pc lv [va_rf v] st1 cb sb) (hvc : vc_J5_headMap_2 l E a0 p0 p1 st cb sb Q) : g_J p l e R s m args below meth c 3 E st0 Z 0 [(0, va_rf (some a0)), (1, va_rf p0), (2, .int p1)] [] st cb sb := by
  unfold vc_J5_headMap_2 at hvc
  obtain ⟨h1, h2, hvc⟩ := hvc
  refine j_new hC nwJ5_250 dJ5_headMap_2_0 (n := 12) rfl h1 h2 (fun q1 st2 e1 e2 => ?_)
  replace hvc := hvc q1 st2 e1 e2; clear h1 h2 e1 e2
  refine j_dup hC dJ5_headMap_2_3 g_c1 ?_
  refine j_aload_n hC dJ5_headMap_2_4 rfl 0 rfl ?_
  refine j_iconst hC (nI 1) dJ5_headMap_2_5 rfl ?_
  refine j_null hC dJ5_headMap_2_6 ?_
  refine j_iconst hC (nI 1) dJ5_headMap_2_7 rfl ?_
  refine j_iconst hC (nI 0) dJ5_headMap_2_8 rfl ?_
  refine j_aload_n hC dJ5_headMap_2_9 rfl 1 rfl ?_
  refine j_iload_n hC dJ5_headMap_2_10 rfl 2 rfl ?_
  refine j_callI (As := [va_rf (some a0), .int (nI 1), va_rf none, .int (nI 1), .int (nI 0), va_rf p0, .int p1]) (rest := [va_rf (some q1)]) (n := 7) hC hvc (lw_meth q634) q75 q632 q633 rfl (by decide +kernel) (g_rm hR rfl rfl) rfl rfl (g_sum rfl) dJ5_headMap_2_11 (Nat.zero_le _) (Nat.zero_le _) (g_Kv fun st3 hv2 hx => ?_)
  replace hvc := hv2 hx; clear hx hv2
  exact hret _ _ _ _ _ _ dJ5_headMap_2_14 hvc
theorem wk_J5_headMap_2 {l : Launch} {E : g_E} {a0 : Nat} {p0 : Option Nat} {p1 : Int32} {st : g_St} {mc ms : Nat} {Q : Option Nat → g_St → Prop} (hvc : vc_J5_headMap_2 l E a0 p0 p1 st mc ms Q) : wp_J5_headMap_2 l E mc ms [va_rf (some a0), va_rf p0, .int p1] st Q :=
  g_enter (lv0 := [(0, va_rf (some a0)), (1, va_rf p0), (2, .int p1)]) (plainFor_of_name (by decide +kernel)) (by simp [lv_args, g_c1, g_ci, g_cL]) (by simp [lg_sl, g_c1, g_ci, g_cL]) (fun p e s m args below meth c hC => wb_J5_headMap_2 hC ⟨Nat.le_refl _, Nat.le_refl _⟩ (fun pc lv v st1 cb sb hd hq => j_areturn hC rfl (by first | exact Or.inl ⟨_, rfl⟩ | exact Or.inr ⟨_, rfl⟩) hd (g_av hq)) hvc)
abbrev wp_J5_headMap (l : Launch) (E : g_E) (mc ms : Nat) (av : List Value) (st : g_St) (Q : Option Nat → g_St → Prop) : Prop := g_WPa l E yJ5_headMap cJ5_headMap 2 (some (.object "java/util/SortedMap")) 13 335 mc ms av st Q
def vc_J5_headMap (l : Launch) (E : g_E) (a0 : Nat) (p0 : Option Nat) (st : g_St) (cb sb : Nat) (Q : Option Nat → g_St → Prop) : Prop :=
  ∃ mc3 ms4 : Nat, mc3 ≤ cb ∧ ms4 ≤ sb ∧ g_is st a0 3 ∧ wp_J5_headMap_2 l E mc3 ms4 [va_rf (some a0), va_rf p0, .int (nI 0)] st (fun o1 st2 => g_Ext st st2 → Q o1 st2)
set_option maxHeartbeats 4000000 in
theorem wb_J5_headMap {p : Program} {l : Launch} {e : Env} {R : Room} {s : State} {m : MethodId} {args : Array Value} {below : List Frame} {meth : Method} {c : Code} {E : g_E} {st0 : g_St} {Z : State → Prop} (hC : g_Cx p s m args meth c cJ5_headMap 2 "java/util/TreeMap" (some (.object "java/util/SortedMap")) "headMap" E st0) (hR : g_Rm 13 335 R) {a0 : Nat} {p0 : Option Nat} {st : g_St} {cb sb : Nat} {Q : Option Nat → g_St → Prop} (hret : ∀ (pc : Nat) (lv : List (Nat × Value)) (v : Option Nat) (st1 : g_St) (cb sb : Nat), decode cJ5_headMap pc = .ok (.areturn, 1) → Q v st1 → g_J p l e R s m args below meth c 2 E st0 Z pc lv [va_rf v] st1 cb sb) (hvc : vc_J5_headMap l E a0 p0 st cb sb Q) : g_J p l e R s m args below meth c 2 E st0 Z 0 [(0, va_rf (some a0)), (1, va_rf p0)] [] st cb sb := by
  unfold vc_J5_headMap at hvc
  refine j_aload_n hC dJ5_headMap_0 rfl 0 rfl ?_
  refine j_aload_n hC dJ5_headMap_1 rfl 1 rfl ?_
  refine j_iconst hC (nI 0) dJ5_headMap_2 rfl ?_
  obtain ⟨mc3, ms4, h1, h2, hvc⟩ := hvc
  obtain ⟨⟨fs, hr⟩, hvc⟩ := hvc
  refine j_callV (As := [va_rf p0, .int (nI 0)]) (rest := []) (n := 2) (ci := 3) hC hvc (lw_V q626 q627 q628 q47 q629) (by decide +kernel) (g_rm hR rfl rfl) rfl hr rfl rfl (g_sum rfl) dJ5_headMap_3 h1 h2 (g_Ka fun o1 st2 hv2 hx => ?_)
  replace hvc := hv2 hx; clear hx hv2
  clear hr fs
  exact hret _ _ _ _ _ _ dJ5_headMap_6 hvc
theorem wk_J5_headMap {l : Launch} {E : g_E} {a0 : Nat} {p0 : Option Nat} {st : g_St} {mc ms : Nat} {Q : Option Nat → g_St → Prop} (hvc : vc_J5_headMap l E a0 p0 st mc ms Q) : wp_J5_headMap l E mc ms [va_rf (some a0), va_rf p0] st Q :=
  g_enter (lv0 := [(0, va_rf (some a0)), (1, va_rf p0)]) (plainFor_of_name (by decide +kernel)) (by simp [lv_args, g_c1, g_ci, g_cL]) (by simp [lg_sl, g_c1, g_ci, g_cL]) (fun p e s m args below meth c hC => wb_J5_headMap hC ⟨Nat.le_refl _, Nat.le_refl _⟩ (fun pc lv v st1 cb sb hd hq => j_areturn hC rfl (by first | exact Or.inl ⟨_, rfl⟩ | exact Or.inr ⟨_, rfl⟩) hd (g_av hq)) hvc)
abbrev wp_J30_init_J33 (l : Launch) (E : g_E) (mc ms : Nat) (av : List Value) (st : g_St) (Q : g_St → Prop) : Prop := g_WPv l E yJ30_init cJ30_init 1 none 1 40 mc ms av st Q
def vc_J30_init_J33 (l : Launch) (E : g_E) (a0 : Nat) (st : g_St) (Q : g_St → Prop) : Prop :=
  Q st
set_option maxHeartbeats 4000000 in
theorem wb_J30_init_J33 {p : Program} {l : Launch} {e : Env} {R : Room} {s : State} {m : MethodId} {args : Array Value} {below : List Frame} {meth : Method} {c : Code} {E : g_E} {st0 : g_St} {Z : State → Prop} (hC : g_Cx p s m args meth c cJ30_init 1 "java/util/AbstractCollection" none "<init>" E st0) (hR : g_Rm 1 40 R) {a0 : Nat} {st : g_St} {cb sb : Nat} {Q : g_St → Prop} (hret : ∀ (pc : Nat) (lv : List (Nat × Value)) (st1 : g_St) (cb sb : Nat), decode cJ30_init pc = .ok (.return_, 1) → Q st1 → g_J p l e R s m args below meth c 1 E st0 Z pc lv [] st1 cb sb) (hvc : vc_J30_init_J33 l E a0 st Q) : g_J p l e R s m args below meth c 1 E st0 Z 0 [(0, va_rf (some a0))] [] st cb sb := by
  unfold vc_J30_init_J33 at hvc
  refine j_aload_n hC dJ30_init_0 rfl 0 rfl ?_
  refine j_objInit hC q913 q99 q100 (Nat.le_trans (Nat.le_of_ble_eq_true rfl) hR.1) (Nat.le_trans (g_sumO rfl) hR.2) dJ30_init_1 ?_
  exact hret _ _ _ _ _ dJ30_init_4 hvc
theorem wk_J30_init_J33 {l : Launch} {E : g_E} {a0 : Nat} {st : g_St} {mc ms : Nat} {Q : g_St → Prop} (hvc : vc_J30_init_J33 l E a0 st Q) : wp_J30_init_J33 l E mc ms [va_rf (some a0)] st Q :=
  g_enter (lv0 := [(0, va_rf (some a0))]) (plainFor_of_name (by decide +kernel)) (by simp [lv_args, g_c1, g_ci, g_cL]) (by simp [lg_sl, g_c1, g_ci, g_cL]) (fun p e s m args below meth c hC => wb_J30_init_J33 hC ⟨Nat.le_refl _, Nat.le_refl _⟩ (fun pc lv st1 cb sb hd hq => j_return hC rfl hd ⟨rfl, hq⟩) hvc)
abbrev wp_J31_init_J33 (l : Launch) (E : g_E) (mc ms : Nat) (av : List Value) (st : g_St) (Q : g_St → Prop) : Prop := g_WPv l E yJ31_init cJ31_init 1 none 2 60 mc ms av st Q
def vc_J31_init_J33 (l : Launch) (E : g_E) (a0 : Nat) (st : g_St) (Q : g_St → Prop) : Prop :=
  wp_J30_init_J33 l E 0 0 [va_rf (some a0)] st (fun stx => stx = st ∧ Q st)
set_option maxHeartbeats 4000000 in
theorem wb_J31_init_J33 {p : Program} {l : Launch} {e : Env} {R : Room} {s : State} {m : MethodId} {args : Array Value} {below : List Frame} {meth : Method} {c : Code} {E : g_E} {st0 : g_St} {Z : State → Prop} (hC : g_Cx p s m args meth c cJ31_init 1 "java/util/AbstractSet" none "<init>" E st0) (hR : g_Rm 2 60 R) {a0 : Nat} {st : g_St} {cb sb : Nat} {Q : g_St → Prop} (hret : ∀ (pc : Nat) (lv : List (Nat × Value)) (st1 : g_St) (cb sb : Nat), decode cJ31_init pc = .ok (.return_, 1) → Q st1 → g_J p l e R s m args below meth c 1 E st0 Z pc lv [] st1 cb sb) (hvc : vc_J31_init_J33 l E a0 st Q) : g_J p l e R s m args below meth c 1 E st0 Z 0 [(0, va_rf (some a0))] [] st cb sb := by
  unfold vc_J31_init_J33 at hvc
  refine j_aload_n hC dJ31_init_0 rfl 0 rfl ?_
  refine j_callI (As := []) (rest := []) (n := 0) hC hvc (lw_meth q912) q76 q910 q911 rfl (by decide +kernel) (g_rm hR rfl rfl) rfl rfl (g_sum rfl) dJ31_init_1 (Nat.zero_le _) (Nat.zero_le _) (g_Kvp fun hv2 => ?_)
  replace hvc := hv2; clear hv2
  exact hret _ _ _ _ _ dJ31_init_4 hvc
theorem wk_J31_init_J33 {l : Launch} {E : g_E} {a0 : Nat} {st : g_St} {mc ms : Nat} {Q : g_St → Prop} (hvc : vc_J31_init_J33 l E a0 st Q) : wp_J31_init_J33 l E mc ms [va_rf (some a0)] st Q :=
  g_enter (lv0 := [(0, va_rf (some a0))]) (plainFor_of_name (by decide +kernel)) (by simp [lv_args, g_c1, g_ci, g_cL]) (by simp [lg_sl, g_c1, g_ci, g_cL]) (fun p e s m args below meth c hC => wb_J31_init_J33 hC ⟨Nat.le_refl _, Nat.le_refl _⟩ (fun pc lv st1 cb sb hd hq => j_return hC rfl hd ⟨rfl, hq⟩) hvc)
abbrev wp_J32_init (l : Launch) (E : g_E) (mc ms : Nat) (av : List Value) (st : g_St) (Q : g_St → Prop) : Prop := g_WPv l E yJ32_init cJ32_init 2 none 3 80 mc ms av st Q
def vc_J32_init (l : Launch) (E : g_E) (a0 : Nat) (p0 : Option Nat) (st : g_St) (Q : g_St → Prop) : Prop :=
  ∃ fs1 : List Value, st.2.1 a0 = some (.inr (6, fs1)) ∧ ∀ st2 : g_St, st2 = g_put st a0 (.inr (6, fs1.set 2 (va_rf p0))) → wp_J31_init_J33 l E 0 0 [va_rf (some a0)] st2 (fun stx => stx = st2 ∧ ∃ fs3 : List Value, st2.2.1 a0 = some (.inr (6, fs3)) ∧ ∀ st4 : g_St, st4 = g_put st2 a0 (.inr (6, fs3.set 0 (.int (-1)))) → Q st4)
set_option maxHeartbeats 4000000 in
theorem wb_J32_init {p : Program} {l : Launch} {e : Env} {R : Room} {s : State} {m : MethodId} {args : Array Value} {below : List Frame} {meth : Method} {c : Code} {E : g_E} {st0 : g_St} {Z : State → Prop} (hC : g_Cx p s m args meth c cJ32_init 2 "java/util/TreeMap$NavigableSubMap$EntrySetView" none "<init>" E st0) (hR : g_Rm 3 80 R) {a0 : Nat} {p0 : Option Nat} {st : g_St} {cb sb : Nat} {Q : g_St → Prop} (hret : ∀ (pc : Nat) (lv : List (Nat × Value)) (st1 : g_St) (cb sb : Nat), decode cJ32_init pc = .ok (.return_, 1) → Q st1 → g_J p l e R s m args below meth c 2 E st0 Z pc lv [] st1 cb sb) (hvc : vc_J32_init l E a0 p0 st Q) : g_J p l e R s m args below meth c 2 E st0 Z 0 [(0, va_rf (some a0)), (1, va_rf p0)] [] st cb sb := by
  unfold vc_J32_init at hvc
  refine j_aload_n hC dJ32_init_0 rfl 0 rfl ?_
  refine j_aload_n hC dJ32_init_1 rfl 1 rfl ?_
  obtain ⟨fs1, hm, hvc⟩ := hvc
  refine j_putF hC fkJ32_1_J33 rfl dJ32_init_2 hm g_no g_fo (fun st2 e1 => ?_)
  replace hvc := hvc st2 e1; clear hm e1
  refine j_aload_n hC dJ32_init_5 rfl 0 rfl ?_
  refine j_callI (As := []) (rest := []) (n := 0) hC hvc (lw_meth q909) q77 q907 q908 rfl (by decide +kernel) (g_rm hR rfl rfl) rfl rfl (g_sum rfl) dJ32_init_6 (Nat.zero_le _) (Nat.zero_le _) (g_Kvp fun hv2 => ?_)
  replace hvc := hv2; clear hv2
  refine j_aload_n hC dJ32_init_9 rfl 0 rfl ?_
  refine j_iconst hC (-1) dJ32_init_10 rfl ?_
  obtain ⟨fs3, hm, hvc⟩ := hvc
  refine j_put hC fkJ32_13_J33 dJ32_init_11 hm rfl rfl (fun st4 e1 => ?_)
  replace hvc := hvc st4 e1; clear hm e1
  exact hret _ _ _ _ _ dJ32_init_14 hvc
theorem wk_J32_init {l : Launch} {E : g_E} {a0 : Nat} {p0 : Option Nat} {st : g_St} {mc ms : Nat} {Q : g_St → Prop} (hvc : vc_J32_init l E a0 p0 st Q) : wp_J32_init l E mc ms [va_rf (some a0), va_rf p0] st Q :=
  g_enter (lv0 := [(0, va_rf (some a0)), (1, va_rf p0)]) (plainFor_of_name (by decide +kernel)) (by simp [lv_args, g_c1, g_ci, g_cL]) (by simp [lg_sl, g_c1, g_ci, g_cL]) (fun p e s m args below meth c hC => wb_J32_init hC ⟨Nat.le_refl _, Nat.le_refl _⟩ (fun pc lv st1 cb sb hd hq => j_return hC rfl hd ⟨rfl, hq⟩) hvc)
abbrev wp_J33_init (l : Launch) (E : g_E) (mc ms : Nat) (av : List Value) (st : g_St) (Q : g_St → Prop) : Prop := g_WPv l E yJ33_init cJ33_init 2 none 4 101 mc ms av st Q
def vc_J33_init (l : Launch) (E : g_E) (a0 : Nat) (p0 : Option Nat) (st : g_St) (Q : g_St → Prop) : Prop :=
  ∃ fs1 : List Value, st.2.1 a0 = some (.inr (6, fs1)) ∧ ∀ st2 : g_St, st2 = g_put st a0 (.inr (6, fs1.set 3 (va_rf p0))) → wp_J32_init l E 0 0 [va_rf (some a0), va_rf p0] st2 (fun st3 => g_Ext st2 st3 → Q st3)
set_option maxHeartbeats 4000000 in
theorem wb_J33_init {p : Program} {l : Launch} {e : Env} {R : Room} {s : State} {m : MethodId} {args : Array Value} {below : List Frame} {meth : Method} {c : Code} {E : g_E} {st0 : g_St} {Z : State → Prop} (hC : g_Cx p s m args meth c cJ33_init 2 "java/util/TreeMap$AscendingSubMap$AscendingEntrySetView" none "<init>" E st0) (hR : g_Rm 4 101 R) {a0 : Nat} {p0 : Option Nat} {st : g_St} {cb sb : Nat} {Q : g_St → Prop} (hret : ∀ (pc : Nat) (lv : List (Nat × Value)) (st1 : g_St) (cb sb : Nat), decode cJ33_init pc = .ok (.return_, 1) → Q st1 → g_J p l e R s m args below meth c 2 E st0 Z pc lv [] st1 cb sb) (hvc : vc_J33_init l E a0 p0 st Q) : g_J p l e R s m args below meth c 2 E st0 Z 0 [(0, va_rf (some a0)), (1, va_rf p0)] [] st cb sb := by
  unfold vc_J33_init at hvc
  refine j_aload_n hC dJ33_init_0 rfl 0 rfl ?_
  refine j_aload_n hC dJ33_init_1 rfl 1 rfl ?_
  obtain ⟨fs1, hm, hvc⟩ := hvc
  refine j_putF hC fkJ33_1_J33 rfl dJ33_init_2 hm g_no g_fo (fun st2 e1 => ?_)
  replace hvc := hvc st2 e1; clear hm e1
  refine j_aload_n hC dJ33_init_5 rfl 0 rfl ?_
  refine j_aload_n hC dJ33_init_6 rfl 1 rfl ?_
  refine j_callI (As := [va_rf p0]) (rest := []) (n := 1) hC hvc (lw_meth q906) q78 q904 q905 rfl (by decide +kernel) (g_rm hR rfl rfl) rfl rfl (g_sum rfl) dJ33_init_7 (Nat.zero_le _) (Nat.zero_le _) (g_Kv fun st3 hv2 hx => ?_)
  replace hvc := hv2 hx; clear hx hv2
  exact hret _ _ _ _ _ dJ33_init_10 hvc
theorem wk_J33_init {l : Launch} {E : g_E} {a0 : Nat} {p0 : Option Nat} {st : g_St} {mc ms : Nat} {Q : g_St → Prop} (hvc : vc_J33_init l E a0 p0 st Q) : wp_J33_init l E mc ms [va_rf (some a0), va_rf p0] st Q :=
  g_enter (lv0 := [(0, va_rf (some a0)), (1, va_rf p0)]) (plainFor_of_name (by decide +kernel)) (by simp [lv_args, g_c1, g_ci, g_cL]) (by simp [lg_sl, g_c1, g_ci, g_cL]) (fun p e s m args below meth c hC => wb_J33_init hC ⟨Nat.le_refl _, Nat.le_refl _⟩ (fun pc lv st1 cb sb hd hq => j_return hC rfl hd ⟨rfl, hq⟩) hvc)
abbrev wp_J29_entrySet (l : Launch) (E : g_E) (mc ms : Nat) (av : List Value) (st : g_St) (Q : Option Nat → g_St → Prop) : Prop := g_WPa l E yJ29_entrySet cJ29_entrySet 2 (some (.object "java/util/Set")) 5 122 mc ms av st Q
def vc_J29_entrySet (l : Launch) (E : g_E) (a0 : Nat) (st : g_St) (cb sb : Nat) (Q : Option Nat → g_St → Prop) : Prop :=
  ∃ o1 : Option Nat, g_gr st a0 5 8 o1 ∧ g_jn4 (fun (K6 : (Option Nat) → g_St → Nat → Nat → Prop) => (o1 = none → 1 ≤ cb ∧ 4 ≤ sb ∧ ∀ (q10 : Nat) (st11 : g_St), q10 = st.2.2 → st11 = g_new st (.inr (6, [.int 0, .int 0, va_rf none, va_rf none])) → wp_J33_init l E 0 0 [va_rf (some q10), va_rf (some a0)] st11 (fun st12 => g_Ext st11 st12 → ∃ fs13 : List Value, st12.2.1 a0 = some (.inr (5, fs13)) ∧ ∀ st14 : g_St, st14 = g_put st12 a0 (.inr (5, fs13.set 8 (va_rf (some q10)))) → K6 (some q10) st14 (cb - 1) (sb - 4))) ∧ (∀ a9 : Nat, o1 = some a9 → K6 (some a9) st cb sb)) (fun (o2 : Option Nat) (st3 : g_St) (cb4 : Nat) (sb5 : Nat) => Q o2 st3)
set_option maxHeartbeats 4000000 in
theorem wb_J29_entrySet {p : Program} {l : Launch} {e : Env} {R : Room} {s : State} {m : MethodId} {args : Array Value} {below : List Frame} {meth : Method} {c : Code} {E : g_E} {st0 : g_St} {Z : State → Prop} (hC : g_Cx p s m args meth c cJ29_entrySet 2 "java/util/TreeMap$AscendingSubMap" (some (.object "java/util/Set")) "entrySet" E st0) (hR : g_Rm 5 122 R) {a0 : Nat} {st : g_St} {cb sb : Nat} {Q : Option Nat → g_St → Prop} (hret : ∀ (pc : Nat) (lv : List (Nat × Value)) (v : Option Nat) (st1 : g_St) (cb sb : Nat), decode cJ29_entrySet pc = .ok (.areturn, 1) → Q v st1 → g_J p l e R s m args below meth c 2 E st0 Z pc lv [va_rf v] st1 cb sb) (hvc : vc_J29_entrySet l E a0 st cb sb Q) : g_J p l e R s m args below meth c 2 E st0 Z 0 [(0, va_rf (some a0))] [] st cb sb := by
  unfold vc_J29_entrySet at hvc
  refine j_aload_n hC dJ29_entrySet_0 rfl 0 rfl ?_
  obtain ⟨o1, ⟨fs, hr, hv⟩, hvc⟩ := hvc
  refine j_get hC fkJ29_81_J29 dJ29_entrySet_1 hr hv ?_
  clear hv hr fs
  refine j_astore_n (lv0 := [(0, va_rf (some a0))]) hC dJ29_entrySet_4 rfl rfl [0] rfl (g_okS.h rfl g_c1 rfl) ?_
  refine j_aload_n hC dJ29_entrySet_5 rfl 0 rfl ?_
  replace hvc := g_jn4_o hvc
  obtain ⟨K6, hK15, hvc⟩ := hvc
  have kh7 : ∀ (o2 : Option Nat) (st3 : g_St) (cb4 : Nat) (sb5 : Nat), K6 o2 st3 cb4 sb5 → g_J p l e R s m args below meth c 2 E st0 Z 26 [] [va_rf o2] st3 cb4 sb5 := by
    clear hvc
    intro o2 st3 cb4 sb5 hvc
    replace hvc := hK15 _ _ _ _ hvc
    exact hret _ _ _ _ _ _ dJ29_entrySet_26 hvc
  refine j_ifnull (tgt := 13) hC dJ29_entrySet_6 rfl (fun c8 => ?_) (fun a9 c8 => ?_)
  · subst c8; replace hvc := hvc.1 rfl
    refine j_aload_n hC dJ29_entrySet_13 rfl 1 rfl ?_
    obtain ⟨h1, h2, hvc⟩ := hvc
    refine j_new hC nwJ29_85 dJ29_entrySet_14 (n := 4) rfl h1 h2 (fun q10 st11 e1 e2 => ?_)
    replace hvc := hvc q10 st11 e1 e2; clear h1 h2 e1 e2
    refine j_dup hC dJ29_entrySet_17 g_c1 ?_
    refine j_aload_n hC dJ29_entrySet_18 rfl 1 rfl ?_
    refine j_callI (As := [va_rf (some a0)]) (rest := [va_rf (some q10), va_rf (some a0)]) (n := 1) hC hvc (lw_meth q903) q79 q901 q902 rfl (by decide +kernel) (g_rm hR rfl rfl) rfl rfl (g_sum rfl) dJ29_entrySet_19 (Nat.zero_le _) (Nat.zero_le _) (g_Kv fun st12 hv2 hx => ?_)
    replace hvc := hv2 hx; clear hx hv2
    refine j_dup_x1 hC dJ29_entrySet_22 g_c1 g_c1 ?_
    obtain ⟨fs13, hm, hvc⟩ := hvc
    refine j_put hC fkJ29_81_J29 dJ29_entrySet_23 hm g_no g_fo (fun st14 e1 => ?_)
    replace hvc := hvc st14 e1; clear hm e1
    exact j_sub [] rfl (kh7 (some q10) st14 (cb - 1) (sb - 4) hvc)
  · subst c8; replace hvc := hvc.2 a9 rfl
    refine j_aload_n hC dJ29_entrySet_9 rfl 0 rfl ?_
    refine j_goto (tgt := 26) hC dJ29_entrySet_10 rfl ?_
    exact j_sub [] rfl (kh7 (some a9) st cb sb hvc)
theorem wk_J29_entrySet {l : Launch} {E : g_E} {a0 : Nat} {st : g_St} {mc ms : Nat} {Q : Option Nat → g_St → Prop} (hvc : vc_J29_entrySet l E a0 st mc ms Q) : wp_J29_entrySet l E mc ms [va_rf (some a0)] st Q :=
  g_enter (lv0 := [(0, va_rf (some a0))]) (plainFor_of_name (by decide +kernel)) (by simp [lv_args, g_c1, g_ci, g_cL]) (by simp [lg_sl, g_c1, g_ci, g_cL]) (fun p e s m args below meth c hC => wb_J29_entrySet hC ⟨Nat.le_refl _, Nat.le_refl _⟩ (fun pc lv v st1 cb sb hd hq => j_areturn hC rfl (by first | exact Or.inl ⟨_, rfl⟩ | exact Or.inr ⟨_, rfl⟩) hd (g_av hq)) hvc)
abbrev wp_J5_getHigherEntry (l : Launch) (E : g_E) (mc ms : Nat) (av : List Value) (st : g_St) (Q : Option Nat → g_St → Prop) : Prop := g_WPa l E yJ5_getHigherEntry cJ5_getHigherEntry 6 (some (.object "java/util/TreeMap$Entry")) 10 259 mc ms av st Q
def vc_J5_getHigherEntry (l : Launch) (E : g_E) (a0 : Nat) (p0 : Option Nat) (st : g_St) (Q : Option Nat → g_St → Prop) : Prop :=
  ∃ o1 : Option Nat, g_gr st a0 3 3 o1 ∧ g_lp1 (fun (K3 : (Option Nat) → Prop) (o2 : Option Nat) => (o2 = none → Q none st) ∧ (∀ a7 : Nat, o2 = some a7 → ∃ o8 : Option Nat, g_gr st a7 4 0 o8 ∧ g_is st a0 3 ∧ wp_J5_compare l E 0 0 [va_rf (some a0), va_rf p0, va_rf o8] st (fun x9 stx => stx = st ∧ g_jn1 (fun (K11 : (Option Nat) → Prop) => (0 ≤ x9 → ∃ o14 : Option Nat, g_gr st a7 4 3 o14 ∧ (o14 = none → ∃ o17 : Option Nat, g_gr st a7 4 4 o17 ∧ g_lp2 (fun (K20 : (Option Nat) → (Option Nat) → Prop) (o18 : Option Nat) (o19 : Option Nat) => g_jn0 (fun (K23 : Prop) => (o18 = none → K23) ∧ (∀ a26 : Nat, o18 = some a26 → ∃ o27 : Option Nat, g_gr st a26 4 3 o27 ∧ (¬ o19 = o27 → K23) ∧ (o19 = o27 → ∃ o29 : Option Nat, g_gr st a26 4 4 o29 ∧ K20 o29 (some a26)))) (Q o18 st)) o17 (some a7)) ∧ (∀ a16 : Nat, o14 = some a16 → ∃ o34 : Option Nat, g_gr st a7 4 3 o34 ∧ K11 o34)) ∧ (¬ 0 ≤ x9 → ∃ o35 : Option Nat, g_gr st a7 4 2 o35 ∧ (o35 = none → Q (some a7) st) ∧ (∀ a37 : Nat, o35 = some a37 → ∃ o38 : Option Nat, g_gr st a7 4 2 o38 ∧ K11 o38))) (fun (o10 : Option Nat) => K3 o10)))) o1
set_option maxHeartbeats 4000000 in
theorem wb_J5_getHigherEntry {p : Program} {l : Launch} {e : Env} {R : Room} {s : State} {m : MethodId} {args : Array Value} {below : List Frame} {meth : Method} {c : Code} {E : g_E} {st0 : g_St} {Z : State → Prop} (hC : g_Cx p s m args meth c cJ5_getHigherEntry 6 "java/util/TreeMap" (some (.object "java/util/TreeMap$Entry")) "getHigherEntry" E st0) (hR : g_Rm 10 259 R) {a0 : Nat} {p0 : Option Nat} {st : g_St} {cb sb : Nat} {Q : Option Nat → g_St → Prop} (hret : ∀ (pc : Nat) (lv : List (Nat × Value)) (v : Option Nat) (st1 : g_St) (cb sb : Nat), decode cJ5_getHigherEntry pc = .ok (.areturn, 1) → Q v st1 → g_J p l e R s m args below meth c 6 E st0 Z pc lv [va_rf v] st1 cb sb) (hvc : vc_J5_getHigherEntry l E a0 p0 st Q) : g_J p l e R s m args below meth c 6 E st0 Z 0 [(0, va_rf (some a0)), (1, va_rf p0)] [] st cb sb := by
  unfold vc_J5_getHigherEntry at hvc
  refine j_aload_n hC dJ5_getHigherEntry_0 rfl 0 rfl ?_
  obtain ⟨o1, ⟨fs, hr, hv⟩, hvc⟩ := hvc
  refine j_get hC fkJ5_101_J5 dJ5_getHigherEntry_1 hr hv ?_
  clear hv hr fs
  refine j_astore_n (lv0 := [(1, va_rf p0), (0, va_rf (some a0))]) hC dJ5_getHigherEntry_4 rfl rfl [1, 0] rfl (g_okS.h rfl g_c1 rfl) ?_
  replace hvc := g_lp1_o hvc
  obtain ⟨K3, hz40, hs41, n42, hvc⟩ := hvc
  have kh4 : ∀ (n : Nat) (o2 : Option Nat), K3 n o2 → g_J p l e R s m args below meth c 6 E st0 Z 5 [(0, va_rf (some a0)), (1, va_rf p0), (2, va_rf o2)] [] st cb sb := by
    clear hvc
    intro n
    induction n with
    | zero => intro o2 hvc; exact absurd hvc (hz40 _)
    | succ n ih5 =>
      intro o2 hvc
      replace hvc := hs41 n _ hvc
      refine j_aload_n hC dJ5_getHigherEntry_5 rfl 2 rfl ?_
      refine j_ifnull (tgt := 99) hC dJ5_getHigherEntry_6 rfl (fun c6 => ?_) (fun a7 c6 => ?_)
      · subst c6; replace hvc := hvc.1 rfl
        refine j_null hC dJ5_getHigherEntry_99 ?_
        exact hret _ _ _ _ _ _ dJ5_getHigherEntry_100 hvc
      · subst c6; replace hvc := hvc.2 a7 rfl
        refine j_aload_n hC dJ5_getHigherEntry_9 rfl 0 rfl ?_
        refine j_aload_n hC dJ5_getHigherEntry_10 rfl 1 rfl ?_
        refine j_aload_n hC dJ5_getHigherEntry_11 rfl 2 rfl ?_
        obtain ⟨o8, ⟨fs, hr, hv⟩, hvc⟩ := hvc
        refine j_get hC fkJ5_105_J27 dJ5_getHigherEntry_12 hr hv ?_
        clear hv hr fs
        obtain ⟨⟨fs, hr⟩, hvc⟩ := hvc
        refine j_callV (As := [va_rf p0, va_rf o8]) (rest := []) (n := 2) (ci := 3) hC hvc (lw_V q960 q640 q641 q47 q642) (by decide +kernel) (g_rm hR rfl rfl) rfl hr rfl rfl (g_sum rfl) dJ5_getHigherEntry_15 (Nat.zero_le _) (Nat.zero_le _) (g_Kip fun x9 hv2 => ?_)
        replace hvc := hv2; clear hv2
        clear hr fs
        refine j_istore_n (lv0 := [(2, va_rf (some a7)), (0, va_rf (some a0)), (1, va_rf p0)]) hC dJ5_getHigherEntry_18 rfl rfl [2, 0, 1] rfl (g_okS.h rfl g_c1 rfl) ?_
        refine j_iload_n hC dJ5_getHigherEntry_19 rfl 0 rfl ?_
        replace hvc := g_jn1_o hvc
        obtain ⟨K11, hK39, hvc⟩ := hvc
        have kh12 : ∀ (o10 : Option Nat), K11 o10 → g_J p l e R s m args below meth c 6 E st0 Z 96 [(0, va_rf (some a0)), (1, va_rf p0), (2, va_rf o10)] [] st cb sb := by
          clear hvc
          intro o10 hvc
          replace hvc := hK39 _ hvc
          refine j_goto (tgt := 5) hC dJ5_getHigherEntry_96 rfl ?_
          exact j_sub [0, 1, 2] rfl (ih5 o10 hvc)
        refine j_if_ge (tgt := 40) hC dJ5_getHigherEntry_20 rfl (fun c13 => ?_) (fun c13 => ?_)
        · replace hvc := hvc.1 c13
          refine j_aload_n hC dJ5_getHigherEntry_40 rfl 1 rfl ?_
          obtain ⟨o14, ⟨fs, hr, hv⟩, hvc⟩ := hvc
          refine j_get hC fkJ5_114_J27 dJ5_getHigherEntry_41 hr hv ?_
          clear hv hr fs
          refine j_ifnull (tgt := 55) hC dJ5_getHigherEntry_44 rfl (fun c15 => ?_) (fun a16 c15 => ?_)
          · subst c15; replace hvc := hvc.1 rfl
            refine j_aload_n hC dJ5_getHigherEntry_55 rfl 1 rfl ?_
            obtain ⟨o17, ⟨fs, hr, hv⟩, hvc⟩ := hvc
            refine j_get hC fkJ5_124_J27 dJ5_getHigherEntry_56 hr hv ?_
            clear hv hr fs
            refine j_astore (lv0 := [(3, .int x9), (2, va_rf (some a7)), (0, va_rf (some a0)), (1, va_rf p0)]) hC dJ5_getHigherEntry_59 rfl [0, 1, 2, 3] rfl (g_okS.h rfl rfl rfl) ?_
            refine j_aload_n hC dJ5_getHigherEntry_61 rfl 2 rfl ?_
            refine j_astore (lv0 := [(4, va_rf o17), (3, .int x9), (2, va_rf (some a7)), (0, va_rf (some a0)), (1, va_rf p0)]) hC dJ5_getHigherEntry_62 rfl [0, 1, 2, 3, 4] rfl (g_okS.h rfl g_c1 rfl) ?_
            replace hvc := g_lp2_o hvc
            obtain ⟨K20, hz31, hs32, n33, hvc⟩ := hvc
            have kh21 : ∀ (n : Nat) (o18 : Option Nat) (o19 : Option Nat), K20 n o18 o19 → g_J p l e R s m args below meth c 6 E st0 Z 64 [(4, va_rf o18), (5, va_rf o19)] [] st cb sb := by
              clear hvc
              intro n
              induction n with
              | zero => intro o18 o19 hvc; exact absurd hvc (hz31 _ _)
              | succ n ih22 =>
                intro o18 o19 hvc
                replace hvc := hs32 n _ _ hvc
                refine j_aload hC dJ5_getHigherEntry_64 0 rfl ?_
                replace hvc := g_jn0_o hvc
                obtain ⟨K23, hK30, hvc⟩ := hvc
                have kh24 : K23 → g_J p l e R s m args below meth c 6 E st0 Z 93 [(4, va_rf o18)] [] st cb sb := by
                  clear hvc
                  intro hvc
                  replace hvc := hK30 hvc
                  refine j_aload hC dJ5_getHigherEntry_93 0 rfl ?_
                  exact hret _ _ _ _ _ _ dJ5_getHigherEntry_95 hvc
                refine j_ifnull (tgt := 93) hC dJ5_getHigherEntry_66 rfl (fun c25 => ?_) (fun a26 c25 => ?_)
                · subst c25; replace hvc := hvc.1 rfl
                  exact j_sub [0] rfl (kh24 hvc)
                · subst c25; replace hvc := hvc.2 a26 rfl
                  refine j_aload hC dJ5_getHigherEntry_69 1 rfl ?_
                  refine j_aload hC dJ5_getHigherEntry_71 0 rfl ?_
                  obtain ⟨o27, ⟨fs, hr, hv⟩, hvc⟩ := hvc
                  refine j_get hC fkJ5_114_J27 dJ5_getHigherEntry_73 hr hv ?_
                  clear hv hr fs
                  refine j_acmp_ne (tgt := 93) hC dJ5_getHigherEntry_76 rfl (fun c28 => ?_) (fun c28 => ?_)
                  · replace hvc := hvc.1 c28
                    exact j_sub [0] rfl (kh24 hvc)
                  · replace hvc := hvc.2 c28
                    refine j_aload hC dJ5_getHigherEntry_79 0 rfl ?_
                    refine j_astore (lv0 := [(4, va_rf (some a26))]) hC dJ5_getHigherEntry_81 rfl [0] rfl (g_okS.h rfl g_c1 rfl) ?_
                    refine j_aload hC dJ5_getHigherEntry_83 1 rfl ?_
                    obtain ⟨o29, ⟨fs, hr, hv⟩, hvc⟩ := hvc
                    refine j_get hC fkJ5_124_J27 dJ5_getHigherEntry_85 hr hv ?_
                    clear hv hr fs
                    refine j_astore (lv0 := [(5, va_rf (some a26))]) hC dJ5_getHigherEntry_88 rfl [0] rfl (g_okS.n rfl) ?_
                    refine j_goto (tgt := 64) hC dJ5_getHigherEntry_90 rfl ?_
                    exact j_sub [0, 1] rfl (ih22 o29 (some a26) hvc)
            exact j_sub [1, 0] rfl (kh21 n33 o17 (some a7) hvc)
          · subst c15; replace hvc := hvc.2 a16 rfl
            refine j_aload_n hC dJ5_getHigherEntry_47 rfl 1 rfl ?_
            obtain ⟨o34, ⟨fs, hr, hv⟩, hvc⟩ := hvc
            refine j_get hC fkJ5_114_J27 dJ5_getHigherEntry_48 hr hv ?_
            clear hv hr fs
            refine j_astore_n (lv0 := [(1, va_rf p0), (3, .int x9), (0, va_rf (some a0))]) hC dJ5_getHigherEntry_51 rfl rfl [3, 0, 2] rfl (g_okS.h rfl g_c1 rfl) ?_
            refine j_goto (tgt := 96) hC dJ5_getHigherEntry_52 rfl ?_
            exact j_sub [3, 1, 0] rfl (kh12 o34 hvc)
        · replace hvc := hvc.2 c13
          refine j_aload_n hC dJ5_getHigherEntry_23 rfl 1 rfl ?_
          obtain ⟨o35, ⟨fs, hr, hv⟩, hvc⟩ := hvc
          refine j_get hC fkJ5_111_J27 dJ5_getHigherEntry_24 hr hv ?_
          clear hv hr fs
          refine j_ifnull (tgt := 38) hC dJ5_getHigherEntry_27 rfl (fun c36 => ?_) (fun a37 c36 => ?_)
          · subst c36; replace hvc := hvc.1 rfl
            refine j_aload_n hC dJ5_getHigherEntry_38 rfl 1 rfl ?_
            exact hret _ _ _ _ _ _ dJ5_getHigherEntry_39 hvc
          · subst c36; replace hvc := hvc.2 a37 rfl
            refine j_aload_n hC dJ5_getHigherEntry_30 rfl 1 rfl ?_
            obtain ⟨o38, ⟨fs, hr, hv⟩, hvc⟩ := hvc
            refine j_get hC fkJ5_111_J27 dJ5_getHigherEntry_31 hr hv ?_
            clear hv hr fs
            refine j_astore_n (lv0 := [(1, va_rf p0), (3, .int x9), (0, va_rf (some a0))]) hC dJ5_getHigherEntry_34 rfl rfl [3, 0, 2] rfl (g_okS.h rfl g_c1 rfl) ?_
            refine j_goto (tgt := 96) hC dJ5_getHigherEntry_35 rfl ?_
            exact j_sub [3, 1, 0] rfl (kh12 o38 hvc)
  exact j_sub [2, 1, 0] rfl (kh4 n42 o1 hvc)
theorem wk_J5_getHigherEntry {l : Launch} {E : g_E} {a0 : Nat} {p0 : Option Nat} {st : g_St} {mc ms : Nat} {Q : Option Nat → g_St → Prop} (hvc : vc_J5_getHigherEntry l E a0 p0 st Q) : wp_J5_getHigherEntry l E mc ms [va_rf (some a0), va_rf p0] st Q :=
  g_enter (lv0 := [(0, va_rf (some a0)), (1, va_rf p0)]) (plainFor_of_name (by decide +kernel)) (by simp [lv_args, g_c1, g_ci, g_cL]) (by simp [lg_sl, g_c1, g_ci, g_cL]) (fun p e s m args below meth c hC => wb_J5_getHigherEntry hC ⟨Nat.le_refl _, Nat.le_refl _⟩ (fun pc lv v st1 cb sb hd hq => j_areturn hC rfl (by first | exact Or.inl ⟨_, rfl⟩ | exact Or.inr ⟨_, rfl⟩) hd (g_av hq)) hvc)
abbrev wp_J28_tooHigh (l : Launch) (E : g_E) (mc ms : Nat) (av : List Value) (st : g_St) (Q : Int32 → g_St → Prop) : Prop := g_WPi l E yJ28_tooHigh cJ28_tooHigh 3 (some .boolean) 10 259 mc ms av st Q
def vc_J28_tooHigh (l : Launch) (E : g_E) (a0 : Nat) (p0 : Option Nat) (st : g_St) (Q : Int32 → g_St → Prop) : Prop :=
  ∃ x1 : Int32, g_gi st a0 5 4 x1 ∧ g_jn0 (fun (K2 : Prop) => (¬ x1 = 0 → K2) ∧ (x1 = 0 → ∃ o5 : Option Nat, g_gr st a0 5 0 o5 ∧ ∃ o6 : Option Nat, g_gr st a0 5 2 o6 ∧ ∃ a7 : Nat, o5 = some a7 ∧ g_is st a7 3 ∧ wp_J5_compare l E 0 0 [va_rf (some a7), va_rf p0, va_rf o6] st (fun x8 stx => stx = st ∧ g_jn0 (fun (K9 : Prop) => (0 < x8 → K9) ∧ (¬ 0 < x8 → (¬ x8 = 0 → K2) ∧ (x8 = 0 → ∃ x13 : Int32, g_gi st a0 5 6 x13 ∧ (¬ x13 = 0 → K2) ∧ (x13 = 0 → K9)))) (Q (nI 1) st)))) (Q (nI 0) st)
set_option maxHeartbeats 4000000 in
theorem wb_J28_tooHigh {p : Program} {l : Launch} {e : Env} {R : Room} {s : State} {m : MethodId} {args : Array Value} {below : List Frame} {meth : Method} {c : Code} {E : g_E} {st0 : g_St} {Z : State → Prop} (hC : g_Cx p s m args meth c cJ28_tooHigh 3 "java/util/TreeMap$NavigableSubMap" (some .boolean) "tooHigh" E st0) (hR : g_Rm 10 259 R) {a0 : Nat} {p0 : Option Nat} {st : g_St} {cb sb : Nat} {Q : Int32 → g_St → Prop} (hret : ∀ (pc : Nat) (lv : List (Nat × Value)) (v : Int32) (st1 : g_St) (cb sb : Nat), decode cJ28_tooHigh pc = .ok (.ireturn, 1) → narrow .boolean (.int v) = .int v → Q v st1 → g_J p l e R s m args below meth c 3 E st0 Z pc lv [.int v] st1 cb sb) (hvc : vc_J28_tooHigh l E a0 p0 st Q) : g_J p l e R s m args below meth c 3 E st0 Z 0 [(0, va_rf (some a0)), (1, va_rf p0)] [] st cb sb := by
  unfold vc_J28_tooHigh at hvc
  refine j_aload_n hC dJ28_tooHigh_0 rfl 0 rfl ?_
  obtain ⟨x1, ⟨fs, hr, hv⟩, hvc⟩ := hvc
  refine j_get hC fkJ28_37_J29 dJ28_tooHigh_1 hr hv ?_
  clear hv hr fs
  replace hvc := g_jn0_o hvc
  obtain ⟨K2, hK16, hvc⟩ := hvc
  have kh3 : K2 → g_J p l e R s m args below meth c 3 E st0 Z 37 [] [] st cb sb := by
    clear hvc
    intro hvc
    replace hvc := hK16 hvc
    refine j_iconst hC (nI 0) dJ28_tooHigh_37 rfl ?_
    exact hret _ _ _ _ _ _ dJ28_tooHigh_38 rfl hvc
  refine j_if_ne (tgt := 37) hC dJ28_tooHigh_4 rfl (fun c4 => ?_) (fun c4 => ?_)
  · replace hvc := hvc.1 c4
    exact j_sub [] rfl (kh3 hvc)
  · replace hvc := hvc.2 c4
    refine j_aload_n hC dJ28_tooHigh_7 rfl 0 rfl ?_
    obtain ⟨o5, ⟨fs, hr, hv⟩, hvc⟩ := hvc
    refine j_get hC fkJ28_20_J29 dJ28_tooHigh_8 hr hv ?_
    clear hv hr fs
    refine j_aload_n hC dJ28_tooHigh_11 rfl 1 rfl ?_
    refine j_aload_n hC dJ28_tooHigh_12 rfl 0 rfl ?_
    obtain ⟨o6, ⟨fs, hr, hv⟩, hvc⟩ := hvc
    refine j_get hC fkJ28_40_J29 dJ28_tooHigh_13 hr hv ?_
    clear hv hr fs
    obtain ⟨a7, rfl, hvc⟩ := hvc
    obtain ⟨⟨fs, hr⟩, hvc⟩ := hvc
    refine j_callV (As := [va_rf p0, va_rf o6]) (rest := []) (n := 2) (ci := 3) hC hvc (lw_V q639 q640 q641 q47 q642) (by decide +kernel) (g_rm hR rfl rfl) rfl hr rfl rfl (g_sum rfl) dJ28_tooHigh_16 (Nat.zero_le _) (Nat.zero_le _) (g_Kip fun x8 hv2 => ?_)
    replace hvc := hv2; clear hv2
    clear hr fs
    refine j_istore_n (lv0 := [(1, va_rf p0), (0, va_rf (some a0))]) hC dJ28_tooHigh_19 rfl rfl [1, 0] rfl (g_okS.h rfl g_c1 rfl) ?_
    refine j_iload_n hC dJ28_tooHigh_20 rfl 0 rfl ?_
    replace hvc := g_jn0_o hvc
    obtain ⟨K9, hK15, hvc⟩ := hvc
    have kh10 : K9 → g_J p l e R s m args below meth c 3 E st0 Z 35 [] [] st cb sb := by
      clear hvc
      intro hvc
      replace hvc := hK15 hvc
      refine j_iconst hC (nI 1) dJ28_tooHigh_35 rfl ?_
      exact hret _ _ _ _ _ _ dJ28_tooHigh_36 rfl hvc
    refine j_if_gt (tgt := 35) hC dJ28_tooHigh_21 rfl (fun c11 => ?_) (fun c11 => ?_)
    · replace hvc := hvc.1 c11
      exact j_sub [] rfl (kh10 hvc)
    · replace hvc := hvc.2 c11
      refine j_iload_n hC dJ28_tooHigh_24 rfl 0 rfl ?_
      refine j_if_ne (tgt := 37) hC dJ28_tooHigh_25 rfl (fun c12 => ?_) (fun c12 => ?_)
      · replace hvc := hvc.1 c12
        exact j_sub [] rfl (kh3 hvc)
      · replace hvc := hvc.2 c12
        refine j_aload_n hC dJ28_tooHigh_28 rfl 2 rfl ?_
        obtain ⟨x13, ⟨fs, hr, hv⟩, hvc⟩ := hvc
        refine j_get hC fkJ28_43_J29 dJ28_tooHigh_29 hr hv ?_
        clear hv hr fs
        refine j_if_ne (tgt := 37) hC dJ28_tooHigh_32 rfl (fun c14 => ?_) (fun c14 => ?_)
        · replace hvc := hvc.1 c14
          exact j_sub [] rfl (kh3 hvc)
        · replace hvc := hvc.2 c14
          exact j_sub [] rfl (kh10 hvc)
theorem wk_J28_tooHigh {l : Launch} {E : g_E} {a0 : Nat} {p0 : Option Nat} {st : g_St} {mc ms : Nat} {Q : Int32 → g_St → Prop} (hvc : vc_J28_tooHigh l E a0 p0 st Q) : wp_J28_tooHigh l E mc ms [va_rf (some a0), va_rf p0] st Q :=
  g_enter (lv0 := [(0, va_rf (some a0)), (1, va_rf p0)]) (plainFor_of_name (by decide +kernel)) (by simp [lv_args, g_c1, g_ci, g_cL]) (by simp [lg_sl, g_c1, g_ci, g_cL]) (fun p e s m args below meth c hC => wb_J28_tooHigh hC ⟨Nat.le_refl _, Nat.le_refl _⟩ (fun pc lv v st1 cb sb hd hn hq => j_ireturn hC rfl hn hd (g_iv hq)) hvc)
abbrev wp_J5_getCeilingEntry (l : Launch) (E : g_E) (mc ms : Nat) (av : List Value) (st : g_St) (Q : Option Nat → g_St → Prop) : Prop := g_WPa l E yJ5_getCeilingEntry cJ5_getCeilingEntry 6 (some (.object "java/util/TreeMap$Entry")) 10 259 mc ms av st Q
def vc_J5_getCeilingEntry (l : Launch) (E : g_E) (a0 : Nat) (p0 : Option Nat) (st : g_St) (Q : Option Nat → g_St → Prop) : Prop :=
  ∃ o1 : Option Nat, g_gr st a0 3 3 o1 ∧ g_lp1 (fun (K3 : (Option Nat) → Prop) (o2 : Option Nat) => (o2 = none → Q none st) ∧ (∀ a7 : Nat, o2 = some a7 → ∃ o8 : Option Nat, g_gr st a7 4 0 o8 ∧ g_is st a0 3 ∧ wp_J5_compare l E 0 0 [va_rf (some a0), va_rf p0, va_rf o8] st (fun x9 stx => stx = st ∧ g_jn1 (fun (K11 : (Option Nat) → Prop) => (0 ≤ x9 → (x9 ≤ 0 → Q (some a7) st) ∧ (¬ x9 ≤ 0 → ∃ o15 : Option Nat, g_gr st a7 4 3 o15 ∧ (o15 = none → ∃ o18 : Option Nat, g_gr st a7 4 4 o18 ∧ g_lp2 (fun (K21 : (Option Nat) → (Option Nat) → Prop) (o19 : Option Nat) (o20 : Option Nat) => g_jn0 (fun (K24 : Prop) => (o19 = none → K24) ∧ (∀ a27 : Nat, o19 = some a27 → ∃ o28 : Option Nat, g_gr st a27 4 3 o28 ∧ (¬ o20 = o28 → K24) ∧ (o20 = o28 → ∃ o30 : Option Nat, g_gr st a27 4 4 o30 ∧ K21 o30 (some a27)))) (Q o19 st)) o18 (some a7)) ∧ (∀ a17 : Nat, o15 = some a17 → ∃ o35 : Option Nat, g_gr st a7 4 3 o35 ∧ K11 o35))) ∧ (¬ 0 ≤ x9 → ∃ o36 : Option Nat, g_gr st a7 4 2 o36 ∧ (o36 = none → Q (some a7) st) ∧ (∀ a38 : Nat, o36 = some a38 → ∃ o39 : Option Nat, g_gr st a7 4 2 o39 ∧ K11 o39))) (fun (o10 : Option Nat) => K3 o10)))) o1
set_option maxHeartbeats 4000000 in
theorem wb_J5_getCeilingEntry {p : Program} {l : Launch} {e : Env} {R : Room} {s : State} {m : MethodId} {args : Array Value} {below : List Frame} {meth : Method} {c : Code} {E : g_E} {st0 : g_St} {Z : State → Prop} (hC : g_Cx p s m args meth c cJ5_getCeilingEntry 6 "java/util/TreeMap" (some (.object "java/util/TreeMap$Entry")) "getCeilingEntry" E st0) (hR : g_Rm 10 259 R) {a0 : Nat} {p0 : Option Nat} {st : g_St} {cb sb : Nat} {Q : Option Nat → g_St → Prop} (hret : ∀ (pc : Nat) (lv : List (Nat × Value)) (v : Option Nat) (st1 : g_St) (cb sb : Nat), decode cJ5_getCeilingEntry pc = .ok (.areturn, 1) → Q v st1 → g_J p l e R s m args below meth c 6 E st0 Z pc lv [va_rf v] st1 cb sb) (hvc : vc_J5_getCeilingEntry l E a0 p0 st Q) : g_J p l e R s m args below meth c 6 E st0 Z 0 [(0, va_rf (some a0)), (1, va_rf p0)] [] st cb sb := by
  unfold vc_J5_getCeilingEntry at hvc
  refine j_aload_n hC dJ5_getCeilingEntry_0 rfl 0 rfl ?_
  obtain ⟨o1, ⟨fs, hr, hv⟩, hvc⟩ := hvc
  refine j_get hC fkJ5_101_J5 dJ5_getCeilingEntry_1 hr hv ?_
  clear hv hr fs
  refine j_astore_n (lv0 := [(1, va_rf p0), (0, va_rf (some a0))]) hC dJ5_getCeilingEntry_4 rfl rfl [1, 0] rfl (g_okS.h rfl g_c1 rfl) ?_
  replace hvc := g_lp1_o hvc
  obtain ⟨K3, hz41, hs42, n43, hvc⟩ := hvc
  have kh4 : ∀ (n : Nat) (o2 : Option Nat), K3 n o2 → g_J p l e R s m args below meth c 6 E st0 Z 5 [(0, va_rf (some a0)), (1, va_rf p0), (2, va_rf o2)] [] st cb sb := by
    clear hvc
    intro n
    induction n with
    | zero => intro o2 hvc; exact absurd hvc (hz41 _)
    | succ n ih5 =>
      intro o2 hvc
      replace hvc := hs42 n _ hvc
      refine j_aload_n hC dJ5_getCeilingEntry_5 rfl 2 rfl ?_
      refine j_ifnull (tgt := 105) hC dJ5_getCeilingEntry_6 rfl (fun c6 => ?_) (fun a7 c6 => ?_)
      · subst c6; replace hvc := hvc.1 rfl
        refine j_null hC dJ5_getCeilingEntry_105 ?_
        exact hret _ _ _ _ _ _ dJ5_getCeilingEntry_106 hvc
      · subst c6; replace hvc := hvc.2 a7 rfl
        refine j_aload_n hC dJ5_getCeilingEntry_9 rfl 0 rfl ?_
        refine j_aload_n hC dJ5_getCeilingEntry_10 rfl 1 rfl ?_
        refine j_aload_n hC dJ5_getCeilingEntry_11 rfl 2 rfl ?_
        obtain ⟨o8, ⟨fs, hr, hv⟩, hvc⟩ := hvc
        refine j_get hC fkJ5_105_J27 dJ5_getCeilingEntry_12 hr hv ?_
        clear hv hr fs
        obtain ⟨⟨fs, hr⟩, hvc⟩ := hvc
        refine j_callV (As := [va_rf p0, va_rf o8]) (rest := []) (n := 2) (ci := 3) hC hvc (lw_V q960 q640 q641 q47 q642) (by decide +kernel) (g_rm hR rfl rfl) rfl hr rfl rfl (g_sum rfl) dJ5_getCeilingEntry_15 (Nat.zero_le _) (Nat.zero_le _) (g_Kip fun x9 hv2 => ?_)
        replace hvc := hv2; clear hv2
        clear hr fs
        refine j_istore_n (lv0 := [(2, va_rf (some a7)), (0, va_rf (some a0)), (1, va_rf p0)]) hC dJ5_getCeilingEntry_18 rfl rfl [2, 0, 1] rfl (g_okS.h rfl g_c1 rfl) ?_
        refine j_iload_n hC dJ5_getCeilingEntry_19 rfl 0 rfl ?_
        replace hvc := g_jn1_o hvc
        obtain ⟨K11, hK40, hvc⟩ := hvc
        have kh12 : ∀ (o10 : Option Nat), K11 o10 → g_J p l e R s m args below meth c 6 E st0 Z 102 [(0, va_rf (some a0)), (1, va_rf p0), (2, va_rf o10)] [] st cb sb := by
          clear hvc
          intro o10 hvc
          replace hvc := hK40 _ hvc
          refine j_goto (tgt := 5) hC dJ5_getCeilingEntry_102 rfl ?_
          exact j_sub [0, 1, 2] rfl (ih5 o10 hvc)
        refine j_if_ge (tgt := 40) hC dJ5_getCeilingEntry_20 rfl (fun c13 => ?_) (fun c13 => ?_)
        · replace hvc := hvc.1 c13
          refine j_iload_n hC dJ5_getCeilingEntry_40 rfl 0 rfl ?_
          refine j_if_le (tgt := 100) hC dJ5_getCeilingEntry_41 rfl (fun c14 => ?_) (fun c14 => ?_)
          · replace hvc := hvc.1 c14
            refine j_aload_n hC dJ5_getCeilingEntry_100 rfl 1 rfl ?_
            exact hret _ _ _ _ _ _ dJ5_getCeilingEntry_101 hvc
          · replace hvc := hvc.2 c14
            refine j_aload_n hC dJ5_getCeilingEntry_44 rfl 1 rfl ?_
            obtain ⟨o15, ⟨fs, hr, hv⟩, hvc⟩ := hvc
            refine j_get hC fkJ5_114_J27 dJ5_getCeilingEntry_45 hr hv ?_
            clear hv hr fs
            refine j_ifnull (tgt := 59) hC dJ5_getCeilingEntry_48 rfl (fun c16 => ?_) (fun a17 c16 => ?_)
            · subst c16; replace hvc := hvc.1 rfl
              refine j_aload_n hC dJ5_getCeilingEntry_59 rfl 1 rfl ?_
              obtain ⟨o18, ⟨fs, hr, hv⟩, hvc⟩ := hvc
              refine j_get hC fkJ5_124_J27 dJ5_getCeilingEntry_60 hr hv ?_
              clear hv hr fs
              refine j_astore (lv0 := [(3, .int x9), (2, va_rf (some a7)), (0, va_rf (some a0)), (1, va_rf p0)]) hC dJ5_getCeilingEntry_63 rfl [0, 1, 2, 3] rfl (g_okS.h rfl rfl rfl) ?_
              refine j_aload_n hC dJ5_getCeilingEntry_65 rfl 2 rfl ?_
              refine j_astore (lv0 := [(4, va_rf o18), (3, .int x9), (2, va_rf (some a7)), (0, va_rf (some a0)), (1, va_rf p0)]) hC dJ5_getCeilingEntry_66 rfl [0, 1, 2, 3, 4] rfl (g_okS.h rfl g_c1 rfl) ?_
              replace hvc := g_lp2_o hvc
              obtain ⟨K21, hz32, hs33, n34, hvc⟩ := hvc
              have kh22 : ∀ (n : Nat) (o19 : Option Nat) (o20 : Option Nat), K21 n o19 o20 → g_J p l e R s m args below meth c 6 E st0 Z 68 [(4, va_rf o19), (5, va_rf o20)] [] st cb sb := by
                clear hvc
                intro n
                induction n with
                | zero => intro o19 o20 hvc; exact absurd hvc (hz32 _ _)
                | succ n ih23 =>
                  intro o19 o20 hvc
                  replace hvc := hs33 n _ _ hvc
                  refine j_aload hC dJ5_getCeilingEntry_68 0 rfl ?_
                  replace hvc := g_jn0_o hvc
                  obtain ⟨K24, hK31, hvc⟩ := hvc
                  have kh25 : K24 → g_J p l e R s m args below meth c 6 E st0 Z 97 [(4, va_rf o19)] [] st cb sb := by
                    clear hvc
                    intro hvc
                    replace hvc := hK31 hvc
                    refine j_aload hC dJ5_getCeilingEntry_97 0 rfl ?_
                    exact hret _ _ _ _ _ _ dJ5_getCeilingEntry_99 hvc
                  refine j_ifnull (tgt := 97) hC dJ5_getCeilingEntry_70 rfl (fun c26 => ?_) (fun a27 c26 => ?_)
                  · subst c26; replace hvc := hvc.1 rfl
                    exact j_sub [0] rfl (kh25 hvc)
                  · subst c26; replace hvc := hvc.2 a27 rfl
                    refine j_aload hC dJ5_getCeilingEntry_73 1 rfl ?_
                    refine j_aload hC dJ5_getCeilingEntry_75 0 rfl ?_
                    obtain ⟨o28, ⟨fs, hr, hv⟩, hvc⟩ := hvc
                    refine j_get hC fkJ5_114_J27 dJ5_getCeilingEntry_77 hr hv ?_
                    clear hv hr fs
                    refine j_acmp_ne (tgt := 97) hC dJ5_getCeilingEntry_80 rfl (fun c29 => ?_) (fun c29 => ?_)
                    · replace hvc := hvc.1 c29
                      exact j_sub [0] rfl (kh25 hvc)
                    · replace hvc := hvc.2 c29
                      refine j_aload hC dJ5_getCeilingEntry_83 0 rfl ?_
                      refine j_astore (lv0 := [(4, va_rf (some a27))]) hC dJ5_getCeilingEntry_85 rfl [0] rfl (g_okS.h rfl g_c1 rfl) ?_
                      refine j_aload hC dJ5_getCeilingEntry_87 1 rfl ?_
                      obtain ⟨o30, ⟨fs, hr, hv⟩, hvc⟩ := hvc
                      refine j_get hC fkJ5_124_J27 dJ5_getCeilingEntry_89 hr hv ?_
                      clear hv hr fs
                      refine j_astore (lv0 := [(5, va_rf (some a27))]) hC dJ5_getCeilingEntry_92 rfl [0] rfl (g_okS.n rfl) ?_
                      refine j_goto (tgt := 68) hC dJ5_getCeilingEntry_94 rfl ?_
                      exact j_sub [0, 1] rfl (ih23 o30 (some a27) hvc)
              exact j_sub [1, 0] rfl (kh22 n34 o18 (some a7) hvc)
            · subst c16; replace hvc := hvc.2 a17 rfl
              refine j_aload_n hC dJ5_getCeilingEntry_51 rfl 1 rfl ?_
              obtain ⟨o35, ⟨fs, hr, hv⟩, hvc⟩ := hvc
              refine j_get hC fkJ5_114_J27 dJ5_getCeilingEntry_52 hr hv ?_
              clear hv hr fs
              refine j_astore_n (lv0 := [(1, va_rf p0), (3, .int x9), (0, va_rf (some a0))]) hC dJ5_getCeilingEntry_55 rfl rfl [3, 0, 2] rfl (g_okS.h rfl g_c1 rfl) ?_
              refine j_goto (tgt := 102) hC dJ5_getCeilingEntry_56 rfl ?_
              exact j_sub [3, 1, 0] rfl (kh12 o35 hvc)
        · replace hvc := hvc.2 c13
          refine j_aload_n hC dJ5_getCeilingEntry_23 rfl 1 rfl ?_
          obtain ⟨o36, ⟨fs, hr, hv⟩, hvc⟩ := hvc
          refine j_get hC fkJ5_111_J27 dJ5_getCeilingEntry_24 hr hv ?_
          clear hv hr fs
          refine j_ifnull (tgt := 38) hC dJ5_getCeilingEntry_27 rfl (fun c37 => ?_) (fun a38 c37 => ?_)
          · subst c37; replace hvc := hvc.1 rfl
            refine j_aload_n hC dJ5_getCeilingEntry_38 rfl 1 rfl ?_
            exact hret _ _ _ _ _ _ dJ5_getCeilingEntry_39 hvc
          · subst c37; replace hvc := hvc.2 a38 rfl
            refine j_aload_n hC dJ5_getCeilingEntry_30 rfl 1 rfl ?_
            obtain ⟨o39, ⟨fs, hr, hv⟩, hvc⟩ := hvc
            refine j_get hC fkJ5_111_J27 dJ5_getCeilingEntry_31 hr hv ?_
            clear hv hr fs
            refine j_astore_n (lv0 := [(1, va_rf p0), (3, .int x9), (0, va_rf (some a0))]) hC dJ5_getCeilingEntry_34 rfl rfl [3, 0, 2] rfl (g_okS.h rfl g_c1 rfl) ?_
            refine j_goto (tgt := 102) hC dJ5_getCeilingEntry_35 rfl ?_
            exact j_sub [3, 1, 0] rfl (kh12 o39 hvc)
  exact j_sub [2, 1, 0] rfl (kh4 n43 o1 hvc)
theorem wk_J5_getCeilingEntry {l : Launch} {E : g_E} {a0 : Nat} {p0 : Option Nat} {st : g_St} {mc ms : Nat} {Q : Option Nat → g_St → Prop} (hvc : vc_J5_getCeilingEntry l E a0 p0 st Q) : wp_J5_getCeilingEntry l E mc ms [va_rf (some a0), va_rf p0] st Q :=
  g_enter (lv0 := [(0, va_rf (some a0)), (1, va_rf p0)]) (plainFor_of_name (by decide +kernel)) (by simp [lv_args, g_c1, g_ci, g_cL]) (by simp [lg_sl, g_c1, g_ci, g_cL]) (fun p e s m args below meth c hC => wb_J5_getCeilingEntry hC ⟨Nat.le_refl _, Nat.le_refl _⟩ (fun pc lv v st1 cb sb hd hq => j_areturn hC rfl (by first | exact Or.inl ⟨_, rfl⟩ | exact Or.inr ⟨_, rfl⟩) hd (g_av hq)) hvc)
abbrev wp_J5_getFirstEntry (l : Launch) (E : g_E) (mc ms : Nat) (av : List Value) (st : g_St) (Q : Option Nat → g_St → Prop) : Prop := g_WPa l E yJ5_getFirstEntry cJ5_getFirstEntry 2 (some (.object "java/util/TreeMap$Entry")) 1 40 mc ms av st Q
def vc_J5_getFirstEntry (l : Launch) (E : g_E) (a0 : Nat) (st : g_St) (Q : Option Nat → g_St → Prop) : Prop :=
  ∃ o1 : Option Nat, g_gr st a0 3 3 o1 ∧ g_jn1 (fun (K3 : (Option Nat) → Prop) => (o1 = none → K3 none) ∧ (∀ a6 : Nat, o1 = some a6 → g_lp1 (fun (K8 : (Option Nat) → Prop) (o7 : Option Nat) => ∃ a11 : Nat, o7 = some a11 ∧ ∃ o12 : Option Nat, g_gr st a11 4 2 o12 ∧ (o12 = none → K3 (some a11)) ∧ (∀ a14 : Nat, o12 = some a14 → ∃ o15 : Option Nat, g_gr st a11 4 2 o15 ∧ K8 o15)) (some a6))) (fun (o2 : Option Nat) => Q o2 st)
set_option maxHeartbeats 4000000 in
theorem wb_J5_getFirstEntry {p : Program} {l : Launch} {e : Env} {R : Room} {s : State} {m : MethodId} {args : Array Value} {below : List Frame} {meth : Method} {c : Code} {E : g_E} {st0 : g_St} {Z : State → Prop} (hC : g_Cx p s m args meth c cJ5_getFirstEntry 2 "java/util/TreeMap" (some (.object "java/util/TreeMap$Entry")) "getFirstEntry" E st0) (hR : g_Rm 1 40 R) {a0 : Nat} {st : g_St} {cb sb : Nat} {Q : Option Nat → g_St → Prop} (hret : ∀ (pc : Nat) (lv : List (Nat × Value)) (v : Option Nat) (st1 : g_St) (cb sb : Nat), decode cJ5_getFirstEntry pc = .ok (.areturn, 1) → Q v st1 → g_J p l e R s m args below meth c 2 E st0 Z pc lv [va_rf v] st1 cb sb) (hvc : vc_J5_getFirstEntry l E a0 st Q) : g_J p l e R s m args below meth c 2 E st0 Z 0 [(0, va_rf (some a0))] [] st cb sb := by
  unfold vc_J5_getFirstEntry at hvc
  refine j_aload_n hC dJ5_getFirstEntry_0 rfl 0 rfl ?_
  obtain ⟨o1, ⟨fs, hr, hv⟩, hvc⟩ := hvc
  refine j_get hC fkJ5_101_J5 dJ5_getFirstEntry_1 hr hv ?_
  clear hv hr fs
  refine j_astore_n (lv0 := [(0, va_rf (some a0))]) hC dJ5_getFirstEntry_4 rfl rfl [0] rfl (g_okS.h rfl g_c1 rfl) ?_
  refine j_aload_n hC dJ5_getFirstEntry_5 rfl 0 rfl ?_
  replace hvc := g_jn1_o hvc
  obtain ⟨K3, hK19, hvc⟩ := hvc
  have kh4 : ∀ (o2 : Option Nat), K3 o2 → g_J p l e R s m args below meth c 2 E st0 Z 24 [(1, va_rf o2)] [] st cb sb := by
    clear hvc
    intro o2 hvc
    replace hvc := hK19 _ hvc
    refine j_aload_n hC dJ5_getFirstEntry_24 rfl 0 rfl ?_
    exact hret _ _ _ _ _ _ dJ5_getFirstEntry_25 hvc
  refine j_ifnull (tgt := 24) hC dJ5_getFirstEntry_6 rfl (fun c5 => ?_) (fun a6 c5 => ?_)
  · subst c5; replace hvc := hvc.1 rfl
    exact j_sub [0] rfl (kh4 none hvc)
  · subst c5; replace hvc := hvc.2 a6 rfl
    replace hvc := g_lp1_o hvc
    obtain ⟨K8, hz16, hs17, n18, hvc⟩ := hvc
    have kh9 : ∀ (n : Nat) (o7 : Option Nat), K8 n o7 → g_J p l e R s m args below meth c 2 E st0 Z 9 [(1, va_rf o7)] [] st cb sb := by
      clear hvc
      intro n
      induction n with
      | zero => intro o7 hvc; exact absurd hvc (hz16 _)
      | succ n ih10 =>
        intro o7 hvc
        replace hvc := hs17 n _ hvc
        refine j_aload_n hC dJ5_getFirstEntry_9 rfl 0 rfl ?_
        obtain ⟨a11, rfl, hvc⟩ := hvc
        obtain ⟨o12, ⟨fs, hr, hv⟩, hvc⟩ := hvc
        refine j_get hC fkJ5_111_J27 dJ5_getFirstEntry_10 hr hv ?_
        clear hv hr fs
        refine j_ifnull (tgt := 24) hC dJ5_getFirstEntry_13 rfl (fun c13 => ?_) (fun a14 c13 => ?_)
        · subst c13; replace hvc := hvc.1 rfl
          exact j_sub [0] rfl (kh4 (some a11) hvc)
        · subst c13; replace hvc := hvc.2 a14 rfl
          refine j_aload_n hC dJ5_getFirstEntry_16 rfl 0 rfl ?_
          obtain ⟨o15, ⟨fs, hr, hv⟩, hvc⟩ := hvc
          refine j_get hC fkJ5_111_J27 dJ5_getFirstEntry_17 hr hv ?_
          clear hv hr fs
          refine j_astore_n (lv0 := []) hC dJ5_getFirstEntry_20 rfl rfl [] rfl (g_okS.n rfl) ?_
          refine j_goto (tgt := 9) hC dJ5_getFirstEntry_21 rfl ?_
          exact j_sub [0] rfl (ih10 o15 hvc)
    exact j_sub [0] rfl (kh9 n18 (some a6) hvc)
theorem wk_J5_getFirstEntry {l : Launch} {E : g_E} {a0 : Nat} {st : g_St} {mc ms : Nat} {Q : Option Nat → g_St → Prop} (hvc : vc_J5_getFirstEntry l E a0 st Q) : wp_J5_getFirstEntry l E mc ms [va_rf (some a0)] st Q :=
  g_enter (lv0 := [(0, va_rf (some a0))]) (plainFor_of_name (by decide +kernel)) (by simp [lv_args, g_c1, g_ci, g_cL]) (by simp [lg_sl, g_c1, g_ci, g_cL]) (fun p e s m args below meth c hC => wb_J5_getFirstEntry hC ⟨Nat.le_refl _, Nat.le_refl _⟩ (fun pc lv v st1 cb sb hd hq => j_areturn hC rfl (by first | exact Or.inl ⟨_, rfl⟩ | exact Or.inr ⟨_, rfl⟩) hd (g_av hq)) hvc)
abbrev wp_J28_absLowest (l : Launch) (E : g_E) (mc ms : Nat) (av : List Value) (st : g_St) (Q : Option Nat → g_St → Prop) : Prop := g_WPa l E yJ28_absLowest cJ28_absLowest 2 (some (.object "java/util/TreeMap$Entry")) 11 284 mc ms av st Q
def vc_J28_absLowest (l : Launch) (E : g_E) (a0 : Nat) (st : g_St) (Q : Option Nat → g_St → Prop) : Prop :=
  ∃ x1 : Int32, g_gi st a0 5 3 x1 ∧ g_jn1 (fun (K3 : (Option Nat) → Prop) => (x1 = 0 → ∃ x18 : Int32, g_gi st a0 5 5 x18 ∧ (x18 = 0 → ∃ o20 : Option Nat, g_gr st a0 5 0 o20 ∧ ∃ o21 : Option Nat, g_gr st a0 5 1 o21 ∧ ∃ a22 : Nat, o20 = some a22 ∧ g_is st a22 3 ∧ wp_J5_getHigherEntry l E 0 0 [va_rf (some a22), va_rf o21] st (fun o23 stx => stx = st ∧ K3 o23)) ∧ (¬ x18 = 0 → ∃ o24 : Option Nat, g_gr st a0 5 0 o24 ∧ ∃ o25 : Option Nat, g_gr st a0 5 1 o25 ∧ ∃ a26 : Nat, o24 = some a26 ∧ g_is st a26 3 ∧ wp_J5_getCeilingEntry l E 0 0 [va_rf (some a26), va_rf o25] st (fun o27 stx => stx = st ∧ K3 o27))) ∧ (¬ x1 = 0 → ∃ o28 : Option Nat, g_gr st a0 5 0 o28 ∧ ∃ a29 : Nat, o28 = some a29 ∧ g_is st a29 3 ∧ wp_J5_getFirstEntry l E 0 0 [va_rf (some a29)] st (fun o30 stx => stx = st ∧ K3 o30))) (fun (o2 : Option Nat) => g_jn1 (fun (K6 : (Option Nat) → Prop) => g_jn0 (fun (K8 : Prop) => (o2 = none → K8) ∧ (∀ a11 : Nat, o2 = some a11 → ∃ o12 : Option Nat, g_gr st a11 4 0 o12 ∧ g_is st a0 5 ∧ wp_J28_tooHigh l E 0 0 [va_rf (some a0), va_rf o12] st (fun x13 stx => stx = st ∧ (x13 = 0 → K6 (some a11)) ∧ (¬ x13 = 0 → K8)))) (K6 none)) (fun (o5 : Option Nat) => Q o5 st))
set_option maxHeartbeats 4000000 in
theorem wb_J28_absLowest {p : Program} {l : Launch} {e : Env} {R : Room} {s : State} {m : MethodId} {args : Array Value} {below : List Frame} {meth : Method} {c : Code} {E : g_E} {st0 : g_St} {Z : State → Prop} (hC : g_Cx p s m args meth c cJ28_absLowest 2 "java/util/TreeMap$NavigableSubMap" (some (.object "java/util/TreeMap$Entry")) "absLowest" E st0) (hR : g_Rm 11 284 R) {a0 : Nat} {st : g_St} {cb sb : Nat} {Q : Option Nat → g_St → Prop} (hret : ∀ (pc : Nat) (lv : List (Nat × Value)) (v : Option Nat) (st1 : g_St) (cb sb : Nat), decode cJ28_absLowest pc = .ok (.areturn, 1) → Q v st1 → g_J p l e R s m args below meth c 2 E st0 Z pc lv [va_rf v] st1 cb sb) (hvc : vc_J28_absLowest l E a0 st Q) : g_J p l e R s m args below meth c 2 E st0 Z 0 [(0, va_rf (some a0))] [] st cb sb := by
  unfold vc_J28_absLowest at hvc
  refine j_aload_n hC dJ28_absLowest_0 rfl 0 rfl ?_
  obtain ⟨x1, ⟨fs, hr, hv⟩, hvc⟩ := hvc
  refine j_get hC fkJ28_26_J29 dJ28_absLowest_1 hr hv ?_
  clear hv hr fs
  replace hvc := g_jn1_o hvc
  obtain ⟨K3, hK31, hvc⟩ := hvc
  have kh4 : ∀ (o2 : Option Nat), K3 o2 → g_J p l e R s m args below meth c 2 E st0 Z 49 [(0, va_rf (some a0))] [va_rf o2] st cb sb := by
    clear hvc
    intro o2 hvc
    replace hvc := hK31 _ hvc
    refine j_astore_n (lv0 := [(0, va_rf (some a0))]) hC dJ28_absLowest_49 rfl rfl [0] rfl (g_okS.h rfl g_c1 rfl) ?_
    refine j_aload_n hC dJ28_absLowest_50 rfl 0 rfl ?_
    replace hvc := g_jn1_o hvc
    obtain ⟨K6, hK16, hvc⟩ := hvc
    have kh7 : ∀ (o5 : Option Nat), K6 o5 → g_J p l e R s m args below meth c 2 E st0 Z 70 [] [va_rf o5] st cb sb := by
      clear hvc
      intro o5 hvc
      replace hvc := hK16 _ hvc
      exact hret _ _ _ _ _ _ dJ28_absLowest_70 hvc
    replace hvc := g_jn0_o hvc
    obtain ⟨K8, hK15, hvc⟩ := hvc
    have kh9 : K8 → g_J p l e R s m args below meth c 2 E st0 Z 65 [] [] st cb sb := by
      clear hvc
      intro hvc
      replace hvc := hK15 hvc
      refine j_null hC dJ28_absLowest_65 ?_
      refine j_goto (tgt := 70) hC dJ28_absLowest_66 rfl ?_
      exact j_sub [] rfl (kh7 none hvc)
    refine j_ifnull (tgt := 65) hC dJ28_absLowest_51 rfl (fun c10 => ?_) (fun a11 c10 => ?_)
    · subst c10; replace hvc := hvc.1 rfl
      exact j_sub [] rfl (kh9 hvc)
    · subst c10; replace hvc := hvc.2 a11 rfl
      refine j_aload_n hC dJ28_absLowest_54 rfl 1 rfl ?_
      refine j_aload_n hC dJ28_absLowest_55 rfl 0 rfl ?_
      obtain ⟨o12, ⟨fs, hr, hv⟩, hvc⟩ := hvc
      refine j_get hC fkJ28_70_J27 dJ28_absLowest_56 hr hv ?_
      clear hv hr fs
      obtain ⟨⟨fs, hr⟩, hvc⟩ := hvc
      refine j_callU (As := [va_rf o12]) (rest := []) (n := 1) (x := ⟨"java/util/TreeMap$NavigableSubMap", "tooHigh", "(Ljava/lang/Object;)Z"⟩) (C := "java/util/TreeMap$AscendingSubMap") (owner := "java/util/TreeMap$NavigableSubMap") (ci := 5) hC hvc (lw_U q965 q967 q968 q966 q74 q969) rfl (by decide +kernel) (g_rm hR rfl rfl) rfl hr rfl rfl (g_sum rfl) dJ28_absLowest_59 (Nat.zero_le _) (Nat.zero_le _) (g_Kip fun x13 hv2 => ?_)
      replace hvc := hv2; clear hv2
      clear hr fs
      refine j_if_eq (tgt := 69) hC dJ28_absLowest_62 rfl (fun c14 => ?_) (fun c14 => ?_)
      · replace hvc := hvc.1 c14
        refine j_aload_n hC dJ28_absLowest_69 rfl 0 rfl ?_
        exact j_sub [] rfl (kh7 (some a11) hvc)
      · replace hvc := hvc.2 c14
        exact j_sub [] rfl (kh9 hvc)
  refine j_if_eq (tgt := 17) hC dJ28_absLowest_4 rfl (fun c17 => ?_) (fun c17 => ?_)
  · replace hvc := hvc.1 c17
    refine j_aload_n hC dJ28_absLowest_17 rfl 0 rfl ?_
    obtain ⟨x18, ⟨fs, hr, hv⟩, hvc⟩ := hvc
    refine j_get hC fkJ28_34_J29 dJ28_absLowest_18 hr hv ?_
    clear hv hr fs
    refine j_if_eq (tgt := 38) hC dJ28_absLowest_21 rfl (fun c19 => ?_) (fun c19 => ?_)
    · replace hvc := hvc.1 c19
      refine j_aload_n hC dJ28_absLowest_38 rfl 0 rfl ?_
      obtain ⟨o20, ⟨fs, hr, hv⟩, hvc⟩ := hvc
      refine j_get hC fkJ28_20_J29 dJ28_absLowest_39 hr hv ?_
      clear hv hr fs
      refine j_aload_n hC dJ28_absLowest_42 rfl 0 rfl ?_
      obtain ⟨o21, ⟨fs, hr, hv⟩, hvc⟩ := hvc
      refine j_get hC fkJ28_30_J29 dJ28_absLowest_43 hr hv ?_
      clear hv hr fs
      obtain ⟨a22, rfl, hvc⟩ := hvc
      obtain ⟨⟨fs, hr⟩, hvc⟩ := hvc
      refine j_callV (As := [va_rf o21]) (rest := []) (n := 1) (ci := 3) hC hvc (lw_V q961 q962 q963 q47 q964) (by decide +kernel) (g_rm hR rfl rfl) rfl hr rfl rfl (g_sum rfl) dJ28_absLowest_46 (Nat.zero_le _) (Nat.zero_le _) (g_Kap fun o23 hv2 => ?_)
      replace hvc := hv2; clear hv2
      clear hr fs
      exact j_sub [0] rfl (kh4 o23 hvc)
    · replace hvc := hvc.2 c19
      refine j_aload_n hC dJ28_absLowest_24 rfl 0 rfl ?_
      obtain ⟨o24, ⟨fs, hr, hv⟩, hvc⟩ := hvc
      refine j_get hC fkJ28_20_J29 dJ28_absLowest_25 hr hv ?_
      clear hv hr fs
      refine j_aload_n hC dJ28_absLowest_28 rfl 0 rfl ?_
      obtain ⟨o25, ⟨fs, hr, hv⟩, hvc⟩ := hvc
      refine j_get hC fkJ28_30_J29 dJ28_absLowest_29 hr hv ?_
      clear hv hr fs
      obtain ⟨a26, rfl, hvc⟩ := hvc
      obtain ⟨⟨fs, hr⟩, hvc⟩ := hvc
      refine j_callV (As := [va_rf o25]) (rest := []) (n := 1) (ci := 3) hC hvc (lw_V q956 q957 q958 q47 q959) (by decide +kernel) (g_rm hR rfl rfl) rfl hr rfl rfl (g_sum rfl) dJ28_absLowest_32 (Nat.zero_le _) (Nat.zero_le _) (g_Kap fun o27 hv2 => ?_)
      replace hvc := hv2; clear hv2
      clear hr fs
      refine j_goto (tgt := 49) hC dJ28_absLowest_35 rfl ?_
      exact j_sub [0] rfl (kh4 o27 hvc)
  · replace hvc := hvc.2 c17
    refine j_aload_n hC dJ28_absLowest_7 rfl 0 rfl ?_
    obtain ⟨o28, ⟨fs, hr, hv⟩, hvc⟩ := hvc
    refine j_get hC fkJ28_20_J29 dJ28_absLowest_8 hr hv ?_
    clear hv hr fs
    obtain ⟨a29, rfl, hvc⟩ := hvc
    obtain ⟨⟨fs, hr⟩, hvc⟩ := hvc
    refine j_callV (As := []) (rest := []) (n := 0) (ci := 3) hC hvc (lw_V q952 q953 q954 q47 q955) (by decide +kernel) (g_rm hR rfl rfl) rfl hr rfl rfl (g_sum rfl) dJ28_absLowest_11 (Nat.zero_le _) (Nat.zero_le _) (g_Kap fun o30 hv2 => ?_)
    replace hvc := hv2; clear hv2
    clear hr fs
    refine j_goto (tgt := 49) hC dJ28_absLowest_14 rfl ?_
    exact j_sub [0] rfl (kh4 o30 hvc)
theorem wk_J28_absLowest {l : Launch} {E : g_E} {a0 : Nat} {st : g_St} {mc ms : Nat} {Q : Option Nat → g_St → Prop} (hvc : vc_J28_absLowest l E a0 st Q) : wp_J28_absLowest l E mc ms [va_rf (some a0)] st Q :=
  g_enter (lv0 := [(0, va_rf (some a0))]) (plainFor_of_name (by decide +kernel)) (by simp [lv_args, g_c1, g_ci, g_cL]) (by simp [lg_sl, g_c1, g_ci, g_cL]) (fun p e s m args below meth c hC => wb_J28_absLowest hC ⟨Nat.le_refl _, Nat.le_refl _⟩ (fun pc lv v st1 cb sb hd hq => j_areturn hC rfl (by first | exact Or.inl ⟨_, rfl⟩ | exact Or.inr ⟨_, rfl⟩) hd (g_av hq)) hvc)
abbrev wp_J28_absHighFence (l : Launch) (E : g_E) (mc ms : Nat) (av : List Value) (st : g_St) (Q : Option Nat → g_St → Prop) : Prop := g_WPa l E yJ28_absHighFence cJ28_absHighFence 1 (some (.object "java/util/TreeMap$Entry")) 11 284 mc ms av st Q
def vc_J28_absHighFence (l : Launch) (E : g_E) (a0 : Nat) (st : g_St) (Q : Option Nat → g_St → Prop) : Prop :=
  ∃ x1 : Int32, g_gi st a0 5 4 x1 ∧ g_jn1 (fun (K3 : (Option Nat) → Prop) => (x1 = 0 → ∃ x6 : Int32, g_gi st a0 5 6 x6 ∧ (x6 = 0 → ∃ o8 : Option Nat, g_gr st a0 5 0 o8 ∧ ∃ o9 : Option Nat, g_gr st a0 5 2 o9 ∧ ∃ a10 : Nat, o8 = some a10 ∧ g_is st a10 3 ∧ wp_J5_getCeilingEntry l E 0 0 [va_rf (some a10), va_rf o9] st (fun o11 stx => stx = st ∧ K3 o11)) ∧ (¬ x6 = 0 → ∃ o12 : Option Nat, g_gr st a0 5 0 o12 ∧ ∃ o13 : Option Nat, g_gr st a0 5 2 o13 ∧ ∃ a14 : Nat, o12 = some a14 ∧ g_is st a14 3 ∧ wp_J5_getHigherEntry l E 0 0 [va_rf (some a14), va_rf o13] st (fun o15 stx => stx = st ∧ K3 o15))) ∧ (¬ x1 = 0 → K3 none)) (fun (o2 : Option Nat) => Q o2 st)
set_option maxHeartbeats 4000000 in
theorem wb_J28_absHighFence {p : Program} {l : Launch} {e : Env} {R : Room} {s : State} {m : MethodId} {args : Array Value} {below : List Frame} {meth : Method} {c : Code} {E : g_E} {st0 : g_St} {Z : State → Prop} (hC : g_Cx p s m args meth c cJ28_absHighFence 1 "java/util/TreeMap$NavigableSubMap" (some (.object "java/util/TreeMap$Entry")) "absHighFence" E st0) (hR : g_Rm 11 284 R) {a0 : Nat} {st : g_St} {cb sb : Nat} {Q : Option Nat → g_St → Prop} (hret : ∀ (pc : Nat) (lv : List (Nat × Value)) (v : Option Nat) (st1 : g_St) (cb sb : Nat), decode cJ28_absHighFence pc = .ok (.areturn, 1) → Q v st1 → g_J p l e R s m args below meth c 1 E st0 Z pc lv [va_rf v] st1 cb sb) (hvc : vc_J28_absHighFence l E a0 st Q) : g_J p l e R s m args below meth c 1 E st0 Z 0 [(0, va_rf (some a0))] [] st cb sb := by
  unfold vc_J28_absHighFence at hvc
  refine j_aload_n hC dJ28_absHighFence_0 rfl 0 rfl ?_
  obtain ⟨x1, ⟨fs, hr, hv⟩, hvc⟩ := hvc
  refine j_get hC fkJ28_37_J29 dJ28_absHighFence_1 hr hv ?_
  clear hv hr fs
  replace hvc := g_jn1_o hvc
  obtain ⟨K3, hK16, hvc⟩ := hvc
  have kh4 : ∀ (o2 : Option Nat), K3 o2 → g_J p l e R s m args below meth c 1 E st0 Z 43 [] [va_rf o2] st cb sb := by
    clear hvc
    intro o2 hvc
    replace hvc := hK16 _ hvc
    exact hret _ _ _ _ _ _ dJ28_absHighFence_43 hvc
  refine j_if_eq (tgt := 11) hC dJ28_absHighFence_4 rfl (fun c5 => ?_) (fun c5 => ?_)
  · replace hvc := hvc.1 c5
    refine j_aload_n hC dJ28_absHighFence_11 rfl 0 rfl ?_
    obtain ⟨x6, ⟨fs, hr, hv⟩, hvc⟩ := hvc
    refine j_get hC fkJ28_43_J29 dJ28_absHighFence_12 hr hv ?_
    clear hv hr fs
    refine j_if_eq (tgt := 32) hC dJ28_absHighFence_15 rfl (fun c7 => ?_) (fun c7 => ?_)
    · replace hvc := hvc.1 c7
      refine j_aload_n hC dJ28_absHighFence_32 rfl 0 rfl ?_
      obtain ⟨o8, ⟨fs, hr, hv⟩, hvc⟩ := hvc
      refine j_get hC fkJ28_20_J29 dJ28_absHighFence_33 hr hv ?_
      clear hv hr fs
      refine j_aload_n hC dJ28_absHighFence_36 rfl 0 rfl ?_
      obtain ⟨o9, ⟨fs, hr, hv⟩, hvc⟩ := hvc
      refine j_get hC fkJ28_40_J29 dJ28_absHighFence_37 hr hv ?_
      clear hv hr fs
      obtain ⟨a10, rfl, hvc⟩ := hvc
      obtain ⟨⟨fs, hr⟩, hvc⟩ := hvc
      refine j_callV (As := [va_rf o9]) (rest := []) (n := 1) (ci := 3) hC hvc (lw_V q956 q957 q958 q47 q959) (by decide +kernel) (g_rm hR rfl rfl) rfl hr rfl rfl (g_sum rfl) dJ28_absHighFence_40 (Nat.zero_le _) (Nat.zero_le _) (g_Kap fun o11 hv2 => ?_)
      replace hvc := hv2; clear hv2
      clear hr fs
      exact j_sub [] rfl (kh4 o11 hvc)
    · replace hvc := hvc.2 c7
      refine j_aload_n hC dJ28_absHighFence_18 rfl 0 rfl ?_
      obtain ⟨o12, ⟨fs, hr, hv⟩, hvc⟩ := hvc
      refine j_get hC fkJ28_20_J29 dJ28_absHighFence_19 hr hv ?_
      clear hv hr fs
      refine j_aload_n hC dJ28_absHighFence_22 rfl 0 rfl ?_
      obtain ⟨o13, ⟨fs, hr, hv⟩, hvc⟩ := hvc
      refine j_get hC fkJ28_40_J29 dJ28_absHighFence_23 hr hv ?_
      clear hv hr fs
      obtain ⟨a14, rfl, hvc⟩ := hvc
      obtain ⟨⟨fs, hr⟩, hvc⟩ := hvc
      refine j_callV (As := [va_rf o13]) (rest := []) (n := 1) (ci := 3) hC hvc (lw_V q961 q962 q963 q47 q964) (by decide +kernel) (g_rm hR rfl rfl) rfl hr rfl rfl (g_sum rfl) dJ28_absHighFence_26 (Nat.zero_le _) (Nat.zero_le _) (g_Kap fun o15 hv2 => ?_)
      replace hvc := hv2; clear hv2
      clear hr fs
      refine j_goto (tgt := 43) hC dJ28_absHighFence_29 rfl ?_
      exact j_sub [] rfl (kh4 o15 hvc)
  · replace hvc := hvc.2 c5
    refine j_null hC dJ28_absHighFence_7 ?_
    refine j_goto (tgt := 43) hC dJ28_absHighFence_8 rfl ?_
    exact j_sub [] rfl (kh4 none hvc)
theorem wk_J28_absHighFence {l : Launch} {E : g_E} {a0 : Nat} {st : g_St} {mc ms : Nat} {Q : Option Nat → g_St → Prop} (hvc : vc_J28_absHighFence l E a0 st Q) : wp_J28_absHighFence l E mc ms [va_rf (some a0)] st Q :=
  g_enter (lv0 := [(0, va_rf (some a0))]) (plainFor_of_name (by decide +kernel)) (by simp [lv_args, g_c1, g_ci, g_cL]) (by simp [lg_sl, g_c1, g_ci, g_cL]) (fun p e s m args below meth c hC => wb_J28_absHighFence hC ⟨Nat.le_refl _, Nat.le_refl _⟩ (fun pc lv v st1 cb sb hd hq => j_areturn hC rfl (by first | exact Or.inl ⟨_, rfl⟩ | exact Or.inr ⟨_, rfl⟩) hd (g_av hq)) hvc)
abbrev wp_J34_init (l : Launch) (E : g_E) (mc ms : Nat) (av : List Value) (st : g_St) (Q : g_St → Prop) : Prop := g_WPv l E yJ34_init cJ34_init 4 none 1 40 mc ms av st Q
def vc_J34_init (l : Launch) (E : g_E) (a0 : Nat) (p0 : Option Nat) (p1 : Option Nat) (p2 : Option Nat) (st : g_St) (Q : g_St → Prop) : Prop :=
  ∃ fs1 : List Value, st.2.1 a0 = some (.inr (7, fs1)) ∧ ∀ st2 : g_St, st2 = g_put st a0 (.inr (7, fs1.set 4 (va_rf p0))) → ∃ a3 : Nat, p0 = some a3 ∧ ∃ o4 : Option Nat, g_gr st2 a3 5 0 o4 ∧ ∃ a5 : Nat, o4 = some a5 ∧ ∃ x6 : Int32, g_gi st2 a5 3 5 x6 ∧ ∃ fs7 : List Value, st2.2.1 a0 = some (.inr (7, fs7)) ∧ ∀ st8 : g_St, st8 = g_put st2 a0 (.inr (7, fs7.set 3 (.int x6))) → ∃ fs9 : List Value, st8.2.1 a0 = some (.inr (7, fs9)) ∧ ∀ st10 : g_St, st10 = g_put st8 a0 (.inr (7, fs9.set 0 (va_rf none))) → ∃ fs11 : List Value, st10.2.1 a0 = some (.inr (7, fs11)) ∧ ∀ st12 : g_St, st12 = g_put st10 a0 (.inr (7, fs11.set 1 (va_rf p1))) → g_jn1 (fun (K14 : (Option Nat) → Prop) => (p2 = none → ∀ o20 : Option Nat, o20 = E.2.2.2.2.1 4 → K14 o20) ∧ (∀ a19 : Nat, p2 = some a19 → ∃ o21 : Option Nat, g_gr st12 a19 4 0 o21 ∧ K14 o21)) (fun (o13 : Option Nat) => ∃ fs16 : List Value, st12.2.1 a0 = some (.inr (7, fs16)) ∧ ∀ st17 : g_St, st17 = g_put st12 a0 (.inr (7, fs16.set 2 (va_rf o13))) → Q st17)
set_option maxHeartbeats 4000000 in
theorem wb_J34_init {p : Program} {l : Launch} {e : Env} {R : Room} {s : State} {m : MethodId} {args : Array Value} {below : List Frame} {meth : Method} {c : Code} {E : g_E} {st0 : g_St} {Z : State → Prop} (hC : g_Cx p s m args meth c cJ34_init 4 "java/util/TreeMap$NavigableSubMap$SubMapIterator" none "<init>" E st0) (hR : g_Rm 1 40 R) {a0 : Nat} {p0 : Option Nat} {p1 : Option Nat} {p2 : Option Nat} {st : g_St} {cb sb : Nat} {Q : g_St → Prop} (hret : ∀ (pc : Nat) (lv : List (Nat × Value)) (st1 : g_St) (cb sb : Nat), decode cJ34_init pc = .ok (.return_, 1) → Q st1 → g_J p l e R s m args below meth c 4 E st0 Z pc lv [] st1 cb sb) (hvc : vc_J34_init l E a0 p0 p1 p2 st Q) : g_J p l e R s m args below meth c 4 E st0 Z 0 [(0, va_rf (some a0)), (1, va_rf p0), (2, va_rf p1), (3, va_rf p2)] [] st cb sb := by
  unfold vc_J34_init at hvc
  refine j_aload_n hC dJ34_init_0 rfl 0 rfl ?_
  refine j_aload_n hC dJ34_init_1 rfl 1 rfl ?_
  obtain ⟨fs1, hm, hvc⟩ := hvc
  refine j_putF hC fkJ34_1_J35 rfl dJ34_init_2 hm g_no g_fo (fun st2 e1 => ?_)
  replace hvc := hvc st2 e1; clear hm e1
  refine j_aload_n hC dJ34_init_5 rfl 0 rfl ?_
  refine j_objInit hC q982 q99 q100 (Nat.le_trans (Nat.le_of_ble_eq_true rfl) hR.1) (Nat.le_trans (g_sumO rfl) hR.2) dJ34_init_6 ?_
  refine j_aload_n hC dJ34_init_9 rfl 0 rfl ?_
  refine j_aload_n hC dJ34_init_10 rfl 1 rfl ?_
  obtain ⟨a3, rfl, hvc⟩ := hvc
  obtain ⟨o4, ⟨fs, hr, hv⟩, hvc⟩ := hvc
  refine j_getR hC fkJ34_13_J29 dJ34_init_11 hr hv ?_
  clear hv hr fs
  obtain ⟨a5, rfl, hvc⟩ := hvc
  obtain ⟨x6, ⟨fs, hr, hv⟩, hvc⟩ := hvc
  refine j_getN hC fkJ34_19_J5 dJ34_init_14 hr hv ?_
  clear hv hr fs
  obtain ⟨fs7, hm, hvc⟩ := hvc
  refine j_put hC fkJ34_25_J35 dJ34_init_17 hm rfl rfl (fun st8 e1 => ?_)
  replace hvc := hvc st8 e1; clear hm e1
  refine j_aload_n hC dJ34_init_20 rfl 0 rfl ?_
  refine j_null hC dJ34_init_21 ?_
  obtain ⟨fs9, hm, hvc⟩ := hvc
  refine j_put hC fkJ34_28_J35 dJ34_init_22 hm g_no g_fo (fun st10 e1 => ?_)
  replace hvc := hvc st10 e1; clear hm e1
  refine j_aload_n hC dJ34_init_25 rfl 0 rfl ?_
  refine j_aload_n hC dJ34_init_26 rfl 2 rfl ?_
  obtain ⟨fs11, hm, hvc⟩ := hvc
  refine j_put hC fkJ34_32_J35 dJ34_init_27 hm g_no g_fo (fun st12 e1 => ?_)
  replace hvc := hvc st12 e1; clear hm e1
  refine j_aload_n hC dJ34_init_30 rfl 0 rfl ?_
  refine j_aload_n hC dJ34_init_31 rfl 3 rfl ?_
  replace hvc := g_jn1_o hvc
  obtain ⟨K14, hK22, hvc⟩ := hvc
  have kh15 : ∀ (o13 : Option Nat), K14 o13 → g_J p l e R s m args below meth c 4 E st0 Z 45 [] [va_rf o13, va_rf (some a0)] st12 cb sb := by
    clear hvc
    intro o13 hvc
    replace hvc := hK22 _ hvc
    obtain ⟨fs16, hm, hvc⟩ := hvc
    refine j_putF hC fkJ34_44_J35 rfl dJ34_init_45 hm g_no g_fo (fun st17 e1 => ?_)
    replace hvc := hvc st17 e1; clear hm e1
    exact hret _ _ _ _ _ dJ34_init_48 hvc
  refine j_ifnonnull (tgt := 41) hC dJ34_init_32 rfl (fun a19 c18 => ?_) (fun c18 => ?_)
  · subst c18; replace hvc := hvc.2 a19 rfl
    refine j_aload_n hC dJ34_init_41 rfl 3 rfl ?_
    obtain ⟨o21, ⟨fs, hr, hv⟩, hvc⟩ := hvc
    refine j_get hC fkJ34_39_J27 dJ34_init_42 hr hv ?_
    clear hv hr fs
    exact j_sub [] rfl (kh15 o21 hvc)
  · subst c18; replace hvc := hvc.1 rfl
    refine j_getsN hC gs_3 ge_81 dJ34_init_35 ?_
    obtain ⟨o20, ho20⟩ : ∃ z : Option Nat, z = E.2.2.2.2.1 4 := ⟨_, rfl⟩
    rw [← ho20]
    replace hvc := hvc _ ho20
    refine j_goto (tgt := 45) hC dJ34_init_38 rfl ?_
    exact j_sub [] rfl (kh15 o20 hvc)
theorem wk_J34_init {l : Launch} {E : g_E} {a0 : Nat} {p0 : Option Nat} {p1 : Option Nat} {p2 : Option Nat} {st : g_St} {mc ms : Nat} {Q : g_St → Prop} (hvc : vc_J34_init l E a0 p0 p1 p2 st Q) : wp_J34_init l E mc ms [va_rf (some a0), va_rf p0, va_rf p1, va_rf p2] st Q :=
  g_enter (lv0 := [(0, va_rf (some a0)), (1, va_rf p0), (2, va_rf p1), (3, va_rf p2)]) (plainFor_of_name (by decide +kernel)) (by simp [lv_args, g_c1, g_ci, g_cL]) (by simp [lg_sl, g_c1, g_ci, g_cL]) (fun p e s m args below meth c hC => wb_J34_init hC ⟨Nat.le_refl _, Nat.le_refl _⟩ (fun pc lv st1 cb sb hd hq => j_return hC rfl hd ⟨rfl, hq⟩) hvc)
abbrev wp_J35_init (l : Launch) (E : g_E) (mc ms : Nat) (av : List Value) (st : g_St) (Q : g_St → Prop) : Prop := g_WPv l E yJ35_init cJ35_init 4 none 2 63 mc ms av st Q
def vc_J35_init (l : Launch) (E : g_E) (a0 : Nat) (p0 : Option Nat) (p1 : Option Nat) (p2 : Option Nat) (st : g_St) (Q : g_St → Prop) : Prop :=
  wp_J34_init l E 0 0 [va_rf (some a0), va_rf p0, va_rf p1, va_rf p2] st (fun st1 => g_Ext st st1 → Q st1)
set_option maxHeartbeats 4000000 in
theorem wb_J35_init {p : Program} {l : Launch} {e : Env} {R : Room} {s : State} {m : MethodId} {args : Array Value} {below : List Frame} {meth : Method} {c : Code} {E : g_E} {st0 : g_St} {Z : State → Prop} (hC : g_Cx p s m args meth c cJ35_init 4 "java/util/TreeMap$NavigableSubMap$SubMapEntryIterator" none "<init>" E st0) (hR : g_Rm 2 63 R) {a0 : Nat} {p0 : Option Nat} {p1 : Option Nat} {p2 : Option Nat} {st : g_St} {cb sb : Nat} {Q : g_St → Prop} (hret : ∀ (pc : Nat) (lv : List (Nat × Value)) (st1 : g_St) (cb sb : Nat), decode cJ35_init pc = .ok (.return_, 1) → Q st1 → g_J p l e R s m args below meth c 4 E st0 Z pc lv [] st1 cb sb) (hvc : vc_J35_init l E a0 p0 p1 p2 st Q) : g_J p l e R s m args below meth c 4 E st0 Z 0 [(0, va_rf (some a0)), (1, va_rf p0), (2, va_rf p1), (3, va_rf p2)] [] st cb sb := by
  unfold vc_J35_init at hvc
  refine j_aload_n hC dJ35_init_0 rfl 0 rfl ?_
  refine j_aload_n hC dJ35_init_1 rfl 1 rfl ?_
  refine j_aload_n hC dJ35_init_2 rfl 2 rfl ?_
  refine j_aload_n hC dJ35_init_3 rfl 3 rfl ?_
  refine j_callI (As := [va_rf p0, va_rf p1, va_rf p2]) (rest := []) (n := 3) hC hvc (lw_meth q981) q80 q979 q980 rfl (by decide +kernel) (g_rm hR rfl rfl) rfl rfl (g_sum rfl) dJ35_init_4 (Nat.zero_le _) (Nat.zero_le _) (g_Kv fun st1 hv2 hx => ?_)
  replace hvc := hv2 hx; clear hx hv2
  exact hret _ _ _ _ _ dJ35_init_7 hvc
theorem wk_J35_init {l : Launch} {E : g_E} {a0 : Nat} {p0 : Option Nat} {p1 : Option Nat} {p2 : Option Nat} {st : g_St} {mc ms : Nat} {Q : g_St → Prop} (hvc : vc_J35_init l E a0 p0 p1 p2 st Q) : wp_J35_init l E mc ms [va_rf (some a0), va_rf p0, va_rf p1, va_rf p2] st Q :=
  g_enter (lv0 := [(0, va_rf (some a0)), (1, va_rf p0), (2, va_rf p1), (3, va_rf p2)]) (plainFor_of_name (by decide +kernel)) (by simp [lv_args, g_c1, g_ci, g_cL]) (by simp [lg_sl, g_c1, g_ci, g_cL]) (fun p e s m args below meth c hC => wb_J35_init hC ⟨Nat.le_refl _, Nat.le_refl _⟩ (fun pc lv st1 cb sb hd hq => j_return hC rfl hd ⟨rfl, hq⟩) hvc)
abbrev wp_J33_iterator (l : Launch) (E : g_E) (mc ms : Nat) (av : List Value) (st : g_St) (Q : Option Nat → g_St → Prop) : Prop := g_WPa l E yJ33_iterator cJ33_iterator 1 (some (.object "java/util/Iterator")) 12 305 mc ms av st Q
def vc_J33_iterator (l : Launch) (E : g_E) (a0 : Nat) (st : g_St) (cb sb : Nat) (Q : Option Nat → g_St → Prop) : Prop :=
  1 ≤ cb ∧ 5 ≤ sb ∧ ∀ (q1 : Nat) (st2 : g_St), q1 = st.2.2 → st2 = g_new st (.inr (7, [va_rf none, va_rf none, va_rf none, .int 0, va_rf none])) → ∃ o3 : Option Nat, g_gr st2 a0 6 3 o3 ∧ ∃ o4 : Option Nat, g_gr st2 a0 6 3 o4 ∧ ∃ a5 : Nat, o4 = some a5 ∧ g_is st2 a5 5 ∧ wp_J28_absLowest l E 0 0 [va_rf (some a5)] st2 (fun o6 stx => stx = st2 ∧ ∃ o7 : Option Nat, g_gr st2 a0 6 3 o7 ∧ ∃ a8 : Nat, o7 = some a8 ∧ g_is st2 a8 5 ∧ wp_J28_absHighFence l E 0 0 [va_rf (some a8)] st2 (fun o9 stx => stx = st2 ∧ wp_J35_init l E 0 0 [va_rf (some q1), va_rf o3, va_rf o6, va_rf o9] st2 (fun st10 => g_Ext st2 st10 → Q (some q1) st10)))
set_option maxHeartbeats 4000000 in
theorem wb_J33_iterator {p : Program} {l : Launch} {e : Env} {R : Room} {s : State} {m : MethodId} {args : Array Value} {below : List Frame} {meth : Method} {c : Code} {E : g_E} {st0 : g_St} {Z : State → Prop} (hC : g_Cx p s m args meth c cJ33_iterator 1 "java/util/TreeMap$AscendingSubMap$AscendingEntrySetView" (some (.object "java/util/Iterator")) "iterator" E st0) (hR : g_Rm 12 305 R) {a0 : Nat} {st : g_St} {cb sb : Nat} {Q : Option Nat → g_St → Prop} (hret : ∀ (pc : Nat) (lv : List (Nat × Value)) (v : Option Nat) (st1 : g_St) (cb sb : Nat), decode cJ33_iterator pc = .ok (.areturn, 1) → Q v st1 → g_J p l e R s m args below meth c 1 E st0 Z pc lv [va_rf v] st1 cb sb) (hvc : vc_J33_iterator l E a0 st cb sb Q) : g_J p l e R s m args below meth c 1 E st0 Z 0 [(0, va_rf (some a0))] [] st cb sb := by
  unfold vc_J33_iterator at hvc
  obtain ⟨h1, h2, hvc⟩ := hvc
  refine j_new hC nwJ33_13 dJ33_iterator_0 (n := 5) rfl h1 h2 (fun q1 st2 e1 e2 => ?_)
  replace hvc := hvc q1 st2 e1 e2; clear h1 h2 e1 e2
  refine j_dup hC dJ33_iterator_3 g_c1 ?_
  refine j_aload_n hC dJ33_iterator_4 rfl 0 rfl ?_
  obtain ⟨o3, ⟨fs, hr, hv⟩, hvc⟩ := hvc
  refine j_get hC fkJ33_1_J33 dJ33_iterator_5 hr hv ?_
  clear hv hr fs
  refine j_aload_n hC dJ33_iterator_8 rfl 0 rfl ?_
  obtain ⟨o4, ⟨fs, hr, hv⟩, hvc⟩ := hvc
  refine j_get hC fkJ33_1_J33 dJ33_iterator_9 hr hv ?_
  clear hv hr fs
  obtain ⟨a5, rfl, hvc⟩ := hvc
  obtain ⟨⟨fs, hr⟩, hvc⟩ := hvc
  refine j_callU (As := []) (rest := [va_rf o3, va_rf (some q1), va_rf (some q1)]) (n := 0) (x := ⟨"java/util/TreeMap$AscendingSubMap", "absLowest", "()Ljava/util/TreeMap$Entry;"⟩) (C := "java/util/TreeMap$AscendingSubMap") (owner := "java/util/TreeMap$NavigableSubMap") (ci := 5) hC hvc (lw_U q946 q947 q949 q950 q74 q951) rfl (by decide +kernel) (g_rm hR rfl rfl) rfl hr rfl rfl (g_sum rfl) dJ33_iterator_12 (Nat.zero_le _) (Nat.zero_le _) (g_Kap fun o6 hv2 => ?_)
  replace hvc := hv2; clear hv2
  clear hr fs
  refine j_aload_n hC dJ33_iterator_15 rfl 0 rfl ?_
  obtain ⟨o7, ⟨fs, hr, hv⟩, hvc⟩ := hvc
  refine j_get hC fkJ33_1_J33 dJ33_iterator_16 hr hv ?_
  clear hv hr fs
  obtain ⟨a8, rfl, hvc⟩ := hvc
  obtain ⟨⟨fs, hr⟩, hvc⟩ := hvc
  refine j_callU (As := []) (rest := [va_rf o6, va_rf o3, va_rf (some q1), va_rf (some q1)]) (n := 0) (x := ⟨"java/util/TreeMap$AscendingSubMap", "absHighFence", "()Ljava/util/TreeMap$Entry;"⟩) (C := "java/util/TreeMap$AscendingSubMap") (owner := "java/util/TreeMap$NavigableSubMap") (ci := 5) hC hvc (lw_U q970 q971 q973 q974 q74 q975) rfl (by decide +kernel) (g_rm hR rfl rfl) rfl hr rfl rfl (g_sum rfl) dJ33_iterator_19 (Nat.zero_le _) (Nat.zero_le _) (g_Kap fun o9 hv2 => ?_)
  replace hvc := hv2; clear hv2
  clear hr fs
  refine j_callI (As := [va_rf o3, va_rf o6, va_rf o9]) (rest := [va_rf (some q1)]) (n := 3) hC hvc (lw_meth q978) q81 q976 q977 rfl (by decide +kernel) (g_rm hR rfl rfl) rfl rfl (g_sum rfl) dJ33_iterator_22 (Nat.zero_le _) (Nat.zero_le _) (g_Kv fun st10 hv2 hx => ?_)
  replace hvc := hv2 hx; clear hx hv2
  exact hret _ _ _ _ _ _ dJ33_iterator_25 hvc
theorem wk_J33_iterator {l : Launch} {E : g_E} {a0 : Nat} {st : g_St} {mc ms : Nat} {Q : Option Nat → g_St → Prop} (hvc : vc_J33_iterator l E a0 st mc ms Q) : wp_J33_iterator l E mc ms [va_rf (some a0)] st Q :=
  g_enter (lv0 := [(0, va_rf (some a0))]) (plainFor_of_name (by decide +kernel)) (by simp [lv_args, g_c1, g_ci, g_cL]) (by simp [lg_sl, g_c1, g_ci, g_cL]) (fun p e s m args below meth c hC => wb_J33_iterator hC ⟨Nat.le_refl _, Nat.le_refl _⟩ (fun pc lv v st1 cb sb hd hq => j_areturn hC rfl (by first | exact Or.inl ⟨_, rfl⟩ | exact Or.inr ⟨_, rfl⟩) hd (g_av hq)) hvc)
abbrev wp_J34_hasNext (l : Launch) (E : g_E) (mc ms : Nat) (av : List Value) (st : g_St) (Q : Int32 → g_St → Prop) : Prop := g_WPi l E yJ34_hasNext cJ34_hasNext 1 (some .boolean) 1 40 mc ms av st Q
def vc_J34_hasNext (l : Launch) (E : g_E) (a0 : Nat) (st : g_St) (Q : Int32 → g_St → Prop) : Prop :=
  ∃ o1 : Option Nat, g_gr st a0 7 1 o1 ∧ g_jn1 (fun (K3 : Int32 → Prop) => g_jn0 (fun (K5 : Prop) => (o1 = none → K5) ∧ (∀ a8 : Nat, o1 = some a8 → ∃ o9 : Option Nat, g_gr st a0 7 1 o9 ∧ ∃ a10 : Nat, o9 = some a10 ∧ ∃ o11 : Option Nat, g_gr st a10 4 0 o11 ∧ ∃ o12 : Option Nat, g_gr st a0 7 2 o12 ∧ (o11 = o12 → K5) ∧ (¬ o11 = o12 → K3 (nI 1)))) (K3 (nI 0))) (fun (x2 : Int32) => narrow .boolean (.int x2) = .int x2 ∧ Q x2 st)
set_option maxHeartbeats 4000000 in
theorem wb_J34_hasNext {p : Program} {l : Launch} {e : Env} {R : Room} {s : State} {m : MethodId} {args : Array Value} {below : List Frame} {meth : Method} {c : Code} {E : g_E} {st0 : g_St} {Z : State → Prop} (hC : g_Cx p s m args meth c cJ34_hasNext 1 "java/util/TreeMap$NavigableSubMap$SubMapIterator" (some .boolean) "hasNext" E st0) (hR : g_Rm 1 40 R) {a0 : Nat} {st : g_St} {cb sb : Nat} {Q : Int32 → g_St → Prop} (hret : ∀ (pc : Nat) (lv : List (Nat × Value)) (v : Int32) (st1 : g_St) (cb sb : Nat), decode cJ34_hasNext pc = .ok (.ireturn, 1) → narrow .boolean (.int v) = .int v → Q v st1 → g_J p l e R s m args below meth c 1 E st0 Z pc lv [.int v] st1 cb sb) (hvc : vc_J34_hasNext l E a0 st Q) : g_J p l e R s m args below meth c 1 E st0 Z 0 [(0, va_rf (some a0))] [] st cb sb := by
  unfold vc_J34_hasNext at hvc
  refine j_aload_n hC dJ34_hasNext_0 rfl 0 rfl ?_
  obtain ⟨o1, ⟨fs, hr, hv⟩, hvc⟩ := hvc
  refine j_get hC fkJ34_32_J35 dJ34_hasNext_1 hr hv ?_
  clear hv hr fs
  replace hvc := g_jn1_o hvc
  obtain ⟨K3, hK15, hvc⟩ := hvc
  have kh4 : ∀ (x2 : Int32), K3 x2 → g_J p l e R s m args below meth c 1 E st0 Z 26 [] [.int x2] st cb sb := by
    clear hvc
    intro x2 hvc
    replace hvc := hK15 _ hvc
    exact hret _ _ _ _ _ _ dJ34_hasNext_26 hvc.1 hvc.2
  replace hvc := g_jn0_o hvc
  obtain ⟨K5, hK14, hvc⟩ := hvc
  have kh6 : K5 → g_J p l e R s m args below meth c 1 E st0 Z 25 [] [] st cb sb := by
    clear hvc
    intro hvc
    replace hvc := hK14 hvc
    refine j_iconst hC (nI 0) dJ34_hasNext_25 rfl ?_
    exact j_sub [] rfl (kh4 (nI 0) hvc)
  refine j_ifnull (tgt := 25) hC dJ34_hasNext_4 rfl (fun c7 => ?_) (fun a8 c7 => ?_)
  · subst c7; replace hvc := hvc.1 rfl
    exact j_sub [] rfl (kh6 hvc)
  · subst c7; replace hvc := hvc.2 a8 rfl
    refine j_aload_n hC dJ34_hasNext_7 rfl 0 rfl ?_
    obtain ⟨o9, ⟨fs, hr, hv⟩, hvc⟩ := hvc
    refine j_get hC fkJ34_32_J35 dJ34_hasNext_8 hr hv ?_
    clear hv hr fs
    obtain ⟨a10, rfl, hvc⟩ := hvc
    obtain ⟨o11, ⟨fs, hr, hv⟩, hvc⟩ := hvc
    refine j_get hC fkJ34_39_J27 dJ34_hasNext_11 hr hv ?_
    clear hv hr fs
    refine j_aload_n hC dJ34_hasNext_14 rfl 0 rfl ?_
    obtain ⟨o12, ⟨fs, hr, hv⟩, hvc⟩ := hvc
    refine j_get hC fkJ34_44_J35 dJ34_hasNext_15 hr hv ?_
    clear hv hr fs
    refine j_acmp_eq (tgt := 25) hC dJ34_hasNext_18 rfl (fun c13 => ?_) (fun c13 => ?_)
    · replace hvc := hvc.1 c13
      exact j_sub [] rfl (kh6 hvc)
    · replace hvc := hvc.2 c13
      refine j_iconst hC (nI 1) dJ34_hasNext_21 rfl ?_
      refine j_goto (tgt := 26) hC dJ34_hasNext_22 rfl ?_
      exact j_sub [] rfl (kh4 (nI 1) hvc)
theorem wk_J34_hasNext {l : Launch} {E : g_E} {a0 : Nat} {st : g_St} {mc ms : Nat} {Q : Int32 → g_St → Prop} (hvc : vc_J34_hasNext l E a0 st Q) : wp_J34_hasNext l E mc ms [va_rf (some a0)] st Q :=
  g_enter (lv0 := [(0, va_rf (some a0))]) (plainFor_of_name (by decide +kernel)) (by simp [lv_args, g_c1, g_ci, g_cL]) (by simp [lg_sl, g_c1, g_ci, g_cL]) (fun p e s m args below meth c hC => wb_J34_hasNext hC ⟨Nat.le_refl _, Nat.le_refl _⟩ (fun pc lv v st1 cb sb hd hn hq => j_ireturn hC rfl hn hd (g_iv hq)) hvc)
abbrev wp_J5_successor (l : Launch) (E : g_E) (mc ms : Nat) (av : List Value) (st : g_St) (Q : Option Nat → g_St → Prop) : Prop := g_WPa l E yJ5_successor cJ5_successor 3 (some (.object "java/util/TreeMap$Entry")) 1 40 mc ms av st Q
def vc_J5_successor (l : Launch) (E : g_E) (p0 : Option Nat) (st : g_St) (Q : Option Nat → g_St → Prop) : Prop :=
  (p0 = none → Q none st) ∧ (∀ a2 : Nat, p0 = some a2 → ∃ o3 : Option Nat, g_gr st a2 4 3 o3 ∧ (o3 = none → ∃ o6 : Option Nat, g_gr st a2 4 4 o6 ∧ g_lp2 (fun (K9 : (Option Nat) → (Option Nat) → Prop) (o7 : Option Nat) (o8 : Option Nat) => g_jn0 (fun (K12 : Prop) => (o7 = none → K12) ∧ (∀ a15 : Nat, o7 = some a15 → ∃ o16 : Option Nat, g_gr st a15 4 3 o16 ∧ (¬ o8 = o16 → K12) ∧ (o8 = o16 → ∃ o18 : Option Nat, g_gr st a15 4 4 o18 ∧ K9 o18 (some a15)))) (Q o7 st)) o6 (some a2)) ∧ (∀ a5 : Nat, o3 = some a5 → ∃ o23 : Option Nat, g_gr st a2 4 3 o23 ∧ g_lp1 (fun (K25 : (Option Nat) → Prop) (o24 : Option Nat) => ∃ a28 : Nat, o24 = some a28 ∧ ∃ o29 : Option Nat, g_gr st a28 4 2 o29 ∧ (o29 = none → Q (some a28) st) ∧ (∀ a31 : Nat, o29 = some a31 → ∃ o32 : Option Nat, g_gr st a28 4 2 o32 ∧ K25 o32)) o23))
set_option maxHeartbeats 4000000 in
theorem wb_J5_successor {p : Program} {l : Launch} {e : Env} {R : Room} {s : State} {m : MethodId} {args : Array Value} {below : List Frame} {meth : Method} {c : Code} {E : g_E} {st0 : g_St} {Z : State → Prop} (hC : g_Cx p s m args meth c cJ5_successor 3 "java/util/TreeMap" (some (.object "java/util/TreeMap$Entry")) "successor" E st0) (hR : g_Rm 1 40 R) {p0 : Option Nat} {st : g_St} {cb sb : Nat} {Q : Option Nat → g_St → Prop} (hret : ∀ (pc : Nat) (lv : List (Nat × Value)) (v : Option Nat) (st1 : g_St) (cb sb : Nat), decode cJ5_successor pc = .ok (.areturn, 1) → Q v st1 → g_J p l e R s m args below meth c 3 E st0 Z pc lv [va_rf v] st1 cb sb) (hvc : vc_J5_successor l E p0 st Q) : g_J p l e R s m args below meth c 3 E st0 Z 0 [(0, va_rf p0)] [] st cb sb := by
  unfold vc_J5_successor at hvc
  refine j_aload_n hC dJ5_successor_0 rfl 0 rfl ?_
  refine j_ifnonnull (tgt := 6) hC dJ5_successor_1 rfl (fun a2 c1 => ?_) (fun c1 => ?_)
  · subst c1; replace hvc := hvc.2 a2 rfl
    refine j_aload_n hC dJ5_successor_6 rfl 0 rfl ?_
    obtain ⟨o3, ⟨fs, hr, hv⟩, hvc⟩ := hvc
    refine j_get hC fkJ5_114_J27 dJ5_successor_7 hr hv ?_
    clear hv hr fs
    refine j_ifnull (tgt := 35) hC dJ5_successor_10 rfl (fun c4 => ?_) (fun a5 c4 => ?_)
    · subst c4; replace hvc := hvc.1 rfl
      refine j_aload_n hC dJ5_successor_35 rfl 0 rfl ?_
      obtain ⟨o6, ⟨fs, hr, hv⟩, hvc⟩ := hvc
      refine j_get hC fkJ5_124_J27 dJ5_successor_36 hr hv ?_
      clear hv hr fs
      refine j_astore_n (lv0 := [(0, va_rf (some a2))]) hC dJ5_successor_39 rfl rfl [0] rfl (g_okS.h rfl g_c1 rfl) ?_
      refine j_aload_n hC dJ5_successor_40 rfl 1 rfl ?_
      refine j_astore_n (lv0 := [(1, va_rf o6), (0, va_rf (some a2))]) hC dJ5_successor_41 rfl rfl [0, 1] rfl (g_okS.h rfl g_c1 rfl) ?_
      replace hvc := g_lp2_o hvc
      obtain ⟨K9, hz20, hs21, n22, hvc⟩ := hvc
      have kh10 : ∀ (n : Nat) (o7 : Option Nat) (o8 : Option Nat), K9 n o7 o8 → g_J p l e R s m args below meth c 3 E st0 Z 42 [(1, va_rf o7), (2, va_rf o8)] [] st cb sb := by
        clear hvc
        intro n
        induction n with
        | zero => intro o7 o8 hvc; exact absurd hvc (hz20 _ _)
        | succ n ih11 =>
          intro o7 o8 hvc
          replace hvc := hs21 n _ _ hvc
          refine j_aload_n hC dJ5_successor_42 rfl 0 rfl ?_
          replace hvc := g_jn0_o hvc
          obtain ⟨K12, hK19, hvc⟩ := hvc
          have kh13 : K12 → g_J p l e R s m args below meth c 3 E st0 Z 64 [(1, va_rf o7)] [] st cb sb := by
            clear hvc
            intro hvc
            replace hvc := hK19 hvc
            refine j_aload_n hC dJ5_successor_64 rfl 0 rfl ?_
            exact hret _ _ _ _ _ _ dJ5_successor_65 hvc
          refine j_ifnull (tgt := 64) hC dJ5_successor_43 rfl (fun c14 => ?_) (fun a15 c14 => ?_)
          · subst c14; replace hvc := hvc.1 rfl
            exact j_sub [0] rfl (kh13 hvc)
          · subst c14; replace hvc := hvc.2 a15 rfl
            refine j_aload_n hC dJ5_successor_46 rfl 1 rfl ?_
            refine j_aload_n hC dJ5_successor_47 rfl 0 rfl ?_
            obtain ⟨o16, ⟨fs, hr, hv⟩, hvc⟩ := hvc
            refine j_get hC fkJ5_114_J27 dJ5_successor_48 hr hv ?_
            clear hv hr fs
            refine j_acmp_ne (tgt := 64) hC dJ5_successor_51 rfl (fun c17 => ?_) (fun c17 => ?_)
            · replace hvc := hvc.1 c17
              exact j_sub [0] rfl (kh13 hvc)
            · replace hvc := hvc.2 c17
              refine j_aload_n hC dJ5_successor_54 rfl 0 rfl ?_
              refine j_astore_n (lv0 := [(1, va_rf (some a15))]) hC dJ5_successor_55 rfl rfl [0] rfl (g_okS.h rfl g_c1 rfl) ?_
              refine j_aload_n hC dJ5_successor_56 rfl 1 rfl ?_
              obtain ⟨o18, ⟨fs, hr, hv⟩, hvc⟩ := hvc
              refine j_get hC fkJ5_124_J27 dJ5_successor_57 hr hv ?_
              clear hv hr fs
              refine j_astore_n (lv0 := [(2, va_rf (some a15))]) hC dJ5_successor_60 rfl rfl [0] rfl (g_okS.n rfl) ?_
              refine j_goto (tgt := 42) hC dJ5_successor_61 rfl ?_
              exact j_sub [0, 1] rfl (ih11 o18 (some a15) hvc)
      exact j_sub [1, 0] rfl (kh10 n22 o6 (some a2) hvc)
    · subst c4; replace hvc := hvc.2 a5 rfl
      refine j_aload_n hC dJ5_successor_13 rfl 0 rfl ?_
      obtain ⟨o23, ⟨fs, hr, hv⟩, hvc⟩ := hvc
      refine j_get hC fkJ5_114_J27 dJ5_successor_14 hr hv ?_
      clear hv hr fs
      refine j_astore_n (lv0 := [(0, va_rf (some a2))]) hC dJ5_successor_17 rfl rfl [0] rfl (g_okS.h rfl g_c1 rfl) ?_
      replace hvc := g_lp1_o hvc
      obtain ⟨K25, hz33, hs34, n35, hvc⟩ := hvc
      have kh26 : ∀ (n : Nat) (o24 : Option Nat), K25 n o24 → g_J p l e R s m args below meth c 3 E st0 Z 18 [(1, va_rf o24)] [] st cb sb := by
        clear hvc
        intro n
        induction n with
        | zero => intro o24 hvc; exact absurd hvc (hz33 _)
        | succ n ih27 =>
          intro o24 hvc
          replace hvc := hs34 n _ hvc
          refine j_aload_n hC dJ5_successor_18 rfl 0 rfl ?_
          obtain ⟨a28, rfl, hvc⟩ := hvc
          obtain ⟨o29, ⟨fs, hr, hv⟩, hvc⟩ := hvc
          refine j_get hC fkJ5_111_J27 dJ5_successor_19 hr hv ?_
          clear hv hr fs
          refine j_ifnull (tgt := 33) hC dJ5_successor_22 rfl (fun c30 => ?_) (fun a31 c30 => ?_)
          · subst c30; replace hvc := hvc.1 rfl
            refine j_aload_n hC dJ5_successor_33 rfl 0 rfl ?_
            exact hret _ _ _ _ _ _ dJ5_successor_34 hvc
          · subst c30; replace hvc := hvc.2 a31 rfl
            refine j_aload_n hC dJ5_successor_25 rfl 0 rfl ?_
            obtain ⟨o32, ⟨fs, hr, hv⟩, hvc⟩ := hvc
            refine j_get hC fkJ5_111_J27 dJ5_successor_26 hr hv ?_
            clear hv hr fs
            refine j_astore_n (lv0 := []) hC dJ5_successor_29 rfl rfl [] rfl (g_okS.n rfl) ?_
            refine j_goto (tgt := 18) hC dJ5_successor_30 rfl ?_
            exact j_sub [0] rfl (ih27 o32 hvc)
      exact j_sub [0] rfl (kh26 n35 o23 hvc)
  · subst c1; replace hvc := hvc.1 rfl
    refine j_null hC dJ5_successor_4 ?_
    exact hret _ _ _ _ _ _ dJ5_successor_5 hvc
theorem wk_J5_successor {l : Launch} {E : g_E} {p0 : Option Nat} {st : g_St} {mc ms : Nat} {Q : Option Nat → g_St → Prop} (hvc : vc_J5_successor l E p0 st Q) : wp_J5_successor l E mc ms [va_rf p0] st Q :=
  g_enter (lv0 := [(0, va_rf p0)]) (plainFor_of_name (by decide +kernel)) (by simp [lv_args, g_c1, g_ci, g_cL]) (by simp [lg_sl, g_c1, g_ci, g_cL]) (fun p e s m args below meth c hC => wb_J5_successor hC ⟨Nat.le_refl _, Nat.le_refl _⟩ (fun pc lv v st1 cb sb hd hq => j_areturn hC rfl (by first | exact Or.inl ⟨_, rfl⟩ | exact Or.inr ⟨_, rfl⟩) hd (g_av hq)) hvc)
abbrev wp_J34_nextEntry (l : Launch) (E : g_E) (mc ms : Nat) (av : List Value) (st : g_St) (Q : Option Nat → g_St → Prop) : Prop := g_WPa l E yJ34_nextEntry cJ34_nextEntry 2 (some (.object "java/util/TreeMap$Entry")) 2 62 mc ms av st Q
def vc_J34_nextEntry (l : Launch) (E : g_E) (a0 : Nat) (st : g_St) (Q : Option Nat → g_St → Prop) : Prop :=
  ∃ o1 : Option Nat, g_gr st a0 7 1 o1 ∧ g_jn0 (fun (K2 : Prop) => (o1 = none → K2) ∧ (∀ a5 : Nat, o1 = some a5 → ∃ o6 : Option Nat, g_gr st a5 4 0 o6 ∧ ∃ o7 : Option Nat, g_gr st a0 7 2 o7 ∧ (¬ o6 = o7 → ∃ o9 : Option Nat, g_gr st a0 7 4 o9 ∧ ∃ a10 : Nat, o9 = some a10 ∧ ∃ o11 : Option Nat, g_gr st a10 5 0 o11 ∧ ∃ a12 : Nat, o11 = some a12 ∧ ∃ x13 : Int32, g_gi st a12 3 5 x13 ∧ ∃ x14 : Int32, g_gi st a0 7 3 x14 ∧ (x13 = x14 → wp_J5_successor l E 0 0 [va_rf (some a5)] st (fun o16 stx => stx = st ∧ ∃ fs17 : List Value, st.2.1 a0 = some (.inr (7, fs17)) ∧ ∀ st18 : g_St, st18 = g_put st a0 (.inr (7, fs17.set 1 (va_rf o16))) → ∃ fs19 : List Value, st18.2.1 a0 = some (.inr (7, fs19)) ∧ ∀ st20 : g_St, st20 = g_put st18 a0 (.inr (7, fs19.set 0 (va_rf (some a5)))) → Q (some a5) st20)) ∧ (¬ x13 = x14 → False)) ∧ (o6 = o7 → K2))) (False)
set_option maxHeartbeats 4000000 in
theorem wb_J34_nextEntry {p : Program} {l : Launch} {e : Env} {R : Room} {s : State} {m : MethodId} {args : Array Value} {below : List Frame} {meth : Method} {c : Code} {E : g_E} {st0 : g_St} {Z : State → Prop} (hC : g_Cx p s m args meth c cJ34_nextEntry 2 "java/util/TreeMap$NavigableSubMap$SubMapIterator" (some (.object "java/util/TreeMap$Entry")) "nextEntry" E st0) (hR : g_Rm 2 62 R) {a0 : Nat} {st : g_St} {cb sb : Nat} {Q : Option Nat → g_St → Prop} (hret : ∀ (pc : Nat) (lv : List (Nat × Value)) (v : Option Nat) (st1 : g_St) (cb sb : Nat), decode cJ34_nextEntry pc = .ok (.areturn, 1) → Q v st1 → g_J p l e R s m args below meth c 2 E st0 Z pc lv [va_rf v] st1 cb sb) (hvc : vc_J34_nextEntry l E a0 st Q) : g_J p l e R s m args below meth c 2 E st0 Z 0 [(0, va_rf (some a0))] [] st cb sb := by
  unfold vc_J34_nextEntry at hvc
  refine j_aload_n hC dJ34_nextEntry_0 rfl 0 rfl ?_
  obtain ⟨o1, ⟨fs, hr, hv⟩, hvc⟩ := hvc
  refine j_get hC fkJ34_32_J35 dJ34_nextEntry_1 hr hv ?_
  clear hv hr fs
  refine j_astore_n (lv0 := [(0, va_rf (some a0))]) hC dJ34_nextEntry_4 rfl rfl [0] rfl (g_okS.h rfl g_c1 rfl) ?_
  refine j_aload_n hC dJ34_nextEntry_5 rfl 0 rfl ?_
  replace hvc := g_jn0_o hvc
  obtain ⟨K2, hK21, hvc⟩ := hvc
  have kh3 : K2 → g_J p l e R s m args below meth c 2 E st0 Z 20 [] [] st cb sb := by
    clear hvc
    intro hvc
    replace hvc := hK21 hvc
    exact hvc.elim
  refine j_ifnull (tgt := 20) hC dJ34_nextEntry_6 rfl (fun c4 => ?_) (fun a5 c4 => ?_)
  · subst c4; replace hvc := hvc.1 rfl
    exact j_sub [] rfl (kh3 hvc)
  · subst c4; replace hvc := hvc.2 a5 rfl
    refine j_aload_n hC dJ34_nextEntry_9 rfl 0 rfl ?_
    obtain ⟨o6, ⟨fs, hr, hv⟩, hvc⟩ := hvc
    refine j_get hC fkJ34_39_J27 dJ34_nextEntry_10 hr hv ?_
    clear hv hr fs
    refine j_aload_n hC dJ34_nextEntry_13 rfl 1 rfl ?_
    obtain ⟨o7, ⟨fs, hr, hv⟩, hvc⟩ := hvc
    refine j_get hC fkJ34_44_J35 dJ34_nextEntry_14 hr hv ?_
    clear hv hr fs
    refine j_acmp_ne (tgt := 28) hC dJ34_nextEntry_17 rfl (fun c8 => ?_) (fun c8 => ?_)
    · replace hvc := hvc.1 c8
      refine j_aload_n hC dJ34_nextEntry_28 rfl 1 rfl ?_
      obtain ⟨o9, ⟨fs, hr, hv⟩, hvc⟩ := hvc
      refine j_get hC fkJ34_1_J35 dJ34_nextEntry_29 hr hv ?_
      clear hv hr fs
      obtain ⟨a10, rfl, hvc⟩ := hvc
      obtain ⟨o11, ⟨fs, hr, hv⟩, hvc⟩ := hvc
      refine j_getR hC fkJ34_13_J29 dJ34_nextEntry_32 hr hv ?_
      clear hv hr fs
      obtain ⟨a12, rfl, hvc⟩ := hvc
      obtain ⟨x13, ⟨fs, hr, hv⟩, hvc⟩ := hvc
      refine j_getN hC fkJ34_19_J5 dJ34_nextEntry_35 hr hv ?_
      clear hv hr fs
      refine j_aload_n hC dJ34_nextEntry_38 rfl 1 rfl ?_
      obtain ⟨x14, ⟨fs, hr, hv⟩, hvc⟩ := hvc
      refine j_get hC fkJ34_25_J35 dJ34_nextEntry_39 hr hv ?_
      clear hv hr fs
      refine j_icmp_eq (tgt := 53) hC dJ34_nextEntry_42 rfl (fun c15 => ?_) (fun c15 => ?_)
      · replace hvc := hvc.1 c15
        refine j_aload_n hC dJ34_nextEntry_53 rfl 1 rfl ?_
        refine j_aload_n hC dJ34_nextEntry_54 rfl 0 rfl ?_
        refine j_callS (As := [va_rf (some a5)]) (rest := [va_rf (some a0)]) (n := 1) hC hvc (lw_S q1109 q1082 q47 q1083) (by decide +kernel) (g_rm hR rfl rfl) rfl rfl (g_sum rfl) dJ34_nextEntry_55 (Nat.zero_le _) (Nat.zero_le _) (g_Kap fun o16 hv2 => ?_)
        replace hvc := hv2; clear hv2
        obtain ⟨fs17, hm, hvc⟩ := hvc
        refine j_put hC fkJ34_32_J35 dJ34_nextEntry_58 hm g_no g_fo (fun st18 e1 => ?_)
        replace hvc := hvc st18 e1; clear hm e1
        refine j_aload_n hC dJ34_nextEntry_61 rfl 1 rfl ?_
        refine j_aload_n hC dJ34_nextEntry_62 rfl 0 rfl ?_
        obtain ⟨fs19, hm, hvc⟩ := hvc
        refine j_put hC fkJ34_28_J35 dJ34_nextEntry_63 hm g_no g_fo (fun st20 e1 => ?_)
        replace hvc := hvc st20 e1; clear hm e1
        refine j_aload_n hC dJ34_nextEntry_66 rfl 0 rfl ?_
        exact hret _ _ _ _ _ _ dJ34_nextEntry_67 hvc
      · replace hvc := hvc.2 c15
        exact hvc.elim
    · replace hvc := hvc.2 c8
      exact j_sub [] rfl (kh3 hvc)
theorem wk_J34_nextEntry {l : Launch} {E : g_E} {a0 : Nat} {st : g_St} {mc ms : Nat} {Q : Option Nat → g_St → Prop} (hvc : vc_J34_nextEntry l E a0 st Q) : wp_J34_nextEntry l E mc ms [va_rf (some a0)] st Q :=
  g_enter (lv0 := [(0, va_rf (some a0))]) (plainFor_of_name (by decide +kernel)) (by simp [lv_args, g_c1, g_ci, g_cL]) (by simp [lg_sl, g_c1, g_ci, g_cL]) (fun p e s m args below meth c hC => wb_J34_nextEntry hC ⟨Nat.le_refl _, Nat.le_refl _⟩ (fun pc lv v st1 cb sb hd hq => j_areturn hC rfl (by first | exact Or.inl ⟨_, rfl⟩ | exact Or.inr ⟨_, rfl⟩) hd (g_av hq)) hvc)
abbrev wp_J35_next_2 (l : Launch) (E : g_E) (mc ms : Nat) (av : List Value) (st : g_St) (Q : Option Nat → g_St → Prop) : Prop := g_WPa l E yJ35_next_2 cJ35_next_2 1 (some (.object "java/util/Map$Entry")) 3 83 mc ms av st Q
def vc_J35_next_2 (l : Launch) (E : g_E) (a0 : Nat) (st : g_St) (Q : Option Nat → g_St → Prop) : Prop :=
  g_is st a0 7 ∧ wp_J34_nextEntry l E 0 0 [va_rf (some a0)] st (fun o1 st2 => g_Ext st st2 → Q o1 st2)
set_option maxHeartbeats 4000000 in
theorem wb_J35_next_2 {p : Program} {l : Launch} {e : Env} {R : Room} {s : State} {m : MethodId} {args : Array Value} {below : List Frame} {meth : Method} {c : Code} {E : g_E} {st0 : g_St} {Z : State → Prop} (hC : g_Cx p s m args meth c cJ35_next_2 1 "java/util/TreeMap$NavigableSubMap$SubMapEntryIterator" (some (.object "java/util/Map$Entry")) "next" E st0) (hR : g_Rm 3 83 R) {a0 : Nat} {st : g_St} {cb sb : Nat} {Q : Option Nat → g_St → Prop} (hret : ∀ (pc : Nat) (lv : List (Nat × Value)) (v : Option Nat) (st1 : g_St) (cb sb : Nat), decode cJ35_next_2 pc = .ok (.areturn, 1) → Q v st1 → g_J p l e R s m args below meth c 1 E st0 Z pc lv [va_rf v] st1 cb sb) (hvc : vc_J35_next_2 l E a0 st Q) : g_J p l e R s m args below meth c 1 E st0 Z 0 [(0, va_rf (some a0))] [] st cb sb := by
  unfold vc_J35_next_2 at hvc
  refine j_aload_n hC dJ35_next_2_0 rfl 0 rfl ?_
  obtain ⟨⟨fs, hr⟩, hvc⟩ := hvc
  refine j_callU (As := []) (rest := []) (n := 0) (x := ⟨"java/util/TreeMap$NavigableSubMap$SubMapEntryIterator", "nextEntry", "()Ljava/util/TreeMap$Entry;"⟩) (C := "java/util/TreeMap$NavigableSubMap$SubMapEntryIterator") (owner := "java/util/TreeMap$NavigableSubMap$SubMapIterator") (ci := 7) hC hvc (lw_U q1101 q1102 q1104 q1105 q80 q1106) rfl (by decide +kernel) (g_rm hR rfl rfl) rfl hr rfl rfl (g_sum rfl) dJ35_next_2_1 (Nat.zero_le _) (Nat.zero_le _) (g_Ka fun o1 st2 hv2 hx => ?_)
  replace hvc := hv2 hx; clear hx hv2
  clear hr fs
  exact hret _ _ _ _ _ _ dJ35_next_2_4 hvc
theorem wk_J35_next_2 {l : Launch} {E : g_E} {a0 : Nat} {st : g_St} {mc ms : Nat} {Q : Option Nat → g_St → Prop} (hvc : vc_J35_next_2 l E a0 st Q) : wp_J35_next_2 l E mc ms [va_rf (some a0)] st Q :=
  g_enter (lv0 := [(0, va_rf (some a0))]) (plainFor_of_name (by decide +kernel)) (by simp [lv_args, g_c1, g_ci, g_cL]) (by simp [lg_sl, g_c1, g_ci, g_cL]) (fun p e s m args below meth c hC => wb_J35_next_2 hC ⟨Nat.le_refl _, Nat.le_refl _⟩ (fun pc lv v st1 cb sb hd hq => j_areturn hC rfl (by first | exact Or.inl ⟨_, rfl⟩ | exact Or.inr ⟨_, rfl⟩) hd (g_av hq)) hvc)
abbrev wp_J35_next (l : Launch) (E : g_E) (mc ms : Nat) (av : List Value) (st : g_St) (Q : Option Nat → g_St → Prop) : Prop := g_WPa l E yJ35_next cJ35_next 1 (some (.object "java/lang/Object")) 4 103 mc ms av st Q
def vc_J35_next (l : Launch) (E : g_E) (a0 : Nat) (st : g_St) (Q : Option Nat → g_St → Prop) : Prop :=
  g_is st a0 7 ∧ wp_J35_next_2 l E 0 0 [va_rf (some a0)] st (fun o1 st2 => g_Ext st st2 → Q o1 st2)
set_option maxHeartbeats 4000000 in
theorem wb_J35_next {p : Program} {l : Launch} {e : Env} {R : Room} {s : State} {m : MethodId} {args : Array Value} {below : List Frame} {meth : Method} {c : Code} {E : g_E} {st0 : g_St} {Z : State → Prop} (hC : g_Cx p s m args meth c cJ35_next 1 "java/util/TreeMap$NavigableSubMap$SubMapEntryIterator" (some (.object "java/lang/Object")) "next" E st0) (hR : g_Rm 4 103 R) {a0 : Nat} {st : g_St} {cb sb : Nat} {Q : Option Nat → g_St → Prop} (hret : ∀ (pc : Nat) (lv : List (Nat × Value)) (v : Option Nat) (st1 : g_St) (cb sb : Nat), decode cJ35_next pc = .ok (.areturn, 1) → Q v st1 → g_J p l e R s m args below meth c 1 E st0 Z pc lv [va_rf v] st1 cb sb) (hvc : vc_J35_next l E a0 st Q) : g_J p l e R s m args below meth c 1 E st0 Z 0 [(0, va_rf (some a0))] [] st cb sb := by
  unfold vc_J35_next at hvc
  refine j_aload_n hC dJ35_next_0 rfl 0 rfl ?_
  obtain ⟨⟨fs, hr⟩, hvc⟩ := hvc
  refine j_callV (As := []) (rest := []) (n := 0) (ci := 7) hC hvc (lw_V q1097 q1098 q1099 q81 q1100) (by decide +kernel) (g_rm hR rfl rfl) rfl hr rfl rfl (g_sum rfl) dJ35_next_1 (Nat.zero_le _) (Nat.zero_le _) (g_Ka fun o1 st2 hv2 hx => ?_)
  replace hvc := hv2 hx; clear hx hv2
  clear hr fs
  exact hret _ _ _ _ _ _ dJ35_next_4 hvc
theorem wk_J35_next {l : Launch} {E : g_E} {a0 : Nat} {st : g_St} {mc ms : Nat} {Q : Option Nat → g_St → Prop} (hvc : vc_J35_next l E a0 st Q) : wp_J35_next l E mc ms [va_rf (some a0)] st Q :=
  g_enter (lv0 := [(0, va_rf (some a0))]) (plainFor_of_name (by decide +kernel)) (by simp [lv_args, g_c1, g_ci, g_cL]) (by simp [lg_sl, g_c1, g_ci, g_cL]) (fun p e s m args below meth c hC => wb_J35_next hC ⟨Nat.le_refl _, Nat.le_refl _⟩ (fun pc lv v st1 cb sb hd hq => j_areturn hC rfl (by first | exact Or.inl ⟨_, rfl⟩ | exact Or.inr ⟨_, rfl⟩) hd (g_av hq)) hvc)
abbrev wp_J32_size (l : Launch) (E : g_E) (mc ms : Nat) (av : List Value) (st : g_St) (Q : Int32 → g_St → Prop) : Prop := g_WPi l E yJ32_size cJ32_size 2 (some .int) 13 325 mc ms av st Q
def vc_J32_size (l : Launch) (E : g_E) (a0 : Nat) (st : g_St) (cb sb : Nat) (Q : Int32 → g_St → Prop) : Prop :=
  ∃ o1 : Option Nat, g_gr st a0 6 2 o1 ∧ ∃ a2 : Nat, o1 = some a2 ∧ ∃ x3 : Int32, g_gi st a2 5 3 x3 ∧ g_jn0 (fun (K4 : Prop) => (x3 = 0 → K4) ∧ (¬ x3 = 0 → ∃ o54 : Option Nat, g_gr st a0 6 2 o54 ∧ ∃ a55 : Nat, o54 = some a55 ∧ ∃ x56 : Int32, g_gi st a55 5 4 x56 ∧ (x56 = 0 → K4) ∧ (¬ x56 = 0 → ∃ o58 : Option Nat, g_gr st a0 6 2 o58 ∧ ∃ a59 : Nat, o58 = some a59 ∧ ∃ o60 : Option Nat, g_gr st a59 5 0 o60 ∧ ∃ a61 : Nat, o60 = some a61 ∧ g_is st a61 3 ∧ wp_J5_size l E 0 0 [va_rf (some a61)] st (fun x62 stx => stx = st ∧ Q x62 st)))) (∃ x6 : Int32, g_gi st a0 6 0 x6 ∧ g_jn3 (fun (K10 : g_St → Nat → Nat → Prop) => g_jn0 (fun (K13 : Prop) => (x6 = (-1) → K13) ∧ (¬ x6 = (-1) → ∃ x44 : Int32, g_gi st a0 6 1 x44 ∧ ∃ o45 : Option Nat, g_gr st a0 6 2 o45 ∧ ∃ a46 : Nat, o45 = some a46 ∧ ∃ o47 : Option Nat, g_gr st a46 5 0 o47 ∧ ∃ a48 : Nat, o47 = some a48 ∧ ∃ x49 : Int32, g_gi st a48 3 5 x49 ∧ (x44 = x49 → K10 st cb sb) ∧ (¬ x44 = x49 → K13))) (∃ o15 : Option Nat, g_gr st a0 6 2 o15 ∧ ∃ a16 : Nat, o15 = some a16 ∧ ∃ o17 : Option Nat, g_gr st a16 5 0 o17 ∧ ∃ a18 : Nat, o17 = some a18 ∧ ∃ x19 : Int32, g_gi st a18 3 5 x19 ∧ ∃ fs20 : List Value, st.2.1 a0 = some (.inr (6, fs20)) ∧ ∀ st21 : g_St, st21 = g_put st a0 (.inr (6, fs20.set 1 (.int x19))) → ∃ fs22 : List Value, st21.2.1 a0 = some (.inr (6, fs22)) ∧ ∀ st23 : g_St, st23 = g_put st21 a0 (.inr (6, fs22.set 0 (.int (nI 0)))) → ∃ mc26 ms27 : Nat, mc26 ≤ cb ∧ ms27 ≤ sb ∧ g_is st23 a0 6 ∧ wp_J33_iterator l E mc26 ms27 [va_rf (some a0)] st23 (fun o24 st25 => g_Ext st23 st25 → g_lp1 (fun (K29 : g_St → Prop) (st28 : g_St) => ∃ a32 : Nat, o24 = some a32 ∧ g_is st28 a32 7 ∧ wp_J34_hasNext l E 0 0 [va_rf (some a32)] st28 (fun x33 stx => stx = st28 ∧ (x33 = 0 → K10 st28 (cb - mc26) (sb - ms27)) ∧ (¬ x33 = 0 → ∃ x35 : Int32, g_gi st28 a0 6 0 x35 ∧ ∃ fs36 : List Value, st28.2.1 a0 = some (.inr (6, fs36)) ∧ ∀ st37 : g_St, st37 = g_put st28 a0 (.inr (6, fs36.set 0 (.int (x35 + (nI 1))))) → g_is st37 a32 7 ∧ wp_J35_next l E 0 0 [va_rf (some a32)] st37 (fun o38 st39 => g_Ext st37 st39 → K29 st39)))) st25))) (fun (st7 : g_St) (cb8 : Nat) (sb9 : Nat) => ∃ x12 : Int32, g_gi st7 a0 6 0 x12 ∧ Q x12 st7))
set_option maxHeartbeats 4000000 in
theorem wb_J32_size {p : Program} {l : Launch} {e : Env} {R : Room} {s : State} {m : MethodId} {args : Array Value} {below : List Frame} {meth : Method} {c : Code} {E : g_E} {st0 : g_St} {Z : State → Prop} (hC : g_Cx p s m args meth c cJ32_size 2 "java/util/TreeMap$NavigableSubMap$EntrySetView" (some .int) "size" E st0) (hR : g_Rm 13 325 R) {a0 : Nat} {st : g_St} {cb sb : Nat} {Q : Int32 → g_St → Prop} (hret : ∀ (pc : Nat) (lv : List (Nat × Value)) (v : Int32) (st1 : g_St) (cb sb : Nat), decode cJ32_size pc = .ok (.ireturn, 1) → narrow .int (.int v) = .int v → Q v st1 → g_J p l e R s m args below meth c 2 E st0 Z pc lv [.int v] st1 cb sb) (hvc : vc_J32_size l E a0 st cb sb Q) : g_J p l e R s m args below meth c 2 E st0 Z 0 [(0, va_rf (some a0))] [] st cb sb := by
  unfold vc_J32_size at hvc
  refine j_aload_n hC dJ32_size_0 rfl 0 rfl ?_
  obtain ⟨o1, ⟨fs, hr, hv⟩, hvc⟩ := hvc
  refine j_get hC fkJ32_1_J33 dJ32_size_1 hr hv ?_
  clear hv hr fs
  obtain ⟨a2, rfl, hvc⟩ := hvc
  obtain ⟨x3, ⟨fs, hr, hv⟩, hvc⟩ := hvc
  refine j_getR hC fkJ32_17_J29 dJ32_size_4 hr hv ?_
  clear hv hr fs
  replace hvc := g_jn0_o hvc
  obtain ⟨K4, hK63, hvc⟩ := hvc
  have kh5 : K4 → g_J p l e R s m args below meth c 2 E st0 Z 31 [(0, va_rf (some a0))] [] st cb sb := by
    clear hvc
    intro hvc
    replace hvc := hK63 hvc
    refine j_aload_n hC dJ32_size_31 rfl 0 rfl ?_
    obtain ⟨x6, ⟨fs, hr, hv⟩, hvc⟩ := hvc
    refine j_get hC fkJ32_13_J33 dJ32_size_32 hr hv ?_
    clear hv hr fs
    refine j_iconst hC (-1) dJ32_size_35 rfl ?_
    replace hvc := g_jn3_o hvc
    obtain ⟨K10, hK52, hvc⟩ := hvc
    have kh11 : ∀ (st7 : g_St) (cb8 : Nat) (sb9 : Nat), K10 st7 cb8 sb9 → g_J p l e R s m args below meth c 2 E st0 Z 109 [(0, va_rf (some a0))] [] st7 cb8 sb9 := by
      clear hvc
      intro st7 cb8 sb9 hvc
      replace hvc := hK52 _ _ _ hvc
      refine j_aload_n hC dJ32_size_109 rfl 0 rfl ?_
      obtain ⟨x12, ⟨fs, hr, hv⟩, hvc⟩ := hvc
      refine j_get hC fkJ32_13_J33 dJ32_size_110 hr hv ?_
      clear hv hr fs
      exact hret _ _ _ _ _ _ dJ32_size_113 rfl hvc
    replace hvc := g_jn0_o hvc
    obtain ⟨K13, hK51, hvc⟩ := hvc
    have kh14 : K13 → g_J p l e R s m args below meth c 2 E st0 Z 56 [(0, va_rf (some a0))] [] st cb sb := by
      clear hvc
      intro hvc
      replace hvc := hK51 hvc
      refine j_aload_n hC dJ32_size_56 rfl 0 rfl ?_
      refine j_aload_n hC dJ32_size_57 rfl 0 rfl ?_
      obtain ⟨o15, ⟨fs, hr, hv⟩, hvc⟩ := hvc
      refine j_get hC fkJ32_1_J33 dJ32_size_58 hr hv ?_
      clear hv hr fs
      obtain ⟨a16, rfl, hvc⟩ := hvc
      obtain ⟨o17, ⟨fs, hr, hv⟩, hvc⟩ := hvc
      refine j_getR hC fkJ32_26_J29 dJ32_size_61 hr hv ?_
      clear hv hr fs
      obtain ⟨a18, rfl, hvc⟩ := hvc
      obtain ⟨x19, ⟨fs, hr, hv⟩, hvc⟩ := hvc
      refine j_getN hC fkJ32_38_J5 dJ32_size_64 hr hv ?_
      clear hv hr fs
      obtain ⟨fs20, hm, hvc⟩ := hvc
      refine j_put hC fkJ32_35_J33 dJ32_size_67 hm rfl rfl (fun st21 e1 => ?_)
      replace hvc := hvc st21 e1; clear hm e1
      refine j_aload_n hC dJ32_size_70 rfl 0 rfl ?_
      refine j_iconst hC (nI 0) dJ32_size_71 rfl ?_
      obtain ⟨fs22, hm, hvc⟩ := hvc
      refine j_put hC fkJ32_13_J33 dJ32_size_72 hm rfl rfl (fun st23 e1 => ?_)
      replace hvc := hvc st23 e1; clear hm e1
      refine j_aload_n hC dJ32_size_75 rfl 0 rfl ?_
      obtain ⟨mc26, ms27, h1, h2, hvc⟩ := hvc
      obtain ⟨⟨fs, hr⟩, hvc⟩ := hvc
      refine j_callA (As := []) (rest := []) (n := 0) (x := ⟨"java/util/TreeMap$NavigableSubMap$EntrySetView", "iterator", "()Ljava/util/Iterator;"⟩) (C := "java/util/TreeMap$AscendingSubMap$AscendingEntrySetView") (owner := "java/util/AbstractCollection") (ci := 6) hC hvc (lw_U q938 q939 q941 q942 q79 q943) ge_54 (by decide +kernel) (g_rm hR rfl rfl) rfl hr rfl rfl (g_sum rfl) dJ32_size_76 h1 h2 (g_Ka fun o24 st25 hv2 hx => ?_)
      replace hvc := hv2 hx; clear hx hv2
      clear hr fs
      refine j_astore_n (lv0 := [(0, va_rf (some a0))]) hC dJ32_size_79 rfl rfl [0] rfl (g_okS.h rfl g_c1 rfl) ?_
      replace hvc := g_lp1_o hvc
      obtain ⟨K29, hz40, hs41, n42, hvc⟩ := hvc
      have kh30 : ∀ (n : Nat) (st28 : g_St), K29 n st28 → g_J p l e R s m args below meth c 2 E st0 Z 80 [(0, va_rf (some a0)), (1, va_rf o24)] [] st28 (cb - mc26) (sb - ms27) := by
        clear hvc
        intro n
        induction n with
        | zero => intro st28 hvc; exact absurd hvc (hz40 _)
        | succ n ih31 =>
          intro st28 hvc
          replace hvc := hs41 n _ hvc
          refine j_aload_n hC dJ32_size_80 rfl 1 rfl ?_
          obtain ⟨a32, rfl, hvc⟩ := hvc
          obtain ⟨⟨fs, hr⟩, hvc⟩ := hvc
          refine j_callF (As := []) (rest := []) (n := 0) (x := ⟨"java/util/Iterator", "hasNext", "()Z"⟩) (C := "java/util/TreeMap$NavigableSubMap$SubMapEntryIterator") (ci := 7) hC hvc (lw_F q1002 q1023 q1025 q80 q1027) gf_13 (by decide +kernel) (g_rm hR rfl rfl) rfl hr rfl rfl (g_sum rfl) dJ32_size_81 (Nat.zero_le _) (Nat.zero_le _) (g_Kip fun x33 hv2 => ?_)
          replace hvc := hv2; clear hv2
          clear hr fs
          refine j_if_eq (tgt := 109) hC dJ32_size_86 rfl (fun c34 => ?_) (fun c34 => ?_)
          · replace hvc := hvc.1 c34
            exact j_sub [0] rfl (kh11 st28 (cb - mc26) (sb - ms27) hvc)
          · replace hvc := hvc.2 c34
            refine j_aload_n hC dJ32_size_89 rfl 0 rfl ?_
            refine j_dup hC dJ32_size_90 g_c1 ?_
            obtain ⟨x35, ⟨fs, hr, hv⟩, hvc⟩ := hvc
            refine j_get hC fkJ32_13_J33 dJ32_size_91 hr hv ?_
            clear hv hr fs
            refine j_iconst hC (nI 1) dJ32_size_94 rfl ?_
            refine j_iadd hC dJ32_size_95 ?_
            obtain ⟨fs36, hm, hvc⟩ := hvc
            refine j_put hC fkJ32_13_J33 dJ32_size_96 hm rfl rfl (fun st37 e1 => ?_)
            replace hvc := hvc st37 e1; clear hm e1
            refine j_aload_n hC dJ32_size_99 rfl 1 rfl ?_
            obtain ⟨⟨fs, hr⟩, hvc⟩ := hvc
            refine j_callF (As := []) (rest := []) (n := 0) (x := ⟨"java/util/Iterator", "next", "()Ljava/lang/Object;"⟩) (C := "java/util/TreeMap$NavigableSubMap$SubMapEntryIterator") (ci := 7) hC hvc (lw_F q1035 q1092 q1094 q81 q1096) gf_14 (by decide +kernel) (g_rm hR rfl rfl) rfl hr rfl rfl (g_sum rfl) dJ32_size_100 (Nat.zero_le _) (Nat.zero_le _) (g_Ka fun o38 st39 hv2 hx => ?_)
            replace hvc := hv2 hx; clear hx hv2
            clear hr fs
            refine j_pop hC dJ32_size_105 g_c1 ?_
            refine j_goto (tgt := 80) hC dJ32_size_106 rfl ?_
            exact j_sub [0, 1] rfl (ih31 st39 hvc)
      exact j_sub [1, 0] rfl (kh30 n42 st25 hvc)
    refine j_icmp_eq (tgt := 56) hC dJ32_size_36 rfl (fun c43 => ?_) (fun c43 => ?_)
    · replace hvc := hvc.1 c43
      exact j_sub [0] rfl (kh14 hvc)
    · replace hvc := hvc.2 c43
      refine j_aload_n hC dJ32_size_39 rfl 0 rfl ?_
      obtain ⟨x44, ⟨fs, hr, hv⟩, hvc⟩ := hvc
      refine j_get hC fkJ32_35_J33 dJ32_size_40 hr hv ?_
      clear hv hr fs
      refine j_aload_n hC dJ32_size_43 rfl 0 rfl ?_
      obtain ⟨o45, ⟨fs, hr, hv⟩, hvc⟩ := hvc
      refine j_get hC fkJ32_1_J33 dJ32_size_44 hr hv ?_
      clear hv hr fs
      obtain ⟨a46, rfl, hvc⟩ := hvc
      obtain ⟨o47, ⟨fs, hr, hv⟩, hvc⟩ := hvc
      refine j_getR hC fkJ32_26_J29 dJ32_size_47 hr hv ?_
      clear hv hr fs
      obtain ⟨a48, rfl, hvc⟩ := hvc
      obtain ⟨x49, ⟨fs, hr, hv⟩, hvc⟩ := hvc
      refine j_getN hC fkJ32_38_J5 dJ32_size_50 hr hv ?_
      clear hv hr fs
      refine j_icmp_eq (tgt := 109) hC dJ32_size_53 rfl (fun c50 => ?_) (fun c50 => ?_)
      · replace hvc := hvc.1 c50
        exact j_sub [0] rfl (kh11 st cb sb hvc)
      · replace hvc := hvc.2 c50
        exact j_sub [0] rfl (kh14 hvc)
  refine j_if_eq (tgt := 31) hC dJ32_size_7 rfl (fun c53 => ?_) (fun c53 => ?_)
  · replace hvc := hvc.1 c53
    exact j_sub [0] rfl (kh5 hvc)
  · replace hvc := hvc.2 c53
    refine j_aload_n hC dJ32_size_10 rfl 0 rfl ?_
    obtain ⟨o54, ⟨fs, hr, hv⟩, hvc⟩ := hvc
    refine j_get hC fkJ32_1_J33 dJ32_size_11 hr hv ?_
    clear hv hr fs
    obtain ⟨a55, rfl, hvc⟩ := hvc
    obtain ⟨x56, ⟨fs, hr, hv⟩, hvc⟩ := hvc
    refine j_getR hC fkJ32_23_J29 dJ32_size_14 hr hv ?_
    clear hv hr fs
    refine j_if_eq (tgt := 31) hC dJ32_size_17 rfl (fun c57 => ?_) (fun c57 => ?_)
    · replace hvc := hvc.1 c57
      exact j_sub [0] rfl (kh5 hvc)
    · replace hvc := hvc.2 c57
      refine j_aload_n hC dJ32_size_20 rfl 0 rfl ?_
      obtain ⟨o58, ⟨fs, hr, hv⟩, hvc⟩ := hvc
      refine j_get hC fkJ32_1_J33 dJ32_size_21 hr hv ?_
      clear hv hr fs
      obtain ⟨a59, rfl, hvc⟩ := hvc
      obtain ⟨o60, ⟨fs, hr, hv⟩, hvc⟩ := hvc
      refine j_getR hC fkJ32_26_J29 dJ32_size_24 hr hv ?_
      clear hv hr fs
      obtain ⟨a61, rfl, hvc⟩ := hvc
      obtain ⟨⟨fs, hr⟩, hvc⟩ := hvc
      refine j_callV (As := []) (rest := []) (n := 0) (ci := 3) hC hvc (lw_V q937 q615 q616 q47 q617) (by decide +kernel) (g_rm hR rfl rfl) rfl hr rfl rfl (g_sum rfl) dJ32_size_27 (Nat.zero_le _) (Nat.zero_le _) (g_Kip fun x62 hv2 => ?_)
      replace hvc := hv2; clear hv2
      clear hr fs
      exact hret _ _ _ _ _ _ dJ32_size_30 rfl hvc
theorem wk_J32_size {l : Launch} {E : g_E} {a0 : Nat} {st : g_St} {mc ms : Nat} {Q : Int32 → g_St → Prop} (hvc : vc_J32_size l E a0 st mc ms Q) : wp_J32_size l E mc ms [va_rf (some a0)] st Q :=
  g_enter (lv0 := [(0, va_rf (some a0))]) (plainFor_of_name (by decide +kernel)) (by simp [lv_args, g_c1, g_ci, g_cL]) (by simp [lg_sl, g_c1, g_ci, g_cL]) (fun p e s m args below meth c hC => wb_J32_size hC ⟨Nat.le_refl _, Nat.le_refl _⟩ (fun pc lv v st1 cb sb hd hn hq => j_ireturn hC rfl hn hd (g_iv hq)) hvc)
abbrev wp_J28_size (l : Launch) (E : g_E) (mc ms : Nat) (av : List Value) (st : g_St) (Q : Int32 → g_St → Prop) : Prop := g_WPi l E yJ28_size cJ28_size 1 (some .int) 14 346 mc ms av st Q
def vc_J28_size (l : Launch) (E : g_E) (a0 : Nat) (st : g_St) (cb sb : Nat) (Q : Int32 → g_St → Prop) : Prop :=
  ∃ x1 : Int32, g_gi st a0 5 3 x1 ∧ g_jn4 (fun (K6 : Int32 → g_St → Nat → Nat → Prop) => g_jn0 (fun (K8 : Prop) => (x1 = 0 → K8) ∧ (¬ x1 = 0 → ∃ x20 : Int32, g_gi st a0 5 4 x20 ∧ (x20 = 0 → K8) ∧ (¬ x20 = 0 → ∃ o22 : Option Nat, g_gr st a0 5 0 o22 ∧ ∃ a23 : Nat, o22 = some a23 ∧ g_is st a23 3 ∧ wp_J5_size l E 0 0 [va_rf (some a23)] st (fun x24 stx => stx = st ∧ K6 x24 st cb sb)))) (∃ mc12 ms13 : Nat, mc12 ≤ cb ∧ ms13 ≤ sb ∧ g_is st a0 5 ∧ wp_J29_entrySet l E mc12 ms13 [va_rf (some a0)] st (fun o10 st11 => g_Ext st st11 → ∃ a14 : Nat, o10 = some a14 ∧ ∃ mc17 ms18 : Nat, mc17 ≤ (cb - mc12) ∧ ms18 ≤ (sb - ms13) ∧ g_is st11 a14 6 ∧ wp_J32_size l E mc17 ms18 [va_rf (some a14)] st11 (fun x15 st16 => g_Ext st11 st16 → K6 x15 st16 ((cb - mc12) - mc17) ((sb - ms13) - ms18))))) (fun (x2 : Int32) (st3 : g_St) (cb4 : Nat) (sb5 : Nat) => Q x2 st3)
set_option maxHeartbeats 4000000 in
theorem wb_J28_size {p : Program} {l : Launch} {e : Env} {R : Room} {s : State} {m : MethodId} {args : Array Value} {below : List Frame} {meth : Method} {c : Code} {E : g_E} {st0 : g_St} {Z : State → Prop} (hC : g_Cx p s m args meth c cJ28_size 1 "java/util/TreeMap$NavigableSubMap" (some .int) "size" E st0) (hR : g_Rm 14 346 R) {a0 : Nat} {st : g_St} {cb sb : Nat} {Q : Int32 → g_St → Prop} (hret : ∀ (pc : Nat) (lv : List (Nat × Value)) (v : Int32) (st1 : g_St) (cb sb : Nat), decode cJ28_size pc = .ok (.ireturn, 1) → narrow .int (.int v) = .int v → Q v st1 → g_J p l e R s m args below meth c 1 E st0 Z pc lv [.int v] st1 cb sb) (hvc : vc_J28_size l E a0 st cb sb Q) : g_J p l e R s m args below meth c 1 E st0 Z 0 [(0, va_rf (some a0))] [] st cb sb := by
  unfold vc_J28_size at hvc
  refine j_aload_n hC dJ28_size_0 rfl 0 rfl ?_
  obtain ⟨x1, ⟨fs, hr, hv⟩, hvc⟩ := hvc
  refine j_get hC fkJ28_26_J29 dJ28_size_1 hr hv ?_
  clear hv hr fs
  replace hvc := g_jn4_o hvc
  obtain ⟨K6, hK26, hvc⟩ := hvc
  have kh7 : ∀ (x2 : Int32) (st3 : g_St) (cb4 : Nat) (sb5 : Nat), K6 x2 st3 cb4 sb5 → g_J p l e R s m args below meth c 1 E st0 Z 33 [] [.int x2] st3 cb4 sb5 := by
    clear hvc
    intro x2 st3 cb4 sb5 hvc
    replace hvc := hK26 _ _ _ _ hvc
    exact hret _ _ _ _ _ _ dJ28_size_33 rfl hvc
  replace hvc := g_jn0_o hvc
  obtain ⟨K8, hK25, hvc⟩ := hvc
  have kh9 : K8 → g_J p l e R s m args below meth c 1 E st0 Z 24 [(0, va_rf (some a0))] [] st cb sb := by
    clear hvc
    intro hvc
    replace hvc := hK25 hvc
    refine j_aload_n hC dJ28_size_24 rfl 0 rfl ?_
    obtain ⟨mc12, ms13, h1, h2, hvc⟩ := hvc
    obtain ⟨⟨fs, hr⟩, hvc⟩ := hvc
    refine j_callA (As := []) (rest := []) (n := 0) (x := ⟨"java/util/TreeMap$NavigableSubMap", "entrySet", "()Ljava/util/Set;"⟩) (C := "java/util/TreeMap$AscendingSubMap") (owner := "java/util/AbstractMap") (ci := 5) hC hvc (lw_U q893 q894 q896 q897 q75 q898) ge_58 (by decide +kernel) (g_rm hR rfl rfl) rfl hr rfl rfl (g_sum rfl) dJ28_size_25 h1 h2 (g_Ka fun o10 st11 hv2 hx => ?_)
    replace hvc := hv2 hx; clear hx hv2
    clear hr fs
    obtain ⟨a14, rfl, hvc⟩ := hvc
    obtain ⟨mc17, ms18, h1, h2, hvc⟩ := hvc
    obtain ⟨⟨fs, hr⟩, hvc⟩ := hvc
    refine j_callF (As := []) (rest := []) (n := 0) (x := ⟨"java/util/Set", "size", "()I"⟩) (C := "java/util/TreeMap$AscendingSubMap$AscendingEntrySetView") (ci := 6) hC hvc (lw_F q928 q932 q934 q78 q936) gf_9 (by decide +kernel) (g_rm hR rfl rfl) rfl hr rfl rfl (g_sum rfl) dJ28_size_28 h1 h2 (g_Ki fun x15 st16 hv2 hx => ?_)
    replace hvc := hv2 hx; clear hx hv2
    clear hr fs
    exact j_sub [] rfl (kh7 x15 st16 ((cb - mc12) - mc17) ((sb - ms13) - ms18) hvc)
  refine j_if_eq (tgt := 24) hC dJ28_size_4 rfl (fun c19 => ?_) (fun c19 => ?_)
  · replace hvc := hvc.1 c19
    exact j_sub [0] rfl (kh9 hvc)
  · replace hvc := hvc.2 c19
    refine j_aload_n hC dJ28_size_7 rfl 0 rfl ?_
    obtain ⟨x20, ⟨fs, hr, hv⟩, hvc⟩ := hvc
    refine j_get hC fkJ28_37_J29 dJ28_size_8 hr hv ?_
    clear hv hr fs
    refine j_if_eq (tgt := 24) hC dJ28_size_11 rfl (fun c21 => ?_) (fun c21 => ?_)
    · replace hvc := hvc.1 c21
      exact j_sub [0] rfl (kh9 hvc)
    · replace hvc := hvc.2 c21
      refine j_aload_n hC dJ28_size_14 rfl 0 rfl ?_
      obtain ⟨o22, ⟨fs, hr, hv⟩, hvc⟩ := hvc
      refine j_get hC fkJ28_20_J29 dJ28_size_15 hr hv ?_
      clear hv hr fs
      obtain ⟨a23, rfl, hvc⟩ := hvc
      obtain ⟨⟨fs, hr⟩, hvc⟩ := hvc
      refine j_callV (As := []) (rest := []) (n := 0) (ci := 3) hC hvc (lw_V q892 q615 q616 q47 q617) (by decide +kernel) (g_rm hR rfl rfl) rfl hr rfl rfl (g_sum rfl) dJ28_size_18 (Nat.zero_le _) (Nat.zero_le _) (g_Kip fun x24 hv2 => ?_)
      replace hvc := hv2; clear hv2
      clear hr fs
      refine j_goto (tgt := 33) hC dJ28_size_21 rfl ?_
      exact j_sub [] rfl (kh7 x24 st cb sb hvc)
theorem wk_J28_size {l : Launch} {E : g_E} {a0 : Nat} {st : g_St} {mc ms : Nat} {Q : Int32 → g_St → Prop} (hvc : vc_J28_size l E a0 st mc ms Q) : wp_J28_size l E mc ms [va_rf (some a0)] st Q :=
  g_enter (lv0 := [(0, va_rf (some a0))]) (plainFor_of_name (by decide +kernel)) (by simp [lv_args, g_c1, g_ci, g_cL]) (by simp [lg_sl, g_c1, g_ci, g_cL]) (fun p e s m args below meth c hC => wb_J28_size hC ⟨Nat.le_refl _, Nat.le_refl _⟩ (fun pc lv v st1 cb sb hd hn hq => j_ireturn hC rfl hn hd (g_iv hq)) hvc)
abbrev wp_J5_subMap_2 (l : Launch) (E : g_E) (mc ms : Nat) (av : List Value) (st : g_St) (Q : Option Nat → g_St → Prop) : Prop := g_WPa l E yJ5_subMap_2 cJ5_subMap_2 5 (some (.object "java/util/NavigableMap")) 12 313 mc ms av st Q
def vc_J5_subMap_2 (l : Launch) (E : g_E) (a0 : Nat) (p0 : Option Nat) (p1 : Int32) (p2 : Option Nat) (p3 : Int32) (st : g_St) (cb sb : Nat) (Q : Option Nat → g_St → Prop) : Prop :=
  1 ≤ cb ∧ 12 ≤ sb ∧ ∀ (q1 : Nat) (st2 : g_St), q1 = st.2.2 → st2 = g_new st (.inr (5, [va_rf none, va_rf none, va_rf none, .int 0, .int 0, .int 0, .int 0, va_rf none, va_rf none, va_rf none, va_rf none, va_rf none])) → wp_J29_init l E 0 0 [va_rf (some q1), va_rf (some a0), .int (nI 0), va_rf p0, .int p1, .int (nI 0), va_rf p2, .int p3] st2 (fun st3 => g_Ext st2 st3 → Q (some q1) st3)
set_option maxHeartbeats 4000000 in
theorem wb_J5_subMap_2 {p : Program} {l : Launch} {e : Env} {R : Room} {s : State} {m : MethodId} {args : Array Value} {below : List Frame} {meth : Method} {c : Code} {E : g_E} {st0 : g_St} {Z : State → Prop} (hC : g_Cx p s m args meth c cJ5_subMap_2 5 "java/util/TreeMap" (some (.object "java/util/NavigableMap")) "subMap" E st0) (hR : g_Rm 12 313 R) {a0 : Nat} {p0 : Option Nat} {p1 : Int32} {p2 : Option Nat} {p3 : Int32} {st : g_St} {cb sb : Nat} {Q : Option Nat → g_St → Prop} (hret : ∀ (pc : Nat) (lv : List (Nat × Value)) (v : Option Nat) (st1 : g_St) (cb sb : Nat), decode cJ5_subMap_2 pc = .ok (.areturn, 1) → Q v st1 → g_J p l e R s m args below meth c 5 E st0 Z pc lv [va_rf v] st1 cb sb) (hvc : vc_J5_subMap_2 l E a0 p0 p1 p2 p3 st cb sb Q) : g_J p l e R s m args below meth c 5 E st0 Z 0 [(0, va_rf (some a0)), (1, va_rf p0), (2, .int p1), (3, va_rf p2), (4, .int p3)] [] st cb sb := by
  unfold vc_J5_subMap_2 at hvc
  obtain ⟨h1, h2, hvc⟩ := hvc
  refine j_new hC nwJ5_250 dJ5_subMap_2_0 (n := 12) rfl h1 h2 (fun q1 st2 e1 e2 => ?_)
  replace hvc := hvc q1 st2 e1 e2; clear h1 h2 e1 e2
  refine j_dup hC dJ5_subMap_2_3 g_c1 ?_
  refine j_aload_n hC dJ5_subMap_2_4 rfl 0 rfl ?_
  refine j_iconst hC (nI 0) dJ5_subMap_2_5 rfl ?_
  refine j_aload_n hC dJ5_subMap_2_6 rfl 1 rfl ?_
  refine j_iload_n hC dJ5_subMap_2_7 rfl 2 rfl ?_
  refine j_iconst hC (nI 0) dJ5_subMap_2_8 rfl ?_
  refine j_aload_n hC dJ5_subMap_2_9 rfl 3 rfl ?_
  refine j_iload hC dJ5_subMap_2_10 4 rfl ?_
  refine j_callI (As := [va_rf (some a0), .int (nI 0), va_rf p0, .int p1, .int (nI 0), va_rf p2, .int p3]) (rest := [va_rf (some q1)]) (n := 7) hC hvc (lw_meth q634) q75 q632 q633 rfl (by decide +kernel) (g_rm hR rfl rfl) rfl rfl (g_sum rfl) dJ5_subMap_2_12 (Nat.zero_le _) (Nat.zero_le _) (g_Kv fun st3 hv2 hx => ?_)
  replace hvc := hv2 hx; clear hx hv2
  exact hret _ _ _ _ _ _ dJ5_subMap_2_15 hvc
theorem wk_J5_subMap_2 {l : Launch} {E : g_E} {a0 : Nat} {p0 : Option Nat} {p1 : Int32} {p2 : Option Nat} {p3 : Int32} {st : g_St} {mc ms : Nat} {Q : Option Nat → g_St → Prop} (hvc : vc_J5_subMap_2 l E a0 p0 p1 p2 p3 st mc ms Q) : wp_J5_subMap_2 l E mc ms [va_rf (some a0), va_rf p0, .int p1, va_rf p2, .int p3] st Q :=
  g_enter (lv0 := [(0, va_rf (some a0)), (1, va_rf p0), (2, .int p1), (3, va_rf p2), (4, .int p3)]) (plainFor_of_name (by decide +kernel)) (by simp [lv_args, g_c1, g_ci, g_cL]) (by simp [lg_sl, g_c1, g_ci, g_cL]) (fun p e s m args below meth c hC => wb_J5_subMap_2 hC ⟨Nat.le_refl _, Nat.le_refl _⟩ (fun pc lv v st1 cb sb hd hq => j_areturn hC rfl (by first | exact Or.inl ⟨_, rfl⟩ | exact Or.inr ⟨_, rfl⟩) hd (g_av hq)) hvc)
abbrev wp_J5_subMap (l : Launch) (E : g_E) (mc ms : Nat) (av : List Value) (st : g_St) (Q : Option Nat → g_St → Prop) : Prop := g_WPa l E yJ5_subMap cJ5_subMap 3 (some (.object "java/util/SortedMap")) 13 337 mc ms av st Q
def vc_J5_subMap (l : Launch) (E : g_E) (a0 : Nat) (p0 : Option Nat) (p1 : Option Nat) (st : g_St) (cb sb : Nat) (Q : Option Nat → g_St → Prop) : Prop :=
  ∃ mc3 ms4 : Nat, mc3 ≤ cb ∧ ms4 ≤ sb ∧ g_is st a0 3 ∧ wp_J5_subMap_2 l E mc3 ms4 [va_rf (some a0), va_rf p0, .int (nI 1), va_rf p1, .int (nI 0)] st (fun o1 st2 => g_Ext st st2 → Q o1 st2)
set_option maxHeartbeats 4000000 in
theorem wb_J5_subMap {p : Program} {l : Launch} {e : Env} {R : Room} {s : State} {m : MethodId} {args : Array Value} {below : List Frame} {meth : Method} {c : Code} {E : g_E} {st0 : g_St} {Z : State → Prop} (hC : g_Cx p s m args meth c cJ5_subMap 3 "java/util/TreeMap" (some (.object "java/util/SortedMap")) "subMap" E st0) (hR : g_Rm 13 337 R) {a0 : Nat} {p0 : Option Nat} {p1 : Option Nat} {st : g_St} {cb sb : Nat} {Q : Option Nat → g_St → Prop} (hret : ∀ (pc : Nat) (lv : List (Nat × Value)) (v : Option Nat) (st1 : g_St) (cb sb : Nat), decode cJ5_subMap pc = .ok (.areturn, 1) → Q v st1 → g_J p l e R s m args below meth c 3 E st0 Z pc lv [va_rf v] st1 cb sb) (hvc : vc_J5_subMap l E a0 p0 p1 st cb sb Q) : g_J p l e R s m args below meth c 3 E st0 Z 0 [(0, va_rf (some a0)), (1, va_rf p0), (2, va_rf p1)] [] st cb sb := by
  unfold vc_J5_subMap at hvc
  refine j_aload_n hC dJ5_subMap_0 rfl 0 rfl ?_
  refine j_aload_n hC dJ5_subMap_1 rfl 1 rfl ?_
  refine j_iconst hC (nI 1) dJ5_subMap_2 rfl ?_
  refine j_aload_n hC dJ5_subMap_3 rfl 2 rfl ?_
  refine j_iconst hC (nI 0) dJ5_subMap_4 rfl ?_
  obtain ⟨mc3, ms4, h1, h2, hvc⟩ := hvc
  obtain ⟨⟨fs, hr⟩, hvc⟩ := hvc
  refine j_callV (As := [va_rf p0, .int (nI 1), va_rf p1, .int (nI 0)]) (rest := []) (n := 4) (ci := 3) hC hvc (lw_V q1197 q1198 q1199 q47 q1200) (by decide +kernel) (g_rm hR rfl rfl) rfl hr rfl rfl (g_sum rfl) dJ5_subMap_5 h1 h2 (g_Ka fun o1 st2 hv2 hx => ?_)
  replace hvc := hv2 hx; clear hx hv2
  clear hr fs
  exact hret _ _ _ _ _ _ dJ5_subMap_8 hvc
theorem wk_J5_subMap {l : Launch} {E : g_E} {a0 : Nat} {p0 : Option Nat} {p1 : Option Nat} {st : g_St} {mc ms : Nat} {Q : Option Nat → g_St → Prop} (hvc : vc_J5_subMap l E a0 p0 p1 st mc ms Q) : wp_J5_subMap l E mc ms [va_rf (some a0), va_rf p0, va_rf p1] st Q :=
  g_enter (lv0 := [(0, va_rf (some a0)), (1, va_rf p0), (2, va_rf p1)]) (plainFor_of_name (by decide +kernel)) (by simp [lv_args, g_c1, g_ci, g_cL]) (by simp [lg_sl, g_c1, g_ci, g_cL]) (fun p e s m args below meth c hC => wb_J5_subMap hC ⟨Nat.le_refl _, Nat.le_refl _⟩ (fun pc lv v st1 cb sb hd hq => j_areturn hC rfl (by first | exact Or.inl ⟨_, rfl⟩ | exact Or.inr ⟨_, rfl⟩) hd (g_av hq)) hvc)
abbrev wp_J30_init_J43 (l : Launch) (E : g_E) (mc ms : Nat) (av : List Value) (st : g_St) (Q : g_St → Prop) : Prop := g_WPv l E yJ30_init cJ30_init 1 none 1 40 mc ms av st Q
def vc_J30_init_J43 (l : Launch) (E : g_E) (a0 : Nat) (st : g_St) (Q : g_St → Prop) : Prop :=
  Q st
set_option maxHeartbeats 4000000 in
theorem wb_J30_init_J43 {p : Program} {l : Launch} {e : Env} {R : Room} {s : State} {m : MethodId} {args : Array Value} {below : List Frame} {meth : Method} {c : Code} {E : g_E} {st0 : g_St} {Z : State → Prop} (hC : g_Cx p s m args meth c cJ30_init 1 "java/util/AbstractCollection" none "<init>" E st0) (hR : g_Rm 1 40 R) {a0 : Nat} {st : g_St} {cb sb : Nat} {Q : g_St → Prop} (hret : ∀ (pc : Nat) (lv : List (Nat × Value)) (st1 : g_St) (cb sb : Nat), decode cJ30_init pc = .ok (.return_, 1) → Q st1 → g_J p l e R s m args below meth c 1 E st0 Z pc lv [] st1 cb sb) (hvc : vc_J30_init_J43 l E a0 st Q) : g_J p l e R s m args below meth c 1 E st0 Z 0 [(0, va_rf (some a0))] [] st cb sb := by
  unfold vc_J30_init_J43 at hvc
  refine j_aload_n hC dJ30_init_0 rfl 0 rfl ?_
  refine j_objInit hC q913 q99 q100 (Nat.le_trans (Nat.le_of_ble_eq_true rfl) hR.1) (Nat.le_trans (g_sumO rfl) hR.2) dJ30_init_1 ?_
  exact hret _ _ _ _ _ dJ30_init_4 hvc
theorem wk_J30_init_J43 {l : Launch} {E : g_E} {a0 : Nat} {st : g_St} {mc ms : Nat} {Q : g_St → Prop} (hvc : vc_J30_init_J43 l E a0 st Q) : wp_J30_init_J43 l E mc ms [va_rf (some a0)] st Q :=
  g_enter (lv0 := [(0, va_rf (some a0))]) (plainFor_of_name (by decide +kernel)) (by simp [lv_args, g_c1, g_ci, g_cL]) (by simp [lg_sl, g_c1, g_ci, g_cL]) (fun p e s m args below meth c hC => wb_J30_init_J43 hC ⟨Nat.le_refl _, Nat.le_refl _⟩ (fun pc lv st1 cb sb hd hq => j_return hC rfl hd ⟨rfl, hq⟩) hvc)
abbrev wp_J43_init (l : Launch) (E : g_E) (mc ms : Nat) (av : List Value) (st : g_St) (Q : g_St → Prop) : Prop := g_WPv l E yJ43_init cJ43_init 2 none 2 60 mc ms av st Q
def vc_J43_init (l : Launch) (E : g_E) (a0 : Nat) (p0 : Option Nat) (st : g_St) (Q : g_St → Prop) : Prop :=
  ∃ fs1 : List Value, st.2.1 a0 = some (.inr (12, fs1)) ∧ ∀ st2 : g_St, st2 = g_put st a0 (.inr (12, fs1.set 0 (va_rf p0))) → wp_J30_init_J43 l E 0 0 [va_rf (some a0)] st2 (fun stx => stx = st2 ∧ Q st2)
set_option maxHeartbeats 4000000 in
theorem wb_J43_init {p : Program} {l : Launch} {e : Env} {R : Room} {s : State} {m : MethodId} {args : Array Value} {below : List Frame} {meth : Method} {c : Code} {E : g_E} {st0 : g_St} {Z : State → Prop} (hC : g_Cx p s m args meth c cJ43_init 2 "java/util/AbstractMap$2" none "<init>" E st0) (hR : g_Rm 2 60 R) {a0 : Nat} {p0 : Option Nat} {st : g_St} {cb sb : Nat} {Q : g_St → Prop} (hret : ∀ (pc : Nat) (lv : List (Nat × Value)) (st1 : g_St) (cb sb : Nat), decode cJ43_init pc = .ok (.return_, 1) → Q st1 → g_J p l e R s m args below meth c 2 E st0 Z pc lv [] st1 cb sb) (hvc : vc_J43_init l E a0 p0 st Q) : g_J p l e R s m args below meth c 2 E st0 Z 0 [(0, va_rf (some a0)), (1, va_rf p0)] [] st cb sb := by
  unfold vc_J43_init at hvc
  refine j_aload_n hC dJ43_init_0 rfl 0 rfl ?_
  refine j_aload_n hC dJ43_init_1 rfl 1 rfl ?_
  obtain ⟨fs1, hm, hvc⟩ := hvc
  refine j_putF hC fkJ43_1_J43 rfl dJ43_init_2 hm g_no g_fo (fun st2 e1 => ?_)
  replace hvc := hvc st2 e1; clear hm e1
  refine j_aload_n hC dJ43_init_5 rfl 0 rfl ?_
  refine j_callI (As := []) (rest := []) (n := 0) hC hvc (lw_meth q912) q76 q1234 q911 rfl (by decide +kernel) (g_rm hR rfl rfl) rfl rfl (g_sum rfl) dJ43_init_6 (Nat.zero_le _) (Nat.zero_le _) (g_Kvp fun hv2 => ?_)
  replace hvc := hv2; clear hv2
  exact hret _ _ _ _ _ dJ43_init_9 hvc
theorem wk_J43_init {l : Launch} {E : g_E} {a0 : Nat} {p0 : Option Nat} {st : g_St} {mc ms : Nat} {Q : g_St → Prop} (hvc : vc_J43_init l E a0 p0 st Q) : wp_J43_init l E mc ms [va_rf (some a0), va_rf p0] st Q :=
  g_enter (lv0 := [(0, va_rf (some a0)), (1, va_rf p0)]) (plainFor_of_name (by decide +kernel)) (by simp [lv_args, g_c1, g_ci, g_cL]) (by simp [lg_sl, g_c1, g_ci, g_cL]) (fun p e s m args below meth c hC => wb_J43_init hC ⟨Nat.le_refl _, Nat.le_refl _⟩ (fun pc lv st1 cb sb hd hq => j_return hC rfl hd ⟨rfl, hq⟩) hvc)
abbrev wp_J4_values (l : Launch) (E : g_E) (mc ms : Nat) (av : List Value) (st : g_St) (Q : Option Nat → g_St → Prop) : Prop := g_WPa l E yJ4_values cJ4_values 2 (some (.object "java/util/Collection")) 3 81 mc ms av st Q
def vc_J4_values (l : Launch) (E : g_E) (a0 : Nat) (st : g_St) (cb sb : Nat) (Q : Option Nat → g_St → Prop) : Prop :=
  ∃ o1 : Option Nat, g_gr st a0 5 11 o1 ∧ g_jn4 (fun (K6 : (Option Nat) → g_St → Nat → Nat → Prop) => (o1 = none → 1 ≤ cb ∧ 1 ≤ sb ∧ ∀ (q10 : Nat) (st11 : g_St), q10 = st.2.2 → st11 = g_new st (.inr (12, [va_rf none])) → wp_J43_init l E 0 0 [va_rf (some q10), va_rf (some a0)] st11 (fun st12 => g_Ext st11 st12 → ∃ fs13 : List Value, st12.2.1 a0 = some (.inr (5, fs13)) ∧ ∀ st14 : g_St, st14 = g_put st12 a0 (.inr (5, fs13.set 11 (va_rf (some q10)))) → K6 (some q10) st14 (cb - 1) (sb - 1))) ∧ (∀ a9 : Nat, o1 = some a9 → K6 (some a9) st cb sb)) (fun (o2 : Option Nat) (st3 : g_St) (cb4 : Nat) (sb5 : Nat) => Q o2 st3)
set_option maxHeartbeats 4000000 in
theorem wb_J4_values {p : Program} {l : Launch} {e : Env} {R : Room} {s : State} {m : MethodId} {args : Array Value} {below : List Frame} {meth : Method} {c : Code} {E : g_E} {st0 : g_St} {Z : State → Prop} (hC : g_Cx p s m args meth c cJ4_values 2 "java/util/AbstractMap" (some (.object "java/util/Collection")) "values" E st0) (hR : g_Rm 3 81 R) {a0 : Nat} {st : g_St} {cb sb : Nat} {Q : Option Nat → g_St → Prop} (hret : ∀ (pc : Nat) (lv : List (Nat × Value)) (v : Option Nat) (st1 : g_St) (cb sb : Nat), decode cJ4_values pc = .ok (.areturn, 1) → Q v st1 → g_J p l e R s m args below meth c 2 E st0 Z pc lv [va_rf v] st1 cb sb) (hvc : vc_J4_values l E a0 st cb sb Q) : g_J p l e R s m args below meth c 2 E st0 Z 0 [(0, va_rf (some a0))] [] st cb sb := by
  unfold vc_J4_values at hvc
  refine j_aload_n hC dJ4_values_0 rfl 0 rfl ?_
  obtain ⟨o1, ⟨fs, hr, hv⟩, hvc⟩ := hvc
  refine j_get hC fkJ4_71_J29 dJ4_values_1 hr hv ?_
  clear hv hr fs
  refine j_astore_n (lv0 := [(0, va_rf (some a0))]) hC dJ4_values_4 rfl rfl [0] rfl (g_okS.h rfl g_c1 rfl) ?_
  refine j_aload_n hC dJ4_values_5 rfl 0 rfl ?_
  replace hvc := g_jn4_o hvc
  obtain ⟨K6, hK15, hvc⟩ := hvc
  have kh7 : ∀ (o2 : Option Nat) (st3 : g_St) (cb4 : Nat) (sb5 : Nat), K6 o2 st3 cb4 sb5 → g_J p l e R s m args below meth c 2 E st0 Z 23 [(1, va_rf o2)] [] st3 cb4 sb5 := by
    clear hvc
    intro o2 st3 cb4 sb5 hvc
    replace hvc := hK15 _ _ _ _ hvc
    refine j_aload_n hC dJ4_values_23 rfl 0 rfl ?_
    exact hret _ _ _ _ _ _ dJ4_values_24 hvc
  refine j_ifnonnull (tgt := 23) hC dJ4_values_6 rfl (fun a9 c8 => ?_) (fun c8 => ?_)
  · subst c8; replace hvc := hvc.2 a9 rfl
    exact j_sub [0] rfl (kh7 (some a9) st cb sb hvc)
  · subst c8; replace hvc := hvc.1 rfl
    obtain ⟨h1, h2, hvc⟩ := hvc
    refine j_new hC nwJ4_75 dJ4_values_9 (n := 1) rfl h1 h2 (fun q10 st11 e1 e2 => ?_)
    replace hvc := hvc q10 st11 e1 e2; clear h1 h2 e1 e2
    refine j_dup hC dJ4_values_12 g_c1 ?_
    refine j_aload_n hC dJ4_values_13 rfl 1 rfl ?_
    refine j_callI (As := [va_rf (some a0)]) (rest := [va_rf (some q10)]) (n := 1) hC hvc (lw_meth q1233) q89 q1231 q1232 rfl (by decide +kernel) (g_rm hR rfl rfl) rfl rfl (g_sum rfl) dJ4_values_14 (Nat.zero_le _) (Nat.zero_le _) (g_Kv fun st12 hv2 hx => ?_)
    replace hvc := hv2 hx; clear hx hv2
    refine j_astore_n (lv0 := [(0, va_rf (some a0))]) hC dJ4_values_17 rfl rfl [1] rfl (g_okS.h rfl g_c1 rfl) ?_
    refine j_aload_n hC dJ4_values_18 rfl 1 rfl ?_
    refine j_aload_n hC dJ4_values_19 rfl 0 rfl ?_
    obtain ⟨fs13, hm, hvc⟩ := hvc
    refine j_put hC fkJ4_71_J29 dJ4_values_20 hm g_no g_fo (fun st14 e1 => ?_)
    replace hvc := hvc st14 e1; clear hm e1
    exact j_sub [0] rfl (kh7 (some q10) st14 (cb - 1) (sb - 1) hvc)
theorem wk_J4_values {l : Launch} {E : g_E} {a0 : Nat} {st : g_St} {mc ms : Nat} {Q : Option Nat → g_St → Prop} (hvc : vc_J4_values l E a0 st mc ms Q) : wp_J4_values l E mc ms [va_rf (some a0)] st Q :=
  g_enter (lv0 := [(0, va_rf (some a0))]) (plainFor_of_name (by decide +kernel)) (by simp [lv_args, g_c1, g_ci, g_cL]) (by simp [lg_sl, g_c1, g_ci, g_cL]) (fun p e s m args below meth c hC => wb_J4_values hC ⟨Nat.le_refl _, Nat.le_refl _⟩ (fun pc lv v st1 cb sb hd hq => j_areturn hC rfl (by first | exact Or.inl ⟨_, rfl⟩ | exact Or.inr ⟨_, rfl⟩) hd (g_av hq)) hvc)
abbrev wp_J44_init (l : Launch) (E : g_E) (mc ms : Nat) (av : List Value) (st : g_St) (Q : g_St → Prop) : Prop := g_WPv l E yJ44_init cJ44_init 2 none 13 325 mc ms av st Q
def vc_J44_init (l : Launch) (E : g_E) (a0 : Nat) (p0 : Option Nat) (st : g_St) (cb sb : Nat) (Q : g_St → Prop) : Prop :=
  ∃ fs1 : List Value, st.2.1 a0 = some (.inr (13, fs1)) ∧ ∀ st2 : g_St, st2 = g_put st a0 (.inr (13, fs1.set 1 (va_rf p0))) → ∃ o3 : Option Nat, g_gr st2 a0 13 1 o3 ∧ ∃ a4 : Nat, o3 = some a4 ∧ ∃ o5 : Option Nat, g_gr st2 a4 12 0 o5 ∧ ∃ a6 : Nat, o5 = some a6 ∧ ∃ mc9 ms10 : Nat, mc9 ≤ cb ∧ ms10 ≤ sb ∧ g_is st2 a6 5 ∧ wp_J29_entrySet l E mc9 ms10 [va_rf (some a6)] st2 (fun o7 st8 => g_Ext st2 st8 → ∃ a11 : Nat, o7 = some a11 ∧ ∃ mc14 ms15 : Nat, mc14 ≤ (cb - mc9) ∧ ms15 ≤ (sb - ms10) ∧ g_is st8 a11 6 ∧ wp_J33_iterator l E mc14 ms15 [va_rf (some a11)] st8 (fun o12 st13 => g_Ext st8 st13 → ∃ fs16 : List Value, st13.2.1 a0 = some (.inr (13, fs16)) ∧ ∀ st17 : g_St, st17 = g_put st13 a0 (.inr (13, fs16.set 0 (va_rf o12))) → Q st17))
set_option maxHeartbeats 4000000 in
theorem wb_J44_init {p : Program} {l : Launch} {e : Env} {R : Room} {s : State} {m : MethodId} {args : Array Value} {below : List Frame} {meth : Method} {c : Code} {E : g_E} {st0 : g_St} {Z : State → Prop} (hC : g_Cx p s m args meth c cJ44_init 2 "java/util/AbstractMap$2$1" none "<init>" E st0) (hR : g_Rm 13 325 R) {a0 : Nat} {p0 : Option Nat} {st : g_St} {cb sb : Nat} {Q : g_St → Prop} (hret : ∀ (pc : Nat) (lv : List (Nat × Value)) (st1 : g_St) (cb sb : Nat), decode cJ44_init pc = .ok (.return_, 1) → Q st1 → g_J p l e R s m args below meth c 2 E st0 Z pc lv [] st1 cb sb) (hvc : vc_J44_init l E a0 p0 st cb sb Q) : g_J p l e R s m args below meth c 2 E st0 Z 0 [(0, va_rf (some a0)), (1, va_rf p0)] [] st cb sb := by
  unfold vc_J44_init at hvc
  refine j_aload_n hC dJ44_init_0 rfl 0 rfl ?_
  refine j_aload_n hC dJ44_init_1 rfl 1 rfl ?_
  obtain ⟨fs1, hm, hvc⟩ := hvc
  refine j_putF hC fkJ44_1_J44 rfl dJ44_init_2 hm g_no g_fo (fun st2 e1 => ?_)
  replace hvc := hvc st2 e1; clear hm e1
  refine j_aload_n hC dJ44_init_5 rfl 0 rfl ?_
  refine j_objInit hC q1255 q99 q100 (Nat.le_trans (Nat.le_of_ble_eq_true rfl) hR.1) (Nat.le_trans (g_sumO rfl) hR.2) dJ44_init_6 ?_
  refine j_aload_n hC dJ44_init_9 rfl 0 rfl ?_
  refine j_aload_n hC dJ44_init_10 rfl 0 rfl ?_
  obtain ⟨o3, ⟨fs, hr, hv⟩, hvc⟩ := hvc
  refine j_get hC fkJ44_1_J44 dJ44_init_11 hr hv ?_
  clear hv hr fs
  obtain ⟨a4, rfl, hvc⟩ := hvc
  obtain ⟨o5, ⟨fs, hr, hv⟩, hvc⟩ := hvc
  refine j_getR hC fkJ44_13_J43 dJ44_init_14 hr hv ?_
  clear hv hr fs
  obtain ⟨a6, rfl, hvc⟩ := hvc
  obtain ⟨mc9, ms10, h1, h2, hvc⟩ := hvc
  obtain ⟨⟨fs, hr⟩, hvc⟩ := hvc
  refine j_callA (As := []) (rest := [va_rf (some a0)]) (n := 0) (x := ⟨"java/util/AbstractMap", "entrySet", "()Ljava/util/Set;"⟩) (C := "java/util/TreeMap$AscendingSubMap") (owner := "java/util/AbstractMap") (ci := 5) hC hvc (lw_U q1256 q2456 q2458 q897 q75 q898) ge_58 (by decide +kernel) (g_rm hR rfl rfl) rfl hr rfl rfl (g_sum rfl) dJ44_init_17 h1 h2 (g_Ka fun o7 st8 hv2 hx => ?_)
  replace hvc := hv2 hx; clear hx hv2
  clear hr fs
  obtain ⟨a11, rfl, hvc⟩ := hvc
  obtain ⟨mc14, ms15, h1, h2, hvc⟩ := hvc
  obtain ⟨⟨fs, hr⟩, hvc⟩ := hvc
  refine j_callF (As := []) (rest := [va_rf (some a0)]) (n := 0) (x := ⟨"java/util/Set", "iterator", "()Ljava/util/Iterator;"⟩) (C := "java/util/TreeMap$AscendingSubMap$AscendingEntrySetView") (ci := 6) hC hvc (lw_F q1270 q1273 q942 q79 q943) gf_10 (by decide +kernel) (g_rm hR rfl rfl) rfl hr rfl rfl (g_sum rfl) dJ44_init_20 h1 h2 (g_Ka fun o12 st13 hv2 hx => ?_)
  replace hvc := hv2 hx; clear hx hv2
  clear hr fs
  obtain ⟨fs16, hm, hvc⟩ := hvc
  refine j_put hC fkJ44_31_J44 dJ44_init_25 hm g_no g_fo (fun st17 e1 => ?_)
  replace hvc := hvc st17 e1; clear hm e1
  exact hret _ _ _ _ _ dJ44_init_28 hvc
theorem wk_J44_init {l : Launch} {E : g_E} {a0 : Nat} {p0 : Option Nat} {st : g_St} {mc ms : Nat} {Q : g_St → Prop} (hvc : vc_J44_init l E a0 p0 st mc ms Q) : wp_J44_init l E mc ms [va_rf (some a0), va_rf p0] st Q :=
  g_enter (lv0 := [(0, va_rf (some a0)), (1, va_rf p0)]) (plainFor_of_name (by decide +kernel)) (by simp [lv_args, g_c1, g_ci, g_cL]) (by simp [lg_sl, g_c1, g_ci, g_cL]) (fun p e s m args below meth c hC => wb_J44_init hC ⟨Nat.le_refl _, Nat.le_refl _⟩ (fun pc lv st1 cb sb hd hq => j_return hC rfl hd ⟨rfl, hq⟩) hvc)
abbrev wp_J43_iterator (l : Launch) (E : g_E) (mc ms : Nat) (av : List Value) (st : g_St) (Q : Option Nat → g_St → Prop) : Prop := g_WPa l E yJ43_iterator cJ43_iterator 1 (some (.object "java/util/Iterator")) 14 346 mc ms av st Q
def vc_J43_iterator (l : Launch) (E : g_E) (a0 : Nat) (st : g_St) (cb sb : Nat) (Q : Option Nat → g_St → Prop) : Prop :=
  1 ≤ cb ∧ 2 ≤ sb ∧ ∀ (q1 : Nat) (st2 : g_St), q1 = st.2.2 → st2 = g_new st (.inr (13, [va_rf none, va_rf none])) → ∃ mc4 ms5 : Nat, mc4 ≤ (cb - 1) ∧ ms5 ≤ (sb - 2) ∧ wp_J44_init l E mc4 ms5 [va_rf (some q1), va_rf (some a0)] st2 (fun st3 => g_Ext st2 st3 → Q (some q1) st3)
set_option maxHeartbeats 4000000 in
theorem wb_J43_iterator {p : Program} {l : Launch} {e : Env} {R : Room} {s : State} {m : MethodId} {args : Array Value} {below : List Frame} {meth : Method} {c : Code} {E : g_E} {st0 : g_St} {Z : State → Prop} (hC : g_Cx p s m args meth c cJ43_iterator 1 "java/util/AbstractMap$2" (some (.object "java/util/Iterator")) "iterator" E st0) (hR : g_Rm 14 346 R) {a0 : Nat} {st : g_St} {cb sb : Nat} {Q : Option Nat → g_St → Prop} (hret : ∀ (pc : Nat) (lv : List (Nat × Value)) (v : Option Nat) (st1 : g_St) (cb sb : Nat), decode cJ43_iterator pc = .ok (.areturn, 1) → Q v st1 → g_J p l e R s m args below meth c 1 E st0 Z pc lv [va_rf v] st1 cb sb) (hvc : vc_J43_iterator l E a0 st cb sb Q) : g_J p l e R s m args below meth c 1 E st0 Z 0 [(0, va_rf (some a0))] [] st cb sb := by
  unfold vc_J43_iterator at hvc
  obtain ⟨h1, h2, hvc⟩ := hvc
  refine j_new hC nwJ43_13 dJ43_iterator_0 (n := 2) rfl h1 h2 (fun q1 st2 e1 e2 => ?_)
  replace hvc := hvc q1 st2 e1 e2; clear h1 h2 e1 e2
  refine j_dup hC dJ43_iterator_3 g_c1 ?_
  refine j_aload_n hC dJ43_iterator_4 rfl 0 rfl ?_
  obtain ⟨mc4, ms5, h1, h2, hvc⟩ := hvc
  refine j_callI (As := [va_rf (some a0)]) (rest := [va_rf (some q1)]) (n := 1) hC hvc (lw_meth q1254) q90 q1252 q1253 rfl (by decide +kernel) (g_rm hR rfl rfl) rfl rfl (g_sum rfl) dJ43_iterator_5 h1 h2 (g_Kv fun st3 hv2 hx => ?_)
  replace hvc := hv2 hx; clear hx hv2
  exact hret _ _ _ _ _ _ dJ43_iterator_8 hvc
theorem wk_J43_iterator {l : Launch} {E : g_E} {a0 : Nat} {st : g_St} {mc ms : Nat} {Q : Option Nat → g_St → Prop} (hvc : vc_J43_iterator l E a0 st mc ms Q) : wp_J43_iterator l E mc ms [va_rf (some a0)] st Q :=
  g_enter (lv0 := [(0, va_rf (some a0))]) (plainFor_of_name (by decide +kernel)) (by simp [lv_args, g_c1, g_ci, g_cL]) (by simp [lg_sl, g_c1, g_ci, g_cL]) (fun p e s m args below meth c hC => wb_J43_iterator hC ⟨Nat.le_refl _, Nat.le_refl _⟩ (fun pc lv v st1 cb sb hd hq => j_areturn hC rfl (by first | exact Or.inl ⟨_, rfl⟩ | exact Or.inr ⟨_, rfl⟩) hd (g_av hq)) hvc)
abbrev wp_J44_hasNext (l : Launch) (E : g_E) (mc ms : Nat) (av : List Value) (st : g_St) (Q : Int32 → g_St → Prop) : Prop := g_WPi l E yJ44_hasNext cJ44_hasNext 1 (some .boolean) 2 60 mc ms av st Q
def vc_J44_hasNext (l : Launch) (E : g_E) (a0 : Nat) (st : g_St) (Q : Int32 → g_St → Prop) : Prop :=
  ∃ o1 : Option Nat, g_gr st a0 13 0 o1 ∧ ∃ a2 : Nat, o1 = some a2 ∧ g_is st a2 7 ∧ wp_J34_hasNext l E 0 0 [va_rf (some a2)] st (fun x3 stx => stx = st ∧ narrow .boolean (.int x3) = .int x3 ∧ Q x3 st)
set_option maxHeartbeats 4000000 in
theorem wb_J44_hasNext {p : Program} {l : Launch} {e : Env} {R : Room} {s : State} {m : MethodId} {args : Array Value} {below : List Frame} {meth : Method} {c : Code} {E : g_E} {st0 : g_St} {Z : State → Prop} (hC : g_Cx p s m args meth c cJ44_hasNext 1 "java/util/AbstractMap$2$1" (some .boolean) "hasNext" E st0) (hR : g_Rm 2 60 R) {a0 : Nat} {st : g_St} {cb sb : Nat} {Q : Int32 → g_St → Prop} (hret : ∀ (pc : Nat) (lv : List (Nat × Value)) (v : Int32) (st1 : g_St) (cb sb : Nat), decode cJ44_hasNext pc = .ok (.ireturn, 1) → narrow .boolean (.int v) = .int v → Q v st1 → g_J p l e R s m args below meth c 1 E st0 Z pc lv [.int v] st1 cb sb) (hvc : vc_J44_hasNext l E a0 st Q) : g_J p l e R s m args below meth c 1 E st0 Z 0 [(0, va_rf (some a0))] [] st cb sb := by
  unfold vc_J44_hasNext at hvc
  refine j_aload_n hC dJ44_hasNext_0 rfl 0 rfl ?_
  obtain ⟨o1, ⟨fs, hr, hv⟩, hvc⟩ := hvc
  refine j_get hC fkJ44_31_J44 dJ44_hasNext_1 hr hv ?_
  clear hv hr fs
  obtain ⟨a2, rfl, hvc⟩ := hvc
  obtain ⟨⟨fs, hr⟩, hvc⟩ := hvc
  refine j_callF (As := []) (rest := []) (n := 0) (x := ⟨"java/util/Iterator", "hasNext", "()Z"⟩) (C := "java/util/TreeMap$NavigableSubMap$SubMapEntryIterator") (ci := 7) hC hvc (lw_F q1012 q1023 q1025 q80 q1027) gf_13 (by decide +kernel) (g_rm hR rfl rfl) rfl hr rfl rfl (g_sum rfl) dJ44_hasNext_4 (Nat.zero_le _) (Nat.zero_le _) (g_Kip fun x3 hv2 => ?_)
  replace hvc := hv2; clear hv2
  clear hr fs
  exact hret _ _ _ _ _ _ dJ44_hasNext_9 hvc.1 hvc.2
theorem wk_J44_hasNext {l : Launch} {E : g_E} {a0 : Nat} {st : g_St} {mc ms : Nat} {Q : Int32 → g_St → Prop} (hvc : vc_J44_hasNext l E a0 st Q) : wp_J44_hasNext l E mc ms [va_rf (some a0)] st Q :=
  g_enter (lv0 := [(0, va_rf (some a0))]) (plainFor_of_name (by decide +kernel)) (by simp [lv_args, g_c1, g_ci, g_cL]) (by simp [lg_sl, g_c1, g_ci, g_cL]) (fun p e s m args below meth c hC => wb_J44_hasNext hC ⟨Nat.le_refl _, Nat.le_refl _⟩ (fun pc lv v st1 cb sb hd hn hq => j_ireturn hC rfl hn hd (g_iv hq)) hvc)
abbrev wp_J27_getValue (l : Launch) (E : g_E) (mc ms : Nat) (av : List Value) (st : g_St) (Q : Option Nat → g_St → Prop) : Prop := g_WPa l E yJ27_getValue cJ27_getValue 1 (some (.object "java/lang/Object")) 1 40 mc ms av st Q
def vc_J27_getValue (l : Launch) (E : g_E) (a0 : Nat) (st : g_St) (Q : Option Nat → g_St → Prop) : Prop :=
  ∃ o1 : Option Nat, g_gr st a0 4 1 o1 ∧ Q o1 st
set_option maxHeartbeats 4000000 in
theorem wb_J27_getValue {p : Program} {l : Launch} {e : Env} {R : Room} {s : State} {m : MethodId} {args : Array Value} {below : List Frame} {meth : Method} {c : Code} {E : g_E} {st0 : g_St} {Z : State → Prop} (hC : g_Cx p s m args meth c cJ27_getValue 1 "java/util/TreeMap$Entry" (some (.object "java/lang/Object")) "getValue" E st0) (hR : g_Rm 1 40 R) {a0 : Nat} {st : g_St} {cb sb : Nat} {Q : Option Nat → g_St → Prop} (hret : ∀ (pc : Nat) (lv : List (Nat × Value)) (v : Option Nat) (st1 : g_St) (cb sb : Nat), decode cJ27_getValue pc = .ok (.areturn, 1) → Q v st1 → g_J p l e R s m args below meth c 1 E st0 Z pc lv [va_rf v] st1 cb sb) (hvc : vc_J27_getValue l E a0 st Q) : g_J p l e R s m args below meth c 1 E st0 Z 0 [(0, va_rf (some a0))] [] st cb sb := by
  unfold vc_J27_getValue at hvc
  refine j_aload_n hC dJ27_getValue_0 rfl 0 rfl ?_
  obtain ⟨o1, ⟨fs, hr, hv⟩, hvc⟩ := hvc
  refine j_get hC fkJ27_19_J27 dJ27_getValue_1 hr hv ?_
  clear hv hr fs
  exact hret _ _ _ _ _ _ dJ27_getValue_4 hvc
theorem wk_J27_getValue {l : Launch} {E : g_E} {a0 : Nat} {st : g_St} {mc ms : Nat} {Q : Option Nat → g_St → Prop} (hvc : vc_J27_getValue l E a0 st Q) : wp_J27_getValue l E mc ms [va_rf (some a0)] st Q :=
  g_enter (lv0 := [(0, va_rf (some a0))]) (plainFor_of_name (by decide +kernel)) (by simp [lv_args, g_c1, g_ci, g_cL]) (by simp [lg_sl, g_c1, g_ci, g_cL]) (fun p e s m args below meth c hC => wb_J27_getValue hC ⟨Nat.le_refl _, Nat.le_refl _⟩ (fun pc lv v st1 cb sb hd hq => j_areturn hC rfl (by first | exact Or.inl ⟨_, rfl⟩ | exact Or.inr ⟨_, rfl⟩) hd (g_av hq)) hvc)
abbrev wp_J44_next (l : Launch) (E : g_E) (mc ms : Nat) (av : List Value) (st : g_St) (Q : Option Nat → g_St → Prop) : Prop := g_WPa l E yJ44_next cJ44_next 1 (some (.object "java/lang/Object")) 5 123 mc ms av st Q
def vc_J44_next (l : Launch) (E : g_E) (a0 : Nat) (st : g_St) (Q : Option Nat → g_St → Prop) : Prop :=
  ∃ o1 : Option Nat, g_gr st a0 13 0 o1 ∧ ∃ a2 : Nat, o1 = some a2 ∧ g_is st a2 7 ∧ wp_J35_next l E 0 0 [va_rf (some a2)] st (fun o3 st4 => g_Ext st st4 → g_isN st4 o3 4 ∧ ∃ a5 : Nat, o3 = some a5 ∧ g_is st4 a5 4 ∧ wp_J27_getValue l E 0 0 [va_rf (some a5)] st4 (fun o6 stx => stx = st4 ∧ Q o6 st4))
set_option maxHeartbeats 4000000 in
theorem wb_J44_next {p : Program} {l : Launch} {e : Env} {R : Room} {s : State} {m : MethodId} {args : Array Value} {below : List Frame} {meth : Method} {c : Code} {E : g_E} {st0 : g_St} {Z : State → Prop} (hC : g_Cx p s m args meth c cJ44_next 1 "java/util/AbstractMap$2$1" (some (.object "java/lang/Object")) "next" E st0) (hR : g_Rm 5 123 R) {a0 : Nat} {st : g_St} {cb sb : Nat} {Q : Option Nat → g_St → Prop} (hret : ∀ (pc : Nat) (lv : List (Nat × Value)) (v : Option Nat) (st1 : g_St) (cb sb : Nat), decode cJ44_next pc = .ok (.areturn, 1) → Q v st1 → g_J p l e R s m args below meth c 1 E st0 Z pc lv [va_rf v] st1 cb sb) (hvc : vc_J44_next l E a0 st Q) : g_J p l e R s m args below meth c 1 E st0 Z 0 [(0, va_rf (some a0))] [] st cb sb := by
  unfold vc_J44_next at hvc
  refine j_aload_n hC dJ44_next_0 rfl 0 rfl ?_
  obtain ⟨o1, ⟨fs, hr, hv⟩, hvc⟩ := hvc
  refine j_get hC fkJ44_31_J44 dJ44_next_1 hr hv ?_
  clear hv hr fs
  obtain ⟨a2, rfl, hvc⟩ := hvc
  obtain ⟨⟨fs, hr⟩, hvc⟩ := hvc
  refine j_callF (As := []) (rest := []) (n := 0) (x := ⟨"java/util/Iterator", "next", "()Ljava/lang/Object;"⟩) (C := "java/util/TreeMap$NavigableSubMap$SubMapEntryIterator") (ci := 7) hC hvc (lw_F q1044 q1092 q1094 q81 q1096) gf_14 (by decide +kernel) (g_rm hR rfl rfl) rfl hr rfl rfl (g_sum rfl) dJ44_next_4 (Nat.zero_le _) (Nat.zero_le _) (g_Ka fun o3 st4 hv2 hx => ?_)
  replace hvc := hv2 hx; clear hx hv2
  clear hr fs
  obtain ⟨hv, hvc⟩ := hvc
  refine j_cast hC (C := "java/util/TreeMap$Entry") (ci := 4) q1126 rfl (Or.inr ge_11) hv dJ44_next_9 ?_
  clear hv
  obtain ⟨a5, rfl, hvc⟩ := hvc
  obtain ⟨⟨fs, hr⟩, hvc⟩ := hvc
  refine j_callF (As := []) (rest := []) (n := 0) (x := ⟨"java/util/Map$Entry", "getValue", "()Ljava/lang/Object;"⟩) (C := "java/util/TreeMap$Entry") (ci := 4) hC hvc (lw_F q1128 q1138 q1140 q73 q1142) gf_3 (by decide +kernel) (g_rm hR rfl rfl) rfl hr rfl rfl (g_sum rfl) dJ44_next_12 (Nat.zero_le _) (Nat.zero_le _) (g_Kap fun o6 hv2 => ?_)
  replace hvc := hv2; clear hv2
  clear hr fs
  exact hret _ _ _ _ _ _ dJ44_next_17 hvc
theorem wk_J44_next {l : Launch} {E : g_E} {a0 : Nat} {st : g_St} {mc ms : Nat} {Q : Option Nat → g_St → Prop} (hvc : vc_J44_next l E a0 st Q) : wp_J44_next l E mc ms [va_rf (some a0)] st Q :=
  g_enter (lv0 := [(0, va_rf (some a0))]) (plainFor_of_name (by decide +kernel)) (by simp [lv_args, g_c1, g_ci, g_cL]) (by simp [lg_sl, g_c1, g_ci, g_cL]) (fun p e s m args below meth c hC => wb_J44_next hC ⟨Nat.le_refl _, Nat.le_refl _⟩ (fun pc lv v st1 cb sb hd hq => j_areturn hC rfl (by first | exact Or.inl ⟨_, rfl⟩ | exact Or.inr ⟨_, rfl⟩) hd (g_av hq)) hvc)
abbrev wp_J5_setColor (l : Launch) (E : g_E) (mc ms : Nat) (av : List Value) (st : g_St) (Q : g_St → Prop) : Prop := g_WPv l E yJ5_setColor cJ5_setColor 2 none 1 40 mc ms av st Q
def vc_J5_setColor (l : Launch) (E : g_E) (p0 : Option Nat) (p1 : Int32) (st : g_St) (Q : g_St → Prop) : Prop :=
  g_jn1 (fun (K2 : g_St → Prop) => (p0 = none → K2 st) ∧ (∀ a5 : Nat, p0 = some a5 → g_okf .boolean p1 ∧ ∃ fs6 : List Value, st.2.1 a5 = some (.inr (4, fs6)) ∧ ∀ st7 : g_St, st7 = g_put st a5 (.inr (4, fs6.set 5 (.int p1))) → K2 st7)) (fun (st1 : g_St) => Q st1)
set_option maxHeartbeats 4000000 in
theorem wb_J5_setColor {p : Program} {l : Launch} {e : Env} {R : Room} {s : State} {m : MethodId} {args : Array Value} {below : List Frame} {meth : Method} {c : Code} {E : g_E} {st0 : g_St} {Z : State → Prop} (hC : g_Cx p s m args meth c cJ5_setColor 2 "java/util/TreeMap" none "setColor" E st0) (hR : g_Rm 1 40 R) {p0 : Option Nat} {p1 : Int32} {st : g_St} {cb sb : Nat} {Q : g_St → Prop} (hret : ∀ (pc : Nat) (lv : List (Nat × Value)) (st1 : g_St) (cb sb : Nat), decode cJ5_setColor pc = .ok (.return_, 1) → Q st1 → g_J p l e R s m args below meth c 2 E st0 Z pc lv [] st1 cb sb) (hvc : vc_J5_setColor l E p0 p1 st Q) : g_J p l e R s m args below meth c 2 E st0 Z 0 [(0, va_rf p0), (1, .int p1)] [] st cb sb := by
  unfold vc_J5_setColor at hvc
  refine j_aload_n hC dJ5_setColor_0 rfl 0 rfl ?_
  replace hvc := g_jn1_o hvc
  obtain ⟨K2, hK8, hvc⟩ := hvc
  have kh3 : ∀ (st1 : g_St), K2 st1 → g_J p l e R s m args below meth c 2 E st0 Z 9 [] [] st1 cb sb := by
    clear hvc
    intro st1 hvc
    replace hvc := hK8 _ hvc
    exact hret _ _ _ _ _ dJ5_setColor_9 hvc
  refine j_ifnull (tgt := 9) hC dJ5_setColor_1 rfl (fun c4 => ?_) (fun a5 c4 => ?_)
  · subst c4; replace hvc := hvc.1 rfl
    exact j_sub [] rfl (kh3 st hvc)
  · subst c4; replace hvc := hvc.2 a5 rfl
    refine j_aload_n hC dJ5_setColor_4 rfl 0 rfl ?_
    refine j_iload_n hC dJ5_setColor_5 rfl 1 rfl ?_
    obtain ⟨⟨hn1, hn2⟩, hvc⟩ := hvc
    obtain ⟨fs6, hm, hvc⟩ := hvc
    refine j_put hC fkJ5_290_J27 dJ5_setColor_6 hm hn1 hn2 (fun st7 e1 => ?_)
    replace hvc := hvc st7 e1; clear hm e1
    exact j_sub [] rfl (kh3 st7 hvc)
theorem wk_J5_setColor {l : Launch} {E : g_E} {p0 : Option Nat} {p1 : Int32} {st : g_St} {mc ms : Nat} {Q : g_St → Prop} (hvc : vc_J5_setColor l E p0 p1 st Q) : wp_J5_setColor l E mc ms [va_rf p0, .int p1] st Q :=
  g_enter (lv0 := [(0, va_rf p0), (1, .int p1)]) (plainFor_of_name (by decide +kernel)) (by simp [lv_args, g_c1, g_ci, g_cL]) (by simp [lg_sl, g_c1, g_ci, g_cL]) (fun p e s m args below meth c hC => wb_J5_setColor hC ⟨Nat.le_refl _, Nat.le_refl _⟩ (fun pc lv st1 cb sb hd hq => j_return hC rfl hd ⟨rfl, hq⟩) hvc)
abbrev wp_J5_colorOf (l : Launch) (E : g_E) (mc ms : Nat) (av : List Value) (st : g_St) (Q : Int32 → g_St → Prop) : Prop := g_WPi l E yJ5_colorOf cJ5_colorOf 1 (some .boolean) 1 40 mc ms av st Q
def vc_J5_colorOf (l : Launch) (E : g_E) (p0 : Option Nat) (st : g_St) (Q : Int32 → g_St → Prop) : Prop :=
  g_jn1 (fun (K2 : Int32 → Prop) => (p0 = none → K2 (nI 1)) ∧ (∀ a5 : Nat, p0 = some a5 → ∃ x6 : Int32, g_gi st a5 4 5 x6 ∧ K2 x6)) (fun (x1 : Int32) => narrow .boolean (.int x1) = .int x1 ∧ Q x1 st)
set_option maxHeartbeats 4000000 in
theorem wb_J5_colorOf {p : Program} {l : Launch} {e : Env} {R : Room} {s : State} {m : MethodId} {args : Array Value} {below : List Frame} {meth : Method} {c : Code} {E : g_E} {st0 : g_St} {Z : State → Prop} (hC : g_Cx p s m args meth c cJ5_colorOf 1 "java/util/TreeMap" (some .boolean) "colorOf" E st0) (hR : g_Rm 1 40 R) {p0 : Option Nat} {st : g_St} {cb sb : Nat} {Q : Int32 → g_St → Prop} (hret : ∀ (pc : Nat) (lv : List (Nat × Value)) (v : Int32) (st1 : g_St) (cb sb : Nat), decode cJ5_colorOf pc = .ok (.ireturn, 1) → narrow .boolean (.int v) = .int v → Q v st1 → g_J p l e R s m args below meth c 1 E st0 Z pc lv [.int v] st1 cb sb) (hvc : vc_J5_colorOf l E p0 st Q) : g_J p l e R s m args below meth c 1 E st0 Z 0 [(0, va_rf p0)] [] st cb sb := by
  unfold vc_J5_colorOf at hvc
  refine j_aload_n hC dJ5_colorOf_0 rfl 0 rfl ?_
  replace hvc := g_jn1_o hvc
  obtain ⟨K2, hK7, hvc⟩ := hvc
  have kh3 : ∀ (x1 : Int32), K2 x1 → g_J p l e R s m args below meth c 1 E st0 Z 12 [] [.int x1] st cb sb := by
    clear hvc
    intro x1 hvc
    replace hvc := hK7 _ hvc
    exact hret _ _ _ _ _ _ dJ5_colorOf_12 hvc.1 hvc.2
  refine j_ifnonnull (tgt := 8) hC dJ5_colorOf_1 rfl (fun a5 c4 => ?_) (fun c4 => ?_)
  · subst c4; replace hvc := hvc.2 a5 rfl
    refine j_aload_n hC dJ5_colorOf_8 rfl 0 rfl ?_
    obtain ⟨x6, ⟨fs, hr, hv⟩, hvc⟩ := hvc
    refine j_get hC fkJ5_290_J27 dJ5_colorOf_9 hr hv ?_
    clear hv hr fs
    exact j_sub [] rfl (kh3 x6 hvc)
  · subst c4; replace hvc := hvc.1 rfl
    refine j_iconst hC (nI 1) dJ5_colorOf_4 rfl ?_
    refine j_goto (tgt := 12) hC dJ5_colorOf_5 rfl ?_
    exact j_sub [] rfl (kh3 (nI 1) hvc)
theorem wk_J5_colorOf {l : Launch} {E : g_E} {p0 : Option Nat} {st : g_St} {mc ms : Nat} {Q : Int32 → g_St → Prop} (hvc : vc_J5_colorOf l E p0 st Q) : wp_J5_colorOf l E mc ms [va_rf p0] st Q :=
  g_enter (lv0 := [(0, va_rf p0)]) (plainFor_of_name (by decide +kernel)) (by simp [lv_args, g_c1, g_ci, g_cL]) (by simp [lg_sl, g_c1, g_ci, g_cL]) (fun p e s m args below meth c hC => wb_J5_colorOf hC ⟨Nat.le_refl _, Nat.le_refl _⟩ (fun pc lv v st1 cb sb hd hn hq => j_ireturn hC rfl hn hd (g_iv hq)) hvc)
abbrev wp_J5_parentOf (l : Launch) (E : g_E) (mc ms : Nat) (av : List Value) (st : g_St) (Q : Option Nat → g_St → Prop) : Prop := g_WPa l E yJ5_parentOf cJ5_parentOf 1 (some (.object "java/util/TreeMap$Entry")) 1 40 mc ms av st Q
def vc_J5_parentOf (l : Launch) (E : g_E) (p0 : Option Nat) (st : g_St) (Q : Option Nat → g_St → Prop) : Prop :=
  g_jn1 (fun (K2 : (Option Nat) → Prop) => (p0 = none → K2 none) ∧ (∀ a5 : Nat, p0 = some a5 → ∃ o6 : Option Nat, g_gr st a5 4 4 o6 ∧ K2 o6)) (fun (o1 : Option Nat) => Q o1 st)
set_option maxHeartbeats 4000000 in
theorem wb_J5_parentOf {p : Program} {l : Launch} {e : Env} {R : Room} {s : State} {m : MethodId} {args : Array Value} {below : List Frame} {meth : Method} {c : Code} {E : g_E} {st0 : g_St} {Z : State → Prop} (hC : g_Cx p s m args meth c cJ5_parentOf 1 "java/util/TreeMap" (some (.object "java/util/TreeMap$Entry")) "parentOf" E st0) (hR : g_Rm 1 40 R) {p0 : Option Nat} {st : g_St} {cb sb : Nat} {Q : Option Nat → g_St → Prop} (hret : ∀ (pc : Nat) (lv : List (Nat × Value)) (v : Option Nat) (st1 : g_St) (cb sb : Nat), decode cJ5_parentOf pc = .ok (.areturn, 1) → Q v st1 → g_J p l e R s m args below meth c 1 E st0 Z pc lv [va_rf v] st1 cb sb) (hvc : vc_J5_parentOf l E p0 st Q) : g_J p l e R s m args below meth c 1 E st0 Z 0 [(0, va_rf p0)] [] st cb sb := by
  unfold vc_J5_parentOf at hvc
  refine j_aload_n hC dJ5_parentOf_0 rfl 0 rfl ?_
  replace hvc := g_jn1_o hvc
  obtain ⟨K2, hK7, hvc⟩ := hvc
  have kh3 : ∀ (o1 : Option Nat), K2 o1 → g_J p l e R s m args below meth c 1 E st0 Z 12 [] [va_rf o1] st cb sb := by
    clear hvc
    intro o1 hvc
    replace hvc := hK7 _ hvc
    exact hret _ _ _ _ _ _ dJ5_parentOf_12 hvc
  refine j_ifnonnull (tgt := 8) hC dJ5_parentOf_1 rfl (fun a5 c4 => ?_) (fun c4 => ?_)
  · subst c4; replace hvc := hvc.2 a5 rfl
    refine j_aload_n hC dJ5_parentOf_8 rfl 0 rfl ?_
    obtain ⟨o6, ⟨fs, hr, hv⟩, hvc⟩ := hvc
    refine j_get hC fkJ5_124_J27 dJ5_parentOf_9 hr hv ?_
    clear hv hr fs
    exact j_sub [] rfl (kh3 o6 hvc)
  · subst c4; replace hvc := hvc.1 rfl
    refine j_null hC dJ5_parentOf_4 ?_
    refine j_goto (tgt := 12) hC dJ5_parentOf_5 rfl ?_
    exact j_sub [] rfl (kh3 none hvc)
theorem wk_J5_parentOf {l : Launch} {E : g_E} {p0 : Option Nat} {st : g_St} {mc ms : Nat} {Q : Option Nat → g_St → Prop} (hvc : vc_J5_parentOf l E p0 st Q) : wp_J5_parentOf l E mc ms [va_rf p0] st Q :=
  g_enter (lv0 := [(0, va_rf p0)]) (plainFor_of_name (by decide +kernel)) (by simp [lv_args, g_c1, g_ci, g_cL]) (by simp [lg_sl, g_c1, g_ci, g_cL]) (fun p e s m args below meth c hC => wb_J5_parentOf hC ⟨Nat.le_refl _, Nat.le_refl _⟩ (fun pc lv v st1 cb sb hd hq => j_areturn hC rfl (by first | exact Or.inl ⟨_, rfl⟩ | exact Or.inr ⟨_, rfl⟩) hd (g_av hq)) hvc)
abbrev wp_J5_leftOf (l : Launch) (E : g_E) (mc ms : Nat) (av : List Value) (st : g_St) (Q : Option Nat → g_St → Prop) : Prop := g_WPa l E yJ5_leftOf cJ5_leftOf 1 (some (.object "java/util/TreeMap$Entry")) 1 40 mc ms av st Q
def vc_J5_leftOf (l : Launch) (E : g_E) (p0 : Option Nat) (st : g_St) (Q : Option Nat → g_St → Prop) : Prop :=
  g_jn1 (fun (K2 : (Option Nat) → Prop) => (p0 = none → K2 none) ∧ (∀ a5 : Nat, p0 = some a5 → ∃ o6 : Option Nat, g_gr st a5 4 2 o6 ∧ K2 o6)) (fun (o1 : Option Nat) => Q o1 st)
set_option maxHeartbeats 4000000 in
theorem wb_J5_leftOf {p : Program} {l : Launch} {e : Env} {R : Room} {s : State} {m : MethodId} {args : Array Value} {below : List Frame} {meth : Method} {c : Code} {E : g_E} {st0 : g_St} {Z : State → Prop} (hC : g_Cx p s m args meth c cJ5_leftOf 1 "java/util/TreeMap" (some (.object "java/util/TreeMap$Entry")) "leftOf" E st0) (hR : g_Rm 1 40 R) {p0 : Option Nat} {st : g_St} {cb sb : Nat} {Q : Option Nat → g_St → Prop} (hret : ∀ (pc : Nat) (lv : List (Nat × Value)) (v : Option Nat) (st1 : g_St) (cb sb : Nat), decode cJ5_leftOf pc = .ok (.areturn, 1) → Q v st1 → g_J p l e R s m args below meth c 1 E st0 Z pc lv [va_rf v] st1 cb sb) (hvc : vc_J5_leftOf l E p0 st Q) : g_J p l e R s m args below meth c 1 E st0 Z 0 [(0, va_rf p0)] [] st cb sb := by
  unfold vc_J5_leftOf at hvc
  refine j_aload_n hC dJ5_leftOf_0 rfl 0 rfl ?_
  replace hvc := g_jn1_o hvc
  obtain ⟨K2, hK7, hvc⟩ := hvc
  have kh3 : ∀ (o1 : Option Nat), K2 o1 → g_J p l e R s m args below meth c 1 E st0 Z 12 [] [va_rf o1] st cb sb := by
    clear hvc
    intro o1 hvc
    replace hvc := hK7 _ hvc
    exact hret _ _ _ _ _ _ dJ5_leftOf_12 hvc
  refine j_ifnonnull (tgt := 8) hC dJ5_leftOf_1 rfl (fun a5 c4 => ?_) (fun c4 => ?_)
  · subst c4; replace hvc := hvc.2 a5 rfl
    refine j_aload_n hC dJ5_leftOf_8 rfl 0 rfl ?_
    obtain ⟨o6, ⟨fs, hr, hv⟩, hvc⟩ := hvc
    refine j_get hC fkJ5_111_J27 dJ5_leftOf_9 hr hv ?_
    clear hv hr fs
    exact j_sub [] rfl (kh3 o6 hvc)
  · subst c4; replace hvc := hvc.1 rfl
    refine j_null hC dJ5_leftOf_4 ?_
    refine j_goto (tgt := 12) hC dJ5_leftOf_5 rfl ?_
    exact j_sub [] rfl (kh3 none hvc)
theorem wk_J5_leftOf {l : Launch} {E : g_E} {p0 : Option Nat} {st : g_St} {mc ms : Nat} {Q : Option Nat → g_St → Prop} (hvc : vc_J5_leftOf l E p0 st Q) : wp_J5_leftOf l E mc ms [va_rf p0] st Q :=
  g_enter (lv0 := [(0, va_rf p0)]) (plainFor_of_name (by decide +kernel)) (by simp [lv_args, g_c1, g_ci, g_cL]) (by simp [lg_sl, g_c1, g_ci, g_cL]) (fun p e s m args below meth c hC => wb_J5_leftOf hC ⟨Nat.le_refl _, Nat.le_refl _⟩ (fun pc lv v st1 cb sb hd hq => j_areturn hC rfl (by first | exact Or.inl ⟨_, rfl⟩ | exact Or.inr ⟨_, rfl⟩) hd (g_av hq)) hvc)
abbrev wp_J5_rightOf (l : Launch) (E : g_E) (mc ms : Nat) (av : List Value) (st : g_St) (Q : Option Nat → g_St → Prop) : Prop := g_WPa l E yJ5_rightOf cJ5_rightOf 1 (some (.object "java/util/TreeMap$Entry")) 1 40 mc ms av st Q
def vc_J5_rightOf (l : Launch) (E : g_E) (p0 : Option Nat) (st : g_St) (Q : Option Nat → g_St → Prop) : Prop :=
  g_jn1 (fun (K2 : (Option Nat) → Prop) => (p0 = none → K2 none) ∧ (∀ a5 : Nat, p0 = some a5 → ∃ o6 : Option Nat, g_gr st a5 4 3 o6 ∧ K2 o6)) (fun (o1 : Option Nat) => Q o1 st)
set_option maxHeartbeats 4000000 in
theorem wb_J5_rightOf {p : Program} {l : Launch} {e : Env} {R : Room} {s : State} {m : MethodId} {args : Array Value} {below : List Frame} {meth : Method} {c : Code} {E : g_E} {st0 : g_St} {Z : State → Prop} (hC : g_Cx p s m args meth c cJ5_rightOf 1 "java/util/TreeMap" (some (.object "java/util/TreeMap$Entry")) "rightOf" E st0) (hR : g_Rm 1 40 R) {p0 : Option Nat} {st : g_St} {cb sb : Nat} {Q : Option Nat → g_St → Prop} (hret : ∀ (pc : Nat) (lv : List (Nat × Value)) (v : Option Nat) (st1 : g_St) (cb sb : Nat), decode cJ5_rightOf pc = .ok (.areturn, 1) → Q v st1 → g_J p l e R s m args below meth c 1 E st0 Z pc lv [va_rf v] st1 cb sb) (hvc : vc_J5_rightOf l E p0 st Q) : g_J p l e R s m args below meth c 1 E st0 Z 0 [(0, va_rf p0)] [] st cb sb := by
  unfold vc_J5_rightOf at hvc
  refine j_aload_n hC dJ5_rightOf_0 rfl 0 rfl ?_
  replace hvc := g_jn1_o hvc
  obtain ⟨K2, hK7, hvc⟩ := hvc
  have kh3 : ∀ (o1 : Option Nat), K2 o1 → g_J p l e R s m args below meth c 1 E st0 Z 12 [] [va_rf o1] st cb sb := by
    clear hvc
    intro o1 hvc
    replace hvc := hK7 _ hvc
    exact hret _ _ _ _ _ _ dJ5_rightOf_12 hvc
  refine j_ifnonnull (tgt := 8) hC dJ5_rightOf_1 rfl (fun a5 c4 => ?_) (fun c4 => ?_)
  · subst c4; replace hvc := hvc.2 a5 rfl
    refine j_aload_n hC dJ5_rightOf_8 rfl 0 rfl ?_
    obtain ⟨o6, ⟨fs, hr, hv⟩, hvc⟩ := hvc
    refine j_get hC fkJ5_114_J27 dJ5_rightOf_9 hr hv ?_
    clear hv hr fs
    exact j_sub [] rfl (kh3 o6 hvc)
  · subst c4; replace hvc := hvc.1 rfl
    refine j_null hC dJ5_rightOf_4 ?_
    refine j_goto (tgt := 12) hC dJ5_rightOf_5 rfl ?_
    exact j_sub [] rfl (kh3 none hvc)
theorem wk_J5_rightOf {l : Launch} {E : g_E} {p0 : Option Nat} {st : g_St} {mc ms : Nat} {Q : Option Nat → g_St → Prop} (hvc : vc_J5_rightOf l E p0 st Q) : wp_J5_rightOf l E mc ms [va_rf p0] st Q :=
  g_enter (lv0 := [(0, va_rf p0)]) (plainFor_of_name (by decide +kernel)) (by simp [lv_args, g_c1, g_ci, g_cL]) (by simp [lg_sl, g_c1, g_ci, g_cL]) (fun p e s m args below meth c hC => wb_J5_rightOf hC ⟨Nat.le_refl _, Nat.le_refl _⟩ (fun pc lv v st1 cb sb hd hq => j_areturn hC rfl (by first | exact Or.inl ⟨_, rfl⟩ | exact Or.inr ⟨_, rfl⟩) hd (g_av hq)) hvc)
abbrev wp_J5_rotateRight (l : Launch) (E : g_E) (mc ms : Nat) (av : List Value) (st : g_St) (Q : g_St → Prop) : Prop := g_WPv l E yJ5_rotateRight cJ5_rotateRight 3 none 1 40 mc ms av st Q
def vc_J5_rotateRight (l : Launch) (E : g_E) (a0 : Nat) (p0 : Option Nat) (st : g_St) (Q : g_St → Prop) : Prop :=
  g_jn1 (fun (K2 : g_St → Prop) => (p0 = none → K2 st) ∧ (∀ a5 : Nat, p0 = some a5 → ∃ o6 : Option Nat, g_gr st a5 4 2 o6 ∧ ∃ a7 : Nat, o6 = some a7 ∧ ∃ o8 : Option Nat, g_gr st a7 4 3 o8 ∧ ∃ fs9 : List Value, st.2.1 a5 = some (.inr (4, fs9)) ∧ ∀ st10 : g_St, st10 = g_put st a5 (.inr (4, fs9.set 2 (va_rf o8))) → ∃ o11 : Option Nat, g_gr st10 a7 4 3 o11 ∧ g_jn1 (fun (K13 : g_St → Prop) => (o11 = none → K13 st10) ∧ (∀ a44 : Nat, o11 = some a44 → ∃ o45 : Option Nat, g_gr st10 a7 4 3 o45 ∧ ∃ a46 : Nat, o45 = some a46 ∧ ∃ fs47 : List Value, st10.2.1 a46 = some (.inr (4, fs47)) ∧ ∀ st48 : g_St, st48 = g_put st10 a46 (.inr (4, fs47.set 4 (va_rf (some a5)))) → K13 st48)) (fun (st12 : g_St) => ∃ o15 : Option Nat, g_gr st12 a5 4 4 o15 ∧ ∃ fs16 : List Value, st12.2.1 a7 = some (.inr (4, fs16)) ∧ ∀ st17 : g_St, st17 = g_put st12 a7 (.inr (4, fs16.set 4 (va_rf o15))) → ∃ o18 : Option Nat, g_gr st17 a5 4 4 o18 ∧ g_jn1 (fun (K20 : g_St → Prop) => (o18 = none → ∃ fs28 : List Value, st17.2.1 a0 = some (.inr (3, fs28)) ∧ ∀ st29 : g_St, st29 = g_put st17 a0 (.inr (3, fs28.set 3 (va_rf (some a7)))) → K20 st29) ∧ (∀ a27 : Nat, o18 = some a27 → ∃ o30 : Option Nat, g_gr st17 a5 4 4 o30 ∧ ∃ a31 : Nat, o30 = some a31 ∧ ∃ o32 : Option Nat, g_gr st17 a31 4 3 o32 ∧ (¬ o32 = (some a5) → ∃ o34 : Option Nat, g_gr st17 a5 4 4 o34 ∧ ∃ a35 : Nat, o34 = some a35 ∧ ∃ fs36 : List Value, st17.2.1 a35 = some (.inr (4, fs36)) ∧ ∀ st37 : g_St, st37 = g_put st17 a35 (.inr (4, fs36.set 2 (va_rf (some a7)))) → K20 st37) ∧ (o32 = (some a5) → ∃ o38 : Option Nat, g_gr st17 a5 4 4 o38 ∧ ∃ a39 : Nat, o38 = some a39 ∧ ∃ fs40 : List Value, st17.2.1 a39 = some (.inr (4, fs40)) ∧ ∀ st41 : g_St, st41 = g_put st17 a39 (.inr (4, fs40.set 3 (va_rf (some a7)))) → K20 st41))) (fun (st19 : g_St) => ∃ fs22 : List Value, st19.2.1 a7 = some (.inr (4, fs22)) ∧ ∀ st23 : g_St, st23 = g_put st19 a7 (.inr (4, fs22.set 3 (va_rf (some a5)))) → ∃ fs24 : List Value, st23.2.1 a5 = some (.inr (4, fs24)) ∧ ∀ st25 : g_St, st25 = g_put st23 a5 (.inr (4, fs24.set 4 (va_rf (some a7)))) → K2 st25)))) (fun (st1 : g_St) => Q st1)
set_option maxHeartbeats 4000000 in
theorem wb_J5_rotateRight {p : Program} {l : Launch} {e : Env} {R : Room} {s : State} {m : MethodId} {args : Array Value} {below : List Frame} {meth : Method} {c : Code} {E : g_E} {st0 : g_St} {Z : State → Prop} (hC : g_Cx p s m args meth c cJ5_rotateRight 3 "java/util/TreeMap" none "rotateRight" E st0) (hR : g_Rm 1 40 R) {a0 : Nat} {p0 : Option Nat} {st : g_St} {cb sb : Nat} {Q : g_St → Prop} (hret : ∀ (pc : Nat) (lv : List (Nat × Value)) (st1 : g_St) (cb sb : Nat), decode cJ5_rotateRight pc = .ok (.return_, 1) → Q st1 → g_J p l e R s m args below meth c 3 E st0 Z pc lv [] st1 cb sb) (hvc : vc_J5_rotateRight l E a0 p0 st Q) : g_J p l e R s m args below meth c 3 E st0 Z 0 [(0, va_rf (some a0)), (1, va_rf p0)] [] st cb sb := by
  unfold vc_J5_rotateRight at hvc
  refine j_aload_n hC dJ5_rotateRight_0 rfl 1 rfl ?_
  replace hvc := g_jn1_o hvc
  obtain ⟨K2, hK50, hvc⟩ := hvc
  have kh3 : ∀ (st1 : g_St), K2 st1 → g_J p l e R s m args below meth c 3 E st0 Z 95 [] [] st1 cb sb := by
    clear hvc
    intro st1 hvc
    replace hvc := hK50 _ hvc
    exact hret _ _ _ _ _ dJ5_rotateRight_95 hvc
  refine j_ifnull (tgt := 95) hC dJ5_rotateRight_1 rfl (fun c4 => ?_) (fun a5 c4 => ?_)
  · subst c4; replace hvc := hvc.1 rfl
    exact j_sub [] rfl (kh3 st hvc)
  · subst c4; replace hvc := hvc.2 a5 rfl
    refine j_aload_n hC dJ5_rotateRight_4 rfl 1 rfl ?_
    obtain ⟨o6, ⟨fs, hr, hv⟩, hvc⟩ := hvc
    refine j_get hC fkJ5_111_J27 dJ5_rotateRight_5 hr hv ?_
    clear hv hr fs
    refine j_astore_n (lv0 := [(1, va_rf (some a5)), (0, va_rf (some a0))]) hC dJ5_rotateRight_8 rfl rfl [1, 0] rfl (g_okS.h rfl g_c1 rfl) ?_
    refine j_aload_n hC dJ5_rotateRight_9 rfl 1 rfl ?_
    refine j_aload_n hC dJ5_rotateRight_10 rfl 0 rfl ?_
    obtain ⟨a7, rfl, hvc⟩ := hvc
    obtain ⟨o8, ⟨fs, hr, hv⟩, hvc⟩ := hvc
    refine j_get hC fkJ5_114_J27 dJ5_rotateRight_11 hr hv ?_
    clear hv hr fs
    obtain ⟨fs9, hm, hvc⟩ := hvc
    refine j_put hC fkJ5_111_J27 dJ5_rotateRight_14 hm g_no g_fo (fun st10 e1 => ?_)
    replace hvc := hvc st10 e1; clear hm e1
    refine j_aload_n hC dJ5_rotateRight_17 rfl 0 rfl ?_
    obtain ⟨o11, ⟨fs, hr, hv⟩, hvc⟩ := hvc
    refine j_get hC fkJ5_114_J27 dJ5_rotateRight_18 hr hv ?_
    clear hv hr fs
    replace hvc := g_jn1_o hvc
    obtain ⟨K13, hK49, hvc⟩ := hvc
    have kh14 : ∀ (st12 : g_St), K13 st12 → g_J p l e R s m args below meth c 3 E st0 Z 32 [(0, va_rf (some a0)), (1, va_rf (some a5)), (2, va_rf (some a7))] [] st12 cb sb := by
      clear hvc
      intro st12 hvc
      replace hvc := hK49 _ hvc
      refine j_aload_n hC dJ5_rotateRight_32 rfl 2 rfl ?_
      refine j_aload_n hC dJ5_rotateRight_33 rfl 1 rfl ?_
      obtain ⟨o15, ⟨fs, hr, hv⟩, hvc⟩ := hvc
      refine j_get hC fkJ5_124_J27 dJ5_rotateRight_34 hr hv ?_
      clear hv hr fs
      obtain ⟨fs16, hm, hvc⟩ := hvc
      refine j_put hC fkJ5_124_J27 dJ5_rotateRight_37 hm g_no g_fo (fun st17 e1 => ?_)
      replace hvc := hvc st17 e1; clear hm e1
      refine j_aload_n hC dJ5_rotateRight_40 rfl 1 rfl ?_
      obtain ⟨o18, ⟨fs, hr, hv⟩, hvc⟩ := hvc
      refine j_get hC fkJ5_124_J27 dJ5_rotateRight_41 hr hv ?_
      clear hv hr fs
      replace hvc := g_jn1_o hvc
      obtain ⟨K20, hK42, hvc⟩ := hvc
      have kh21 : ∀ (st19 : g_St), K20 st19 → g_J p l e R s m args below meth c 3 E st0 Z 85 [(1, va_rf (some a5)), (2, va_rf (some a7))] [] st19 cb sb := by
        clear hvc
        intro st19 hvc
        replace hvc := hK42 _ hvc
        refine j_aload_n hC dJ5_rotateRight_85 rfl 1 rfl ?_
        refine j_aload_n hC dJ5_rotateRight_86 rfl 0 rfl ?_
        obtain ⟨fs22, hm, hvc⟩ := hvc
        refine j_put hC fkJ5_114_J27 dJ5_rotateRight_87 hm g_no g_fo (fun st23 e1 => ?_)
        replace hvc := hvc st23 e1; clear hm e1
        refine j_aload_n hC dJ5_rotateRight_90 rfl 0 rfl ?_
        refine j_aload_n hC dJ5_rotateRight_91 rfl 1 rfl ?_
        obtain ⟨fs24, hm, hvc⟩ := hvc
        refine j_put hC fkJ5_124_J27 dJ5_rotateRight_92 hm g_no g_fo (fun st25 e1 => ?_)
        replace hvc := hvc st25 e1; clear hm e1
        exact j_sub [] rfl (kh3 st25 hvc)
      refine j_ifnonnull (tgt := 55) hC dJ5_rotateRight_44 rfl (fun a27 c26 => ?_) (fun c26 => ?_)
      · subst c26; replace hvc := hvc.2 a27 rfl
        refine j_aload_n hC dJ5_rotateRight_55 rfl 1 rfl ?_
        obtain ⟨o30, ⟨fs, hr, hv⟩, hvc⟩ := hvc
        refine j_get hC fkJ5_124_J27 dJ5_rotateRight_56 hr hv ?_
        clear hv hr fs
        obtain ⟨a31, rfl, hvc⟩ := hvc
        obtain ⟨o32, ⟨fs, hr, hv⟩, hvc⟩ := hvc
        refine j_get hC fkJ5_114_J27 dJ5_rotateRight_59 hr hv ?_
        clear hv hr fs
        refine j_aload_n hC dJ5_rotateRight_62 rfl 1 rfl ?_
        refine j_acmp_ne (tgt := 77) hC dJ5_rotateRight_63 rfl (fun c33 => ?_) (fun c33 => ?_)
        · replace hvc := hvc.1 c33
          refine j_aload_n hC dJ5_rotateRight_77 rfl 1 rfl ?_
          obtain ⟨o34, ⟨fs, hr, hv⟩, hvc⟩ := hvc
          refine j_get hC fkJ5_124_J27 dJ5_rotateRight_78 hr hv ?_
          clear hv hr fs
          refine j_aload_n hC dJ5_rotateRight_81 rfl 2 rfl ?_
          obtain ⟨a35, rfl, hvc⟩ := hvc
          obtain ⟨fs36, hm, hvc⟩ := hvc
          refine j_put hC fkJ5_111_J27 dJ5_rotateRight_82 hm g_no g_fo (fun st37 e1 => ?_)
          replace hvc := hvc st37 e1; clear hm e1
          exact j_sub [1, 2] rfl (kh21 st37 hvc)
        · replace hvc := hvc.2 c33
          refine j_aload_n hC dJ5_rotateRight_66 rfl 1 rfl ?_
          obtain ⟨o38, ⟨fs, hr, hv⟩, hvc⟩ := hvc
          refine j_get hC fkJ5_124_J27 dJ5_rotateRight_67 hr hv ?_
          clear hv hr fs
          refine j_aload_n hC dJ5_rotateRight_70 rfl 2 rfl ?_
          obtain ⟨a39, rfl, hvc⟩ := hvc
          obtain ⟨fs40, hm, hvc⟩ := hvc
          refine j_put hC fkJ5_114_J27 dJ5_rotateRight_71 hm g_no g_fo (fun st41 e1 => ?_)
          replace hvc := hvc st41 e1; clear hm e1
          refine j_goto (tgt := 85) hC dJ5_rotateRight_74 rfl ?_
          exact j_sub [1, 2] rfl (kh21 st41 hvc)
      · subst c26; replace hvc := hvc.1 rfl
        refine j_aload_n hC dJ5_rotateRight_47 rfl 0 rfl ?_
        refine j_aload_n hC dJ5_rotateRight_48 rfl 2 rfl ?_
        obtain ⟨fs28, hm, hvc⟩ := hvc
        refine j_put hC fkJ5_101_J5 dJ5_rotateRight_49 hm g_no g_fo (fun st29 e1 => ?_)
        replace hvc := hvc st29 e1; clear hm e1
        refine j_goto (tgt := 85) hC dJ5_rotateRight_52 rfl ?_
        exact j_sub [1, 2] rfl (kh21 st29 hvc)
    refine j_ifnull (tgt := 32) hC dJ5_rotateRight_21 rfl (fun c43 => ?_) (fun a44 c43 => ?_)
    · subst c43; replace hvc := hvc.1 rfl
      exact j_sub [2, 1, 0] rfl (kh14 st10 hvc)
    · subst c43; replace hvc := hvc.2 a44 rfl
      refine j_aload_n hC dJ5_rotateRight_24 rfl 0 rfl ?_
      obtain ⟨o45, ⟨fs, hr, hv⟩, hvc⟩ := hvc
      refine j_get hC fkJ5_114_J27 dJ5_rotateRight_25 hr hv ?_
      clear hv hr fs
      refine j_aload_n hC dJ5_rotateRight_28 rfl 1 rfl ?_
      obtain ⟨a46, rfl, hvc⟩ := hvc
      obtain ⟨fs47, hm, hvc⟩ := hvc
      refine j_put hC fkJ5_124_J27 dJ5_rotateRight_29 hm g_no g_fo (fun st48 e1 => ?_)
      replace hvc := hvc st48 e1; clear hm e1
      exact j_sub [2, 1, 0] rfl (kh14 st48 hvc)
theorem wk_J5_rotateRight {l : Launch} {E : g_E} {a0 : Nat} {p0 : Option Nat} {st : g_St} {mc ms : Nat} {Q : g_St → Prop} (hvc : vc_J5_rotateRight l E a0 p0 st Q) : wp_J5_rotateRight l E mc ms [va_rf (some a0), va_rf p0] st Q :=
  g_enter (lv0 := [(0, va_rf (some a0)), (1, va_rf p0)]) (plainFor_of_name (by decide +kernel)) (by simp [lv_args, g_c1, g_ci, g_cL]) (by simp [lg_sl, g_c1, g_ci, g_cL]) (fun p e s m args below meth c hC => wb_J5_rotateRight hC ⟨Nat.le_refl _, Nat.le_refl _⟩ (fun pc lv st1 cb sb hd hq => j_return hC rfl hd ⟨rfl, hq⟩) hvc)
abbrev wp_J5_rotateLeft (l : Launch) (E : g_E) (mc ms : Nat) (av : List Value) (st : g_St) (Q : g_St → Prop) : Prop := g_WPv l E yJ5_rotateLeft cJ5_rotateLeft 3 none 1 40 mc ms av st Q
def vc_J5_rotateLeft (l : Launch) (E : g_E) (a0 : Nat) (p0 : Option Nat) (st : g_St) (Q : g_St → Prop) : Prop :=
  g_jn1 (fun (K2 : g_St → Prop) => (p0 = none → K2 st) ∧ (∀ a5 : Nat, p0 = some a5 → ∃ o6 : Option Nat, g_gr st a5 4 3 o6 ∧ ∃ a7 : Nat, o6 = some a7 ∧ ∃ o8 : Option Nat, g_gr st a7 4 2 o8 ∧ ∃ fs9 : List Value, st.2.1 a5 = some (.inr (4, fs9)) ∧ ∀ st10 : g_St, st10 = g_put st a5 (.inr (4, fs9.set 3 (va_rf o8))) → ∃ o11 : Option Nat, g_gr st10 a7 4 2 o11 ∧ g_jn1 (fun (K13 : g_St → Prop) => (o11 = none → K13 st10) ∧ (∀ a44 : Nat, o11 = some a44 → ∃ o45 : Option Nat, g_gr st10 a7 4 2 o45 ∧ ∃ a46 : Nat, o45 = some a46 ∧ ∃ fs47 : List Value, st10.2.1 a46 = some (.inr (4, fs47)) ∧ ∀ st48 : g_St, st48 = g_put st10 a46 (.inr (4, fs47.set 4 (va_rf (some a5)))) → K13 st48)) (fun (st12 : g_St) => ∃ o15 : Option Nat, g_gr st12 a5 4 4 o15 ∧ ∃ fs16 : List Value, st12.2.1 a7 = some (.inr (4, fs16)) ∧ ∀ st17 : g_St, st17 = g_put st12 a7 (.inr (4, fs16.set 4 (va_rf o15))) → ∃ o18 : Option Nat, g_gr st17 a5 4 4 o18 ∧ g_jn1 (fun (K20 : g_St → Prop) => (o18 = none → ∃ fs28 : List Value, st17.2.1 a0 = some (.inr (3, fs28)) ∧ ∀ st29 : g_St, st29 = g_put st17 a0 (.inr (3, fs28.set 3 (va_rf (some a7)))) → K20 st29) ∧ (∀ a27 : Nat, o18 = some a27 → ∃ o30 : Option Nat, g_gr st17 a5 4 4 o30 ∧ ∃ a31 : Nat, o30 = some a31 ∧ ∃ o32 : Option Nat, g_gr st17 a31 4 2 o32 ∧ (¬ o32 = (some a5) → ∃ o34 : Option Nat, g_gr st17 a5 4 4 o34 ∧ ∃ a35 : Nat, o34 = some a35 ∧ ∃ fs36 : List Value, st17.2.1 a35 = some (.inr (4, fs36)) ∧ ∀ st37 : g_St, st37 = g_put st17 a35 (.inr (4, fs36.set 3 (va_rf (some a7)))) → K20 st37) ∧ (o32 = (some a5) → ∃ o38 : Option Nat, g_gr st17 a5 4 4 o38 ∧ ∃ a39 : Nat, o38 = some a39 ∧ ∃ fs40 : List Value, st17.2.1 a39 = some (.inr (4, fs40)) ∧ ∀ st41 : g_St, st41 = g_put st17 a39 (.inr (4, fs40.set 2 (va_rf (some a7)))) → K20 st41))) (fun (st19 : g_St) => ∃ fs22 : List Value, st19.2.1 a7 = some (.inr (4, fs22)) ∧ ∀ st23 : g_St, st23 = g_put st19 a7 (.inr (4, fs22.set 2 (va_rf (some a5)))) → ∃ fs24 : List Value, st23.2.1 a5 = some (.inr (4, fs24)) ∧ ∀ st25 : g_St, st25 = g_put st23 a5 (.inr (4, fs24.set 4 (va_rf (some a7)))) → K2 st25)))) (fun (st1 : g_St) => Q st1)
set_option maxHeartbeats 4000000 in
theorem wb_J5_rotateLeft {p : Program} {l : Launch} {e : Env} {R : Room} {s : State} {m : MethodId} {args : Array Value} {below : List Frame} {meth : Method} {c : Code} {E : g_E} {st0 : g_St} {Z : State → Prop} (hC : g_Cx p s m args meth c cJ5_rotateLeft 3 "java/util/TreeMap" none "rotateLeft" E st0) (hR : g_Rm 1 40 R) {a0 : Nat} {p0 : Option Nat} {st : g_St} {cb sb : Nat} {Q : g_St → Prop} (hret : ∀ (pc : Nat) (lv : List (Nat × Value)) (st1 : g_St) (cb sb : Nat), decode cJ5_rotateLeft pc = .ok (.return_, 1) → Q st1 → g_J p l e R s m args below meth c 3 E st0 Z pc lv [] st1 cb sb) (hvc : vc_J5_rotateLeft l E a0 p0 st Q) : g_J p l e R s m args below meth c 3 E st0 Z 0 [(0, va_rf (some a0)), (1, va_rf p0)] [] st cb sb := by
  unfold vc_J5_rotateLeft at hvc
  refine j_aload_n hC dJ5_rotateLeft_0 rfl 1 rfl ?_
  replace hvc := g_jn1_o hvc
  obtain ⟨K2, hK50, hvc⟩ := hvc
  have kh3 : ∀ (st1 : g_St), K2 st1 → g_J p l e R s m args below meth c 3 E st0 Z 95 [] [] st1 cb sb := by
    clear hvc
    intro st1 hvc
    replace hvc := hK50 _ hvc
    exact hret _ _ _ _ _ dJ5_rotateLeft_95 hvc
  refine j_ifnull (tgt := 95) hC dJ5_rotateLeft_1 rfl (fun c4 => ?_) (fun a5 c4 => ?_)
  · subst c4; replace hvc := hvc.1 rfl
    exact j_sub [] rfl (kh3 st hvc)
  · subst c4; replace hvc := hvc.2 a5 rfl
    refine j_aload_n hC dJ5_rotateLeft_4 rfl 1 rfl ?_
    obtain ⟨o6, ⟨fs, hr, hv⟩, hvc⟩ := hvc
    refine j_get hC fkJ5_114_J27 dJ5_rotateLeft_5 hr hv ?_
    clear hv hr fs
    refine j_astore_n (lv0 := [(1, va_rf (some a5)), (0, va_rf (some a0))]) hC dJ5_rotateLeft_8 rfl rfl [1, 0] rfl (g_okS.h rfl g_c1 rfl) ?_
    refine j_aload_n hC dJ5_rotateLeft_9 rfl 1 rfl ?_
    refine j_aload_n hC dJ5_rotateLeft_10 rfl 0 rfl ?_
    obtain ⟨a7, rfl, hvc⟩ := hvc
    obtain ⟨o8, ⟨fs, hr, hv⟩, hvc⟩ := hvc
    refine j_get hC fkJ5_111_J27 dJ5_rotateLeft_11 hr hv ?_
    clear hv hr fs
    obtain ⟨fs9, hm, hvc⟩ := hvc
    refine j_put hC fkJ5_114_J27 dJ5_rotateLeft_14 hm g_no g_fo (fun st10 e1 => ?_)
    replace hvc := hvc st10 e1; clear hm e1
    refine j_aload_n hC dJ5_rotateLeft_17 rfl 0 rfl ?_
    obtain ⟨o11, ⟨fs, hr, hv⟩, hvc⟩ := hvc
    refine j_get hC fkJ5_111_J27 dJ5_rotateLeft_18 hr hv ?_
    clear hv hr fs
    replace hvc := g_jn1_o hvc
    obtain ⟨K13, hK49, hvc⟩ := hvc
    have kh14 : ∀ (st12 : g_St), K13 st12 → g_J p l e R s m args below meth c 3 E st0 Z 32 [(0, va_rf (some a0)), (1, va_rf (some a5)), (2, va_rf (some a7))] [] st12 cb sb := by
      clear hvc
      intro st12 hvc
      replace hvc := hK49 _ hvc
      refine j_aload_n hC dJ5_rotateLeft_32 rfl 2 rfl ?_
      refine j_aload_n hC dJ5_rotateLeft_33 rfl 1 rfl ?_
      obtain ⟨o15, ⟨fs, hr, hv⟩, hvc⟩ := hvc
      refine j_get hC fkJ5_124_J27 dJ5_rotateLeft_34 hr hv ?_
      clear hv hr fs
      obtain ⟨fs16, hm, hvc⟩ := hvc
      refine j_put hC fkJ5_124_J27 dJ5_rotateLeft_37 hm g_no g_fo (fun st17 e1 => ?_)
      replace hvc := hvc st17 e1; clear hm e1
      refine j_aload_n hC dJ5_rotateLeft_40 rfl 1 rfl ?_
      obtain ⟨o18, ⟨fs, hr, hv⟩, hvc⟩ := hvc
      refine j_get hC fkJ5_124_J27 dJ5_rotateLeft_41 hr hv ?_
      clear hv hr fs
      replace hvc := g_jn1_o hvc
      obtain ⟨K20, hK42, hvc⟩ := hvc
      have kh21 : ∀ (st19 : g_St), K20 st19 → g_J p l e R s m args below meth c 3 E st0 Z 85 [(1, va_rf (some a5)), (2, va_rf (some a7))] [] st19 cb sb := by
        clear hvc
        intro st19 hvc
        replace hvc := hK42 _ hvc
        refine j_aload_n hC dJ5_rotateLeft_85 rfl 1 rfl ?_
        refine j_aload_n hC dJ5_rotateLeft_86 rfl 0 rfl ?_
        obtain ⟨fs22, hm, hvc⟩ := hvc
        refine j_put hC fkJ5_111_J27 dJ5_rotateLeft_87 hm g_no g_fo (fun st23 e1 => ?_)
        replace hvc := hvc st23 e1; clear hm e1
        refine j_aload_n hC dJ5_rotateLeft_90 rfl 0 rfl ?_
        refine j_aload_n hC dJ5_rotateLeft_91 rfl 1 rfl ?_
        obtain ⟨fs24, hm, hvc⟩ := hvc
        refine j_put hC fkJ5_124_J27 dJ5_rotateLeft_92 hm g_no g_fo (fun st25 e1 => ?_)
        replace hvc := hvc st25 e1; clear hm e1
        exact j_sub [] rfl (kh3 st25 hvc)
      refine j_ifnonnull (tgt := 55) hC dJ5_rotateLeft_44 rfl (fun a27 c26 => ?_) (fun c26 => ?_)
      · subst c26; replace hvc := hvc.2 a27 rfl
        refine j_aload_n hC dJ5_rotateLeft_55 rfl 1 rfl ?_
        obtain ⟨o30, ⟨fs, hr, hv⟩, hvc⟩ := hvc
        refine j_get hC fkJ5_124_J27 dJ5_rotateLeft_56 hr hv ?_
        clear hv hr fs
        obtain ⟨a31, rfl, hvc⟩ := hvc
        obtain ⟨o32, ⟨fs, hr, hv⟩, hvc⟩ := hvc
        refine j_get hC fkJ5_111_J27 dJ5_rotateLeft_59 hr hv ?_
        clear hv hr fs
        refine j_aload_n hC dJ5_rotateLeft_62 rfl 1 rfl ?_
        refine j_acmp_ne (tgt := 77) hC dJ5_rotateLeft_63 rfl (fun c33 => ?_) (fun c33 => ?_)
        · replace hvc := hvc.1 c33
          refine j_aload_n hC dJ5_rotateLeft_77 rfl 1 rfl ?_
          obtain ⟨o34, ⟨fs, hr, hv⟩, hvc⟩ := hvc
          refine j_get hC fkJ5_124_J27 dJ5_rotateLeft_78 hr hv ?_
          clear hv hr fs
          refine j_aload_n hC dJ5_rotateLeft_81 rfl 2 rfl ?_
          obtain ⟨a35, rfl, hvc⟩ := hvc
          obtain ⟨fs36, hm, hvc⟩ := hvc
          refine j_put hC fkJ5_114_J27 dJ5_rotateLeft_82 hm g_no g_fo (fun st37 e1 => ?_)
          replace hvc := hvc st37 e1; clear hm e1
          exact j_sub [1, 2] rfl (kh21 st37 hvc)
        · replace hvc := hvc.2 c33
          refine j_aload_n hC dJ5_rotateLeft_66 rfl 1 rfl ?_
          obtain ⟨o38, ⟨fs, hr, hv⟩, hvc⟩ := hvc
          refine j_get hC fkJ5_124_J27 dJ5_rotateLeft_67 hr hv ?_
          clear hv hr fs
          refine j_aload_n hC dJ5_rotateLeft_70 rfl 2 rfl ?_
          obtain ⟨a39, rfl, hvc⟩ := hvc
          obtain ⟨fs40, hm, hvc⟩ := hvc
          refine j_put hC fkJ5_111_J27 dJ5_rotateLeft_71 hm g_no g_fo (fun st41 e1 => ?_)
          replace hvc := hvc st41 e1; clear hm e1
          refine j_goto (tgt := 85) hC dJ5_rotateLeft_74 rfl ?_
          exact j_sub [1, 2] rfl (kh21 st41 hvc)
      · subst c26; replace hvc := hvc.1 rfl
        refine j_aload_n hC dJ5_rotateLeft_47 rfl 0 rfl ?_
        refine j_aload_n hC dJ5_rotateLeft_48 rfl 2 rfl ?_
        obtain ⟨fs28, hm, hvc⟩ := hvc
        refine j_put hC fkJ5_101_J5 dJ5_rotateLeft_49 hm g_no g_fo (fun st29 e1 => ?_)
        replace hvc := hvc st29 e1; clear hm e1
        refine j_goto (tgt := 85) hC dJ5_rotateLeft_52 rfl ?_
        exact j_sub [1, 2] rfl (kh21 st29 hvc)
    refine j_ifnull (tgt := 32) hC dJ5_rotateLeft_21 rfl (fun c43 => ?_) (fun a44 c43 => ?_)
    · subst c43; replace hvc := hvc.1 rfl
      exact j_sub [2, 1, 0] rfl (kh14 st10 hvc)
    · subst c43; replace hvc := hvc.2 a44 rfl
      refine j_aload_n hC dJ5_rotateLeft_24 rfl 0 rfl ?_
      obtain ⟨o45, ⟨fs, hr, hv⟩, hvc⟩ := hvc
      refine j_get hC fkJ5_111_J27 dJ5_rotateLeft_25 hr hv ?_
      clear hv hr fs
      refine j_aload_n hC dJ5_rotateLeft_28 rfl 1 rfl ?_
      obtain ⟨a46, rfl, hvc⟩ := hvc
      obtain ⟨fs47, hm, hvc⟩ := hvc
      refine j_put hC fkJ5_124_J27 dJ5_rotateLeft_29 hm g_no g_fo (fun st48 e1 => ?_)
      replace hvc := hvc st48 e1; clear hm e1
      exact j_sub [2, 1, 0] rfl (kh14 st48 hvc)
theorem wk_J5_rotateLeft {l : Launch} {E : g_E} {a0 : Nat} {p0 : Option Nat} {st : g_St} {mc ms : Nat} {Q : g_St → Prop} (hvc : vc_J5_rotateLeft l E a0 p0 st Q) : wp_J5_rotateLeft l E mc ms [va_rf (some a0), va_rf p0] st Q :=
  g_enter (lv0 := [(0, va_rf (some a0)), (1, va_rf p0)]) (plainFor_of_name (by decide +kernel)) (by simp [lv_args, g_c1, g_ci, g_cL]) (by simp [lg_sl, g_c1, g_ci, g_cL]) (fun p e s m args below meth c hC => wb_J5_rotateLeft hC ⟨Nat.le_refl _, Nat.le_refl _⟩ (fun pc lv st1 cb sb hd hq => j_return hC rfl hd ⟨rfl, hq⟩) hvc)
abbrev wp_J5_fixAfterDeletion (l : Launch) (E : g_E) (mc ms : Nat) (av : List Value) (st : g_St) (Q : g_St → Prop) : Prop := g_WPv l E yJ5_fixAfterDeletion cJ5_fixAfterDeletion 3 none 2 62 mc ms av st Q
def vc_J5_fixAfterDeletion (l : Launch) (E : g_E) (a0 : Nat) (p0 : Option Nat) (st : g_St) (Q : g_St → Prop) : Prop :=
  g_lp2 (fun (K3 : (Option Nat) → g_St → Prop) (o1 : Option Nat) (st2 : g_St) => ∃ o6 : Option Nat, g_gr st2 a0 3 3 o6 ∧ g_jn0 (fun (K7 : Prop) => (o1 = o6 → K7) ∧ (¬ o1 = o6 → wp_J5_colorOf l E 0 0 [va_rf o1] st2 (fun x11 stx => stx = st2 ∧ (¬ x11 = (nI 1) → K7) ∧ (x11 = (nI 1) → wp_J5_parentOf l E 0 0 [va_rf o1] st2 (fun o13 stx => stx = st2 ∧ wp_J5_leftOf l E 0 0 [va_rf o13] st2 (fun o14 stx => stx = st2 ∧ (¬ o1 = o14 → wp_J5_parentOf l E 0 0 [va_rf o1] st2 (fun o16 stx => stx = st2 ∧ wp_J5_leftOf l E 0 0 [va_rf o16] st2 (fun o17 stx => stx = st2 ∧ wp_J5_colorOf l E 0 0 [va_rf o17] st2 (fun x18 stx => stx = st2 ∧ g_jn2 (fun (K21 : (Option Nat) → g_St → Prop) => (¬ x18 = 0 → K21 o17 st2) ∧ (x18 = 0 → wp_J5_setColor l E 0 0 [va_rf o17, .int (nI 1)] st2 (fun st64 => g_Ext st2 st64 → wp_J5_parentOf l E 0 0 [va_rf o1] st64 (fun o65 stx => stx = st64 ∧ wp_J5_setColor l E 0 0 [va_rf o65, .int (nI 0)] st64 (fun st66 => g_Ext st64 st66 → wp_J5_parentOf l E 0 0 [va_rf o1] st66 (fun o67 stx => stx = st66 ∧ g_is st66 a0 3 ∧ wp_J5_rotateRight l E 0 0 [va_rf (some a0), va_rf o67] st66 (fun st68 => g_Ext st66 st68 → wp_J5_parentOf l E 0 0 [va_rf o1] st68 (fun o69 stx => stx = st68 ∧ wp_J5_leftOf l E 0 0 [va_rf o69] st68 (fun o70 stx => stx = st68 ∧ K21 o70 st68))))))))) (fun (o19 : Option Nat) (st20 : g_St) => wp_J5_rightOf l E 0 0 [va_rf o19] st20 (fun o23 stx => stx = st20 ∧ wp_J5_colorOf l E 0 0 [va_rf o23] st20 (fun x24 stx => stx = st20 ∧ g_jn2 (fun (K27 : (Option Nat) → g_St → Prop) => g_jn0 (fun (K29 : Prop) => (¬ x24 = (nI 1) → K29) ∧ (x24 = (nI 1) → wp_J5_leftOf l E 0 0 [va_rf o19] st20 (fun o56 stx => stx = st20 ∧ wp_J5_colorOf l E 0 0 [va_rf o56] st20 (fun x57 stx => stx = st20 ∧ (¬ x57 = (nI 1) → K29) ∧ (x57 = (nI 1) → wp_J5_setColor l E 0 0 [va_rf o19, .int (nI 0)] st20 (fun st59 => g_Ext st20 st59 → wp_J5_parentOf l E 0 0 [va_rf o1] st59 (fun o60 stx => stx = st59 ∧ K27 o60 st59))))))) (wp_J5_leftOf l E 0 0 [va_rf o19] st20 (fun o31 stx => stx = st20 ∧ wp_J5_colorOf l E 0 0 [va_rf o31] st20 (fun x32 stx => stx = st20 ∧ g_jn2 (fun (K35 : (Option Nat) → g_St → Prop) => (¬ x32 = (nI 1) → K35 o19 st20) ∧ (x32 = (nI 1) → wp_J5_rightOf l E 0 0 [va_rf o19] st20 (fun o48 stx => stx = st20 ∧ wp_J5_setColor l E 0 0 [va_rf o48, .int (nI 1)] st20 (fun st49 => g_Ext st20 st49 → wp_J5_setColor l E 0 0 [va_rf o19, .int (nI 0)] st49 (fun st50 => g_Ext st49 st50 → g_is st50 a0 3 ∧ wp_J5_rotateLeft l E 0 0 [va_rf (some a0), va_rf o19] st50 (fun st51 => g_Ext st50 st51 → wp_J5_parentOf l E 0 0 [va_rf o1] st51 (fun o52 stx => stx = st51 ∧ wp_J5_leftOf l E 0 0 [va_rf o52] st51 (fun o53 stx => stx = st51 ∧ K35 o53 st51)))))))) (fun (o33 : Option Nat) (st34 : g_St) => wp_J5_parentOf l E 0 0 [va_rf o1] st34 (fun o37 stx => stx = st34 ∧ wp_J5_colorOf l E 0 0 [va_rf o37] st34 (fun x38 stx => stx = st34 ∧ wp_J5_setColor l E 0 0 [va_rf o33, .int x38] st34 (fun st39 => g_Ext st34 st39 → wp_J5_parentOf l E 0 0 [va_rf o1] st39 (fun o40 stx => stx = st39 ∧ wp_J5_setColor l E 0 0 [va_rf o40, .int (nI 1)] st39 (fun st41 => g_Ext st39 st41 → wp_J5_leftOf l E 0 0 [va_rf o33] st41 (fun o42 stx => stx = st41 ∧ wp_J5_setColor l E 0 0 [va_rf o42, .int (nI 1)] st41 (fun st43 => g_Ext st41 st43 → wp_J5_parentOf l E 0 0 [va_rf o1] st43 (fun o44 stx => stx = st43 ∧ g_is st43 a0 3 ∧ wp_J5_rotateRight l E 0 0 [va_rf (some a0), va_rf o44] st43 (fun st45 => g_Ext st43 st45 → ∃ o46 : Option Nat, g_gr st45 a0 3 3 o46 ∧ K27 o46 st45)))))))))))))) (fun (o25 : Option Nat) (st26 : g_St) => K3 o25 st26)))))))) ∧ (o1 = o14 → wp_J5_parentOf l E 0 0 [va_rf o1] st2 (fun o72 stx => stx = st2 ∧ wp_J5_rightOf l E 0 0 [va_rf o72] st2 (fun o73 stx => stx = st2 ∧ wp_J5_colorOf l E 0 0 [va_rf o73] st2 (fun x74 stx => stx = st2 ∧ g_jn2 (fun (K77 : (Option Nat) → g_St → Prop) => (¬ x74 = 0 → K77 o73 st2) ∧ (x74 = 0 → wp_J5_setColor l E 0 0 [va_rf o73, .int (nI 1)] st2 (fun st120 => g_Ext st2 st120 → wp_J5_parentOf l E 0 0 [va_rf o1] st120 (fun o121 stx => stx = st120 ∧ wp_J5_setColor l E 0 0 [va_rf o121, .int (nI 0)] st120 (fun st122 => g_Ext st120 st122 → wp_J5_parentOf l E 0 0 [va_rf o1] st122 (fun o123 stx => stx = st122 ∧ g_is st122 a0 3 ∧ wp_J5_rotateLeft l E 0 0 [va_rf (some a0), va_rf o123] st122 (fun st124 => g_Ext st122 st124 → wp_J5_parentOf l E 0 0 [va_rf o1] st124 (fun o125 stx => stx = st124 ∧ wp_J5_rightOf l E 0 0 [va_rf o125] st124 (fun o126 stx => stx = st124 ∧ K77 o126 st124))))))))) (fun (o75 : Option Nat) (st76 : g_St) => wp_J5_leftOf l E 0 0 [va_rf o75] st76 (fun o79 stx => stx = st76 ∧ wp_J5_colorOf l E 0 0 [va_rf o79] st76 (fun x80 stx => stx = st76 ∧ g_jn2 (fun (K83 : (Option Nat) → g_St → Prop) => g_jn0 (fun (K85 : Prop) => (¬ x80 = (nI 1) → K85) ∧ (x80 = (nI 1) → wp_J5_rightOf l E 0 0 [va_rf o75] st76 (fun o112 stx => stx = st76 ∧ wp_J5_colorOf l E 0 0 [va_rf o112] st76 (fun x113 stx => stx = st76 ∧ (¬ x113 = (nI 1) → K85) ∧ (x113 = (nI 1) → wp_J5_setColor l E 0 0 [va_rf o75, .int (nI 0)] st76 (fun st115 => g_Ext st76 st115 → wp_J5_parentOf l E 0 0 [va_rf o1] st115 (fun o116 stx => stx = st115 ∧ K83 o116 st115))))))) (wp_J5_rightOf l E 0 0 [va_rf o75] st76 (fun o87 stx => stx = st76 ∧ wp_J5_colorOf l E 0 0 [va_rf o87] st76 (fun x88 stx => stx = st76 ∧ g_jn2 (fun (K91 : (Option Nat) → g_St → Prop) => (¬ x88 = (nI 1) → K91 o75 st76) ∧ (x88 = (nI 1) → wp_J5_leftOf l E 0 0 [va_rf o75] st76 (fun o104 stx => stx = st76 ∧ wp_J5_setColor l E 0 0 [va_rf o104, .int (nI 1)] st76 (fun st105 => g_Ext st76 st105 → wp_J5_setColor l E 0 0 [va_rf o75, .int (nI 0)] st105 (fun st106 => g_Ext st105 st106 → g_is st106 a0 3 ∧ wp_J5_rotateRight l E 0 0 [va_rf (some a0), va_rf o75] st106 (fun st107 => g_Ext st106 st107 → wp_J5_parentOf l E 0 0 [va_rf o1] st107 (fun o108 stx => stx = st107 ∧ wp_J5_rightOf l E 0 0 [va_rf o108] st107 (fun o109 stx => stx = st107 ∧ K91 o109 st107)))))))) (fun (o89 : Option Nat) (st90 : g_St) => wp_J5_parentOf l E 0 0 [va_rf o1] st90 (fun o93 stx => stx = st90 ∧ wp_J5_colorOf l E 0 0 [va_rf o93] st90 (fun x94 stx => stx = st90 ∧ wp_J5_setColor l E 0 0 [va_rf o89, .int x94] st90 (fun st95 => g_Ext st90 st95 → wp_J5_parentOf l E 0 0 [va_rf o1] st95 (fun o96 stx => stx = st95 ∧ wp_J5_setColor l E 0 0 [va_rf o96, .int (nI 1)] st95 (fun st97 => g_Ext st95 st97 → wp_J5_rightOf l E 0 0 [va_rf o89] st97 (fun o98 stx => stx = st97 ∧ wp_J5_setColor l E 0 0 [va_rf o98, .int (nI 1)] st97 (fun st99 => g_Ext st97 st99 → wp_J5_parentOf l E 0 0 [va_rf o1] st99 (fun o100 stx => stx = st99 ∧ g_is st99 a0 3 ∧ wp_J5_rotateLeft l E 0 0 [va_rf (some a0), va_rf o100] st99 (fun st101 => g_Ext st99 st101 → ∃ o102 : Option Nat, g_gr st101 a0 3 3 o102 ∧ K83 o102 st101)))))))))))))) (fun (o81 : Option Nat) (st82 : g_St) => K3 o81 st82)))))))))))))) (wp_J5_setColor l E 0 0 [va_rf o1, .int (nI 1)] st2 (fun st9 => g_Ext st2 st9 → Q st9))) p0 st
set_option maxHeartbeats 4000000 in
theorem wb_J5_fixAfterDeletion {p : Program} {l : Launch} {e : Env} {R : Room} {s : State} {m : MethodId} {args : Array Value} {below : List Frame} {meth : Method} {c : Code} {E : g_E} {st0 : g_St} {Z : State → Prop} (hC : g_Cx p s m args meth c cJ5_fixAfterDeletion 3 "java/util/TreeMap" none "fixAfterDeletion" E st0) (hR : g_Rm 2 62 R) {a0 : Nat} {p0 : Option Nat} {st : g_St} {cb sb : Nat} {Q : g_St → Prop} (hret : ∀ (pc : Nat) (lv : List (Nat × Value)) (st1 : g_St) (cb sb : Nat), decode cJ5_fixAfterDeletion pc = .ok (.return_, 1) → Q st1 → g_J p l e R s m args below meth c 3 E st0 Z pc lv [] st1 cb sb) (hvc : vc_J5_fixAfterDeletion l E a0 p0 st Q) : g_J p l e R s m args below meth c 3 E st0 Z 0 [(0, va_rf (some a0)), (1, va_rf p0)] [] st cb sb := by
  unfold vc_J5_fixAfterDeletion at hvc
  replace hvc := g_lp2_o hvc
  obtain ⟨K3, hz129, hs130, n131, hvc⟩ := hvc
  have kh4 : ∀ (n : Nat) (o1 : Option Nat) (st2 : g_St), K3 n o1 st2 → g_J p l e R s m args below meth c 3 E st0 Z 0 [(0, va_rf (some a0)), (1, va_rf o1)] [] st2 cb sb := by
    clear hvc
    intro n
    induction n with
    | zero => intro o1 st2 hvc; exact absurd hvc (hz129 _ _)
    | succ n ih5 =>
      intro o1 st2 hvc
      replace hvc := hs130 n _ _ hvc
      refine j_aload_n hC dJ5_fixAfterDeletion_0 rfl 1 rfl ?_
      refine j_aload_n hC dJ5_fixAfterDeletion_1 rfl 0 rfl ?_
      obtain ⟨o6, ⟨fs, hr, hv⟩, hvc⟩ := hvc
      refine j_get hC fkJ5_101_J5 dJ5_fixAfterDeletion_2 hr hv ?_
      clear hv hr fs
      replace hvc := g_jn0_o hvc
      obtain ⟨K7, hK128, hvc⟩ := hvc
      have kh8 : K7 → g_J p l e R s m args below meth c 3 E st0 Z 345 [(1, va_rf o1)] [] st2 cb sb := by
        clear hvc
        intro hvc
        replace hvc := hK128 hvc
        refine j_aload_n hC dJ5_fixAfterDeletion_345 rfl 0 rfl ?_
        refine j_iconst hC (nI 1) dJ5_fixAfterDeletion_346 rfl ?_
        refine j_callS (As := [va_rf o1, .int (nI 1)]) (rest := []) (n := 2) hC hvc (lw_S q1474 q1475 q47 q1476) (by decide +kernel) (g_rm hR rfl rfl) rfl rfl (g_sum rfl) dJ5_fixAfterDeletion_347 (Nat.zero_le _) (Nat.zero_le _) (g_Kv fun st9 hv2 hx => ?_)
        replace hvc := hv2 hx; clear hx hv2
        exact hret _ _ _ _ _ dJ5_fixAfterDeletion_350 hvc
      refine j_acmp_eq (tgt := 345) hC dJ5_fixAfterDeletion_5 rfl (fun c10 => ?_) (fun c10 => ?_)
      · replace hvc := hvc.1 c10
        exact j_sub [1] rfl (kh8 hvc)
      · replace hvc := hvc.2 c10
        refine j_aload_n hC dJ5_fixAfterDeletion_8 rfl 1 rfl ?_
        refine j_callS (As := [va_rf o1]) (rest := []) (n := 1) hC hvc (lw_S q1462 q1463 q47 q1464) (by decide +kernel) (g_rm hR rfl rfl) rfl rfl (g_sum rfl) dJ5_fixAfterDeletion_9 (Nat.zero_le _) (Nat.zero_le _) (g_Kip fun x11 hv2 => ?_)
        replace hvc := hv2; clear hv2
        refine j_iconst hC (nI 1) dJ5_fixAfterDeletion_12 rfl ?_
        refine j_icmp_ne (tgt := 345) hC dJ5_fixAfterDeletion_13 rfl (fun c12 => ?_) (fun c12 => ?_)
        · replace hvc := hvc.1 c12
          exact j_sub [1] rfl (kh8 hvc)
        · replace hvc := hvc.2 c12
          refine j_aload_n hC dJ5_fixAfterDeletion_16 rfl 1 rfl ?_
          refine j_aload_n hC dJ5_fixAfterDeletion_17 rfl 1 rfl ?_
          refine j_callS (As := [va_rf o1]) (rest := [va_rf o1]) (n := 1) hC hvc (lw_S q1465 q1466 q47 q1467) (by decide +kernel) (g_rm hR rfl rfl) rfl rfl (g_sum rfl) dJ5_fixAfterDeletion_18 (Nat.zero_le _) (Nat.zero_le _) (g_Kap fun o13 hv2 => ?_)
          replace hvc := hv2; clear hv2
          refine j_callS (As := [va_rf o13]) (rest := [va_rf o1]) (n := 1) hC hvc (lw_S q1468 q1469 q47 q1470) (by decide +kernel) (g_rm hR rfl rfl) rfl rfl (g_sum rfl) dJ5_fixAfterDeletion_21 (Nat.zero_le _) (Nat.zero_le _) (g_Kap fun o14 hv2 => ?_)
          replace hvc := hv2; clear hv2
          refine j_acmp_ne (tgt := 186) hC dJ5_fixAfterDeletion_24 rfl (fun c15 => ?_) (fun c15 => ?_)
          · replace hvc := hvc.1 c15
            refine j_aload_n hC dJ5_fixAfterDeletion_186 rfl 1 rfl ?_
            refine j_callS (As := [va_rf o1]) (rest := []) (n := 1) hC hvc (lw_S q1465 q1466 q47 q1467) (by decide +kernel) (g_rm hR rfl rfl) rfl rfl (g_sum rfl) dJ5_fixAfterDeletion_187 (Nat.zero_le _) (Nat.zero_le _) (g_Kap fun o16 hv2 => ?_)
            replace hvc := hv2; clear hv2
            refine j_callS (As := [va_rf o16]) (rest := []) (n := 1) hC hvc (lw_S q1468 q1469 q47 q1470) (by decide +kernel) (g_rm hR rfl rfl) rfl rfl (g_sum rfl) dJ5_fixAfterDeletion_190 (Nat.zero_le _) (Nat.zero_le _) (g_Kap fun o17 hv2 => ?_)
            replace hvc := hv2; clear hv2
            refine j_astore_n (lv0 := [(1, va_rf o1), (0, va_rf (some a0))]) hC dJ5_fixAfterDeletion_193 rfl rfl [1, 0] rfl (g_okS.h rfl g_c1 rfl) ?_
            refine j_aload_n hC dJ5_fixAfterDeletion_194 rfl 0 rfl ?_
            refine j_callS (As := [va_rf o17]) (rest := []) (n := 1) hC hvc (lw_S q1462 q1463 q47 q1464) (by decide +kernel) (g_rm hR rfl rfl) rfl rfl (g_sum rfl) dJ5_fixAfterDeletion_195 (Nat.zero_le _) (Nat.zero_le _) (g_Kip fun x18 hv2 => ?_)
            replace hvc := hv2; clear hv2
            replace hvc := g_jn2_o hvc
            obtain ⟨K21, hK71, hvc⟩ := hvc
            have kh22 : ∀ (o19 : Option Nat) (st20 : g_St), K21 o19 st20 → g_J p l e R s m args below meth c 3 E st0 Z 230 [(0, va_rf (some a0)), (1, va_rf o1), (2, va_rf o19)] [] st20 cb sb := by
              clear hvc
              intro o19 st20 hvc
              replace hvc := hK71 _ _ hvc
              refine j_aload_n hC dJ5_fixAfterDeletion_230 rfl 2 rfl ?_
              refine j_callS (As := [va_rf o19]) (rest := []) (n := 1) hC hvc (lw_S q1471 q1472 q47 q1473) (by decide +kernel) (g_rm hR rfl rfl) rfl rfl (g_sum rfl) dJ5_fixAfterDeletion_231 (Nat.zero_le _) (Nat.zero_le _) (g_Kap fun o23 hv2 => ?_)
              replace hvc := hv2; clear hv2
              refine j_callS (As := [va_rf o23]) (rest := []) (n := 1) hC hvc (lw_S q1462 q1463 q47 q1464) (by decide +kernel) (g_rm hR rfl rfl) rfl rfl (g_sum rfl) dJ5_fixAfterDeletion_234 (Nat.zero_le _) (Nat.zero_le _) (g_Kip fun x24 hv2 => ?_)
              replace hvc := hv2; clear hv2
              refine j_iconst hC (nI 1) dJ5_fixAfterDeletion_237 rfl ?_
              replace hvc := g_jn2_o hvc
              obtain ⟨K27, hK62, hvc⟩ := hvc
              have kh28 : ∀ (o25 : Option Nat) (st26 : g_St), K27 o25 st26 → g_J p l e R s m args below meth c 3 E st0 Z 342 [(0, va_rf (some a0)), (1, va_rf o25)] [] st26 cb sb := by
                clear hvc
                intro o25 st26 hvc
                replace hvc := hK62 _ _ hvc
                refine j_goto (tgt := 0) hC dJ5_fixAfterDeletion_342 rfl ?_
                exact j_sub [0, 1] rfl (ih5 o25 st26 hvc)
              replace hvc := g_jn0_o hvc
              obtain ⟨K29, hK61, hvc⟩ := hvc
              have kh30 : K29 → g_J p l e R s m args below meth c 3 E st0 Z 265 [(0, va_rf (some a0)), (1, va_rf o1), (2, va_rf o19)] [] st20 cb sb := by
                clear hvc
                intro hvc
                replace hvc := hK61 hvc
                refine j_aload_n hC dJ5_fixAfterDeletion_265 rfl 2 rfl ?_
                refine j_callS (As := [va_rf o19]) (rest := []) (n := 1) hC hvc (lw_S q1468 q1469 q47 q1470) (by decide +kernel) (g_rm hR rfl rfl) rfl rfl (g_sum rfl) dJ5_fixAfterDeletion_266 (Nat.zero_le _) (Nat.zero_le _) (g_Kap fun o31 hv2 => ?_)
                replace hvc := hv2; clear hv2
                refine j_callS (As := [va_rf o31]) (rest := []) (n := 1) hC hvc (lw_S q1462 q1463 q47 q1464) (by decide +kernel) (g_rm hR rfl rfl) rfl rfl (g_sum rfl) dJ5_fixAfterDeletion_269 (Nat.zero_le _) (Nat.zero_le _) (g_Kip fun x32 hv2 => ?_)
                replace hvc := hv2; clear hv2
                refine j_iconst hC (nI 1) dJ5_fixAfterDeletion_272 rfl ?_
                replace hvc := g_jn2_o hvc
                obtain ⟨K35, hK54, hvc⟩ := hvc
                have kh36 : ∀ (o33 : Option Nat) (st34 : g_St), K35 o33 st34 → g_J p l e R s m args below meth c 3 E st0 Z 302 [(0, va_rf (some a0)), (1, va_rf o1), (2, va_rf o33)] [] st34 cb sb := by
                  clear hvc
                  intro o33 st34 hvc
                  replace hvc := hK54 _ _ hvc
                  refine j_aload_n hC dJ5_fixAfterDeletion_302 rfl 2 rfl ?_
                  refine j_aload_n hC dJ5_fixAfterDeletion_303 rfl 1 rfl ?_
                  refine j_callS (As := [va_rf o1]) (rest := [va_rf o33]) (n := 1) hC hvc (lw_S q1465 q1466 q47 q1467) (by decide +kernel) (g_rm hR rfl rfl) rfl rfl (g_sum rfl) dJ5_fixAfterDeletion_304 (Nat.zero_le _) (Nat.zero_le _) (g_Kap fun o37 hv2 => ?_)
                  replace hvc := hv2; clear hv2
                  refine j_callS (As := [va_rf o37]) (rest := [va_rf o33]) (n := 1) hC hvc (lw_S q1462 q1463 q47 q1464) (by decide +kernel) (g_rm hR rfl rfl) rfl rfl (g_sum rfl) dJ5_fixAfterDeletion_307 (Nat.zero_le _) (Nat.zero_le _) (g_Kip fun x38 hv2 => ?_)
                  replace hvc := hv2; clear hv2
                  refine j_callS (As := [va_rf o33, .int x38]) (rest := []) (n := 2) hC hvc (lw_S q1474 q1475 q47 q1476) (by decide +kernel) (g_rm hR rfl rfl) rfl rfl (g_sum rfl) dJ5_fixAfterDeletion_310 (Nat.zero_le _) (Nat.zero_le _) (g_Kv fun st39 hv2 hx => ?_)
                  replace hvc := hv2 hx; clear hx hv2
                  refine j_aload_n hC dJ5_fixAfterDeletion_313 rfl 1 rfl ?_
                  refine j_callS (As := [va_rf o1]) (rest := []) (n := 1) hC hvc (lw_S q1465 q1466 q47 q1467) (by decide +kernel) (g_rm hR rfl rfl) rfl rfl (g_sum rfl) dJ5_fixAfterDeletion_314 (Nat.zero_le _) (Nat.zero_le _) (g_Kap fun o40 hv2 => ?_)
                  replace hvc := hv2; clear hv2
                  refine j_iconst hC (nI 1) dJ5_fixAfterDeletion_317 rfl ?_
                  refine j_callS (As := [va_rf o40, .int (nI 1)]) (rest := []) (n := 2) hC hvc (lw_S q1474 q1475 q47 q1476) (by decide +kernel) (g_rm hR rfl rfl) rfl rfl (g_sum rfl) dJ5_fixAfterDeletion_318 (Nat.zero_le _) (Nat.zero_le _) (g_Kv fun st41 hv2 hx => ?_)
                  replace hvc := hv2 hx; clear hx hv2
                  refine j_aload_n hC dJ5_fixAfterDeletion_321 rfl 2 rfl ?_
                  refine j_callS (As := [va_rf o33]) (rest := []) (n := 1) hC hvc (lw_S q1468 q1469 q47 q1470) (by decide +kernel) (g_rm hR rfl rfl) rfl rfl (g_sum rfl) dJ5_fixAfterDeletion_322 (Nat.zero_le _) (Nat.zero_le _) (g_Kap fun o42 hv2 => ?_)
                  replace hvc := hv2; clear hv2
                  refine j_iconst hC (nI 1) dJ5_fixAfterDeletion_325 rfl ?_
                  refine j_callS (As := [va_rf o42, .int (nI 1)]) (rest := []) (n := 2) hC hvc (lw_S q1474 q1475 q47 q1476) (by decide +kernel) (g_rm hR rfl rfl) rfl rfl (g_sum rfl) dJ5_fixAfterDeletion_326 (Nat.zero_le _) (Nat.zero_le _) (g_Kv fun st43 hv2 hx => ?_)
                  replace hvc := hv2 hx; clear hx hv2
                  refine j_aload_n hC dJ5_fixAfterDeletion_329 rfl 0 rfl ?_
                  refine j_aload_n hC dJ5_fixAfterDeletion_330 rfl 1 rfl ?_
                  refine j_callS (As := [va_rf o1]) (rest := [va_rf (some a0)]) (n := 1) hC hvc (lw_S q1465 q1466 q47 q1467) (by decide +kernel) (g_rm hR rfl rfl) rfl rfl (g_sum rfl) dJ5_fixAfterDeletion_331 (Nat.zero_le _) (Nat.zero_le _) (g_Kap fun o44 hv2 => ?_)
                  replace hvc := hv2; clear hv2
                  obtain ⟨⟨fs, hr⟩, hvc⟩ := hvc
                  refine j_callV (As := [va_rf o44]) (rest := []) (n := 1) (ci := 3) hC hvc (lw_V q1481 q1483 qs5 q47 q1484) (by decide +kernel) (g_rm hR rfl rfl) rfl hr rfl rfl (g_sum rfl) dJ5_fixAfterDeletion_334 (Nat.zero_le _) (Nat.zero_le _) (g_Kv fun st45 hv2 hx => ?_)
                  replace hvc := hv2 hx; clear hx hv2
                  clear hr fs
                  refine j_aload_n hC dJ5_fixAfterDeletion_337 rfl 0 rfl ?_
                  obtain ⟨o46, ⟨fs, hr, hv⟩, hvc⟩ := hvc
                  refine j_get hC fkJ5_101_J5 dJ5_fixAfterDeletion_338 hr hv ?_
                  clear hv hr fs
                  refine j_astore_n (lv0 := [(0, va_rf (some a0)), (2, va_rf o33)]) hC dJ5_fixAfterDeletion_341 rfl rfl [0, 2] rfl (g_okS.h rfl g_c1 rfl) ?_
                  exact j_sub [1, 0] rfl (kh28 o46 st45 hvc)
                refine j_icmp_ne (tgt := 302) hC dJ5_fixAfterDeletion_273 rfl (fun c47 => ?_) (fun c47 => ?_)
                · replace hvc := hvc.1 c47
                  exact j_sub [0, 1, 2] rfl (kh36 o19 st20 hvc)
                · replace hvc := hvc.2 c47
                  refine j_aload_n hC dJ5_fixAfterDeletion_276 rfl 2 rfl ?_
                  refine j_callS (As := [va_rf o19]) (rest := []) (n := 1) hC hvc (lw_S q1471 q1472 q47 q1473) (by decide +kernel) (g_rm hR rfl rfl) rfl rfl (g_sum rfl) dJ5_fixAfterDeletion_277 (Nat.zero_le _) (Nat.zero_le _) (g_Kap fun o48 hv2 => ?_)
                  replace hvc := hv2; clear hv2
                  refine j_iconst hC (nI 1) dJ5_fixAfterDeletion_280 rfl ?_
                  refine j_callS (As := [va_rf o48, .int (nI 1)]) (rest := []) (n := 2) hC hvc (lw_S q1474 q1475 q47 q1476) (by decide +kernel) (g_rm hR rfl rfl) rfl rfl (g_sum rfl) dJ5_fixAfterDeletion_281 (Nat.zero_le _) (Nat.zero_le _) (g_Kv fun st49 hv2 hx => ?_)
                  replace hvc := hv2 hx; clear hx hv2
                  refine j_aload_n hC dJ5_fixAfterDeletion_284 rfl 2 rfl ?_
                  refine j_iconst hC (nI 0) dJ5_fixAfterDeletion_285 rfl ?_
                  refine j_callS (As := [va_rf o19, .int (nI 0)]) (rest := []) (n := 2) hC hvc (lw_S q1474 q1475 q47 q1476) (by decide +kernel) (g_rm hR rfl rfl) rfl rfl (g_sum rfl) dJ5_fixAfterDeletion_286 (Nat.zero_le _) (Nat.zero_le _) (g_Kv fun st50 hv2 hx => ?_)
                  replace hvc := hv2 hx; clear hx hv2
                  refine j_aload_n hC dJ5_fixAfterDeletion_289 rfl 0 rfl ?_
                  refine j_aload_n hC dJ5_fixAfterDeletion_290 rfl 2 rfl ?_
                  obtain ⟨⟨fs, hr⟩, hvc⟩ := hvc
                  refine j_callV (As := [va_rf o19]) (rest := []) (n := 1) (ci := 3) hC hvc (lw_V q1477 q1479 qs4 q47 q1480) (by decide +kernel) (g_rm hR rfl rfl) rfl hr rfl rfl (g_sum rfl) dJ5_fixAfterDeletion_291 (Nat.zero_le _) (Nat.zero_le _) (g_Kv fun st51 hv2 hx => ?_)
                  replace hvc := hv2 hx; clear hx hv2
                  clear hr fs
                  refine j_aload_n hC dJ5_fixAfterDeletion_294 rfl 1 rfl ?_
                  refine j_callS (As := [va_rf o1]) (rest := []) (n := 1) hC hvc (lw_S q1465 q1466 q47 q1467) (by decide +kernel) (g_rm hR rfl rfl) rfl rfl (g_sum rfl) dJ5_fixAfterDeletion_295 (Nat.zero_le _) (Nat.zero_le _) (g_Kap fun o52 hv2 => ?_)
                  replace hvc := hv2; clear hv2
                  refine j_callS (As := [va_rf o52]) (rest := []) (n := 1) hC hvc (lw_S q1468 q1469 q47 q1470) (by decide +kernel) (g_rm hR rfl rfl) rfl rfl (g_sum rfl) dJ5_fixAfterDeletion_298 (Nat.zero_le _) (Nat.zero_le _) (g_Kap fun o53 hv2 => ?_)
                  replace hvc := hv2; clear hv2
                  refine j_astore_n (lv0 := [(1, va_rf o1), (0, va_rf (some a0))]) hC dJ5_fixAfterDeletion_301 rfl rfl [1, 0] rfl (g_okS.h rfl g_c1 rfl) ?_
                  exact j_sub [2, 1, 0] rfl (kh36 o53 st51 hvc)
              refine j_icmp_ne (tgt := 265) hC dJ5_fixAfterDeletion_238 rfl (fun c55 => ?_) (fun c55 => ?_)
              · replace hvc := hvc.1 c55
                exact j_sub [0, 1, 2] rfl (kh30 hvc)
              · replace hvc := hvc.2 c55
                refine j_aload_n hC dJ5_fixAfterDeletion_241 rfl 2 rfl ?_
                refine j_callS (As := [va_rf o19]) (rest := []) (n := 1) hC hvc (lw_S q1468 q1469 q47 q1470) (by decide +kernel) (g_rm hR rfl rfl) rfl rfl (g_sum rfl) dJ5_fixAfterDeletion_242 (Nat.zero_le _) (Nat.zero_le _) (g_Kap fun o56 hv2 => ?_)
                replace hvc := hv2; clear hv2
                refine j_callS (As := [va_rf o56]) (rest := []) (n := 1) hC hvc (lw_S q1462 q1463 q47 q1464) (by decide +kernel) (g_rm hR rfl rfl) rfl rfl (g_sum rfl) dJ5_fixAfterDeletion_245 (Nat.zero_le _) (Nat.zero_le _) (g_Kip fun x57 hv2 => ?_)
                replace hvc := hv2; clear hv2
                refine j_iconst hC (nI 1) dJ5_fixAfterDeletion_248 rfl ?_
                refine j_icmp_ne (tgt := 265) hC dJ5_fixAfterDeletion_249 rfl (fun c58 => ?_) (fun c58 => ?_)
                · replace hvc := hvc.1 c58
                  exact j_sub [0, 1, 2] rfl (kh30 hvc)
                · replace hvc := hvc.2 c58
                  refine j_aload_n hC dJ5_fixAfterDeletion_252 rfl 2 rfl ?_
                  refine j_iconst hC (nI 0) dJ5_fixAfterDeletion_253 rfl ?_
                  refine j_callS (As := [va_rf o19, .int (nI 0)]) (rest := []) (n := 2) hC hvc (lw_S q1474 q1475 q47 q1476) (by decide +kernel) (g_rm hR rfl rfl) rfl rfl (g_sum rfl) dJ5_fixAfterDeletion_254 (Nat.zero_le _) (Nat.zero_le _) (g_Kv fun st59 hv2 hx => ?_)
                  replace hvc := hv2 hx; clear hx hv2
                  refine j_aload_n hC dJ5_fixAfterDeletion_257 rfl 1 rfl ?_
                  refine j_callS (As := [va_rf o1]) (rest := []) (n := 1) hC hvc (lw_S q1465 q1466 q47 q1467) (by decide +kernel) (g_rm hR rfl rfl) rfl rfl (g_sum rfl) dJ5_fixAfterDeletion_258 (Nat.zero_le _) (Nat.zero_le _) (g_Kap fun o60 hv2 => ?_)
                  replace hvc := hv2; clear hv2
                  refine j_astore_n (lv0 := [(0, va_rf (some a0)), (2, va_rf o19)]) hC dJ5_fixAfterDeletion_261 rfl rfl [0, 2] rfl (g_okS.h rfl g_c1 rfl) ?_
                  refine j_goto (tgt := 342) hC dJ5_fixAfterDeletion_262 rfl ?_
                  exact j_sub [1, 0] rfl (kh28 o60 st59 hvc)
            refine j_if_ne (tgt := 230) hC dJ5_fixAfterDeletion_198 rfl (fun c63 => ?_) (fun c63 => ?_)
            · replace hvc := hvc.1 c63
              exact j_sub [2, 1, 0] rfl (kh22 o17 st2 hvc)
            · replace hvc := hvc.2 c63
              refine j_aload_n hC dJ5_fixAfterDeletion_201 rfl 0 rfl ?_
              refine j_iconst hC (nI 1) dJ5_fixAfterDeletion_202 rfl ?_
              refine j_callS (As := [va_rf o17, .int (nI 1)]) (rest := []) (n := 2) hC hvc (lw_S q1474 q1475 q47 q1476) (by decide +kernel) (g_rm hR rfl rfl) rfl rfl (g_sum rfl) dJ5_fixAfterDeletion_203 (Nat.zero_le _) (Nat.zero_le _) (g_Kv fun st64 hv2 hx => ?_)
              replace hvc := hv2 hx; clear hx hv2
              refine j_aload_n hC dJ5_fixAfterDeletion_206 rfl 1 rfl ?_
              refine j_callS (As := [va_rf o1]) (rest := []) (n := 1) hC hvc (lw_S q1465 q1466 q47 q1467) (by decide +kernel) (g_rm hR rfl rfl) rfl rfl (g_sum rfl) dJ5_fixAfterDeletion_207 (Nat.zero_le _) (Nat.zero_le _) (g_Kap fun o65 hv2 => ?_)
              replace hvc := hv2; clear hv2
              refine j_iconst hC (nI 0) dJ5_fixAfterDeletion_210 rfl ?_
              refine j_callS (As := [va_rf o65, .int (nI 0)]) (rest := []) (n := 2) hC hvc (lw_S q1474 q1475 q47 q1476) (by decide +kernel) (g_rm hR rfl rfl) rfl rfl (g_sum rfl) dJ5_fixAfterDeletion_211 (Nat.zero_le _) (Nat.zero_le _) (g_Kv fun st66 hv2 hx => ?_)
              replace hvc := hv2 hx; clear hx hv2
              refine j_aload_n hC dJ5_fixAfterDeletion_214 rfl 2 rfl ?_
              refine j_aload_n hC dJ5_fixAfterDeletion_215 rfl 1 rfl ?_
              refine j_callS (As := [va_rf o1]) (rest := [va_rf (some a0)]) (n := 1) hC hvc (lw_S q1465 q1466 q47 q1467) (by decide +kernel) (g_rm hR rfl rfl) rfl rfl (g_sum rfl) dJ5_fixAfterDeletion_216 (Nat.zero_le _) (Nat.zero_le _) (g_Kap fun o67 hv2 => ?_)
              replace hvc := hv2; clear hv2
              obtain ⟨⟨fs, hr⟩, hvc⟩ := hvc
              refine j_callV (As := [va_rf o67]) (rest := []) (n := 1) (ci := 3) hC hvc (lw_V q1481 q1483 qs5 q47 q1484) (by decide +kernel) (g_rm hR rfl rfl) rfl hr rfl rfl (g_sum rfl) dJ5_fixAfterDeletion_219 (Nat.zero_le _) (Nat.zero_le _) (g_Kv fun st68 hv2 hx => ?_)
              replace hvc := hv2 hx; clear hx hv2
              clear hr fs
              refine j_aload_n hC dJ5_fixAfterDeletion_222 rfl 1 rfl ?_
              refine j_callS (As := [va_rf o1]) (rest := []) (n := 1) hC hvc (lw_S q1465 q1466 q47 q1467) (by decide +kernel) (g_rm hR rfl rfl) rfl rfl (g_sum rfl) dJ5_fixAfterDeletion_223 (Nat.zero_le _) (Nat.zero_le _) (g_Kap fun o69 hv2 => ?_)
              replace hvc := hv2; clear hv2
              refine j_callS (As := [va_rf o69]) (rest := []) (n := 1) hC hvc (lw_S q1468 q1469 q47 q1470) (by decide +kernel) (g_rm hR rfl rfl) rfl rfl (g_sum rfl) dJ5_fixAfterDeletion_226 (Nat.zero_le _) (Nat.zero_le _) (g_Kap fun o70 hv2 => ?_)
              replace hvc := hv2; clear hv2
              refine j_astore_n (lv0 := [(1, va_rf o1), (0, va_rf (some a0))]) hC dJ5_fixAfterDeletion_229 rfl rfl [1, 2] rfl (g_okS.h rfl g_c1 rfl) ?_
              exact j_sub [2, 1, 0] rfl (kh22 o70 st68 hvc)
          · replace hvc := hvc.2 c15
            refine j_aload_n hC dJ5_fixAfterDeletion_27 rfl 1 rfl ?_
            refine j_callS (As := [va_rf o1]) (rest := []) (n := 1) hC hvc (lw_S q1465 q1466 q47 q1467) (by decide +kernel) (g_rm hR rfl rfl) rfl rfl (g_sum rfl) dJ5_fixAfterDeletion_28 (Nat.zero_le _) (Nat.zero_le _) (g_Kap fun o72 hv2 => ?_)
            replace hvc := hv2; clear hv2
            refine j_callS (As := [va_rf o72]) (rest := []) (n := 1) hC hvc (lw_S q1471 q1472 q47 q1473) (by decide +kernel) (g_rm hR rfl rfl) rfl rfl (g_sum rfl) dJ5_fixAfterDeletion_31 (Nat.zero_le _) (Nat.zero_le _) (g_Kap fun o73 hv2 => ?_)
            replace hvc := hv2; clear hv2
            refine j_astore_n (lv0 := [(1, va_rf o1), (0, va_rf (some a0))]) hC dJ5_fixAfterDeletion_34 rfl rfl [1, 0] rfl (g_okS.h rfl g_c1 rfl) ?_
            refine j_aload_n hC dJ5_fixAfterDeletion_35 rfl 0 rfl ?_
            refine j_callS (As := [va_rf o73]) (rest := []) (n := 1) hC hvc (lw_S q1462 q1463 q47 q1464) (by decide +kernel) (g_rm hR rfl rfl) rfl rfl (g_sum rfl) dJ5_fixAfterDeletion_36 (Nat.zero_le _) (Nat.zero_le _) (g_Kip fun x74 hv2 => ?_)
            replace hvc := hv2; clear hv2
            replace hvc := g_jn2_o hvc
            obtain ⟨K77, hK127, hvc⟩ := hvc
            have kh78 : ∀ (o75 : Option Nat) (st76 : g_St), K77 o75 st76 → g_J p l e R s m args below meth c 3 E st0 Z 71 [(0, va_rf (some a0)), (1, va_rf o1), (2, va_rf o75)] [] st76 cb sb := by
              clear hvc
              intro o75 st76 hvc
              replace hvc := hK127 _ _ hvc
              refine j_aload_n hC dJ5_fixAfterDeletion_71 rfl 2 rfl ?_
              refine j_callS (As := [va_rf o75]) (rest := []) (n := 1) hC hvc (lw_S q1468 q1469 q47 q1470) (by decide +kernel) (g_rm hR rfl rfl) rfl rfl (g_sum rfl) dJ5_fixAfterDeletion_72 (Nat.zero_le _) (Nat.zero_le _) (g_Kap fun o79 hv2 => ?_)
              replace hvc := hv2; clear hv2
              refine j_callS (As := [va_rf o79]) (rest := []) (n := 1) hC hvc (lw_S q1462 q1463 q47 q1464) (by decide +kernel) (g_rm hR rfl rfl) rfl rfl (g_sum rfl) dJ5_fixAfterDeletion_75 (Nat.zero_le _) (Nat.zero_le _) (g_Kip fun x80 hv2 => ?_)
              replace hvc := hv2; clear hv2
              refine j_iconst hC (nI 1) dJ5_fixAfterDeletion_78 rfl ?_
              replace hvc := g_jn2_o hvc
              obtain ⟨K83, hK118, hvc⟩ := hvc
              have kh84 : ∀ (o81 : Option Nat) (st82 : g_St), K83 o81 st82 → g_J p l e R s m args below meth c 3 E st0 Z 183 [(0, va_rf (some a0)), (1, va_rf o81)] [] st82 cb sb := by
                clear hvc
                intro o81 st82 hvc
                replace hvc := hK118 _ _ hvc
                refine j_goto (tgt := 0) hC dJ5_fixAfterDeletion_183 rfl ?_
                exact j_sub [0, 1] rfl (ih5 o81 st82 hvc)
              replace hvc := g_jn0_o hvc
              obtain ⟨K85, hK117, hvc⟩ := hvc
              have kh86 : K85 → g_J p l e R s m args below meth c 3 E st0 Z 106 [(0, va_rf (some a0)), (1, va_rf o1), (2, va_rf o75)] [] st76 cb sb := by
                clear hvc
                intro hvc
                replace hvc := hK117 hvc
                refine j_aload_n hC dJ5_fixAfterDeletion_106 rfl 2 rfl ?_
                refine j_callS (As := [va_rf o75]) (rest := []) (n := 1) hC hvc (lw_S q1471 q1472 q47 q1473) (by decide +kernel) (g_rm hR rfl rfl) rfl rfl (g_sum rfl) dJ5_fixAfterDeletion_107 (Nat.zero_le _) (Nat.zero_le _) (g_Kap fun o87 hv2 => ?_)
                replace hvc := hv2; clear hv2
                refine j_callS (As := [va_rf o87]) (rest := []) (n := 1) hC hvc (lw_S q1462 q1463 q47 q1464) (by decide +kernel) (g_rm hR rfl rfl) rfl rfl (g_sum rfl) dJ5_fixAfterDeletion_110 (Nat.zero_le _) (Nat.zero_le _) (g_Kip fun x88 hv2 => ?_)
                replace hvc := hv2; clear hv2
                refine j_iconst hC (nI 1) dJ5_fixAfterDeletion_113 rfl ?_
                replace hvc := g_jn2_o hvc
                obtain ⟨K91, hK110, hvc⟩ := hvc
                have kh92 : ∀ (o89 : Option Nat) (st90 : g_St), K91 o89 st90 → g_J p l e R s m args below meth c 3 E st0 Z 143 [(0, va_rf (some a0)), (1, va_rf o1), (2, va_rf o89)] [] st90 cb sb := by
                  clear hvc
                  intro o89 st90 hvc
                  replace hvc := hK110 _ _ hvc
                  refine j_aload_n hC dJ5_fixAfterDeletion_143 rfl 2 rfl ?_
                  refine j_aload_n hC dJ5_fixAfterDeletion_144 rfl 1 rfl ?_
                  refine j_callS (As := [va_rf o1]) (rest := [va_rf o89]) (n := 1) hC hvc (lw_S q1465 q1466 q47 q1467) (by decide +kernel) (g_rm hR rfl rfl) rfl rfl (g_sum rfl) dJ5_fixAfterDeletion_145 (Nat.zero_le _) (Nat.zero_le _) (g_Kap fun o93 hv2 => ?_)
                  replace hvc := hv2; clear hv2
                  refine j_callS (As := [va_rf o93]) (rest := [va_rf o89]) (n := 1) hC hvc (lw_S q1462 q1463 q47 q1464) (by decide +kernel) (g_rm hR rfl rfl) rfl rfl (g_sum rfl) dJ5_fixAfterDeletion_148 (Nat.zero_le _) (Nat.zero_le _) (g_Kip fun x94 hv2 => ?_)
                  replace hvc := hv2; clear hv2
                  refine j_callS (As := [va_rf o89, .int x94]) (rest := []) (n := 2) hC hvc (lw_S q1474 q1475 q47 q1476) (by decide +kernel) (g_rm hR rfl rfl) rfl rfl (g_sum rfl) dJ5_fixAfterDeletion_151 (Nat.zero_le _) (Nat.zero_le _) (g_Kv fun st95 hv2 hx => ?_)
                  replace hvc := hv2 hx; clear hx hv2
                  refine j_aload_n hC dJ5_fixAfterDeletion_154 rfl 1 rfl ?_
                  refine j_callS (As := [va_rf o1]) (rest := []) (n := 1) hC hvc (lw_S q1465 q1466 q47 q1467) (by decide +kernel) (g_rm hR rfl rfl) rfl rfl (g_sum rfl) dJ5_fixAfterDeletion_155 (Nat.zero_le _) (Nat.zero_le _) (g_Kap fun o96 hv2 => ?_)
                  replace hvc := hv2; clear hv2
                  refine j_iconst hC (nI 1) dJ5_fixAfterDeletion_158 rfl ?_
                  refine j_callS (As := [va_rf o96, .int (nI 1)]) (rest := []) (n := 2) hC hvc (lw_S q1474 q1475 q47 q1476) (by decide +kernel) (g_rm hR rfl rfl) rfl rfl (g_sum rfl) dJ5_fixAfterDeletion_159 (Nat.zero_le _) (Nat.zero_le _) (g_Kv fun st97 hv2 hx => ?_)
                  replace hvc := hv2 hx; clear hx hv2
                  refine j_aload_n hC dJ5_fixAfterDeletion_162 rfl 2 rfl ?_
                  refine j_callS (As := [va_rf o89]) (rest := []) (n := 1) hC hvc (lw_S q1471 q1472 q47 q1473) (by decide +kernel) (g_rm hR rfl rfl) rfl rfl (g_sum rfl) dJ5_fixAfterDeletion_163 (Nat.zero_le _) (Nat.zero_le _) (g_Kap fun o98 hv2 => ?_)
                  replace hvc := hv2; clear hv2
                  refine j_iconst hC (nI 1) dJ5_fixAfterDeletion_166 rfl ?_
                  refine j_callS (As := [va_rf o98, .int (nI 1)]) (rest := []) (n := 2) hC hvc (lw_S q1474 q1475 q47 q1476) (by decide +kernel) (g_rm hR rfl rfl) rfl rfl (g_sum rfl) dJ5_fixAfterDeletion_167 (Nat.zero_le _) (Nat.zero_le _) (g_Kv fun st99 hv2 hx => ?_)
                  replace hvc := hv2 hx; clear hx hv2
                  refine j_aload_n hC dJ5_fixAfterDeletion_170 rfl 0 rfl ?_
                  refine j_aload_n hC dJ5_fixAfterDeletion_171 rfl 1 rfl ?_
                  refine j_callS (As := [va_rf o1]) (rest := [va_rf (some a0)]) (n := 1) hC hvc (lw_S q1465 q1466 q47 q1467) (by decide +kernel) (g_rm hR rfl rfl) rfl rfl (g_sum rfl) dJ5_fixAfterDeletion_172 (Nat.zero_le _) (Nat.zero_le _) (g_Kap fun o100 hv2 => ?_)
                  replace hvc := hv2; clear hv2
                  obtain ⟨⟨fs, hr⟩, hvc⟩ := hvc
                  refine j_callV (As := [va_rf o100]) (rest := []) (n := 1) (ci := 3) hC hvc (lw_V q1477 q1479 qs4 q47 q1480) (by decide +kernel) (g_rm hR rfl rfl) rfl hr rfl rfl (g_sum rfl) dJ5_fixAfterDeletion_175 (Nat.zero_le _) (Nat.zero_le _) (g_Kv fun st101 hv2 hx => ?_)
                  replace hvc := hv2 hx; clear hx hv2
                  clear hr fs
                  refine j_aload_n hC dJ5_fixAfterDeletion_178 rfl 0 rfl ?_
                  obtain ⟨o102, ⟨fs, hr, hv⟩, hvc⟩ := hvc
                  refine j_get hC fkJ5_101_J5 dJ5_fixAfterDeletion_179 hr hv ?_
                  clear hv hr fs
                  refine j_astore_n (lv0 := [(0, va_rf (some a0)), (2, va_rf o89)]) hC dJ5_fixAfterDeletion_182 rfl rfl [0, 2] rfl (g_okS.h rfl g_c1 rfl) ?_
                  exact j_sub [1, 0] rfl (kh84 o102 st101 hvc)
                refine j_icmp_ne (tgt := 143) hC dJ5_fixAfterDeletion_114 rfl (fun c103 => ?_) (fun c103 => ?_)
                · replace hvc := hvc.1 c103
                  exact j_sub [0, 1, 2] rfl (kh92 o75 st76 hvc)
                · replace hvc := hvc.2 c103
                  refine j_aload_n hC dJ5_fixAfterDeletion_117 rfl 2 rfl ?_
                  refine j_callS (As := [va_rf o75]) (rest := []) (n := 1) hC hvc (lw_S q1468 q1469 q47 q1470) (by decide +kernel) (g_rm hR rfl rfl) rfl rfl (g_sum rfl) dJ5_fixAfterDeletion_118 (Nat.zero_le _) (Nat.zero_le _) (g_Kap fun o104 hv2 => ?_)
                  replace hvc := hv2; clear hv2
                  refine j_iconst hC (nI 1) dJ5_fixAfterDeletion_121 rfl ?_
                  refine j_callS (As := [va_rf o104, .int (nI 1)]) (rest := []) (n := 2) hC hvc (lw_S q1474 q1475 q47 q1476) (by decide +kernel) (g_rm hR rfl rfl) rfl rfl (g_sum rfl) dJ5_fixAfterDeletion_122 (Nat.zero_le _) (Nat.zero_le _) (g_Kv fun st105 hv2 hx => ?_)
                  replace hvc := hv2 hx; clear hx hv2
                  refine j_aload_n hC dJ5_fixAfterDeletion_125 rfl 2 rfl ?_
                  refine j_iconst hC (nI 0) dJ5_fixAfterDeletion_126 rfl ?_
                  refine j_callS (As := [va_rf o75, .int (nI 0)]) (rest := []) (n := 2) hC hvc (lw_S q1474 q1475 q47 q1476) (by decide +kernel) (g_rm hR rfl rfl) rfl rfl (g_sum rfl) dJ5_fixAfterDeletion_127 (Nat.zero_le _) (Nat.zero_le _) (g_Kv fun st106 hv2 hx => ?_)
                  replace hvc := hv2 hx; clear hx hv2
                  refine j_aload_n hC dJ5_fixAfterDeletion_130 rfl 0 rfl ?_
                  refine j_aload_n hC dJ5_fixAfterDeletion_131 rfl 2 rfl ?_
                  obtain ⟨⟨fs, hr⟩, hvc⟩ := hvc
                  refine j_callV (As := [va_rf o75]) (rest := []) (n := 1) (ci := 3) hC hvc (lw_V q1481 q1483 qs5 q47 q1484) (by decide +kernel) (g_rm hR rfl rfl) rfl hr rfl rfl (g_sum rfl) dJ5_fixAfterDeletion_132 (Nat.zero_le _) (Nat.zero_le _) (g_Kv fun st107 hv2 hx => ?_)
                  replace hvc := hv2 hx; clear hx hv2
                  clear hr fs
                  refine j_aload_n hC dJ5_fixAfterDeletion_135 rfl 1 rfl ?_
                  refine j_callS (As := [va_rf o1]) (rest := []) (n := 1) hC hvc (lw_S q1465 q1466 q47 q1467) (by decide +kernel) (g_rm hR rfl rfl) rfl rfl (g_sum rfl) dJ5_fixAfterDeletion_136 (Nat.zero_le _) (Nat.zero_le _) (g_Kap fun o108 hv2 => ?_)
                  replace hvc := hv2; clear hv2
                  refine j_callS (As := [va_rf o108]) (rest := []) (n := 1) hC hvc (lw_S q1471 q1472 q47 q1473) (by decide +kernel) (g_rm hR rfl rfl) rfl rfl (g_sum rfl) dJ5_fixAfterDeletion_139 (Nat.zero_le _) (Nat.zero_le _) (g_Kap fun o109 hv2 => ?_)
                  replace hvc := hv2; clear hv2
                  refine j_astore_n (lv0 := [(1, va_rf o1), (0, va_rf (some a0))]) hC dJ5_fixAfterDeletion_142 rfl rfl [1, 0] rfl (g_okS.h rfl g_c1 rfl) ?_
                  exact j_sub [2, 1, 0] rfl (kh92 o109 st107 hvc)
              refine j_icmp_ne (tgt := 106) hC dJ5_fixAfterDeletion_79 rfl (fun c111 => ?_) (fun c111 => ?_)
              · replace hvc := hvc.1 c111
                exact j_sub [0, 1, 2] rfl (kh86 hvc)
              · replace hvc := hvc.2 c111
                refine j_aload_n hC dJ5_fixAfterDeletion_82 rfl 2 rfl ?_
                refine j_callS (As := [va_rf o75]) (rest := []) (n := 1) hC hvc (lw_S q1471 q1472 q47 q1473) (by decide +kernel) (g_rm hR rfl rfl) rfl rfl (g_sum rfl) dJ5_fixAfterDeletion_83 (Nat.zero_le _) (Nat.zero_le _) (g_Kap fun o112 hv2 => ?_)
                replace hvc := hv2; clear hv2
                refine j_callS (As := [va_rf o112]) (rest := []) (n := 1) hC hvc (lw_S q1462 q1463 q47 q1464) (by decide +kernel) (g_rm hR rfl rfl) rfl rfl (g_sum rfl) dJ5_fixAfterDeletion_86 (Nat.zero_le _) (Nat.zero_le _) (g_Kip fun x113 hv2 => ?_)
                replace hvc := hv2; clear hv2
                refine j_iconst hC (nI 1) dJ5_fixAfterDeletion_89 rfl ?_
                refine j_icmp_ne (tgt := 106) hC dJ5_fixAfterDeletion_90 rfl (fun c114 => ?_) (fun c114 => ?_)
                · replace hvc := hvc.1 c114
                  exact j_sub [0, 1, 2] rfl (kh86 hvc)
                · replace hvc := hvc.2 c114
                  refine j_aload_n hC dJ5_fixAfterDeletion_93 rfl 2 rfl ?_
                  refine j_iconst hC (nI 0) dJ5_fixAfterDeletion_94 rfl ?_
                  refine j_callS (As := [va_rf o75, .int (nI 0)]) (rest := []) (n := 2) hC hvc (lw_S q1474 q1475 q47 q1476) (by decide +kernel) (g_rm hR rfl rfl) rfl rfl (g_sum rfl) dJ5_fixAfterDeletion_95 (Nat.zero_le _) (Nat.zero_le _) (g_Kv fun st115 hv2 hx => ?_)
                  replace hvc := hv2 hx; clear hx hv2
                  refine j_aload_n hC dJ5_fixAfterDeletion_98 rfl 1 rfl ?_
                  refine j_callS (As := [va_rf o1]) (rest := []) (n := 1) hC hvc (lw_S q1465 q1466 q47 q1467) (by decide +kernel) (g_rm hR rfl rfl) rfl rfl (g_sum rfl) dJ5_fixAfterDeletion_99 (Nat.zero_le _) (Nat.zero_le _) (g_Kap fun o116 hv2 => ?_)
                  replace hvc := hv2; clear hv2
                  refine j_astore_n (lv0 := [(0, va_rf (some a0)), (2, va_rf o75)]) hC dJ5_fixAfterDeletion_102 rfl rfl [0, 2] rfl (g_okS.h rfl g_c1 rfl) ?_
                  refine j_goto (tgt := 183) hC dJ5_fixAfterDeletion_103 rfl ?_
                  exact j_sub [1, 0] rfl (kh84 o116 st115 hvc)
            refine j_if_ne (tgt := 71) hC dJ5_fixAfterDeletion_39 rfl (fun c119 => ?_) (fun c119 => ?_)
            · replace hvc := hvc.1 c119
              exact j_sub [2, 1, 0] rfl (kh78 o73 st2 hvc)
            · replace hvc := hvc.2 c119
              refine j_aload_n hC dJ5_fixAfterDeletion_42 rfl 0 rfl ?_
              refine j_iconst hC (nI 1) dJ5_fixAfterDeletion_43 rfl ?_
              refine j_callS (As := [va_rf o73, .int (nI 1)]) (rest := []) (n := 2) hC hvc (lw_S q1474 q1475 q47 q1476) (by decide +kernel) (g_rm hR rfl rfl) rfl rfl (g_sum rfl) dJ5_fixAfterDeletion_44 (Nat.zero_le _) (Nat.zero_le _) (g_Kv fun st120 hv2 hx => ?_)
              replace hvc := hv2 hx; clear hx hv2
              refine j_aload_n hC dJ5_fixAfterDeletion_47 rfl 1 rfl ?_
              refine j_callS (As := [va_rf o1]) (rest := []) (n := 1) hC hvc (lw_S q1465 q1466 q47 q1467) (by decide +kernel) (g_rm hR rfl rfl) rfl rfl (g_sum rfl) dJ5_fixAfterDeletion_48 (Nat.zero_le _) (Nat.zero_le _) (g_Kap fun o121 hv2 => ?_)
              replace hvc := hv2; clear hv2
              refine j_iconst hC (nI 0) dJ5_fixAfterDeletion_51 rfl ?_
              refine j_callS (As := [va_rf o121, .int (nI 0)]) (rest := []) (n := 2) hC hvc (lw_S q1474 q1475 q47 q1476) (by decide +kernel) (g_rm hR rfl rfl) rfl rfl (g_sum rfl) dJ5_fixAfterDeletion_52 (Nat.zero_le _) (Nat.zero_le _) (g_Kv fun st122 hv2 hx => ?_)
              replace hvc := hv2 hx; clear hx hv2
              refine j_aload_n hC dJ5_fixAfterDeletion_55 rfl 2 rfl ?_
              refine j_aload_n hC dJ5_fixAfterDeletion_56 rfl 1 rfl ?_
              refine j_callS (As := [va_rf o1]) (rest := [va_rf (some a0)]) (n := 1) hC hvc (lw_S q1465 q1466 q47 q1467) (by decide +kernel) (g_rm hR rfl rfl) rfl rfl (g_sum rfl) dJ5_fixAfterDeletion_57 (Nat.zero_le _) (Nat.zero_le _) (g_Kap fun o123 hv2 => ?_)
              replace hvc := hv2; clear hv2
              obtain ⟨⟨fs, hr⟩, hvc⟩ := hvc
              refine j_callV (As := [va_rf o123]) (rest := []) (n := 1) (ci := 3) hC hvc (lw_V q1477 q1479 qs4 q47 q1480) (by decide +kernel) (g_rm hR rfl rfl) rfl hr rfl rfl (g_sum rfl) dJ5_fixAfterDeletion_60 (Nat.zero_le _) (Nat.zero_le _) (g_Kv fun st124 hv2 hx => ?_)
              replace hvc := hv2 hx; clear hx hv2
              clear hr fs
              refine j_aload_n hC dJ5_fixAfterDeletion_63 rfl 1 rfl ?_
              refine j_callS (As := [va_rf o1]) (rest := []) (n := 1) hC hvc (lw_S q1465 q1466 q47 q1467) (by decide +kernel) (g_rm hR rfl rfl) rfl rfl (g_sum rfl) dJ5_fixAfterDeletion_64 (Nat.zero_le _) (Nat.zero_le _) (g_Kap fun o125 hv2 => ?_)
              replace hvc := hv2; clear hv2
              refine j_callS (As := [va_rf o125]) (rest := []) (n := 1) hC hvc (lw_S q1471 q1472 q47 q1473) (by decide +kernel) (g_rm hR rfl rfl) rfl rfl (g_sum rfl) dJ5_fixAfterDeletion_67 (Nat.zero_le _) (Nat.zero_le _) (g_Kap fun o126 hv2 => ?_)
              replace hvc := hv2; clear hv2
              refine j_astore_n (lv0 := [(1, va_rf o1), (0, va_rf (some a0))]) hC dJ5_fixAfterDeletion_70 rfl rfl [1, 2] rfl (g_okS.h rfl g_c1 rfl) ?_
              exact j_sub [2, 1, 0] rfl (kh78 o126 st124 hvc)
  exact j_sub [0, 1] rfl (kh4 n131 p0 st hvc)
theorem wk_J5_fixAfterDeletion {l : Launch} {E : g_E} {a0 : Nat} {p0 : Option Nat} {st : g_St} {mc ms : Nat} {Q : g_St → Prop} (hvc : vc_J5_fixAfterDeletion l E a0 p0 st Q) : wp_J5_fixAfterDeletion l E mc ms [va_rf (some a0), va_rf p0] st Q :=
  g_enter (lv0 := [(0, va_rf (some a0)), (1, va_rf p0)]) (plainFor_of_name (by decide +kernel)) (by simp [lv_args, g_c1, g_ci, g_cL]) (by simp [lg_sl, g_c1, g_ci, g_cL]) (fun p e s m args below meth c hC => wb_J5_fixAfterDeletion hC ⟨Nat.le_refl _, Nat.le_refl _⟩ (fun pc lv st1 cb sb hd hq => j_return hC rfl hd ⟨rfl, hq⟩) hvc)
abbrev wp_J5_deleteEntry (l : Launch) (E : g_E) (mc ms : Nat) (av : List Value) (st : g_St) (Q : g_St → Prop) : Prop := g_WPv l E yJ5_deleteEntry cJ5_deleteEntry 3 none 3 84 mc ms av st Q
def vc_J5_deleteEntry (l : Launch) (E : g_E) (a0 : Nat) (p0 : Option Nat) (st : g_St) (Q : g_St → Prop) : Prop :=
  ∃ x1 : Int32, g_gi st a0 3 5 x1 ∧ ∃ fs2 : List Value, st.2.1 a0 = some (.inr (3, fs2)) ∧ ∀ st3 : g_St, st3 = g_put st a0 (.inr (3, fs2.set 5 (.int (x1 + (nI 1))))) → ∃ x4 : Int32, g_gi st3 a0 3 4 x4 ∧ ∃ fs5 : List Value, st3.2.1 a0 = some (.inr (3, fs5)) ∧ ∀ st6 : g_St, st6 = g_put st3 a0 (.inr (3, fs5.set 4 (.int (x4 - (nI 1))))) → ∃ a7 : Nat, p0 = some a7 ∧ ∃ o8 : Option Nat, g_gr st6 a7 4 2 o8 ∧ g_jn2 (fun (K11 : (Option Nat) → g_St → Prop) => (o8 = none → K11 (some a7) st6) ∧ (∀ a100 : Nat, o8 = some a100 → ∃ o101 : Option Nat, g_gr st6 a7 4 3 o101 ∧ (o101 = none → K11 (some a7) st6) ∧ (∀ a103 : Nat, o101 = some a103 → wp_J5_successor l E 0 0 [va_rf (some a7)] st6 (fun o104 stx => stx = st6 ∧ ∃ a105 : Nat, o104 = some a105 ∧ ∃ o106 : Option Nat, g_gr st6 a105 4 0 o106 ∧ ∃ fs107 : List Value, st6.2.1 a7 = some (.inr (4, fs107)) ∧ ∀ st108 : g_St, st108 = g_put st6 a7 (.inr (4, fs107.set 0 (va_rf o106))) → ∃ o109 : Option Nat, g_gr st108 a105 4 1 o109 ∧ ∃ fs110 : List Value, st108.2.1 a7 = some (.inr (4, fs110)) ∧ ∀ st111 : g_St, st111 = g_put st108 a7 (.inr (4, fs110.set 1 (va_rf o109))) → K11 (some a105) st111)))) (fun (o9 : Option Nat) (st10 : g_St) => ∃ a13 : Nat, o9 = some a13 ∧ ∃ o14 : Option Nat, g_gr st10 a13 4 2 o14 ∧ g_jn1 (fun (K16 : (Option Nat) → Prop) => (o14 = none → ∃ o96 : Option Nat, g_gr st10 a13 4 3 o96 ∧ K16 o96) ∧ (∀ a95 : Nat, o14 = some a95 → ∃ o97 : Option Nat, g_gr st10 a13 4 2 o97 ∧ K16 o97)) (fun (o15 : Option Nat) => g_jn1 (fun (K19 : g_St → Prop) => (o15 = none → ∃ o23 : Option Nat, g_gr st10 a13 4 4 o23 ∧ (o23 = none → ∃ fs26 : List Value, st10.2.1 a0 = some (.inr (3, fs26)) ∧ ∀ st27 : g_St, st27 = g_put st10 a0 (.inr (3, fs26.set 3 (va_rf none))) → K19 st27) ∧ (∀ a25 : Nat, o23 = some a25 → ∃ x28 : Int32, g_gi st10 a13 4 5 x28 ∧ g_jn1 (fun (K30 : g_St → Prop) => (¬ x28 = (nI 1) → K30 st10) ∧ (x28 = (nI 1) → g_is st10 a0 3 ∧ wp_J5_fixAfterDeletion l E 0 0 [va_rf (some a0), va_rf (some a13)] st10 (fun st58 => g_Ext st10 st58 → K30 st58))) (fun (st29 : g_St) => ∃ o32 : Option Nat, g_gr st29 a13 4 4 o32 ∧ (o32 = none → K19 st29) ∧ (∀ a34 : Nat, o32 = some a34 → ∃ o35 : Option Nat, g_gr st29 a13 4 4 o35 ∧ ∃ a36 : Nat, o35 = some a36 ∧ ∃ o37 : Option Nat, g_gr st29 a36 4 2 o37 ∧ g_jn1 (fun (K39 : g_St → Prop) => (¬ (some a13) = o37 → ∃ o44 : Option Nat, g_gr st29 a13 4 4 o44 ∧ ∃ a45 : Nat, o44 = some a45 ∧ ∃ o46 : Option Nat, g_gr st29 a45 4 3 o46 ∧ (¬ (some a13) = o46 → K39 st29) ∧ ((some a13) = o46 → ∃ o48 : Option Nat, g_gr st29 a13 4 4 o48 ∧ ∃ a49 : Nat, o48 = some a49 ∧ ∃ fs50 : List Value, st29.2.1 a49 = some (.inr (4, fs50)) ∧ ∀ st51 : g_St, st51 = g_put st29 a49 (.inr (4, fs50.set 3 (va_rf none))) → K39 st51)) ∧ ((some a13) = o37 → ∃ o52 : Option Nat, g_gr st29 a13 4 4 o52 ∧ ∃ a53 : Nat, o52 = some a53 ∧ ∃ fs54 : List Value, st29.2.1 a53 = some (.inr (4, fs54)) ∧ ∀ st55 : g_St, st55 = g_put st29 a53 (.inr (4, fs54.set 2 (va_rf none))) → K39 st55)) (fun (st38 : g_St) => ∃ fs41 : List Value, st38.2.1 a13 = some (.inr (4, fs41)) ∧ ∀ st42 : g_St, st42 = g_put st38 a13 (.inr (4, fs41.set 4 (va_rf none))) → K19 st42))))) ∧ (∀ a22 : Nat, o15 = some a22 → ∃ o60 : Option Nat, g_gr st10 a13 4 4 o60 ∧ ∃ fs61 : List Value, st10.2.1 a22 = some (.inr (4, fs61)) ∧ ∀ st62 : g_St, st62 = g_put st10 a22 (.inr (4, fs61.set 4 (va_rf o60))) → ∃ o63 : Option Nat, g_gr st62 a13 4 4 o63 ∧ g_jn1 (fun (K65 : g_St → Prop) => (o63 = none → ∃ fs78 : List Value, st62.2.1 a0 = some (.inr (3, fs78)) ∧ ∀ st79 : g_St, st79 = g_put st62 a0 (.inr (3, fs78.set 3 (va_rf (some a22)))) → K65 st79) ∧ (∀ a77 : Nat, o63 = some a77 → ∃ o80 : Option Nat, g_gr st62 a13 4 4 o80 ∧ ∃ a81 : Nat, o80 = some a81 ∧ ∃ o82 : Option Nat, g_gr st62 a81 4 2 o82 ∧ (¬ (some a13) = o82 → ∃ o84 : Option Nat, g_gr st62 a13 4 4 o84 ∧ ∃ a85 : Nat, o84 = some a85 ∧ ∃ fs86 : List Value, st62.2.1 a85 = some (.inr (4, fs86)) ∧ ∀ st87 : g_St, st87 = g_put st62 a85 (.inr (4, fs86.set 3 (va_rf (some a22)))) → K65 st87) ∧ ((some a13) = o82 → ∃ o88 : Option Nat, g_gr st62 a13 4 4 o88 ∧ ∃ a89 : Nat, o88 = some a89 ∧ ∃ fs90 : List Value, st62.2.1 a89 = some (.inr (4, fs90)) ∧ ∀ st91 : g_St, st91 = g_put st62 a89 (.inr (4, fs90.set 2 (va_rf (some a22)))) → K65 st91))) (fun (st64 : g_St) => ∃ fs67 : List Value, st64.2.1 a13 = some (.inr (4, fs67)) ∧ ∀ st68 : g_St, st68 = g_put st64 a13 (.inr (4, fs67.set 4 (va_rf none))) → ∃ fs69 : List Value, st68.2.1 a13 = some (.inr (4, fs69)) ∧ ∀ st70 : g_St, st70 = g_put st68 a13 (.inr (4, fs69.set 3 (va_rf none))) → ∃ fs71 : List Value, st70.2.1 a13 = some (.inr (4, fs71)) ∧ ∀ st72 : g_St, st72 = g_put st70 a13 (.inr (4, fs71.set 2 (va_rf none))) → ∃ x73 : Int32, g_gi st72 a13 4 5 x73 ∧ (¬ x73 = (nI 1) → K19 st72) ∧ (x73 = (nI 1) → g_is st72 a0 3 ∧ wp_J5_fixAfterDeletion l E 0 0 [va_rf (some a0), va_rf (some a22)] st72 (fun st75 => g_Ext st72 st75 → K19 st75))))) (fun (st18 : g_St) => Q st18)))
set_option maxHeartbeats 4000000 in
theorem wb_J5_deleteEntry {p : Program} {l : Launch} {e : Env} {R : Room} {s : State} {m : MethodId} {args : Array Value} {below : List Frame} {meth : Method} {c : Code} {E : g_E} {st0 : g_St} {Z : State → Prop} (hC : g_Cx p s m args meth c cJ5_deleteEntry 3 "java/util/TreeMap" none "deleteEntry" E st0) (hR : g_Rm 3 84 R) {a0 : Nat} {p0 : Option Nat} {st : g_St} {cb sb : Nat} {Q : g_St → Prop} (hret : ∀ (pc : Nat) (lv : List (Nat × Value)) (st1 : g_St) (cb sb : Nat), decode cJ5_deleteEntry pc = .ok (.return_, 1) → Q st1 → g_J p l e R s m args below meth c 3 E st0 Z pc lv [] st1 cb sb) (hvc : vc_J5_deleteEntry l E a0 p0 st Q) : g_J p l e R s m args below meth c 3 E st0 Z 0 [(0, va_rf (some a0)), (1, va_rf p0)] [] st cb sb := by
  unfold vc_J5_deleteEntry at hvc
  refine j_aload_n hC dJ5_deleteEntry_0 rfl 0 rfl ?_
  refine j_dup hC dJ5_deleteEntry_1 g_c1 ?_
  obtain ⟨x1, ⟨fs, hr, hv⟩, hvc⟩ := hvc
  refine j_get hC fkJ5_13_J5 dJ5_deleteEntry_2 hr hv ?_
  clear hv hr fs
  refine j_iconst hC (nI 1) dJ5_deleteEntry_5 rfl ?_
  refine j_iadd hC dJ5_deleteEntry_6 ?_
  obtain ⟨fs2, hm, hvc⟩ := hvc
  refine j_put hC fkJ5_13_J5 dJ5_deleteEntry_7 hm rfl rfl (fun st3 e1 => ?_)
  replace hvc := hvc st3 e1; clear hm e1
  refine j_aload_n hC dJ5_deleteEntry_10 rfl 0 rfl ?_
  refine j_dup hC dJ5_deleteEntry_11 g_c1 ?_
  obtain ⟨x4, ⟨fs, hr, hv⟩, hvc⟩ := hvc
  refine j_get hC fkJ5_7_J5 dJ5_deleteEntry_12 hr hv ?_
  clear hv hr fs
  refine j_iconst hC (nI 1) dJ5_deleteEntry_15 rfl ?_
  refine j_isub hC dJ5_deleteEntry_16 ?_
  obtain ⟨fs5, hm, hvc⟩ := hvc
  refine j_put hC fkJ5_7_J5 dJ5_deleteEntry_17 hm rfl rfl (fun st6 e1 => ?_)
  replace hvc := hvc st6 e1; clear hm e1
  refine j_aload_n hC dJ5_deleteEntry_20 rfl 1 rfl ?_
  obtain ⟨a7, rfl, hvc⟩ := hvc
  obtain ⟨o8, ⟨fs, hr, hv⟩, hvc⟩ := hvc
  refine j_get hC fkJ5_111_J27 dJ5_deleteEntry_21 hr hv ?_
  clear hv hr fs
  replace hvc := g_jn2_o hvc
  obtain ⟨K11, hK112, hvc⟩ := hvc
  have kh12 : ∀ (o9 : Option Nat) (st10 : g_St), K11 o9 st10 → g_J p l e R s m args below meth c 3 E st0 Z 57 [(0, va_rf (some a0)), (1, va_rf o9)] [] st10 cb sb := by
    clear hvc
    intro o9 st10 hvc
    replace hvc := hK112 _ _ hvc
    refine j_aload_n hC dJ5_deleteEntry_57 rfl 1 rfl ?_
    obtain ⟨a13, rfl, hvc⟩ := hvc
    obtain ⟨o14, ⟨fs, hr, hv⟩, hvc⟩ := hvc
    refine j_get hC fkJ5_111_J27 dJ5_deleteEntry_58 hr hv ?_
    clear hv hr fs
    replace hvc := g_jn1_o hvc
    obtain ⟨K16, hK98, hvc⟩ := hvc
    have kh17 : ∀ (o15 : Option Nat), K16 o15 → g_J p l e R s m args below meth c 3 E st0 Z 75 [(0, va_rf (some a0)), (1, va_rf (some a13))] [va_rf o15] st10 cb sb := by
      clear hvc
      intro o15 hvc
      replace hvc := hK98 _ hvc
      refine j_astore_n (lv0 := [(1, va_rf (some a13)), (0, va_rf (some a0))]) hC dJ5_deleteEntry_75 rfl rfl [1, 0] rfl (g_okS.h rfl g_c1 rfl) ?_
      refine j_aload_n hC dJ5_deleteEntry_76 rfl 0 rfl ?_
      replace hvc := g_jn1_o hvc
      obtain ⟨K19, hK93, hvc⟩ := hvc
      have kh20 : ∀ (st18 : g_St), K19 st18 → g_J p l e R s m args below meth c 3 E st0 Z 245 [] [] st18 cb sb := by
        clear hvc
        intro st18 hvc
        replace hvc := hK93 _ hvc
        exact hret _ _ _ _ _ dJ5_deleteEntry_245 hvc
      refine j_ifnull (tgt := 164) hC dJ5_deleteEntry_77 rfl (fun c21 => ?_) (fun a22 c21 => ?_)
      · subst c21; replace hvc := hvc.1 rfl
        refine j_aload_n hC dJ5_deleteEntry_164 rfl 1 rfl ?_
        obtain ⟨o23, ⟨fs, hr, hv⟩, hvc⟩ := hvc
        refine j_get hC fkJ5_124_J27 dJ5_deleteEntry_165 hr hv ?_
        clear hv hr fs
        refine j_ifnonnull (tgt := 179) hC dJ5_deleteEntry_168 rfl (fun a25 c24 => ?_) (fun c24 => ?_)
        · subst c24; replace hvc := hvc.2 a25 rfl
          refine j_aload_n hC dJ5_deleteEntry_179 rfl 1 rfl ?_
          obtain ⟨x28, ⟨fs, hr, hv⟩, hvc⟩ := hvc
          refine j_get hC fkJ5_290_J27 dJ5_deleteEntry_180 hr hv ?_
          clear hv hr fs
          refine j_iconst hC (nI 1) dJ5_deleteEntry_183 rfl ?_
          replace hvc := g_jn1_o hvc
          obtain ⟨K30, hK59, hvc⟩ := hvc
          have kh31 : ∀ (st29 : g_St), K30 st29 → g_J p l e R s m args below meth c 3 E st0 Z 192 [(1, va_rf (some a13))] [] st29 cb sb := by
            clear hvc
            intro st29 hvc
            replace hvc := hK59 _ hvc
            refine j_aload_n hC dJ5_deleteEntry_192 rfl 0 rfl ?_
            obtain ⟨o32, ⟨fs, hr, hv⟩, hvc⟩ := hvc
            refine j_get hC fkJ5_124_J27 dJ5_deleteEntry_193 hr hv ?_
            clear hv hr fs
            refine j_ifnull (tgt := 245) hC dJ5_deleteEntry_196 rfl (fun c33 => ?_) (fun a34 c33 => ?_)
            · subst c33; replace hvc := hvc.1 rfl
              exact j_sub [] rfl (kh20 st29 hvc)
            · subst c33; replace hvc := hvc.2 a34 rfl
              refine j_aload_n hC dJ5_deleteEntry_199 rfl 0 rfl ?_
              refine j_aload_n hC dJ5_deleteEntry_200 rfl 0 rfl ?_
              obtain ⟨o35, ⟨fs, hr, hv⟩, hvc⟩ := hvc
              refine j_get hC fkJ5_124_J27 dJ5_deleteEntry_201 hr hv ?_
              clear hv hr fs
              obtain ⟨a36, rfl, hvc⟩ := hvc
              obtain ⟨o37, ⟨fs, hr, hv⟩, hvc⟩ := hvc
              refine j_get hC fkJ5_111_J27 dJ5_deleteEntry_204 hr hv ?_
              clear hv hr fs
              replace hvc := g_jn1_o hvc
              obtain ⟨K39, hK56, hvc⟩ := hvc
              have kh40 : ∀ (st38 : g_St), K39 st38 → g_J p l e R s m args below meth c 3 E st0 Z 240 [(1, va_rf (some a13))] [] st38 cb sb := by
                clear hvc
                intro st38 hvc
                replace hvc := hK56 _ hvc
                refine j_aload_n hC dJ5_deleteEntry_240 rfl 0 rfl ?_
                refine j_null hC dJ5_deleteEntry_241 ?_
                obtain ⟨fs41, hm, hvc⟩ := hvc
                refine j_put hC fkJ5_124_J27 dJ5_deleteEntry_242 hm g_no g_fo (fun st42 e1 => ?_)
                replace hvc := hvc st42 e1; clear hm e1
                exact j_sub [] rfl (kh20 st42 hvc)
              refine j_acmp_ne (tgt := 221) hC dJ5_deleteEntry_207 rfl (fun c43 => ?_) (fun c43 => ?_)
              · replace hvc := hvc.1 c43
                refine j_aload_n hC dJ5_deleteEntry_221 rfl 0 rfl ?_
                refine j_aload_n hC dJ5_deleteEntry_222 rfl 0 rfl ?_
                obtain ⟨o44, ⟨fs, hr, hv⟩, hvc⟩ := hvc
                refine j_get hC fkJ5_124_J27 dJ5_deleteEntry_223 hr hv ?_
                clear hv hr fs
                obtain ⟨a45, rfl, hvc⟩ := hvc
                obtain ⟨o46, ⟨fs, hr, hv⟩, hvc⟩ := hvc
                refine j_get hC fkJ5_114_J27 dJ5_deleteEntry_226 hr hv ?_
                clear hv hr fs
                refine j_acmp_ne (tgt := 240) hC dJ5_deleteEntry_229 rfl (fun c47 => ?_) (fun c47 => ?_)
                · replace hvc := hvc.1 c47
                  exact j_sub [0] rfl (kh40 st29 hvc)
                · replace hvc := hvc.2 c47
                  refine j_aload_n hC dJ5_deleteEntry_232 rfl 0 rfl ?_
                  obtain ⟨o48, ⟨fs, hr, hv⟩, hvc⟩ := hvc
                  refine j_get hC fkJ5_124_J27 dJ5_deleteEntry_233 hr hv ?_
                  clear hv hr fs
                  refine j_null hC dJ5_deleteEntry_236 ?_
                  obtain ⟨a49, rfl, hvc⟩ := hvc
                  obtain ⟨fs50, hm, hvc⟩ := hvc
                  refine j_put hC fkJ5_114_J27 dJ5_deleteEntry_237 hm g_no g_fo (fun st51 e1 => ?_)
                  replace hvc := hvc st51 e1; clear hm e1
                  exact j_sub [0] rfl (kh40 st51 hvc)
              · replace hvc := hvc.2 c43
                refine j_aload_n hC dJ5_deleteEntry_210 rfl 0 rfl ?_
                obtain ⟨o52, ⟨fs, hr, hv⟩, hvc⟩ := hvc
                refine j_get hC fkJ5_124_J27 dJ5_deleteEntry_211 hr hv ?_
                clear hv hr fs
                refine j_null hC dJ5_deleteEntry_214 ?_
                obtain ⟨a53, rfl, hvc⟩ := hvc
                obtain ⟨fs54, hm, hvc⟩ := hvc
                refine j_put hC fkJ5_111_J27 dJ5_deleteEntry_215 hm g_no g_fo (fun st55 e1 => ?_)
                replace hvc := hvc st55 e1; clear hm e1
                refine j_goto (tgt := 240) hC dJ5_deleteEntry_218 rfl ?_
                exact j_sub [0] rfl (kh40 st55 hvc)
          refine j_icmp_ne (tgt := 192) hC dJ5_deleteEntry_184 rfl (fun c57 => ?_) (fun c57 => ?_)
          · replace hvc := hvc.1 c57
            exact j_sub [1] rfl (kh31 st10 hvc)
          · replace hvc := hvc.2 c57
            refine j_aload_n hC dJ5_deleteEntry_187 rfl 2 rfl ?_
            refine j_aload_n hC dJ5_deleteEntry_188 rfl 1 rfl ?_
            obtain ⟨⟨fs, hr⟩, hvc⟩ := hvc
            refine j_callV (As := [va_rf (some a13)]) (rest := []) (n := 1) (ci := 3) hC hvc (lw_V q1458 q1460 qs3 q47 q1461) (by decide +kernel) (g_rm hR rfl rfl) rfl hr rfl rfl (g_sum rfl) dJ5_deleteEntry_189 (Nat.zero_le _) (Nat.zero_le _) (g_Kv fun st58 hv2 hx => ?_)
            replace hvc := hv2 hx; clear hx hv2
            clear hr fs
            exact j_sub [1] rfl (kh31 st58 hvc)
        · subst c24; replace hvc := hvc.1 rfl
          refine j_aload_n hC dJ5_deleteEntry_171 rfl 2 rfl ?_
          refine j_null hC dJ5_deleteEntry_172 ?_
          obtain ⟨fs26, hm, hvc⟩ := hvc
          refine j_put hC fkJ5_101_J5 dJ5_deleteEntry_173 hm g_no g_fo (fun st27 e1 => ?_)
          replace hvc := hvc st27 e1; clear hm e1
          refine j_goto (tgt := 245) hC dJ5_deleteEntry_176 rfl ?_
          exact j_sub [] rfl (kh20 st27 hvc)
      · subst c21; replace hvc := hvc.2 a22 rfl
        refine j_aload_n hC dJ5_deleteEntry_80 rfl 0 rfl ?_
        refine j_aload_n hC dJ5_deleteEntry_81 rfl 1 rfl ?_
        obtain ⟨o60, ⟨fs, hr, hv⟩, hvc⟩ := hvc
        refine j_get hC fkJ5_124_J27 dJ5_deleteEntry_82 hr hv ?_
        clear hv hr fs
        obtain ⟨fs61, hm, hvc⟩ := hvc
        refine j_put hC fkJ5_124_J27 dJ5_deleteEntry_85 hm g_no g_fo (fun st62 e1 => ?_)
        replace hvc := hvc st62 e1; clear hm e1
        refine j_aload_n hC dJ5_deleteEntry_88 rfl 1 rfl ?_
        obtain ⟨o63, ⟨fs, hr, hv⟩, hvc⟩ := hvc
        refine j_get hC fkJ5_124_J27 dJ5_deleteEntry_89 hr hv ?_
        clear hv hr fs
        replace hvc := g_jn1_o hvc
        obtain ⟨K65, hK92, hvc⟩ := hvc
        have kh66 : ∀ (st64 : g_St), K65 st64 → g_J p l e R s m args below meth c 3 E st0 Z 133 [(0, va_rf (some a0)), (1, va_rf (some a13)), (2, va_rf (some a22))] [] st64 cb sb := by
          clear hvc
          intro st64 hvc
          replace hvc := hK92 _ hvc
          refine j_aload_n hC dJ5_deleteEntry_133 rfl 1 rfl ?_
          refine j_aload_n hC dJ5_deleteEntry_134 rfl 1 rfl ?_
          refine j_aload_n hC dJ5_deleteEntry_135 rfl 1 rfl ?_
          refine j_null hC dJ5_deleteEntry_136 ?_
          refine j_dup_x1 hC dJ5_deleteEntry_137 g_c1 g_c1 ?_
          obtain ⟨fs67, hm, hvc⟩ := hvc
          refine j_put hC fkJ5_124_J27 dJ5_deleteEntry_138 hm g_no g_fo (fun st68 e1 => ?_)
          replace hvc := hvc st68 e1; clear hm e1
          refine j_dup_x1 hC dJ5_deleteEntry_141 g_c1 g_c1 ?_
          obtain ⟨fs69, hm, hvc⟩ := hvc
          refine j_put hC fkJ5_114_J27 dJ5_deleteEntry_142 hm g_no g_fo (fun st70 e1 => ?_)
          replace hvc := hvc st70 e1; clear hm e1
          obtain ⟨fs71, hm, hvc⟩ := hvc
          refine j_put hC fkJ5_111_J27 dJ5_deleteEntry_145 hm g_no g_fo (fun st72 e1 => ?_)
          replace hvc := hvc st72 e1; clear hm e1
          refine j_aload_n hC dJ5_deleteEntry_148 rfl 1 rfl ?_
          obtain ⟨x73, ⟨fs, hr, hv⟩, hvc⟩ := hvc
          refine j_get hC fkJ5_290_J27 dJ5_deleteEntry_149 hr hv ?_
          clear hv hr fs
          refine j_iconst hC (nI 1) dJ5_deleteEntry_152 rfl ?_
          refine j_icmp_ne (tgt := 245) hC dJ5_deleteEntry_153 rfl (fun c74 => ?_) (fun c74 => ?_)
          · replace hvc := hvc.1 c74
            exact j_sub [] rfl (kh20 st72 hvc)
          · replace hvc := hvc.2 c74
            refine j_aload_n hC dJ5_deleteEntry_156 rfl 0 rfl ?_
            refine j_aload_n hC dJ5_deleteEntry_157 rfl 2 rfl ?_
            obtain ⟨⟨fs, hr⟩, hvc⟩ := hvc
            refine j_callV (As := [va_rf (some a22)]) (rest := []) (n := 1) (ci := 3) hC hvc (lw_V q1458 q1460 qs3 q47 q1461) (by decide +kernel) (g_rm hR rfl rfl) rfl hr rfl rfl (g_sum rfl) dJ5_deleteEntry_158 (Nat.zero_le _) (Nat.zero_le _) (g_Kv fun st75 hv2 hx => ?_)
            replace hvc := hv2 hx; clear hx hv2
            clear hr fs
            refine j_goto (tgt := 245) hC dJ5_deleteEntry_161 rfl ?_
            exact j_sub [] rfl (kh20 st75 hvc)
        refine j_ifnonnull (tgt := 103) hC dJ5_deleteEntry_92 rfl (fun a77 c76 => ?_) (fun c76 => ?_)
        · subst c76; replace hvc := hvc.2 a77 rfl
          refine j_aload_n hC dJ5_deleteEntry_103 rfl 1 rfl ?_
          refine j_aload_n hC dJ5_deleteEntry_104 rfl 1 rfl ?_
          obtain ⟨o80, ⟨fs, hr, hv⟩, hvc⟩ := hvc
          refine j_get hC fkJ5_124_J27 dJ5_deleteEntry_105 hr hv ?_
          clear hv hr fs
          obtain ⟨a81, rfl, hvc⟩ := hvc
          obtain ⟨o82, ⟨fs, hr, hv⟩, hvc⟩ := hvc
          refine j_get hC fkJ5_111_J27 dJ5_deleteEntry_108 hr hv ?_
          clear hv hr fs
          refine j_acmp_ne (tgt := 125) hC dJ5_deleteEntry_111 rfl (fun c83 => ?_) (fun c83 => ?_)
          · replace hvc := hvc.1 c83
            refine j_aload_n hC dJ5_deleteEntry_125 rfl 1 rfl ?_
            obtain ⟨o84, ⟨fs, hr, hv⟩, hvc⟩ := hvc
            refine j_get hC fkJ5_124_J27 dJ5_deleteEntry_126 hr hv ?_
            clear hv hr fs
            refine j_aload_n hC dJ5_deleteEntry_129 rfl 0 rfl ?_
            obtain ⟨a85, rfl, hvc⟩ := hvc
            obtain ⟨fs86, hm, hvc⟩ := hvc
            refine j_put hC fkJ5_114_J27 dJ5_deleteEntry_130 hm g_no g_fo (fun st87 e1 => ?_)
            replace hvc := hvc st87 e1; clear hm e1
            exact j_sub [2, 1, 0] rfl (kh66 st87 hvc)
          · replace hvc := hvc.2 c83
            refine j_aload_n hC dJ5_deleteEntry_114 rfl 1 rfl ?_
            obtain ⟨o88, ⟨fs, hr, hv⟩, hvc⟩ := hvc
            refine j_get hC fkJ5_124_J27 dJ5_deleteEntry_115 hr hv ?_
            clear hv hr fs
            refine j_aload_n hC dJ5_deleteEntry_118 rfl 0 rfl ?_
            obtain ⟨a89, rfl, hvc⟩ := hvc
            obtain ⟨fs90, hm, hvc⟩ := hvc
            refine j_put hC fkJ5_111_J27 dJ5_deleteEntry_119 hm g_no g_fo (fun st91 e1 => ?_)
            replace hvc := hvc st91 e1; clear hm e1
            refine j_goto (tgt := 133) hC dJ5_deleteEntry_122 rfl ?_
            exact j_sub [2, 1, 0] rfl (kh66 st91 hvc)
        · subst c76; replace hvc := hvc.1 rfl
          refine j_aload_n hC dJ5_deleteEntry_95 rfl 2 rfl ?_
          refine j_aload_n hC dJ5_deleteEntry_96 rfl 0 rfl ?_
          obtain ⟨fs78, hm, hvc⟩ := hvc
          refine j_put hC fkJ5_101_J5 dJ5_deleteEntry_97 hm g_no g_fo (fun st79 e1 => ?_)
          replace hvc := hvc st79 e1; clear hm e1
          refine j_goto (tgt := 133) hC dJ5_deleteEntry_100 rfl ?_
          exact j_sub [2, 1, 0] rfl (kh66 st79 hvc)
    refine j_ifnull (tgt := 71) hC dJ5_deleteEntry_61 rfl (fun c94 => ?_) (fun a95 c94 => ?_)
    · subst c94; replace hvc := hvc.1 rfl
      refine j_aload_n hC dJ5_deleteEntry_71 rfl 1 rfl ?_
      obtain ⟨o96, ⟨fs, hr, hv⟩, hvc⟩ := hvc
      refine j_get hC fkJ5_114_J27 dJ5_deleteEntry_72 hr hv ?_
      clear hv hr fs
      exact j_sub [0, 1] rfl (kh17 o96 hvc)
    · subst c94; replace hvc := hvc.2 a95 rfl
      refine j_aload_n hC dJ5_deleteEntry_64 rfl 1 rfl ?_
      obtain ⟨o97, ⟨fs, hr, hv⟩, hvc⟩ := hvc
      refine j_get hC fkJ5_111_J27 dJ5_deleteEntry_65 hr hv ?_
      clear hv hr fs
      refine j_goto (tgt := 75) hC dJ5_deleteEntry_68 rfl ?_
      exact j_sub [0, 1] rfl (kh17 o97 hvc)
  refine j_ifnull (tgt := 57) hC dJ5_deleteEntry_24 rfl (fun c99 => ?_) (fun a100 c99 => ?_)
  · subst c99; replace hvc := hvc.1 rfl
    exact j_sub [0, 1] rfl (kh12 (some a7) st6 hvc)
  · subst c99; replace hvc := hvc.2 a100 rfl
    refine j_aload_n hC dJ5_deleteEntry_27 rfl 1 rfl ?_
    obtain ⟨o101, ⟨fs, hr, hv⟩, hvc⟩ := hvc
    refine j_get hC fkJ5_114_J27 dJ5_deleteEntry_28 hr hv ?_
    clear hv hr fs
    refine j_ifnull (tgt := 57) hC dJ5_deleteEntry_31 rfl (fun c102 => ?_) (fun a103 c102 => ?_)
    · subst c102; replace hvc := hvc.1 rfl
      exact j_sub [0, 1] rfl (kh12 (some a7) st6 hvc)
    · subst c102; replace hvc := hvc.2 a103 rfl
      refine j_aload_n hC dJ5_deleteEntry_34 rfl 1 rfl ?_
      refine j_callS (As := [va_rf (some a7)]) (rest := []) (n := 1) hC hvc (lw_S q1457 q1082 q47 q1083) (by decide +kernel) (g_rm hR rfl rfl) rfl rfl (g_sum rfl) dJ5_deleteEntry_35 (Nat.zero_le _) (Nat.zero_le _) (g_Kap fun o104 hv2 => ?_)
      replace hvc := hv2; clear hv2
      refine j_astore_n (lv0 := [(1, va_rf (some a7)), (0, va_rf (some a0))]) hC dJ5_deleteEntry_38 rfl rfl [1, 0] rfl (g_okS.h rfl g_c1 rfl) ?_
      refine j_aload_n hC dJ5_deleteEntry_39 rfl 1 rfl ?_
      refine j_aload_n hC dJ5_deleteEntry_40 rfl 0 rfl ?_
      obtain ⟨a105, rfl, hvc⟩ := hvc
      obtain ⟨o106, ⟨fs, hr, hv⟩, hvc⟩ := hvc
      refine j_get hC fkJ5_105_J27 dJ5_deleteEntry_41 hr hv ?_
      clear hv hr fs
      obtain ⟨fs107, hm, hvc⟩ := hvc
      refine j_put hC fkJ5_105_J27 dJ5_deleteEntry_44 hm g_no g_fo (fun st108 e1 => ?_)
      replace hvc := hvc st108 e1; clear hm e1
      refine j_aload_n hC dJ5_deleteEntry_47 rfl 1 rfl ?_
      refine j_aload_n hC dJ5_deleteEntry_48 rfl 0 rfl ?_
      obtain ⟨o109, ⟨fs, hr, hv⟩, hvc⟩ := hvc
      refine j_get hC fkJ5_58_J27 dJ5_deleteEntry_49 hr hv ?_
      clear hv hr fs
      obtain ⟨fs110, hm, hvc⟩ := hvc
      refine j_put hC fkJ5_58_J27 dJ5_deleteEntry_52 hm g_no g_fo (fun st111 e1 => ?_)
      replace hvc := hvc st111 e1; clear hm e1
      refine j_aload_n hC dJ5_deleteEntry_55 rfl 0 rfl ?_
      refine j_astore_n (lv0 := [(0, va_rf (some a0)), (2, va_rf (some a105))]) hC dJ5_deleteEntry_56 rfl rfl [2, 0] rfl (g_okS.h rfl g_c1 rfl) ?_
      exact j_sub [1, 0] rfl (kh12 (some a105) st111 hvc)
theorem wk_J5_deleteEntry {l : Launch} {E : g_E} {a0 : Nat} {p0 : Option Nat} {st : g_St} {mc ms : Nat} {Q : g_St → Prop} (hvc : vc_J5_deleteEntry l E a0 p0 st Q) : wp_J5_deleteEntry l E mc ms [va_rf (some a0), va_rf p0] st Q :=
  g_enter (lv0 := [(0, va_rf (some a0)), (1, va_rf p0)]) (plainFor_of_name (by decide +kernel)) (by simp [lv_args, g_c1, g_ci, g_cL]) (by simp [lg_sl, g_c1, g_ci, g_cL]) (fun p e s m args below meth c hC => wb_J5_deleteEntry hC ⟨Nat.le_refl _, Nat.le_refl _⟩ (fun pc lv st1 cb sb hd hq => j_return hC rfl hd ⟨rfl, hq⟩) hvc)
abbrev wp_J34_removeAscending (l : Launch) (E : g_E) (mc ms : Nat) (av : List Value) (st : g_St) (Q : g_St → Prop) : Prop := g_WPv l E yJ34_removeAscending cJ34_removeAscending 1 none 4 106 mc ms av st Q
def vc_J34_removeAscending (l : Launch) (E : g_E) (a0 : Nat) (st : g_St) (Q : g_St → Prop) : Prop :=
  ∃ o1 : Option Nat, g_gr st a0 7 0 o1 ∧ (o1 = none → False) ∧ (∀ a3 : Nat, o1 = some a3 → ∃ o4 : Option Nat, g_gr st a0 7 4 o4 ∧ ∃ a5 : Nat, o4 = some a5 ∧ ∃ o6 : Option Nat, g_gr st a5 5 0 o6 ∧ ∃ a7 : Nat, o6 = some a7 ∧ ∃ x8 : Int32, g_gi st a7 3 5 x8 ∧ ∃ x9 : Int32, g_gi st a0 7 3 x9 ∧ (x8 = x9 → ∃ o11 : Option Nat, g_gr st a0 7 0 o11 ∧ ∃ a12 : Nat, o11 = some a12 ∧ ∃ o13 : Option Nat, g_gr st a12 4 2 o13 ∧ g_jn1 (fun (K15 : g_St → Prop) => (o13 = none → K15 st) ∧ (∀ a33 : Nat, o13 = some a33 → ∃ o34 : Option Nat, g_gr st a0 7 0 o34 ∧ ∃ a35 : Nat, o34 = some a35 ∧ ∃ o36 : Option Nat, g_gr st a35 4 3 o36 ∧ (o36 = none → K15 st) ∧ (∀ a38 : Nat, o36 = some a38 → ∃ o39 : Option Nat, g_gr st a0 7 0 o39 ∧ ∃ fs40 : List Value, st.2.1 a0 = some (.inr (7, fs40)) ∧ ∀ st41 : g_St, st41 = g_put st a0 (.inr (7, fs40.set 1 (va_rf o39))) → K15 st41))) (fun (st14 : g_St) => ∃ o17 : Option Nat, g_gr st14 a0 7 4 o17 ∧ ∃ a18 : Nat, o17 = some a18 ∧ ∃ o19 : Option Nat, g_gr st14 a18 5 0 o19 ∧ ∃ o20 : Option Nat, g_gr st14 a0 7 0 o20 ∧ ∃ a21 : Nat, o19 = some a21 ∧ g_is st14 a21 3 ∧ wp_J5_deleteEntry l E 0 0 [va_rf (some a21), va_rf o20] st14 (fun st22 => g_Ext st14 st22 → ∃ fs23 : List Value, st22.2.1 a0 = some (.inr (7, fs23)) ∧ ∀ st24 : g_St, st24 = g_put st22 a0 (.inr (7, fs23.set 0 (va_rf none))) → ∃ o25 : Option Nat, g_gr st24 a0 7 4 o25 ∧ ∃ a26 : Nat, o25 = some a26 ∧ ∃ o27 : Option Nat, g_gr st24 a26 5 0 o27 ∧ ∃ a28 : Nat, o27 = some a28 ∧ ∃ x29 : Int32, g_gi st24 a28 3 5 x29 ∧ ∃ fs30 : List Value, st24.2.1 a0 = some (.inr (7, fs30)) ∧ ∀ st31 : g_St, st31 = g_put st24 a0 (.inr (7, fs30.set 3 (.int x29))) → Q st31))) ∧ (¬ x8 = x9 → False))
set_option maxHeartbeats 4000000 in
theorem wb_J34_removeAscending {p : Program} {l : Launch} {e : Env} {R : Room} {s : State} {m : MethodId} {args : Array Value} {below : List Frame} {meth : Method} {c : Code} {E : g_E} {st0 : g_St} {Z : State → Prop} (hC : g_Cx p s m args meth c cJ34_removeAscending 1 "java/util/TreeMap$NavigableSubMap$SubMapIterator" none "removeAscending" E st0) (hR : g_Rm 4 106 R) {a0 : Nat} {st : g_St} {cb sb : Nat} {Q : g_St → Prop} (hret : ∀ (pc : Nat) (lv : List (Nat × Value)) (st1 : g_St) (cb sb : Nat), decode cJ34_removeAscending pc = .ok (.return_, 1) → Q st1 → g_J p l e R s m args below meth c 1 E st0 Z pc lv [] st1 cb sb) (hvc : vc_J34_removeAscending l E a0 st Q) : g_J p l e R s m args below meth c 1 E st0 Z 0 [(0, va_rf (some a0))] [] st cb sb := by
  unfold vc_J34_removeAscending at hvc
  refine j_aload_n hC dJ34_removeAscending_0 rfl 0 rfl ?_
  obtain ⟨o1, ⟨fs, hr, hv⟩, hvc⟩ := hvc
  refine j_get hC fkJ34_28_J35 dJ34_removeAscending_1 hr hv ?_
  clear hv hr fs
  refine j_ifnonnull (tgt := 15) hC dJ34_removeAscending_4 rfl (fun a3 c2 => ?_) (fun c2 => ?_)
  · subst c2; replace hvc := hvc.2 a3 rfl
    refine j_aload_n hC dJ34_removeAscending_15 rfl 0 rfl ?_
    obtain ⟨o4, ⟨fs, hr, hv⟩, hvc⟩ := hvc
    refine j_get hC fkJ34_1_J35 dJ34_removeAscending_16 hr hv ?_
    clear hv hr fs
    obtain ⟨a5, rfl, hvc⟩ := hvc
    obtain ⟨o6, ⟨fs, hr, hv⟩, hvc⟩ := hvc
    refine j_getR hC fkJ34_13_J29 dJ34_removeAscending_19 hr hv ?_
    clear hv hr fs
    obtain ⟨a7, rfl, hvc⟩ := hvc
    obtain ⟨x8, ⟨fs, hr, hv⟩, hvc⟩ := hvc
    refine j_getN hC fkJ34_19_J5 dJ34_removeAscending_22 hr hv ?_
    clear hv hr fs
    refine j_aload_n hC dJ34_removeAscending_25 rfl 0 rfl ?_
    obtain ⟨x9, ⟨fs, hr, hv⟩, hvc⟩ := hvc
    refine j_get hC fkJ34_25_J35 dJ34_removeAscending_26 hr hv ?_
    clear hv hr fs
    refine j_icmp_eq (tgt := 40) hC dJ34_removeAscending_29 rfl (fun c10 => ?_) (fun c10 => ?_)
    · replace hvc := hvc.1 c10
      refine j_aload_n hC dJ34_removeAscending_40 rfl 0 rfl ?_
      obtain ⟨o11, ⟨fs, hr, hv⟩, hvc⟩ := hvc
      refine j_get hC fkJ34_28_J35 dJ34_removeAscending_41 hr hv ?_
      clear hv hr fs
      obtain ⟨a12, rfl, hvc⟩ := hvc
      obtain ⟨o13, ⟨fs, hr, hv⟩, hvc⟩ := hvc
      refine j_get hC fkJ34_63_J27 dJ34_removeAscending_44 hr hv ?_
      clear hv hr fs
      replace hvc := g_jn1_o hvc
      obtain ⟨K15, hK42, hvc⟩ := hvc
      have kh16 : ∀ (st14 : g_St), K15 st14 → g_J p l e R s m args below meth c 1 E st0 Z 68 [(0, va_rf (some a0))] [] st14 cb sb := by
        clear hvc
        intro st14 hvc
        replace hvc := hK42 _ hvc
        refine j_aload_n hC dJ34_removeAscending_68 rfl 0 rfl ?_
        obtain ⟨o17, ⟨fs, hr, hv⟩, hvc⟩ := hvc
        refine j_get hC fkJ34_1_J35 dJ34_removeAscending_69 hr hv ?_
        clear hv hr fs
        obtain ⟨a18, rfl, hvc⟩ := hvc
        obtain ⟨o19, ⟨fs, hr, hv⟩, hvc⟩ := hvc
        refine j_getR hC fkJ34_13_J29 dJ34_removeAscending_72 hr hv ?_
        clear hv hr fs
        refine j_aload_n hC dJ34_removeAscending_75 rfl 0 rfl ?_
        obtain ⟨o20, ⟨fs, hr, hv⟩, hvc⟩ := hvc
        refine j_get hC fkJ34_28_J35 dJ34_removeAscending_76 hr hv ?_
        clear hv hr fs
        obtain ⟨a21, rfl, hvc⟩ := hvc
        obtain ⟨⟨fs, hr⟩, hvc⟩ := hvc
        refine j_callVN (As := [va_rf o20]) (rest := []) (n := 1) (C := "java/util/TreeMap") (ci := 3) hC hvc (lw_meth q1456) ge_83 q47 q1455 qs2 (by decide +kernel) (g_rm hR rfl rfl) rfl hr rfl rfl (g_sum rfl) dJ34_removeAscending_79 (Nat.zero_le _) (Nat.zero_le _) (g_Kv fun st22 hv2 hx => ?_)
        replace hvc := hv2 hx; clear hx hv2
        clear hr fs
        refine j_aload_n hC dJ34_removeAscending_82 rfl 0 rfl ?_
        refine j_null hC dJ34_removeAscending_83 ?_
        obtain ⟨fs23, hm, hvc⟩ := hvc
        refine j_put hC fkJ34_28_J35 dJ34_removeAscending_84 hm g_no g_fo (fun st24 e1 => ?_)
        replace hvc := hvc st24 e1; clear hm e1
        refine j_aload_n hC dJ34_removeAscending_87 rfl 0 rfl ?_
        refine j_aload_n hC dJ34_removeAscending_88 rfl 0 rfl ?_
        obtain ⟨o25, ⟨fs, hr, hv⟩, hvc⟩ := hvc
        refine j_get hC fkJ34_1_J35 dJ34_removeAscending_89 hr hv ?_
        clear hv hr fs
        obtain ⟨a26, rfl, hvc⟩ := hvc
        obtain ⟨o27, ⟨fs, hr, hv⟩, hvc⟩ := hvc
        refine j_getR hC fkJ34_13_J29 dJ34_removeAscending_92 hr hv ?_
        clear hv hr fs
        obtain ⟨a28, rfl, hvc⟩ := hvc
        obtain ⟨x29, ⟨fs, hr, hv⟩, hvc⟩ := hvc
        refine j_getN hC fkJ34_19_J5 dJ34_removeAscending_95 hr hv ?_
        clear hv hr fs
        obtain ⟨fs30, hm, hvc⟩ := hvc
        refine j_put hC fkJ34_25_J35 dJ34_removeAscending_98 hm rfl rfl (fun st31 e1 => ?_)
        replace hvc := hvc st31 e1; clear hm e1
        exact hret _ _ _ _ _ dJ34_removeAscending_101 hvc
      refine j_ifnull (tgt := 68) hC dJ34_removeAscending_47 rfl (fun c32 => ?_) (fun a33 c32 => ?_)
      · subst c32; replace hvc := hvc.1 rfl
        exact j_sub [0] rfl (kh16 st hvc)
      · subst c32; replace hvc := hvc.2 a33 rfl
        refine j_aload_n hC dJ34_removeAscending_50 rfl 0 rfl ?_
        obtain ⟨o34, ⟨fs, hr, hv⟩, hvc⟩ := hvc
        refine j_get hC fkJ34_28_J35 dJ34_removeAscending_51 hr hv ?_
        clear hv hr fs
        obtain ⟨a35, rfl, hvc⟩ := hvc
        obtain ⟨o36, ⟨fs, hr, hv⟩, hvc⟩ := hvc
        refine j_get hC fkJ34_66_J27 dJ34_removeAscending_54 hr hv ?_
        clear hv hr fs
        refine j_ifnull (tgt := 68) hC dJ34_removeAscending_57 rfl (fun c37 => ?_) (fun a38 c37 => ?_)
        · subst c37; replace hvc := hvc.1 rfl
          exact j_sub [0] rfl (kh16 st hvc)
        · subst c37; replace hvc := hvc.2 a38 rfl
          refine j_aload_n hC dJ34_removeAscending_60 rfl 0 rfl ?_
          refine j_aload_n hC dJ34_removeAscending_61 rfl 0 rfl ?_
          obtain ⟨o39, ⟨fs, hr, hv⟩, hvc⟩ := hvc
          refine j_get hC fkJ34_28_J35 dJ34_removeAscending_62 hr hv ?_
          clear hv hr fs
          obtain ⟨fs40, hm, hvc⟩ := hvc
          refine j_put hC fkJ34_32_J35 dJ34_removeAscending_65 hm g_no g_fo (fun st41 e1 => ?_)
          replace hvc := hvc st41 e1; clear hm e1
          exact j_sub [0] rfl (kh16 st41 hvc)
    · replace hvc := hvc.2 c10
      exact hvc.elim
  · subst c2; replace hvc := hvc.1 rfl
    exact hvc.elim
theorem wk_J34_removeAscending {l : Launch} {E : g_E} {a0 : Nat} {st : g_St} {mc ms : Nat} {Q : g_St → Prop} (hvc : vc_J34_removeAscending l E a0 st Q) : wp_J34_removeAscending l E mc ms [va_rf (some a0)] st Q :=
  g_enter (lv0 := [(0, va_rf (some a0))]) (plainFor_of_name (by decide +kernel)) (by simp [lv_args, g_c1, g_ci, g_cL]) (by simp [lg_sl, g_c1, g_ci, g_cL]) (fun p e s m args below meth c hC => wb_J34_removeAscending hC ⟨Nat.le_refl _, Nat.le_refl _⟩ (fun pc lv st1 cb sb hd hq => j_return hC rfl hd ⟨rfl, hq⟩) hvc)
abbrev wp_J35_remove (l : Launch) (E : g_E) (mc ms : Nat) (av : List Value) (st : g_St) (Q : g_St → Prop) : Prop := g_WPv l E yJ35_remove cJ35_remove 1 none 5 126 mc ms av st Q
def vc_J35_remove (l : Launch) (E : g_E) (a0 : Nat) (st : g_St) (Q : g_St → Prop) : Prop :=
  g_is st a0 7 ∧ wp_J34_removeAscending l E 0 0 [va_rf (some a0)] st (fun st1 => g_Ext st st1 → Q st1)
set_option maxHeartbeats 4000000 in
theorem wb_J35_remove {p : Program} {l : Launch} {e : Env} {R : Room} {s : State} {m : MethodId} {args : Array Value} {below : List Frame} {meth : Method} {c : Code} {E : g_E} {st0 : g_St} {Z : State → Prop} (hC : g_Cx p s m args meth c cJ35_remove 1 "java/util/TreeMap$NavigableSubMap$SubMapEntryIterator" none "remove" E st0) (hR : g_Rm 5 126 R) {a0 : Nat} {st : g_St} {cb sb : Nat} {Q : g_St → Prop} (hret : ∀ (pc : Nat) (lv : List (Nat × Value)) (st1 : g_St) (cb sb : Nat), decode cJ35_remove pc = .ok (.return_, 1) → Q st1 → g_J p l e R s m args below meth c 1 E st0 Z pc lv [] st1 cb sb) (hvc : vc_J35_remove l E a0 st Q) : g_J p l e R s m args below meth c 1 E st0 Z 0 [(0, va_rf (some a0))] [] st cb sb := by
  unfold vc_J35_remove at hvc
  refine j_aload_n hC dJ35_remove_0 rfl 0 rfl ?_
  obtain ⟨⟨fs, hr⟩, hvc⟩ := hvc
  refine j_callU (As := []) (rest := []) (n := 0) (x := ⟨"java/util/TreeMap$NavigableSubMap$SubMapEntryIterator", "removeAscending", "()V"⟩) (C := "java/util/TreeMap$NavigableSubMap$SubMapEntryIterator") (owner := "java/util/TreeMap$NavigableSubMap$SubMapIterator") (ci := 7) hC hvc (lw_U q1492 q1493 q1495 q1496 q80 q1497) rfl (by decide +kernel) (g_rm hR rfl rfl) rfl hr rfl rfl (g_sum rfl) dJ35_remove_1 (Nat.zero_le _) (Nat.zero_le _) (g_Kv fun st1 hv2 hx => ?_)
  replace hvc := hv2 hx; clear hx hv2
  clear hr fs
  exact hret _ _ _ _ _ dJ35_remove_4 hvc
theorem wk_J35_remove {l : Launch} {E : g_E} {a0 : Nat} {st : g_St} {mc ms : Nat} {Q : g_St → Prop} (hvc : vc_J35_remove l E a0 st Q) : wp_J35_remove l E mc ms [va_rf (some a0)] st Q :=
  g_enter (lv0 := [(0, va_rf (some a0))]) (plainFor_of_name (by decide +kernel)) (by simp [lv_args, g_c1, g_ci, g_cL]) (by simp [lg_sl, g_c1, g_ci, g_cL]) (fun p e s m args below meth c hC => wb_J35_remove hC ⟨Nat.le_refl _, Nat.le_refl _⟩ (fun pc lv st1 cb sb hd hq => j_return hC rfl hd ⟨rfl, hq⟩) hvc)
abbrev wp_J30_clear (l : Launch) (E : g_E) (mc ms : Nat) (av : List Value) (st : g_St) (Q : g_St → Prop) : Prop := g_WPv l E yJ30_clear cJ30_clear 2 none 13 325 mc ms av st Q
def vc_J30_clear (l : Launch) (E : g_E) (a0 : Nat) (st : g_St) (cb sb : Nat) (Q : g_St → Prop) : Prop :=
  ∃ mc3 ms4 : Nat, mc3 ≤ cb ∧ ms4 ≤ sb ∧ g_is st a0 6 ∧ wp_J33_iterator l E mc3 ms4 [va_rf (some a0)] st (fun o1 st2 => g_Ext st st2 → g_lp1 (fun (K6 : g_St → Prop) (st5 : g_St) => ∃ a9 : Nat, o1 = some a9 ∧ g_is st5 a9 7 ∧ wp_J34_hasNext l E 0 0 [va_rf (some a9)] st5 (fun x10 stx => stx = st5 ∧ (x10 = 0 → Q st5) ∧ (¬ x10 = 0 → g_is st5 a9 7 ∧ wp_J35_next l E 0 0 [va_rf (some a9)] st5 (fun o12 st13 => g_Ext st5 st13 → g_is st13 a9 7 ∧ wp_J35_remove l E 0 0 [va_rf (some a9)] st13 (fun st14 => g_Ext st13 st14 → K6 st14))))) st2)
set_option maxHeartbeats 4000000 in
theorem wb_J30_clear {p : Program} {l : Launch} {e : Env} {R : Room} {s : State} {m : MethodId} {args : Array Value} {below : List Frame} {meth : Method} {c : Code} {E : g_E} {st0 : g_St} {Z : State → Prop} (hC : g_Cx p s m args meth c cJ30_clear 2 "java/util/AbstractCollection" none "clear" E st0) (hR : g_Rm 13 325 R) {a0 : Nat} {st : g_St} {cb sb : Nat} {Q : g_St → Prop} (hret : ∀ (pc : Nat) (lv : List (Nat × Value)) (st1 : g_St) (cb sb : Nat), decode cJ30_clear pc = .ok (.return_, 1) → Q st1 → g_J p l e R s m args below meth c 2 E st0 Z pc lv [] st1 cb sb) (hvc : vc_J30_clear l E a0 st cb sb Q) : g_J p l e R s m args below meth c 2 E st0 Z 0 [(0, va_rf (some a0))] [] st cb sb := by
  unfold vc_J30_clear at hvc
  refine j_aload_n hC dJ30_clear_0 rfl 0 rfl ?_
  obtain ⟨mc3, ms4, h1, h2, hvc⟩ := hvc
  obtain ⟨⟨fs, hr⟩, hvc⟩ := hvc
  refine j_callA (As := []) (rest := []) (n := 0) (x := ⟨"java/util/AbstractCollection", "iterator", "()Ljava/util/Iterator;"⟩) (C := "java/util/TreeMap$AscendingSubMap$AscendingEntrySetView") (owner := "java/util/AbstractCollection") (ci := 6) hC hvc (lw_U q1417 q2459 q2461 q942 q79 q943) ge_54 (by decide +kernel) (g_rm hR rfl rfl) rfl hr rfl rfl (g_sum rfl) dJ30_clear_1 h1 h2 (g_Ka fun o1 st2 hv2 hx => ?_)
  replace hvc := hv2 hx; clear hx hv2
  clear hr fs
  refine j_astore_n (lv0 := [(0, va_rf (some a0))]) hC dJ30_clear_4 rfl rfl [0] rfl (g_okS.h rfl g_c1 rfl) ?_
  replace hvc := g_lp1_o hvc
  obtain ⟨K6, hz15, hs16, n17, hvc⟩ := hvc
  have kh7 : ∀ (n : Nat) (st5 : g_St), K6 n st5 → g_J p l e R s m args below meth c 2 E st0 Z 5 [(1, va_rf o1)] [] st5 (cb - mc3) (sb - ms4) := by
    clear hvc
    intro n
    induction n with
    | zero => intro st5 hvc; exact absurd hvc (hz15 _)
    | succ n ih8 =>
      intro st5 hvc
      replace hvc := hs16 n _ hvc
      refine j_aload_n hC dJ30_clear_5 rfl 0 rfl ?_
      obtain ⟨a9, rfl, hvc⟩ := hvc
      obtain ⟨⟨fs, hr⟩, hvc⟩ := hvc
      refine j_callF (As := []) (rest := []) (n := 0) (x := ⟨"java/util/Iterator", "hasNext", "()Z"⟩) (C := "java/util/TreeMap$NavigableSubMap$SubMapEntryIterator") (ci := 7) hC hvc (lw_F q1419 q1023 q1025 q80 q1027) gf_13 (by decide +kernel) (g_rm hR rfl rfl) rfl hr rfl rfl (g_sum rfl) dJ30_clear_6 (Nat.zero_le _) (Nat.zero_le _) (g_Kip fun x10 hv2 => ?_)
      replace hvc := hv2; clear hv2
      clear hr fs
      refine j_if_eq (tgt := 30) hC dJ30_clear_11 rfl (fun c11 => ?_) (fun c11 => ?_)
      · replace hvc := hvc.1 c11
        exact hret _ _ _ _ _ dJ30_clear_30 hvc
      · replace hvc := hvc.2 c11
        refine j_aload_n hC dJ30_clear_14 rfl 0 rfl ?_
        obtain ⟨⟨fs, hr⟩, hvc⟩ := hvc
        refine j_callF (As := []) (rest := []) (n := 0) (x := ⟨"java/util/Iterator", "next", "()Ljava/lang/Object;"⟩) (C := "java/util/TreeMap$NavigableSubMap$SubMapEntryIterator") (ci := 7) hC hvc (lw_F q1421 q1092 q1094 q81 q1096) gf_14 (by decide +kernel) (g_rm hR rfl rfl) rfl hr rfl rfl (g_sum rfl) dJ30_clear_15 (Nat.zero_le _) (Nat.zero_le _) (g_Ka fun o12 st13 hv2 hx => ?_)
        replace hvc := hv2 hx; clear hx hv2
        clear hr fs
        refine j_pop hC dJ30_clear_20 g_c1 ?_
        refine j_aload_n hC dJ30_clear_21 rfl 0 rfl ?_
        obtain ⟨⟨fs, hr⟩, hvc⟩ := hvc
        refine j_callF (As := []) (rest := []) (n := 0) (x := ⟨"java/util/Iterator", "remove", "()V"⟩) (C := "java/util/TreeMap$NavigableSubMap$SubMapEntryIterator") (ci := 7) hC hvc (lw_F q1423 q1487 q1489 q81 q1491) gf_15 (by decide +kernel) (g_rm hR rfl rfl) rfl hr rfl rfl (g_sum rfl) dJ30_clear_22 (Nat.zero_le _) (Nat.zero_le _) (g_Kv fun st14 hv2 hx => ?_)
        replace hvc := hv2 hx; clear hx hv2
        clear hr fs
        refine j_goto (tgt := 5) hC dJ30_clear_27 rfl ?_
        exact j_sub [0] rfl (ih8 st14 hvc)
  exact j_sub [0] rfl (kh7 n17 st2 hvc)
theorem wk_J30_clear {l : Launch} {E : g_E} {a0 : Nat} {st : g_St} {mc ms : Nat} {Q : g_St → Prop} (hvc : vc_J30_clear l E a0 st mc ms Q) : wp_J30_clear l E mc ms [va_rf (some a0)] st Q :=
  g_enter (lv0 := [(0, va_rf (some a0))]) (plainFor_of_name (by decide +kernel)) (by simp [lv_args, g_c1, g_ci, g_cL]) (by simp [lg_sl, g_c1, g_ci, g_cL]) (fun p e s m args below meth c hC => wb_J30_clear hC ⟨Nat.le_refl _, Nat.le_refl _⟩ (fun pc lv st1 cb sb hd hq => j_return hC rfl hd ⟨rfl, hq⟩) hvc)
abbrev wp_J4_clear (l : Launch) (E : g_E) (mc ms : Nat) (av : List Value) (st : g_St) (Q : g_St → Prop) : Prop := g_WPv l E yJ4_clear cJ4_clear 1 none 14 346 mc ms av st Q
def vc_J4_clear (l : Launch) (E : g_E) (a0 : Nat) (st : g_St) (cb sb : Nat) (Q : g_St → Prop) : Prop :=
  ∃ mc3 ms4 : Nat, mc3 ≤ cb ∧ ms4 ≤ sb ∧ g_is st a0 5 ∧ wp_J29_entrySet l E mc3 ms4 [va_rf (some a0)] st (fun o1 st2 => g_Ext st st2 → ∃ a5 : Nat, o1 = some a5 ∧ ∃ mc7 ms8 : Nat, mc7 ≤ (cb - mc3) ∧ ms8 ≤ (sb - ms4) ∧ g_is st2 a5 6 ∧ wp_J30_clear l E mc7 ms8 [va_rf (some a5)] st2 (fun st6 => g_Ext st2 st6 → Q st6))
set_option maxHeartbeats 4000000 in
theorem wb_J4_clear {p : Program} {l : Launch} {e : Env} {R : Room} {s : State} {m : MethodId} {args : Array Value} {below : List Frame} {meth : Method} {c : Code} {E : g_E} {st0 : g_St} {Z : State → Prop} (hC : g_Cx p s m args meth c cJ4_clear 1 "java/util/AbstractMap" none "clear" E st0) (hR : g_Rm 14 346 R) {a0 : Nat} {st : g_St} {cb sb : Nat} {Q : g_St → Prop} (hret : ∀ (pc : Nat) (lv : List (Nat × Value)) (st1 : g_St) (cb sb : Nat), decode cJ4_clear pc = .ok (.return_, 1) → Q st1 → g_J p l e R s m args below meth c 1 E st0 Z pc lv [] st1 cb sb) (hvc : vc_J4_clear l E a0 st cb sb Q) : g_J p l e R s m args below meth c 1 E st0 Z 0 [(0, va_rf (some a0))] [] st cb sb := by
  unfold vc_J4_clear at hvc
  refine j_aload_n hC dJ4_clear_0 rfl 0 rfl ?_
  obtain ⟨mc3, ms4, h1, h2, hvc⟩ := hvc
  obtain ⟨⟨fs, hr⟩, hvc⟩ := hvc
  refine j_callA (As := []) (rest := []) (n := 0) (x := ⟨"java/util/AbstractMap", "entrySet", "()Ljava/util/Set;"⟩) (C := "java/util/TreeMap$AscendingSubMap") (owner := "java/util/AbstractMap") (ci := 5) hC hvc (lw_U q1407 q2456 q2458 q897 q75 q898) ge_58 (by decide +kernel) (g_rm hR rfl rfl) rfl hr rfl rfl (g_sum rfl) dJ4_clear_1 h1 h2 (g_Ka fun o1 st2 hv2 hx => ?_)
  replace hvc := hv2 hx; clear hx hv2
  clear hr fs
  obtain ⟨a5, rfl, hvc⟩ := hvc
  obtain ⟨mc7, ms8, h1, h2, hvc⟩ := hvc
  obtain ⟨⟨fs, hr⟩, hvc⟩ := hvc
  refine j_callF (As := []) (rest := []) (n := 0) (x := ⟨"java/util/Set", "clear", "()V"⟩) (C := "java/util/TreeMap$AscendingSubMap$AscendingEntrySetView") (ci := 6) hC hvc (lw_F q1409 q1412 q1414 q76 q1416) gf_12 (by decide +kernel) (g_rm hR rfl rfl) rfl hr rfl rfl (g_sum rfl) dJ4_clear_4 h1 h2 (g_Kv fun st6 hv2 hx => ?_)
  replace hvc := hv2 hx; clear hx hv2
  clear hr fs
  exact hret _ _ _ _ _ dJ4_clear_9 hvc
theorem wk_J4_clear {l : Launch} {E : g_E} {a0 : Nat} {st : g_St} {mc ms : Nat} {Q : g_St → Prop} (hvc : vc_J4_clear l E a0 st mc ms Q) : wp_J4_clear l E mc ms [va_rf (some a0)] st Q :=
  g_enter (lv0 := [(0, va_rf (some a0))]) (plainFor_of_name (by decide +kernel)) (by simp [lv_args, g_c1, g_ci, g_cL]) (by simp [lg_sl, g_c1, g_ci, g_cL]) (fun p e s m args below meth c hC => wb_J4_clear hC ⟨Nat.le_refl _, Nat.le_refl _⟩ (fun pc lv st1 cb sb hd hq => j_return hC rfl hd ⟨rfl, hq⟩) hvc)
abbrev wp_J5_getFloorEntry (l : Launch) (E : g_E) (mc ms : Nat) (av : List Value) (st : g_St) (Q : Option Nat → g_St → Prop) : Prop := g_WPa l E yJ5_getFloorEntry cJ5_getFloorEntry 6 (some (.object "java/util/TreeMap$Entry")) 10 259 mc ms av st Q
def vc_J5_getFloorEntry (l : Launch) (E : g_E) (a0 : Nat) (p0 : Option Nat) (st : g_St) (Q : Option Nat → g_St → Prop) : Prop :=
  ∃ o1 : Option Nat, g_gr st a0 3 3 o1 ∧ g_lp1 (fun (K3 : (Option Nat) → Prop) (o2 : Option Nat) => (o2 = none → Q none st) ∧ (∀ a7 : Nat, o2 = some a7 → ∃ o8 : Option Nat, g_gr st a7 4 0 o8 ∧ g_is st a0 3 ∧ wp_J5_compare l E 0 0 [va_rf (some a0), va_rf p0, va_rf o8] st (fun x9 stx => stx = st ∧ g_jn1 (fun (K11 : (Option Nat) → Prop) => (x9 ≤ 0 → (0 ≤ x9 → Q (some a7) st) ∧ (¬ 0 ≤ x9 → ∃ o15 : Option Nat, g_gr st a7 4 2 o15 ∧ (o15 = none → ∃ o18 : Option Nat, g_gr st a7 4 4 o18 ∧ g_lp2 (fun (K21 : (Option Nat) → (Option Nat) → Prop) (o19 : Option Nat) (o20 : Option Nat) => g_jn0 (fun (K24 : Prop) => (o19 = none → K24) ∧ (∀ a27 : Nat, o19 = some a27 → ∃ o28 : Option Nat, g_gr st a27 4 2 o28 ∧ (¬ o20 = o28 → K24) ∧ (o20 = o28 → ∃ o30 : Option Nat, g_gr st a27 4 4 o30 ∧ K21 o30 (some a27)))) (Q o19 st)) o18 (some a7)) ∧ (∀ a17 : Nat, o15 = some a17 → ∃ o35 : Option Nat, g_gr st a7 4 2 o35 ∧ K11 o35))) ∧ (¬ x9 ≤ 0 → ∃ o36 : Option Nat, g_gr st a7 4 3 o36 ∧ (o36 = none → Q (some a7) st) ∧ (∀ a38 : Nat, o36 = some a38 → ∃ o39 : Option Nat, g_gr st a7 4 3 o39 ∧ K11 o39))) (fun (o10 : Option Nat) => K3 o10)))) o1
set_option maxHeartbeats 4000000 in
theorem wb_J5_getFloorEntry {p : Program} {l : Launch} {e : Env} {R : Room} {s : State} {m : MethodId} {args : Array Value} {below : List Frame} {meth : Method} {c : Code} {E : g_E} {st0 : g_St} {Z : State → Prop} (hC : g_Cx p s m args meth c cJ5_getFloorEntry 6 "java/util/TreeMap" (some (.object "java/util/TreeMap$Entry")) "getFloorEntry" E st0) (hR : g_Rm 10 259 R) {a0 : Nat} {p0 : Option Nat} {st : g_St} {cb sb : Nat} {Q : Option Nat → g_St → Prop} (hret : ∀ (pc : Nat) (lv : List (Nat × Value)) (v : Option Nat) (st1 : g_St) (cb sb : Nat), decode cJ5_getFloorEntry pc = .ok (.areturn, 1) → Q v st1 → g_J p l e R s m args below meth c 6 E st0 Z pc lv [va_rf v] st1 cb sb) (hvc : vc_J5_getFloorEntry l E a0 p0 st Q) : g_J p l e R s m args below meth c 6 E st0 Z 0 [(0, va_rf (some a0)), (1, va_rf p0)] [] st cb sb := by
  unfold vc_J5_getFloorEntry at hvc
  refine j_aload_n hC dJ5_getFloorEntry_0 rfl 0 rfl ?_
  obtain ⟨o1, ⟨fs, hr, hv⟩, hvc⟩ := hvc
  refine j_get hC fkJ5_101_J5 dJ5_getFloorEntry_1 hr hv ?_
  clear hv hr fs
  refine j_astore_n (lv0 := [(1, va_rf p0), (0, va_rf (some a0))]) hC dJ5_getFloorEntry_4 rfl rfl [1, 0] rfl (g_okS.h rfl g_c1 rfl) ?_
  replace hvc := g_lp1_o hvc
  obtain ⟨K3, hz41, hs42, n43, hvc⟩ := hvc
  have kh4 : ∀ (n : Nat) (o2 : Option Nat), K3 n o2 → g_J p l e R s m args below meth c 6 E st0 Z 5 [(0, va_rf (some a0)), (1, va_rf p0), (2, va_rf o2)] [] st cb sb := by
    clear hvc
    intro n
    induction n with
    | zero => intro o2 hvc; exact absurd hvc (hz41 _)
    | succ n ih5 =>
      intro o2 hvc
      replace hvc := hs42 n _ hvc
      refine j_aload_n hC dJ5_getFloorEntry_5 rfl 2 rfl ?_
      refine j_ifnull (tgt := 105) hC dJ5_getFloorEntry_6 rfl (fun c6 => ?_) (fun a7 c6 => ?_)
      · subst c6; replace hvc := hvc.1 rfl
        refine j_null hC dJ5_getFloorEntry_105 ?_
        exact hret _ _ _ _ _ _ dJ5_getFloorEntry_106 hvc
      · subst c6; replace hvc := hvc.2 a7 rfl
        refine j_aload_n hC dJ5_getFloorEntry_9 rfl 0 rfl ?_
        refine j_aload_n hC dJ5_getFloorEntry_10 rfl 1 rfl ?_
        refine j_aload_n hC dJ5_getFloorEntry_11 rfl 2 rfl ?_
        obtain ⟨o8, ⟨fs, hr, hv⟩, hvc⟩ := hvc
        refine j_get hC fkJ5_105_J27 dJ5_getFloorEntry_12 hr hv ?_
        clear hv hr fs
        obtain ⟨⟨fs, hr⟩, hvc⟩ := hvc
        refine j_callV (As := [va_rf p0, va_rf o8]) (rest := []) (n := 2) (ci := 3) hC hvc (lw_V q960 q640 q641 q47 q642) (by decide +kernel) (g_rm hR rfl rfl) rfl hr rfl rfl (g_sum rfl) dJ5_getFloorEntry_15 (Nat.zero_le _) (Nat.zero_le _) (g_Kip fun x9 hv2 => ?_)
        replace hvc := hv2; clear hv2
        clear hr fs
        refine j_istore_n (lv0 := [(2, va_rf (some a7)), (0, va_rf (some a0)), (1, va_rf p0)]) hC dJ5_getFloorEntry_18 rfl rfl [2, 0, 1] rfl (g_okS.h rfl g_c1 rfl) ?_
        refine j_iload_n hC dJ5_getFloorEntry_19 rfl 0 rfl ?_
        replace hvc := g_jn1_o hvc
        obtain ⟨K11, hK40, hvc⟩ := hvc
        have kh12 : ∀ (o10 : Option Nat), K11 o10 → g_J p l e R s m args below meth c 6 E st0 Z 102 [(0, va_rf (some a0)), (1, va_rf p0), (2, va_rf o10)] [] st cb sb := by
          clear hvc
          intro o10 hvc
          replace hvc := hK40 _ hvc
          refine j_goto (tgt := 5) hC dJ5_getFloorEntry_102 rfl ?_
          exact j_sub [0, 1, 2] rfl (ih5 o10 hvc)
        refine j_if_le (tgt := 40) hC dJ5_getFloorEntry_20 rfl (fun c13 => ?_) (fun c13 => ?_)
        · replace hvc := hvc.1 c13
          refine j_iload_n hC dJ5_getFloorEntry_40 rfl 0 rfl ?_
          refine j_if_ge (tgt := 100) hC dJ5_getFloorEntry_41 rfl (fun c14 => ?_) (fun c14 => ?_)
          · replace hvc := hvc.1 c14
            refine j_aload_n hC dJ5_getFloorEntry_100 rfl 1 rfl ?_
            exact hret _ _ _ _ _ _ dJ5_getFloorEntry_101 hvc
          · replace hvc := hvc.2 c14
            refine j_aload_n hC dJ5_getFloorEntry_44 rfl 1 rfl ?_
            obtain ⟨o15, ⟨fs, hr, hv⟩, hvc⟩ := hvc
            refine j_get hC fkJ5_111_J27 dJ5_getFloorEntry_45 hr hv ?_
            clear hv hr fs
            refine j_ifnull (tgt := 59) hC dJ5_getFloorEntry_48 rfl (fun c16 => ?_) (fun a17 c16 => ?_)
            · subst c16; replace hvc := hvc.1 rfl
              refine j_aload_n hC dJ5_getFloorEntry_59 rfl 1 rfl ?_
              obtain ⟨o18, ⟨fs, hr, hv⟩, hvc⟩ := hvc
              refine j_get hC fkJ5_124_J27 dJ5_getFloorEntry_60 hr hv ?_
              clear hv hr fs
              refine j_astore (lv0 := [(3, .int x9), (2, va_rf (some a7)), (0, va_rf (some a0)), (1, va_rf p0)]) hC dJ5_getFloorEntry_63 rfl [0, 1, 2, 3] rfl (g_okS.h rfl rfl rfl) ?_
              refine j_aload_n hC dJ5_getFloorEntry_65 rfl 2 rfl ?_
              refine j_astore (lv0 := [(4, va_rf o18), (3, .int x9), (2, va_rf (some a7)), (0, va_rf (some a0)), (1, va_rf p0)]) hC dJ5_getFloorEntry_66 rfl [0, 1, 2, 3, 4] rfl (g_okS.h rfl g_c1 rfl) ?_
              replace hvc := g_lp2_o hvc
              obtain ⟨K21, hz32, hs33, n34, hvc⟩ := hvc
              have kh22 : ∀ (n : Nat) (o19 : Option Nat) (o20 : Option Nat), K21 n o19 o20 → g_J p l e R s m args below meth c 6 E st0 Z 68 [(4, va_rf o19), (5, va_rf o20)] [] st cb sb := by
                clear hvc
                intro n
                induction n with
                | zero => intro o19 o20 hvc; exact absurd hvc (hz32 _ _)
                | succ n ih23 =>
                  intro o19 o20 hvc
                  replace hvc := hs33 n _ _ hvc
                  refine j_aload hC dJ5_getFloorEntry_68 0 rfl ?_
                  replace hvc := g_jn0_o hvc
                  obtain ⟨K24, hK31, hvc⟩ := hvc
                  have kh25 : K24 → g_J p l e R s m args below meth c 6 E st0 Z 97 [(4, va_rf o19)] [] st cb sb := by
                    clear hvc
                    intro hvc
                    replace hvc := hK31 hvc
                    refine j_aload hC dJ5_getFloorEntry_97 0 rfl ?_
                    exact hret _ _ _ _ _ _ dJ5_getFloorEntry_99 hvc
                  refine j_ifnull (tgt := 97) hC dJ5_getFloorEntry_70 rfl (fun c26 => ?_) (fun a27 c26 => ?_)
                  · subst c26; replace hvc := hvc.1 rfl
                    exact j_sub [0] rfl (kh25 hvc)
                  · subst c26; replace hvc := hvc.2 a27 rfl
                    refine j_aload hC dJ5_getFloorEntry_73 1 rfl ?_
                    refine j_aload hC dJ5_getFloorEntry_75 0 rfl ?_
                    obtain ⟨o28, ⟨fs, hr, hv⟩, hvc⟩ := hvc
                    refine j_get hC fkJ5_111_J27 dJ5_getFloorEntry_77 hr hv ?_
                    clear hv hr fs
                    refine j_acmp_ne (tgt := 97) hC dJ5_getFloorEntry_80 rfl (fun c29 => ?_) (fun c29 => ?_)
                    · replace hvc := hvc.1 c29
                      exact j_sub [0] rfl (kh25 hvc)
                    · replace hvc := hvc.2 c29
                      refine j_aload hC dJ5_getFloorEntry_83 0 rfl ?_
                      refine j_astore (lv0 := [(4, va_rf (some a27))]) hC dJ5_getFloorEntry_85 rfl [0] rfl (g_okS.h rfl g_c1 rfl) ?_
                      refine j_aload hC dJ5_getFloorEntry_87 1 rfl ?_
                      obtain ⟨o30, ⟨fs, hr, hv⟩, hvc⟩ := hvc
                      refine j_get hC fkJ5_124_J27 dJ5_getFloorEntry_89 hr hv ?_
                      clear hv hr fs
                      refine j_astore (lv0 := [(5, va_rf (some a27))]) hC dJ5_getFloorEntry_92 rfl [0] rfl (g_okS.n rfl) ?_
                      refine j_goto (tgt := 68) hC dJ5_getFloorEntry_94 rfl ?_
                      exact j_sub [0, 1] rfl (ih23 o30 (some a27) hvc)
              exact j_sub [1, 0] rfl (kh22 n34 o18 (some a7) hvc)
            · subst c16; replace hvc := hvc.2 a17 rfl
              refine j_aload_n hC dJ5_getFloorEntry_51 rfl 1 rfl ?_
              obtain ⟨o35, ⟨fs, hr, hv⟩, hvc⟩ := hvc
              refine j_get hC fkJ5_111_J27 dJ5_getFloorEntry_52 hr hv ?_
              clear hv hr fs
              refine j_astore_n (lv0 := [(1, va_rf p0), (3, .int x9), (0, va_rf (some a0))]) hC dJ5_getFloorEntry_55 rfl rfl [3, 0, 2] rfl (g_okS.h rfl g_c1 rfl) ?_
              refine j_goto (tgt := 102) hC dJ5_getFloorEntry_56 rfl ?_
              exact j_sub [3, 1, 0] rfl (kh12 o35 hvc)
        · replace hvc := hvc.2 c13
          refine j_aload_n hC dJ5_getFloorEntry_23 rfl 1 rfl ?_
          obtain ⟨o36, ⟨fs, hr, hv⟩, hvc⟩ := hvc
          refine j_get hC fkJ5_114_J27 dJ5_getFloorEntry_24 hr hv ?_
          clear hv hr fs
          refine j_ifnull (tgt := 38) hC dJ5_getFloorEntry_27 rfl (fun c37 => ?_) (fun a38 c37 => ?_)
          · subst c37; replace hvc := hvc.1 rfl
            refine j_aload_n hC dJ5_getFloorEntry_38 rfl 1 rfl ?_
            exact hret _ _ _ _ _ _ dJ5_getFloorEntry_39 hvc
          · subst c37; replace hvc := hvc.2 a38 rfl
            refine j_aload_n hC dJ5_getFloorEntry_30 rfl 1 rfl ?_
            obtain ⟨o39, ⟨fs, hr, hv⟩, hvc⟩ := hvc
            refine j_get hC fkJ5_114_J27 dJ5_getFloorEntry_31 hr hv ?_
            clear hv hr fs
            refine j_astore_n (lv0 := [(1, va_rf p0), (3, .int x9), (0, va_rf (some a0))]) hC dJ5_getFloorEntry_34 rfl rfl [3, 0, 2] rfl (g_okS.h rfl g_c1 rfl) ?_
            refine j_goto (tgt := 102) hC dJ5_getFloorEntry_35 rfl ?_
            exact j_sub [3, 1, 0] rfl (kh12 o39 hvc)
  exact j_sub [2, 1, 0] rfl (kh4 n43 o1 hvc)
theorem wk_J5_getFloorEntry {l : Launch} {E : g_E} {a0 : Nat} {p0 : Option Nat} {st : g_St} {mc ms : Nat} {Q : Option Nat → g_St → Prop} (hvc : vc_J5_getFloorEntry l E a0 p0 st Q) : wp_J5_getFloorEntry l E mc ms [va_rf (some a0), va_rf p0] st Q :=
  g_enter (lv0 := [(0, va_rf (some a0)), (1, va_rf p0)]) (plainFor_of_name (by decide +kernel)) (by simp [lv_args, g_c1, g_ci, g_cL]) (by simp [lg_sl, g_c1, g_ci, g_cL]) (fun p e s m args below meth c hC => wb_J5_getFloorEntry hC ⟨Nat.le_refl _, Nat.le_refl _⟩ (fun pc lv v st1 cb sb hd hq => j_areturn hC rfl (by first | exact Or.inl ⟨_, rfl⟩ | exact Or.inr ⟨_, rfl⟩) hd (g_av hq)) hvc)
abbrev wp_J5_keyOrNull (l : Launch) (E : g_E) (mc ms : Nat) (av : List Value) (st : g_St) (Q : Option Nat → g_St → Prop) : Prop := g_WPa l E yJ5_keyOrNull cJ5_keyOrNull 1 (some (.object "java/lang/Object")) 1 40 mc ms av st Q
def vc_J5_keyOrNull (l : Launch) (E : g_E) (p0 : Option Nat) (st : g_St) (Q : Option Nat → g_St → Prop) : Prop :=
  g_jn1 (fun (K2 : (Option Nat) → Prop) => (p0 = none → K2 none) ∧ (∀ a5 : Nat, p0 = some a5 → ∃ o6 : Option Nat, g_gr st a5 4 0 o6 ∧ K2 o6)) (fun (o1 : Option Nat) => Q o1 st)
set_option maxHeartbeats 4000000 in
theorem wb_J5_keyOrNull {p : Program} {l : Launch} {e : Env} {R : Room} {s : State} {m : MethodId} {args : Array Value} {below : List Frame} {meth : Method} {c : Code} {E : g_E} {st0 : g_St} {Z : State → Prop} (hC : g_Cx p s m args meth c cJ5_keyOrNull 1 "java/util/TreeMap" (some (.object "java/lang/Object")) "keyOrNull" E st0) (hR : g_Rm 1 40 R) {p0 : Option Nat} {st : g_St} {cb sb : Nat} {Q : Option Nat → g_St → Prop} (hret : ∀ (pc : Nat) (lv : List (Nat × Value)) (v : Option Nat) (st1 : g_St) (cb sb : Nat), decode cJ5_keyOrNull pc = .ok (.areturn, 1) → Q v st1 → g_J p l e R s m args below meth c 1 E st0 Z pc lv [va_rf v] st1 cb sb) (hvc : vc_J5_keyOrNull l E p0 st Q) : g_J p l e R s m args below meth c 1 E st0 Z 0 [(0, va_rf p0)] [] st cb sb := by
  unfold vc_J5_keyOrNull at hvc
  refine j_aload_n hC dJ5_keyOrNull_0 rfl 0 rfl ?_
  replace hvc := g_jn1_o hvc
  obtain ⟨K2, hK7, hvc⟩ := hvc
  have kh3 : ∀ (o1 : Option Nat), K2 o1 → g_J p l e R s m args below meth c 1 E st0 Z 12 [] [va_rf o1] st cb sb := by
    clear hvc
    intro o1 hvc
    replace hvc := hK7 _ hvc
    exact hret _ _ _ _ _ _ dJ5_keyOrNull_12 hvc
  refine j_ifnonnull (tgt := 8) hC dJ5_keyOrNull_1 rfl (fun a5 c4 => ?_) (fun c4 => ?_)
  · subst c4; replace hvc := hvc.2 a5 rfl
    refine j_aload_n hC dJ5_keyOrNull_8 rfl 0 rfl ?_
    obtain ⟨o6, ⟨fs, hr, hv⟩, hvc⟩ := hvc
    refine j_get hC fkJ5_105_J27 dJ5_keyOrNull_9 hr hv ?_
    clear hv hr fs
    exact j_sub [] rfl (kh3 o6 hvc)
  · subst c4; replace hvc := hvc.1 rfl
    refine j_null hC dJ5_keyOrNull_4 ?_
    refine j_goto (tgt := 12) hC dJ5_keyOrNull_5 rfl ?_
    exact j_sub [] rfl (kh3 none hvc)
theorem wk_J5_keyOrNull {l : Launch} {E : g_E} {p0 : Option Nat} {st : g_St} {mc ms : Nat} {Q : Option Nat → g_St → Prop} (hvc : vc_J5_keyOrNull l E p0 st Q) : wp_J5_keyOrNull l E mc ms [va_rf p0] st Q :=
  g_enter (lv0 := [(0, va_rf p0)]) (plainFor_of_name (by decide +kernel)) (by simp [lv_args, g_c1, g_ci, g_cL]) (by simp [lg_sl, g_c1, g_ci, g_cL]) (fun p e s m args below meth c hC => wb_J5_keyOrNull hC ⟨Nat.le_refl _, Nat.le_refl _⟩ (fun pc lv v st1 cb sb hd hq => j_areturn hC rfl (by first | exact Or.inl ⟨_, rfl⟩ | exact Or.inr ⟨_, rfl⟩) hd (g_av hq)) hvc)
abbrev wp_J5_floorKey (l : Launch) (E : g_E) (mc ms : Nat) (av : List Value) (st : g_St) (Q : Option Nat → g_St → Prop) : Prop := g_WPa l E yJ5_floorKey cJ5_floorKey 2 (some (.object "java/lang/Object")) 11 284 mc ms av st Q
def vc_J5_floorKey (l : Launch) (E : g_E) (a0 : Nat) (p0 : Option Nat) (st : g_St) (Q : Option Nat → g_St → Prop) : Prop :=
  g_is st a0 3 ∧ wp_J5_getFloorEntry l E 0 0 [va_rf (some a0), va_rf p0] st (fun o1 stx => stx = st ∧ wp_J5_keyOrNull l E 0 0 [va_rf o1] st (fun o2 stx => stx = st ∧ Q o2 st))
set_option maxHeartbeats 4000000 in
theorem wb_J5_floorKey {p : Program} {l : Launch} {e : Env} {R : Room} {s : State} {m : MethodId} {args : Array Value} {below : List Frame} {meth : Method} {c : Code} {E : g_E} {st0 : g_St} {Z : State → Prop} (hC : g_Cx p s m args meth c cJ5_floorKey 2 "java/util/TreeMap" (some (.object "java/lang/Object")) "floorKey" E st0) (hR : g_Rm 11 284 R) {a0 : Nat} {p0 : Option Nat} {st : g_St} {cb sb : Nat} {Q : Option Nat → g_St → Prop} (hret : ∀ (pc : Nat) (lv : List (Nat × Value)) (v : Option Nat) (st1 : g_St) (cb sb : Nat), decode cJ5_floorKey pc = .ok (.areturn, 1) → Q v st1 → g_J p l e R s m args below meth c 2 E st0 Z pc lv [va_rf v] st1 cb sb) (hvc : vc_J5_floorKey l E a0 p0 st Q) : g_J p l e R s m args below meth c 2 E st0 Z 0 [(0, va_rf (some a0)), (1, va_rf p0)] [] st cb sb := by
  unfold vc_J5_floorKey at hvc
  refine j_aload_n hC dJ5_floorKey_0 rfl 0 rfl ?_
  refine j_aload_n hC dJ5_floorKey_1 rfl 1 rfl ?_
  obtain ⟨⟨fs, hr⟩, hvc⟩ := hvc
  refine j_callV (As := [va_rf p0]) (rest := []) (n := 1) (ci := 3) hC hvc (lw_V q1531 q1532 q1533 q47 q1534) (by decide +kernel) (g_rm hR rfl rfl) rfl hr rfl rfl (g_sum rfl) dJ5_floorKey_2 (Nat.zero_le _) (Nat.zero_le _) (g_Kap fun o1 hv2 => ?_)
  replace hvc := hv2; clear hv2
  clear hr fs
  refine j_callS (As := [va_rf o1]) (rest := []) (n := 1) hC hvc (lw_S q1535 q1536 q47 q1537) (by decide +kernel) (g_rm hR rfl rfl) rfl rfl (g_sum rfl) dJ5_floorKey_5 (Nat.zero_le _) (Nat.zero_le _) (g_Kap fun o2 hv2 => ?_)
  replace hvc := hv2; clear hv2
  exact hret _ _ _ _ _ _ dJ5_floorKey_8 hvc
theorem wk_J5_floorKey {l : Launch} {E : g_E} {a0 : Nat} {p0 : Option Nat} {st : g_St} {mc ms : Nat} {Q : Option Nat → g_St → Prop} (hvc : vc_J5_floorKey l E a0 p0 st Q) : wp_J5_floorKey l E mc ms [va_rf (some a0), va_rf p0] st Q :=
  g_enter (lv0 := [(0, va_rf (some a0)), (1, va_rf p0)]) (plainFor_of_name (by decide +kernel)) (by simp [lv_args, g_c1, g_ci, g_cL]) (by simp [lg_sl, g_c1, g_ci, g_cL]) (fun p e s m args below meth c hC => wb_J5_floorKey hC ⟨Nat.le_refl _, Nat.le_refl _⟩ (fun pc lv v st1 cb sb hd hq => j_areturn hC rfl (by first | exact Or.inl ⟨_, rfl⟩ | exact Or.inr ⟨_, rfl⟩) hd (g_av hq)) hvc)
abbrev wp_J5_ceilingKey (l : Launch) (E : g_E) (mc ms : Nat) (av : List Value) (st : g_St) (Q : Option Nat → g_St → Prop) : Prop := g_WPa l E yJ5_ceilingKey cJ5_ceilingKey 2 (some (.object "java/lang/Object")) 11 284 mc ms av st Q
def vc_J5_ceilingKey (l : Launch) (E : g_E) (a0 : Nat) (p0 : Option Nat) (st : g_St) (Q : Option Nat → g_St → Prop) : Prop :=
  g_is st a0 3 ∧ wp_J5_getCeilingEntry l E 0 0 [va_rf (some a0), va_rf p0] st (fun o1 stx => stx = st ∧ wp_J5_keyOrNull l E 0 0 [va_rf o1] st (fun o2 stx => stx = st ∧ Q o2 st))
set_option maxHeartbeats 4000000 in
theorem wb_J5_ceilingKey {p : Program} {l : Launch} {e : Env} {R : Room} {s : State} {m : MethodId} {args : Array Value} {below : List Frame} {meth : Method} {c : Code} {E : g_E} {st0 : g_St} {Z : State → Prop} (hC : g_Cx p s m args meth c cJ5_ceilingKey 2 "java/util/TreeMap" (some (.object "java/lang/Object")) "ceilingKey" E st0) (hR : g_Rm 11 284 R) {a0 : Nat} {p0 : Option Nat} {st : g_St} {cb sb : Nat} {Q : Option Nat → g_St → Prop} (hret : ∀ (pc : Nat) (lv : List (Nat × Value)) (v : Option Nat) (st1 : g_St) (cb sb : Nat), decode cJ5_ceilingKey pc = .ok (.areturn, 1) → Q v st1 → g_J p l e R s m args below meth c 2 E st0 Z pc lv [va_rf v] st1 cb sb) (hvc : vc_J5_ceilingKey l E a0 p0 st Q) : g_J p l e R s m args below meth c 2 E st0 Z 0 [(0, va_rf (some a0)), (1, va_rf p0)] [] st cb sb := by
  unfold vc_J5_ceilingKey at hvc
  refine j_aload_n hC dJ5_ceilingKey_0 rfl 0 rfl ?_
  refine j_aload_n hC dJ5_ceilingKey_1 rfl 1 rfl ?_
  obtain ⟨⟨fs, hr⟩, hvc⟩ := hvc
  refine j_callV (As := [va_rf p0]) (rest := []) (n := 1) (ci := 3) hC hvc (lw_V q1542 q957 q958 q47 q959) (by decide +kernel) (g_rm hR rfl rfl) rfl hr rfl rfl (g_sum rfl) dJ5_ceilingKey_2 (Nat.zero_le _) (Nat.zero_le _) (g_Kap fun o1 hv2 => ?_)
  replace hvc := hv2; clear hv2
  clear hr fs
  refine j_callS (As := [va_rf o1]) (rest := []) (n := 1) hC hvc (lw_S q1535 q1536 q47 q1537) (by decide +kernel) (g_rm hR rfl rfl) rfl rfl (g_sum rfl) dJ5_ceilingKey_5 (Nat.zero_le _) (Nat.zero_le _) (g_Kap fun o2 hv2 => ?_)
  replace hvc := hv2; clear hv2
  exact hret _ _ _ _ _ _ dJ5_ceilingKey_8 hvc
theorem wk_J5_ceilingKey {l : Launch} {E : g_E} {a0 : Nat} {p0 : Option Nat} {st : g_St} {mc ms : Nat} {Q : Option Nat → g_St → Prop} (hvc : vc_J5_ceilingKey l E a0 p0 st Q) : wp_J5_ceilingKey l E mc ms [va_rf (some a0), va_rf p0] st Q :=
  g_enter (lv0 := [(0, va_rf (some a0)), (1, va_rf p0)]) (plainFor_of_name (by decide +kernel)) (by simp [lv_args, g_c1, g_ci, g_cL]) (by simp [lg_sl, g_c1, g_ci, g_cL]) (fun p e s m args below meth c hC => wb_J5_ceilingKey hC ⟨Nat.le_refl _, Nat.le_refl _⟩ (fun pc lv v st1 cb sb hd hq => j_areturn hC rfl (by first | exact Or.inl ⟨_, rfl⟩ | exact Or.inr ⟨_, rfl⟩) hd (g_av hq)) hvc)
abbrev wp_J5_getEntry (l : Launch) (E : g_E) (mc ms : Nat) (av : List Value) (st : g_St) (Q : Option Nat → g_St → Prop) : Prop := g_WPa l E yJ5_getEntry cJ5_getEntry 5 (some (.object "java/util/TreeMap$Entry")) 9 237 mc ms av st Q
def vc_J5_getEntry (l : Launch) (E : g_E) (a0 : Nat) (p0 : Option Nat) (st : g_St) (Q : Option Nat → g_St → Prop) : Prop :=
  ∃ o1 : Option Nat, g_gr st a0 3 2 o1 ∧ (o1 = none → wp_J24_requireNonNull l E 0 0 [va_rf p0] st (fun o4 stx => stx = st ∧ g_isN st p0 1 ∧ ∃ o5 : Option Nat, g_gr st a0 3 3 o5 ∧ g_lp1 (fun (K7 : (Option Nat) → Prop) (o6 : Option Nat) => (o6 = none → Q none st) ∧ (∀ a11 : Nat, o6 = some a11 → ∃ o12 : Option Nat, g_gr st a11 4 0 o12 ∧ ∃ a13 : Nat, p0 = some a13 ∧ g_is st a13 1 ∧ wp_J2_compareTo l E 0 0 [va_rf (some a13), va_rf o12] st (fun x14 stx => stx = st ∧ g_jn1 (fun (K16 : (Option Nat) → Prop) => (0 ≤ x14 → (x14 ≤ 0 → Q (some a11) st) ∧ (¬ x14 ≤ 0 → ∃ o20 : Option Nat, g_gr st a11 4 3 o20 ∧ K16 o20)) ∧ (¬ 0 ≤ x14 → ∃ o21 : Option Nat, g_gr st a11 4 2 o21 ∧ K16 o21)) (fun (o15 : Option Nat) => K7 o15)))) o5)) ∧ (∀ a3 : Nat, o1 = some a3 → False)
set_option maxHeartbeats 4000000 in
theorem wb_J5_getEntry {p : Program} {l : Launch} {e : Env} {R : Room} {s : State} {m : MethodId} {args : Array Value} {below : List Frame} {meth : Method} {c : Code} {E : g_E} {st0 : g_St} {Z : State → Prop} (hC : g_Cx p s m args meth c cJ5_getEntry 5 "java/util/TreeMap" (some (.object "java/util/TreeMap$Entry")) "getEntry" E st0) (hR : g_Rm 9 237 R) {a0 : Nat} {p0 : Option Nat} {st : g_St} {cb sb : Nat} {Q : Option Nat → g_St → Prop} (hret : ∀ (pc : Nat) (lv : List (Nat × Value)) (v : Option Nat) (st1 : g_St) (cb sb : Nat), decode cJ5_getEntry pc = .ok (.areturn, 1) → Q v st1 → g_J p l e R s m args below meth c 5 E st0 Z pc lv [va_rf v] st1 cb sb) (hvc : vc_J5_getEntry l E a0 p0 st Q) : g_J p l e R s m args below meth c 5 E st0 Z 0 [(0, va_rf (some a0)), (1, va_rf p0)] [] st cb sb := by
  unfold vc_J5_getEntry at hvc
  refine j_aload_n hC dJ5_getEntry_0 rfl 0 rfl ?_
  obtain ⟨o1, ⟨fs, hr, hv⟩, hvc⟩ := hvc
  refine j_get hC fkJ5_16_J5 dJ5_getEntry_1 hr hv ?_
  clear hv hr fs
  refine j_ifnull (tgt := 13) hC dJ5_getEntry_4 rfl (fun c2 => ?_) (fun a3 c2 => ?_)
  · subst c2; replace hvc := hvc.1 rfl
    refine j_aload_n hC dJ5_getEntry_13 rfl 1 rfl ?_
    refine j_callS (As := [va_rf p0]) (rest := []) (n := 1) hC hvc (lw_S q1605 q1606 q68 q1607) (by decide +kernel) (g_rm hR rfl rfl) rfl rfl (g_sum rfl) dJ5_getEntry_14 (Nat.zero_le _) (Nat.zero_le _) (g_Kap fun o4 hv2 => ?_)
    replace hvc := hv2; clear hv2
    refine j_pop hC dJ5_getEntry_17 g_c1 ?_
    refine j_aload_n hC dJ5_getEntry_18 rfl 1 rfl ?_
    obtain ⟨hv, hvc⟩ := hvc
    refine j_cast hC (C := "java/lang/String") (ci := 1) q643 rfl (Or.inr ge_7) hv dJ5_getEntry_19 ?_
    clear hv
    refine j_astore_n (lv0 := [(1, va_rf p0), (0, va_rf (some a0))]) hC dJ5_getEntry_22 rfl rfl [1, 0] rfl (g_okS.h rfl g_c1 rfl) ?_
    refine j_aload_n hC dJ5_getEntry_23 rfl 2 rfl ?_
    obtain ⟨o5, ⟨fs, hr, hv⟩, hvc⟩ := hvc
    refine j_get hC fkJ5_101_J5 dJ5_getEntry_24 hr hv ?_
    clear hv hr fs
    refine j_astore_n (lv0 := [(2, va_rf p0), (1, va_rf p0), (0, va_rf (some a0))]) hC dJ5_getEntry_27 rfl rfl [0, 1, 2] rfl (g_okS.h rfl g_c1 rfl) ?_
    replace hvc := g_lp1_o hvc
    obtain ⟨K7, hz23, hs24, n25, hvc⟩ := hvc
    have kh8 : ∀ (n : Nat) (o6 : Option Nat), K7 n o6 → g_J p l e R s m args below meth c 5 E st0 Z 28 [(2, va_rf p0), (3, va_rf o6)] [] st cb sb := by
      clear hvc
      intro n
      induction n with
      | zero => intro o6 hvc; exact absurd hvc (hz23 _)
      | succ n ih9 =>
        intro o6 hvc
        replace hvc := hs24 n _ hvc
        refine j_aload_n hC dJ5_getEntry_28 rfl 1 rfl ?_
        refine j_ifnull (tgt := 75) hC dJ5_getEntry_29 rfl (fun c10 => ?_) (fun a11 c10 => ?_)
        · subst c10; replace hvc := hvc.1 rfl
          refine j_null hC dJ5_getEntry_75 ?_
          exact hret _ _ _ _ _ _ dJ5_getEntry_76 hvc
        · subst c10; replace hvc := hvc.2 a11 rfl
          refine j_aload_n hC dJ5_getEntry_32 rfl 0 rfl ?_
          refine j_aload_n hC dJ5_getEntry_33 rfl 1 rfl ?_
          obtain ⟨o12, ⟨fs, hr, hv⟩, hvc⟩ := hvc
          refine j_get hC fkJ5_105_J27 dJ5_getEntry_34 hr hv ?_
          clear hv hr fs
          obtain ⟨a13, rfl, hvc⟩ := hvc
          obtain ⟨⟨fs, hr⟩, hvc⟩ := hvc
          refine j_callF (As := [va_rf o12]) (rest := []) (n := 1) (x := ⟨"java/lang/Comparable", "compareTo", "(Ljava/lang/Object;)I"⟩) (C := "java/lang/String") (ci := 1) hC hvc (lw_F q645 q663 q665 q44 q667) gf_2 (by decide +kernel) (g_rm hR rfl rfl) rfl hr rfl rfl (g_sum rfl) dJ5_getEntry_37 (Nat.zero_le _) (Nat.zero_le _) (g_Kip fun x14 hv2 => ?_)
          replace hvc := hv2; clear hv2
          clear hr fs
          refine j_istore (lv0 := [(3, va_rf (some a11)), (2, va_rf (some a13))]) hC dJ5_getEntry_42 rfl [1, 0] rfl (g_okS.h rfl g_c1 rfl) ?_
          refine j_iload hC dJ5_getEntry_44 0 rfl ?_
          replace hvc := g_jn1_o hvc
          obtain ⟨K16, hK22, hvc⟩ := hvc
          have kh17 : ∀ (o15 : Option Nat), K16 o15 → g_J p l e R s m args below meth c 5 E st0 Z 72 [(2, va_rf (some a13)), (3, va_rf o15)] [] st cb sb := by
            clear hvc
            intro o15 hvc
            replace hvc := hK22 _ hvc
            refine j_goto (tgt := 28) hC dJ5_getEntry_72 rfl ?_
            exact j_sub [0, 1] rfl (ih9 o15 hvc)
          refine j_if_ge (tgt := 57) hC dJ5_getEntry_46 rfl (fun c18 => ?_) (fun c18 => ?_)
          · replace hvc := hvc.1 c18
            refine j_iload hC dJ5_getEntry_57 0 rfl ?_
            refine j_if_le (tgt := 70) hC dJ5_getEntry_59 rfl (fun c19 => ?_) (fun c19 => ?_)
            · replace hvc := hvc.1 c19
              refine j_aload_n hC dJ5_getEntry_70 rfl 1 rfl ?_
              exact hret _ _ _ _ _ _ dJ5_getEntry_71 hvc
            · replace hvc := hvc.2 c19
              refine j_aload_n hC dJ5_getEntry_62 rfl 1 rfl ?_
              obtain ⟨o20, ⟨fs, hr, hv⟩, hvc⟩ := hvc
              refine j_get hC fkJ5_114_J27 dJ5_getEntry_63 hr hv ?_
              clear hv hr fs
              refine j_astore_n (lv0 := [(2, va_rf (some a13)), (4, .int x14)]) hC dJ5_getEntry_66 rfl rfl [2, 0] rfl (g_okS.h rfl g_c1 rfl) ?_
              refine j_goto (tgt := 72) hC dJ5_getEntry_67 rfl ?_
              exact j_sub [1, 0] rfl (kh17 o20 hvc)
          · replace hvc := hvc.2 c18
            refine j_aload_n hC dJ5_getEntry_49 rfl 1 rfl ?_
            obtain ⟨o21, ⟨fs, hr, hv⟩, hvc⟩ := hvc
            refine j_get hC fkJ5_111_J27 dJ5_getEntry_50 hr hv ?_
            clear hv hr fs
            refine j_astore_n (lv0 := [(2, va_rf (some a13)), (4, .int x14)]) hC dJ5_getEntry_53 rfl rfl [2, 0] rfl (g_okS.h rfl g_c1 rfl) ?_
            refine j_goto (tgt := 72) hC dJ5_getEntry_54 rfl ?_
            exact j_sub [1, 0] rfl (kh17 o21 hvc)
    exact j_sub [1, 0] rfl (kh8 n25 o5 hvc)
  · subst c2; replace hvc := hvc.2 a3 rfl
    refine j_aload_n hC dJ5_getEntry_7 rfl 0 rfl ?_
    refine j_aload_n hC dJ5_getEntry_8 rfl 1 rfl ?_
    exact hvc.elim
theorem wk_J5_getEntry {l : Launch} {E : g_E} {a0 : Nat} {p0 : Option Nat} {st : g_St} {mc ms : Nat} {Q : Option Nat → g_St → Prop} (hvc : vc_J5_getEntry l E a0 p0 st Q) : wp_J5_getEntry l E mc ms [va_rf (some a0), va_rf p0] st Q :=
  g_enter (lv0 := [(0, va_rf (some a0)), (1, va_rf p0)]) (plainFor_of_name (by decide +kernel)) (by simp [lv_args, g_c1, g_ci, g_cL]) (by simp [lg_sl, g_c1, g_ci, g_cL]) (fun p e s m args below meth c hC => wb_J5_getEntry hC ⟨Nat.le_refl _, Nat.le_refl _⟩ (fun pc lv v st1 cb sb hd hq => j_areturn hC rfl (by first | exact Or.inl ⟨_, rfl⟩ | exact Or.inr ⟨_, rfl⟩) hd (g_av hq)) hvc)
abbrev wp_J5_containsKey (l : Launch) (E : g_E) (mc ms : Nat) (av : List Value) (st : g_St) (Q : Int32 → g_St → Prop) : Prop := g_WPi l E yJ5_containsKey cJ5_containsKey 2 (some .boolean) 10 261 mc ms av st Q
def vc_J5_containsKey (l : Launch) (E : g_E) (a0 : Nat) (p0 : Option Nat) (st : g_St) (Q : Int32 → g_St → Prop) : Prop :=
  g_is st a0 3 ∧ wp_J5_getEntry l E 0 0 [va_rf (some a0), va_rf p0] st (fun o1 stx => stx = st ∧ g_jn1 (fun (K3 : Int32 → Prop) => (o1 = none → K3 (nI 0)) ∧ (∀ a6 : Nat, o1 = some a6 → K3 (nI 1))) (fun (x2 : Int32) => narrow .boolean (.int x2) = .int x2 ∧ Q x2 st))
set_option maxHeartbeats 4000000 in
theorem wb_J5_containsKey {p : Program} {l : Launch} {e : Env} {R : Room} {s : State} {m : MethodId} {args : Array Value} {below : List Frame} {meth : Method} {c : Code} {E : g_E} {st0 : g_St} {Z : State → Prop} (hC : g_Cx p s m args meth c cJ5_containsKey 2 "java/util/TreeMap" (some .boolean) "containsKey" E st0) (hR : g_Rm 10 261 R) {a0 : Nat} {p0 : Option Nat} {st : g_St} {cb sb : Nat} {Q : Int32 → g_St → Prop} (hret : ∀ (pc : Nat) (lv : List (Nat × Value)) (v : Int32) (st1 : g_St) (cb sb : Nat), decode cJ5_containsKey pc = .ok (.ireturn, 1) → narrow .boolean (.int v) = .int v → Q v st1 → g_J p l e R s m args below meth c 2 E st0 Z pc lv [.int v] st1 cb sb) (hvc : vc_J5_containsKey l E a0 p0 st Q) : g_J p l e R s m args below meth c 2 E st0 Z 0 [(0, va_rf (some a0)), (1, va_rf p0)] [] st cb sb := by
  unfold vc_J5_containsKey at hvc
  refine j_aload_n hC dJ5_containsKey_0 rfl 0 rfl ?_
  refine j_aload_n hC dJ5_containsKey_1 rfl 1 rfl ?_
  obtain ⟨⟨fs, hr⟩, hvc⟩ := hvc
  refine j_callV (As := [va_rf p0]) (rest := []) (n := 1) (ci := 3) hC hvc (lw_V q1597 q1598 q1599 q47 q1600) (by decide +kernel) (g_rm hR rfl rfl) rfl hr rfl rfl (g_sum rfl) dJ5_containsKey_2 (Nat.zero_le _) (Nat.zero_le _) (g_Kap fun o1 hv2 => ?_)
  replace hvc := hv2; clear hv2
  clear hr fs
  replace hvc := g_jn1_o hvc
  obtain ⟨K3, hK7, hvc⟩ := hvc
  have kh4 : ∀ (x2 : Int32), K3 x2 → g_J p l e R s m args below meth c 2 E st0 Z 13 [] [.int x2] st cb sb := by
    clear hvc
    intro x2 hvc
    replace hvc := hK7 _ hvc
    exact hret _ _ _ _ _ _ dJ5_containsKey_13 hvc.1 hvc.2
  refine j_ifnull (tgt := 12) hC dJ5_containsKey_5 rfl (fun c5 => ?_) (fun a6 c5 => ?_)
  · subst c5; replace hvc := hvc.1 rfl
    refine j_iconst hC (nI 0) dJ5_containsKey_12 rfl ?_
    exact j_sub [] rfl (kh4 (nI 0) hvc)
  · subst c5; replace hvc := hvc.2 a6 rfl
    refine j_iconst hC (nI 1) dJ5_containsKey_8 rfl ?_
    refine j_goto (tgt := 13) hC dJ5_containsKey_9 rfl ?_
    exact j_sub [] rfl (kh4 (nI 1) hvc)
theorem wk_J5_containsKey {l : Launch} {E : g_E} {a0 : Nat} {p0 : Option Nat} {st : g_St} {mc ms : Nat} {Q : Int32 → g_St → Prop} (hvc : vc_J5_containsKey l E a0 p0 st Q) : wp_J5_containsKey l E mc ms [va_rf (some a0), va_rf p0] st Q :=
  g_enter (lv0 := [(0, va_rf (some a0)), (1, va_rf p0)]) (plainFor_of_name (by decide +kernel)) (by simp [lv_args, g_c1, g_ci, g_cL]) (by simp [lg_sl, g_c1, g_ci, g_cL]) (fun p e s m args below meth c hC => wb_J5_containsKey hC ⟨Nat.le_refl _, Nat.le_refl _⟩ (fun pc lv v st1 cb sb hd hn hq => j_ireturn hC rfl hn hd (g_iv hq)) hvc)
abbrev wp_J30_init_J36 (l : Launch) (E : g_E) (mc ms : Nat) (av : List Value) (st : g_St) (Q : g_St → Prop) : Prop := g_WPv l E yJ30_init cJ30_init 1 none 1 40 mc ms av st Q
def vc_J30_init_J36 (l : Launch) (E : g_E) (a0 : Nat) (st : g_St) (Q : g_St → Prop) : Prop :=
  Q st
set_option maxHeartbeats 4000000 in
theorem wb_J30_init_J36 {p : Program} {l : Launch} {e : Env} {R : Room} {s : State} {m : MethodId} {args : Array Value} {below : List Frame} {meth : Method} {c : Code} {E : g_E} {st0 : g_St} {Z : State → Prop} (hC : g_Cx p s m args meth c cJ30_init 1 "java/util/AbstractCollection" none "<init>" E st0) (hR : g_Rm 1 40 R) {a0 : Nat} {st : g_St} {cb sb : Nat} {Q : g_St → Prop} (hret : ∀ (pc : Nat) (lv : List (Nat × Value)) (st1 : g_St) (cb sb : Nat), decode cJ30_init pc = .ok (.return_, 1) → Q st1 → g_J p l e R s m args below meth c 1 E st0 Z pc lv [] st1 cb sb) (hvc : vc_J30_init_J36 l E a0 st Q) : g_J p l e R s m args below meth c 1 E st0 Z 0 [(0, va_rf (some a0))] [] st cb sb := by
  unfold vc_J30_init_J36 at hvc
  refine j_aload_n hC dJ30_init_0 rfl 0 rfl ?_
  refine j_objInit hC q913 q99 q100 (Nat.le_trans (Nat.le_of_ble_eq_true rfl) hR.1) (Nat.le_trans (g_sumO rfl) hR.2) dJ30_init_1 ?_
  exact hret _ _ _ _ _ dJ30_init_4 hvc
theorem wk_J30_init_J36 {l : Launch} {E : g_E} {a0 : Nat} {st : g_St} {mc ms : Nat} {Q : g_St → Prop} (hvc : vc_J30_init_J36 l E a0 st Q) : wp_J30_init_J36 l E mc ms [va_rf (some a0)] st Q :=
  g_enter (lv0 := [(0, va_rf (some a0))]) (plainFor_of_name (by decide +kernel)) (by simp [lv_args, g_c1, g_ci, g_cL]) (by simp [lg_sl, g_c1, g_ci, g_cL]) (fun p e s m args below meth c hC => wb_J30_init_J36 hC ⟨Nat.le_refl _, Nat.le_refl _⟩ (fun pc lv st1 cb sb hd hq => j_return hC rfl hd ⟨rfl, hq⟩) hvc)
abbrev wp_J31_init_J36 (l : Launch) (E : g_E) (mc ms : Nat) (av : List Value) (st : g_St) (Q : g_St → Prop) : Prop := g_WPv l E yJ31_init cJ31_init 1 none 2 60 mc ms av st Q
def vc_J31_init_J36 (l : Launch) (E : g_E) (a0 : Nat) (st : g_St) (Q : g_St → Prop) : Prop :=
  wp_J30_init_J36 l E 0 0 [va_rf (some a0)] st (fun stx => stx = st ∧ Q st)
set_option maxHeartbeats 4000000 in
theorem wb_J31_init_J36 {p : Program} {l : Launch} {e : Env} {R : Room} {s : State} {m : MethodId} {args : Array Value} {below : List Frame} {meth : Method} {c : Code} {E : g_E} {st0 : g_St} {Z : State → Prop} (hC : g_Cx p s m args meth c cJ31_init 1 "java/util/AbstractSet" none "<init>" E st0) (hR : g_Rm 2 60 R) {a0 : Nat} {st : g_St} {cb sb : Nat} {Q : g_St → Prop} (hret : ∀ (pc : Nat) (lv : List (Nat × Value)) (st1 : g_St) (cb sb : Nat), decode cJ31_init pc = .ok (.return_, 1) → Q st1 → g_J p l e R s m args below meth c 1 E st0 Z pc lv [] st1 cb sb) (hvc : vc_J31_init_J36 l E a0 st Q) : g_J p l e R s m args below meth c 1 E st0 Z 0 [(0, va_rf (some a0))] [] st cb sb := by
  unfold vc_J31_init_J36 at hvc
  refine j_aload_n hC dJ31_init_0 rfl 0 rfl ?_
  refine j_callI (As := []) (rest := []) (n := 0) hC hvc (lw_meth q912) q76 q910 q911 rfl (by decide +kernel) (g_rm hR rfl rfl) rfl rfl (g_sum rfl) dJ31_init_1 (Nat.zero_le _) (Nat.zero_le _) (g_Kvp fun hv2 => ?_)
  replace hvc := hv2; clear hv2
  exact hret _ _ _ _ _ dJ31_init_4 hvc
theorem wk_J31_init_J36 {l : Launch} {E : g_E} {a0 : Nat} {st : g_St} {mc ms : Nat} {Q : g_St → Prop} (hvc : vc_J31_init_J36 l E a0 st Q) : wp_J31_init_J36 l E mc ms [va_rf (some a0)] st Q :=
  g_enter (lv0 := [(0, va_rf (some a0))]) (plainFor_of_name (by decide +kernel)) (by simp [lv_args, g_c1, g_ci, g_cL]) (by simp [lg_sl, g_c1, g_ci, g_cL]) (fun p e s m args below meth c hC => wb_J31_init_J36 hC ⟨Nat.le_refl _, Nat.le_refl _⟩ (fun pc lv st1 cb sb hd hq => j_return hC rfl hd ⟨rfl, hq⟩) hvc)
abbrev wp_J36_init (l : Launch) (E : g_E) (mc ms : Nat) (av : List Value) (st : g_St) (Q : g_St → Prop) : Prop := g_WPv l E yJ36_init cJ36_init 2 none 3 80 mc ms av st Q
def vc_J36_init (l : Launch) (E : g_E) (a0 : Nat) (p0 : Option Nat) (st : g_St) (Q : g_St → Prop) : Prop :=
  wp_J31_init_J36 l E 0 0 [va_rf (some a0)] st (fun stx => stx = st ∧ ∃ fs1 : List Value, st.2.1 a0 = some (.inr (8, fs1)) ∧ ∀ st2 : g_St, st2 = g_put st a0 (.inr (8, fs1.set 0 (va_rf p0))) → Q st2)
set_option maxHeartbeats 4000000 in
theorem wb_J36_init {p : Program} {l : Launch} {e : Env} {R : Room} {s : State} {m : MethodId} {args : Array Value} {below : List Frame} {meth : Method} {c : Code} {E : g_E} {st0 : g_St} {Z : State → Prop} (hC : g_Cx p s m args meth c cJ36_init 2 "java/util/TreeMap$KeySet" none "<init>" E st0) (hR : g_Rm 3 80 R) {a0 : Nat} {p0 : Option Nat} {st : g_St} {cb sb : Nat} {Q : g_St → Prop} (hret : ∀ (pc : Nat) (lv : List (Nat × Value)) (st1 : g_St) (cb sb : Nat), decode cJ36_init pc = .ok (.return_, 1) → Q st1 → g_J p l e R s m args below meth c 2 E st0 Z pc lv [] st1 cb sb) (hvc : vc_J36_init l E a0 p0 st Q) : g_J p l e R s m args below meth c 2 E st0 Z 0 [(0, va_rf (some a0)), (1, va_rf p0)] [] st cb sb := by
  unfold vc_J36_init at hvc
  refine j_aload_n hC dJ36_init_0 rfl 0 rfl ?_
  refine j_callI (As := []) (rest := []) (n := 0) hC hvc (lw_meth q909) q77 q1635 q908 rfl (by decide +kernel) (g_rm hR rfl rfl) rfl rfl (g_sum rfl) dJ36_init_1 (Nat.zero_le _) (Nat.zero_le _) (g_Kvp fun hv2 => ?_)
  replace hvc := hv2; clear hv2
  refine j_aload_n hC dJ36_init_4 rfl 0 rfl ?_
  refine j_aload_n hC dJ36_init_5 rfl 1 rfl ?_
  obtain ⟨fs1, hm, hvc⟩ := hvc
  refine j_putF hC fkJ36_7_J36 rfl dJ36_init_6 hm g_no g_fo (fun st2 e1 => ?_)
  replace hvc := hvc st2 e1; clear hm e1
  exact hret _ _ _ _ _ dJ36_init_9 hvc
theorem wk_J36_init {l : Launch} {E : g_E} {a0 : Nat} {p0 : Option Nat} {st : g_St} {mc ms : Nat} {Q : g_St → Prop} (hvc : vc_J36_init l E a0 p0 st Q) : wp_J36_init l E mc ms [va_rf (some a0), va_rf p0] st Q :=
  g_enter (lv0 := [(0, va_rf (some a0)), (1, va_rf p0)]) (plainFor_of_name (by decide +kernel)) (by simp [lv_args, g_c1, g_ci, g_cL]) (by simp [lg_sl, g_c1, g_ci, g_cL]) (fun p e s m args below meth c hC => wb_J36_init hC ⟨Nat.le_refl _, Nat.le_refl _⟩ (fun pc lv st1 cb sb hd hq => j_return hC rfl hd ⟨rfl, hq⟩) hvc)
abbrev wp_J5_navigableKeySet (l : Launch) (E : g_E) (mc ms : Nat) (av : List Value) (st : g_St) (Q : Option Nat → g_St → Prop) : Prop := g_WPa l E yJ5_navigableKeySet cJ5_navigableKeySet 2 (some (.object "java/util/NavigableSet")) 4 101 mc ms av st Q
def vc_J5_navigableKeySet (l : Launch) (E : g_E) (a0 : Nat) (st : g_St) (cb sb : Nat) (Q : Option Nat → g_St → Prop) : Prop :=
  ∃ o1 : Option Nat, g_gr st a0 3 7 o1 ∧ g_jn4 (fun (K6 : (Option Nat) → g_St → Nat → Nat → Prop) => (o1 = none → 1 ≤ cb ∧ 1 ≤ sb ∧ ∀ (q10 : Nat) (st11 : g_St), q10 = st.2.2 → st11 = g_new st (.inr (8, [va_rf none])) → wp_J36_init l E 0 0 [va_rf (some q10), va_rf (some a0)] st11 (fun st12 => g_Ext st11 st12 → ∃ fs13 : List Value, st12.2.1 a0 = some (.inr (3, fs13)) ∧ ∀ st14 : g_St, st14 = g_put st12 a0 (.inr (3, fs13.set 7 (va_rf (some q10)))) → K6 (some q10) st14 (cb - 1) (sb - 1))) ∧ (∀ a9 : Nat, o1 = some a9 → K6 (some a9) st cb sb)) (fun (o2 : Option Nat) (st3 : g_St) (cb4 : Nat) (sb5 : Nat) => Q o2 st3)
set_option maxHeartbeats 4000000 in
theorem wb_J5_navigableKeySet {p : Program} {l : Launch} {e : Env} {R : Room} {s : State} {m : MethodId} {args : Array Value} {below : List Frame} {meth : Method} {c : Code} {E : g_E} {st0 : g_St} {Z : State → Prop} (hC : g_Cx p s m args meth c cJ5_navigableKeySet 2 "java/util/TreeMap" (some (.object "java/util/NavigableSet")) "navigableKeySet" E st0) (hR : g_Rm 4 101 R) {a0 : Nat} {st : g_St} {cb sb : Nat} {Q : Option Nat → g_St → Prop} (hret : ∀ (pc : Nat) (lv : List (Nat × Value)) (v : Option Nat) (st1 : g_St) (cb sb : Nat), decode cJ5_navigableKeySet pc = .ok (.areturn, 1) → Q v st1 → g_J p l e R s m args below meth c 2 E st0 Z pc lv [va_rf v] st1 cb sb) (hvc : vc_J5_navigableKeySet l E a0 st cb sb Q) : g_J p l e R s m args below meth c 2 E st0 Z 0 [(0, va_rf (some a0))] [] st cb sb := by
  unfold vc_J5_navigableKeySet at hvc
  refine j_aload_n hC dJ5_navigableKeySet_0 rfl 0 rfl ?_
  obtain ⟨o1, ⟨fs, hr, hv⟩, hvc⟩ := hvc
  refine j_get hC fkJ5_191_J5 dJ5_navigableKeySet_1 hr hv ?_
  clear hv hr fs
  refine j_astore_n (lv0 := [(0, va_rf (some a0))]) hC dJ5_navigableKeySet_4 rfl rfl [0] rfl (g_okS.h rfl g_c1 rfl) ?_
  refine j_aload_n hC dJ5_navigableKeySet_5 rfl 0 rfl ?_
  replace hvc := g_jn4_o hvc
  obtain ⟨K6, hK15, hvc⟩ := hvc
  have kh7 : ∀ (o2 : Option Nat) (st3 : g_St) (cb4 : Nat) (sb5 : Nat), K6 o2 st3 cb4 sb5 → g_J p l e R s m args below meth c 2 E st0 Z 26 [] [va_rf o2] st3 cb4 sb5 := by
    clear hvc
    intro o2 st3 cb4 sb5 hvc
    replace hvc := hK15 _ _ _ _ hvc
    exact hret _ _ _ _ _ _ dJ5_navigableKeySet_26 hvc
  refine j_ifnull (tgt := 13) hC dJ5_navigableKeySet_6 rfl (fun c8 => ?_) (fun a9 c8 => ?_)
  · subst c8; replace hvc := hvc.1 rfl
    refine j_aload_n hC dJ5_navigableKeySet_13 rfl 1 rfl ?_
    obtain ⟨h1, h2, hvc⟩ := hvc
    refine j_new hC nwJ5_222 dJ5_navigableKeySet_14 (n := 1) rfl h1 h2 (fun q10 st11 e1 e2 => ?_)
    replace hvc := hvc q10 st11 e1 e2; clear h1 h2 e1 e2
    refine j_dup hC dJ5_navigableKeySet_17 g_c1 ?_
    refine j_aload_n hC dJ5_navigableKeySet_18 rfl 1 rfl ?_
    refine j_callI (As := [va_rf (some a0)]) (rest := [va_rf (some q10), va_rf (some a0)]) (n := 1) hC hvc (lw_meth q1634) q82 q1632 q1633 rfl (by decide +kernel) (g_rm hR rfl rfl) rfl rfl (g_sum rfl) dJ5_navigableKeySet_19 (Nat.zero_le _) (Nat.zero_le _) (g_Kv fun st12 hv2 hx => ?_)
    replace hvc := hv2 hx; clear hx hv2
    refine j_dup_x1 hC dJ5_navigableKeySet_22 g_c1 g_c1 ?_
    obtain ⟨fs13, hm, hvc⟩ := hvc
    refine j_put hC fkJ5_191_J5 dJ5_navigableKeySet_23 hm g_no g_fo (fun st14 e1 => ?_)
    replace hvc := hvc st14 e1; clear hm e1
    exact j_sub [] rfl (kh7 (some q10) st14 (cb - 1) (sb - 1) hvc)
  · subst c8; replace hvc := hvc.2 a9 rfl
    refine j_aload_n hC dJ5_navigableKeySet_9 rfl 0 rfl ?_
    refine j_goto (tgt := 26) hC dJ5_navigableKeySet_10 rfl ?_
    exact j_sub [] rfl (kh7 (some a9) st cb sb hvc)
theorem wk_J5_navigableKeySet {l : Launch} {E : g_E} {a0 : Nat} {st : g_St} {mc ms : Nat} {Q : Option Nat → g_St → Prop} (hvc : vc_J5_navigableKeySet l E a0 st mc ms Q) : wp_J5_navigableKeySet l E mc ms [va_rf (some a0)] st Q :=
  g_enter (lv0 := [(0, va_rf (some a0))]) (plainFor_of_name (by decide +kernel)) (by simp [lv_args, g_c1, g_ci, g_cL]) (by simp [lg_sl, g_c1, g_ci, g_cL]) (fun p e s m args below meth c hC => wb_J5_navigableKeySet hC ⟨Nat.le_refl _, Nat.le_refl _⟩ (fun pc lv v st1 cb sb hd hq => j_areturn hC rfl (by first | exact Or.inl ⟨_, rfl⟩ | exact Or.inr ⟨_, rfl⟩) hd (g_av hq)) hvc)
abbrev wp_J5_keySet (l : Launch) (E : g_E) (mc ms : Nat) (av : List Value) (st : g_St) (Q : Option Nat → g_St → Prop) : Prop := g_WPa l E yJ5_keySet cJ5_keySet 1 (some (.object "java/util/Set")) 5 122 mc ms av st Q
def vc_J5_keySet (l : Launch) (E : g_E) (a0 : Nat) (st : g_St) (cb sb : Nat) (Q : Option Nat → g_St → Prop) : Prop :=
  ∃ mc3 ms4 : Nat, mc3 ≤ cb ∧ ms4 ≤ sb ∧ g_is st a0 3 ∧ wp_J5_navigableKeySet l E mc3 ms4 [va_rf (some a0)] st (fun o1 st2 => g_Ext st st2 → Q o1 st2)
set_option maxHeartbeats 4000000 in
theorem wb_J5_keySet {p : Program} {l : Launch} {e : Env} {R : Room} {s : State} {m : MethodId} {args : Array Value} {below : List Frame} {meth : Method} {c : Code} {E : g_E} {st0 : g_St} {Z : State → Prop} (hC : g_Cx p s m args meth c cJ5_keySet 1 "java/util/TreeMap" (some (.object "java/util/Set")) "keySet" E st0) (hR : g_Rm 5 122 R) {a0 : Nat} {st : g_St} {cb sb : Nat} {Q : Option Nat → g_St → Prop} (hret : ∀ (pc : Nat) (lv : List (Nat × Value)) (v : Option Nat) (st1 : g_St) (cb sb : Nat), decode cJ5_keySet pc = .ok (.areturn, 1) → Q v st1 → g_J p l e R s m args below meth c 1 E st0 Z pc lv [va_rf v] st1 cb sb) (hvc : vc_J5_keySet l E a0 st cb sb Q) : g_J p l e R s m args below meth c 1 E st0 Z 0 [(0, va_rf (some a0))] [] st cb sb := by
  unfold vc_J5_keySet at hvc
  refine j_aload_n hC dJ5_keySet_0 rfl 0 rfl ?_
  obtain ⟨mc3, ms4, h1, h2, hvc⟩ := hvc
  obtain ⟨⟨fs, hr⟩, hvc⟩ := hvc
  refine j_callV (As := []) (rest := []) (n := 0) (ci := 3) hC hvc (lw_V q1626 q1627 q1628 q47 q1629) (by decide +kernel) (g_rm hR rfl rfl) rfl hr rfl rfl (g_sum rfl) dJ5_keySet_1 h1 h2 (g_Ka fun o1 st2 hv2 hx => ?_)
  replace hvc := hv2 hx; clear hx hv2
  clear hr fs
  exact hret _ _ _ _ _ _ dJ5_keySet_4 hvc
theorem wk_J5_keySet {l : Launch} {E : g_E} {a0 : Nat} {st : g_St} {mc ms : Nat} {Q : Option Nat → g_St → Prop} (hvc : vc_J5_keySet l E a0 st mc ms Q) : wp_J5_keySet l E mc ms [va_rf (some a0)] st Q :=
  g_enter (lv0 := [(0, va_rf (some a0))]) (plainFor_of_name (by decide +kernel)) (by simp [lv_args, g_c1, g_ci, g_cL]) (by simp [lg_sl, g_c1, g_ci, g_cL]) (fun p e s m args below meth c hC => wb_J5_keySet hC ⟨Nat.le_refl _, Nat.le_refl _⟩ (fun pc lv v st1 cb sb hd hq => j_areturn hC rfl (by first | exact Or.inl ⟨_, rfl⟩ | exact Or.inr ⟨_, rfl⟩) hd (g_av hq)) hvc)
abbrev wp_J37_init_J39 (l : Launch) (E : g_E) (mc ms : Nat) (av : List Value) (st : g_St) (Q : g_St → Prop) : Prop := g_WPv l E yJ37_init cJ37_init 3 none 1 40 mc ms av st Q
def vc_J37_init_J39 (l : Launch) (E : g_E) (a0 : Nat) (p0 : Option Nat) (p1 : Option Nat) (st : g_St) (Q : g_St → Prop) : Prop :=
  ∃ fs1 : List Value, st.2.1 a0 = some (.inr (10, fs1)) ∧ ∀ st2 : g_St, st2 = g_put st a0 (.inr (10, fs1.set 3 (va_rf p0))) → ∃ a3 : Nat, p0 = some a3 ∧ ∃ x4 : Int32, g_gi st2 a3 3 5 x4 ∧ ∃ fs5 : List Value, st2.2.1 a0 = some (.inr (10, fs5)) ∧ ∀ st6 : g_St, st6 = g_put st2 a0 (.inr (10, fs5.set 2 (.int x4))) → ∃ fs7 : List Value, st6.2.1 a0 = some (.inr (10, fs7)) ∧ ∀ st8 : g_St, st8 = g_put st6 a0 (.inr (10, fs7.set 1 (va_rf none))) → ∃ fs9 : List Value, st8.2.1 a0 = some (.inr (10, fs9)) ∧ ∀ st10 : g_St, st10 = g_put st8 a0 (.inr (10, fs9.set 0 (va_rf p1))) → Q st10
set_option maxHeartbeats 4000000 in
theorem wb_J37_init_J39 {p : Program} {l : Launch} {e : Env} {R : Room} {s : State} {m : MethodId} {args : Array Value} {below : List Frame} {meth : Method} {c : Code} {E : g_E} {st0 : g_St} {Z : State → Prop} (hC : g_Cx p s m args meth c cJ37_init 3 "java/util/TreeMap$PrivateEntryIterator" none "<init>" E st0) (hR : g_Rm 1 40 R) {a0 : Nat} {p0 : Option Nat} {p1 : Option Nat} {st : g_St} {cb sb : Nat} {Q : g_St → Prop} (hret : ∀ (pc : Nat) (lv : List (Nat × Value)) (st1 : g_St) (cb sb : Nat), decode cJ37_init pc = .ok (.return_, 1) → Q st1 → g_J p l e R s m args below meth c 3 E st0 Z pc lv [] st1 cb sb) (hvc : vc_J37_init_J39 l E a0 p0 p1 st Q) : g_J p l e R s m args below meth c 3 E st0 Z 0 [(0, va_rf (some a0)), (1, va_rf p0), (2, va_rf p1)] [] st cb sb := by
  unfold vc_J37_init_J39 at hvc
  refine j_aload_n hC dJ37_init_0 rfl 0 rfl ?_
  refine j_aload_n hC dJ37_init_1 rfl 1 rfl ?_
  obtain ⟨fs1, hm, hvc⟩ := hvc
  refine j_putF hC fkJ37_1_J39 rfl dJ37_init_2 hm g_no g_fo (fun st2 e1 => ?_)
  replace hvc := hvc st2 e1; clear hm e1
  refine j_aload_n hC dJ37_init_5 rfl 0 rfl ?_
  refine j_objInit hC q1290 q99 q100 (Nat.le_trans (Nat.le_of_ble_eq_true rfl) hR.1) (Nat.le_trans (g_sumO rfl) hR.2) dJ37_init_6 ?_
  refine j_aload_n hC dJ37_init_9 rfl 0 rfl ?_
  refine j_aload_n hC dJ37_init_10 rfl 1 rfl ?_
  obtain ⟨a3, rfl, hvc⟩ := hvc
  obtain ⟨x4, ⟨fs, hr, hv⟩, hvc⟩ := hvc
  refine j_getN hC fkJ37_13_J5 dJ37_init_11 hr hv ?_
  clear hv hr fs
  obtain ⟨fs5, hm, hvc⟩ := hvc
  refine j_put hC fkJ37_19_J39 dJ37_init_14 hm rfl rfl (fun st6 e1 => ?_)
  replace hvc := hvc st6 e1; clear hm e1
  refine j_aload_n hC dJ37_init_17 rfl 0 rfl ?_
  refine j_null hC dJ37_init_18 ?_
  obtain ⟨fs7, hm, hvc⟩ := hvc
  refine j_put hC fkJ37_22_J39 dJ37_init_19 hm g_no g_fo (fun st8 e1 => ?_)
  replace hvc := hvc st8 e1; clear hm e1
  refine j_aload_n hC dJ37_init_22 rfl 0 rfl ?_
  refine j_aload_n hC dJ37_init_23 rfl 2 rfl ?_
  obtain ⟨fs9, hm, hvc⟩ := hvc
  refine j_put hC fkJ37_26_J39 dJ37_init_24 hm g_no g_fo (fun st10 e1 => ?_)
  replace hvc := hvc st10 e1; clear hm e1
  exact hret _ _ _ _ _ dJ37_init_27 hvc
theorem wk_J37_init_J39 {l : Launch} {E : g_E} {a0 : Nat} {p0 : Option Nat} {p1 : Option Nat} {st : g_St} {mc ms : Nat} {Q : g_St → Prop} (hvc : vc_J37_init_J39 l E a0 p0 p1 st Q) : wp_J37_init_J39 l E mc ms [va_rf (some a0), va_rf p0, va_rf p1] st Q :=
  g_enter (lv0 := [(0, va_rf (some a0)), (1, va_rf p0), (2, va_rf p1)]) (plainFor_of_name (by decide +kernel)) (by simp [lv_args, g_c1, g_ci, g_cL]) (by simp [lg_sl, g_c1, g_ci, g_cL]) (fun p e s m args below meth c hC => wb_J37_init_J39 hC ⟨Nat.le_refl _, Nat.le_refl _⟩ (fun pc lv st1 cb sb hd hq => j_return hC rfl hd ⟨rfl, hq⟩) hvc)
abbrev wp_J39_init (l : Launch) (E : g_E) (mc ms : Nat) (av : List Value) (st : g_St) (Q : g_St → Prop) : Prop := g_WPv l E yJ39_init cJ39_init 3 none 2 62 mc ms av st Q
def vc_J39_init (l : Launch) (E : g_E) (a0 : Nat) (p0 : Option Nat) (p1 : Option Nat) (st : g_St) (Q : g_St → Prop) : Prop :=
  wp_J37_init_J39 l E 0 0 [va_rf (some a0), va_rf p0, va_rf p1] st (fun st1 => g_Ext st st1 → Q st1)
set_option maxHeartbeats 4000000 in
theorem wb_J39_init {p : Program} {l : Launch} {e : Env} {R : Room} {s : State} {m : MethodId} {args : Array Value} {below : List Frame} {meth : Method} {c : Code} {E : g_E} {st0 : g_St} {Z : State → Prop} (hC : g_Cx p s m args meth c cJ39_init 3 "java/util/TreeMap$KeyIterator" none "<init>" E st0) (hR : g_Rm 2 62 R) {a0 : Nat} {p0 : Option Nat} {p1 : Option Nat} {st : g_St} {cb sb : Nat} {Q : g_St → Prop} (hret : ∀ (pc : Nat) (lv : List (Nat × Value)) (st1 : g_St) (cb sb : Nat), decode cJ39_init pc = .ok (.return_, 1) → Q st1 → g_J p l e R s m args below meth c 3 E st0 Z pc lv [] st1 cb sb) (hvc : vc_J39_init l E a0 p0 p1 st Q) : g_J p l e R s m args below meth c 3 E st0 Z 0 [(0, va_rf (some a0)), (1, va_rf p0), (2, va_rf p1)] [] st cb sb := by
  unfold vc_J39_init at hvc
  refine j_aload_n hC dJ39_init_0 rfl 0 rfl ?_
  refine j_aload_n hC dJ39_init_1 rfl 1 rfl ?_
  refine j_aload_n hC dJ39_init_2 rfl 2 rfl ?_
  refine j_callI (As := [va_rf p0, va_rf p1]) (rest := []) (n := 2) hC hvc (lw_meth q1289) q83 q1320 q1288 rfl (by decide +kernel) (g_rm hR rfl rfl) rfl rfl (g_sum rfl) dJ39_init_3 (Nat.zero_le _) (Nat.zero_le _) (g_Kv fun st1 hv2 hx => ?_)
  replace hvc := hv2 hx; clear hx hv2
  exact hret _ _ _ _ _ dJ39_init_6 hvc
theorem wk_J39_init {l : Launch} {E : g_E} {a0 : Nat} {p0 : Option Nat} {p1 : Option Nat} {st : g_St} {mc ms : Nat} {Q : g_St → Prop} (hvc : vc_J39_init l E a0 p0 p1 st Q) : wp_J39_init l E mc ms [va_rf (some a0), va_rf p0, va_rf p1] st Q :=
  g_enter (lv0 := [(0, va_rf (some a0)), (1, va_rf p0), (2, va_rf p1)]) (plainFor_of_name (by decide +kernel)) (by simp [lv_args, g_c1, g_ci, g_cL]) (by simp [lg_sl, g_c1, g_ci, g_cL]) (fun p e s m args below meth c hC => wb_J39_init hC ⟨Nat.le_refl _, Nat.le_refl _⟩ (fun pc lv st1 cb sb hd hq => j_return hC rfl hd ⟨rfl, hq⟩) hvc)
abbrev wp_J5_keyIterator (l : Launch) (E : g_E) (mc ms : Nat) (av : List Value) (st : g_St) (Q : Option Nat → g_St → Prop) : Prop := g_WPa l E yJ5_keyIterator cJ5_keyIterator 1 (some (.object "java/util/Iterator")) 3 84 mc ms av st Q
def vc_J5_keyIterator (l : Launch) (E : g_E) (a0 : Nat) (st : g_St) (cb sb : Nat) (Q : Option Nat → g_St → Prop) : Prop :=
  1 ≤ cb ∧ 4 ≤ sb ∧ ∀ (q1 : Nat) (st2 : g_St), q1 = st.2.2 → st2 = g_new st (.inr (10, [va_rf none, va_rf none, .int 0, va_rf none])) → g_is st2 a0 3 ∧ wp_J5_getFirstEntry l E 0 0 [va_rf (some a0)] st2 (fun o3 stx => stx = st2 ∧ wp_J39_init l E 0 0 [va_rf (some q1), va_rf (some a0), va_rf o3] st2 (fun st4 => g_Ext st2 st4 → Q (some q1) st4))
set_option maxHeartbeats 4000000 in
theorem wb_J5_keyIterator {p : Program} {l : Launch} {e : Env} {R : Room} {s : State} {m : MethodId} {args : Array Value} {below : List Frame} {meth : Method} {c : Code} {E : g_E} {st0 : g_St} {Z : State → Prop} (hC : g_Cx p s m args meth c cJ5_keyIterator 1 "java/util/TreeMap" (some (.object "java/util/Iterator")) "keyIterator" E st0) (hR : g_Rm 3 84 R) {a0 : Nat} {st : g_St} {cb sb : Nat} {Q : Option Nat → g_St → Prop} (hret : ∀ (pc : Nat) (lv : List (Nat × Value)) (v : Option Nat) (st1 : g_St) (cb sb : Nat), decode cJ5_keyIterator pc = .ok (.areturn, 1) → Q v st1 → g_J p l e R s m args below meth c 1 E st0 Z pc lv [va_rf v] st1 cb sb) (hvc : vc_J5_keyIterator l E a0 st cb sb Q) : g_J p l e R s m args below meth c 1 E st0 Z 0 [(0, va_rf (some a0))] [] st cb sb := by
  unfold vc_J5_keyIterator at hvc
  obtain ⟨h1, h2, hvc⟩ := hvc
  refine j_new hC nwJ5_269 dJ5_keyIterator_0 (n := 4) rfl h1 h2 (fun q1 st2 e1 e2 => ?_)
  replace hvc := hvc q1 st2 e1 e2; clear h1 h2 e1 e2
  refine j_dup hC dJ5_keyIterator_3 g_c1 ?_
  refine j_aload_n hC dJ5_keyIterator_4 rfl 0 rfl ?_
  refine j_aload_n hC dJ5_keyIterator_5 rfl 0 rfl ?_
  obtain ⟨⟨fs, hr⟩, hvc⟩ := hvc
  refine j_callV (As := []) (rest := [va_rf (some a0), va_rf (some q1), va_rf (some q1)]) (n := 0) (ci := 3) hC hvc (lw_V q1316 q953 q954 q47 q955) (by decide +kernel) (g_rm hR rfl rfl) rfl hr rfl rfl (g_sum rfl) dJ5_keyIterator_6 (Nat.zero_le _) (Nat.zero_le _) (g_Kap fun o3 hv2 => ?_)
  replace hvc := hv2; clear hv2
  clear hr fs
  refine j_callI (As := [va_rf (some a0), va_rf o3]) (rest := [va_rf (some q1)]) (n := 2) hC hvc (lw_meth q1319) q85 q1317 q1318 rfl (by decide +kernel) (g_rm hR rfl rfl) rfl rfl (g_sum rfl) dJ5_keyIterator_9 (Nat.zero_le _) (Nat.zero_le _) (g_Kv fun st4 hv2 hx => ?_)
  replace hvc := hv2 hx; clear hx hv2
  exact hret _ _ _ _ _ _ dJ5_keyIterator_12 hvc
theorem wk_J5_keyIterator {l : Launch} {E : g_E} {a0 : Nat} {st : g_St} {mc ms : Nat} {Q : Option Nat → g_St → Prop} (hvc : vc_J5_keyIterator l E a0 st mc ms Q) : wp_J5_keyIterator l E mc ms [va_rf (some a0)] st Q :=
  g_enter (lv0 := [(0, va_rf (some a0))]) (plainFor_of_name (by decide +kernel)) (by simp [lv_args, g_c1, g_ci, g_cL]) (by simp [lg_sl, g_c1, g_ci, g_cL]) (fun p e s m args below meth c hC => wb_J5_keyIterator hC ⟨Nat.le_refl _, Nat.le_refl _⟩ (fun pc lv v st1 cb sb hd hq => j_areturn hC rfl (by first | exact Or.inl ⟨_, rfl⟩ | exact Or.inr ⟨_, rfl⟩) hd (g_av hq)) hvc)
abbrev wp_J36_iterator (l : Launch) (E : g_E) (mc ms : Nat) (av : List Value) (st : g_St) (Q : Option Nat → g_St → Prop) : Prop := g_WPa l E yJ36_iterator cJ36_iterator 1 (some (.object "java/util/Iterator")) 4 104 mc ms av st Q
def vc_J36_iterator (l : Launch) (E : g_E) (a0 : Nat) (st : g_St) (cb sb : Nat) (Q : Option Nat → g_St → Prop) : Prop :=
  ∃ o1 : Option Nat, g_gr st a0 8 0 o1 ∧ ∃ a2 : Nat, o1 = some a2 ∧ g_is st a2 3 ∧ ∃ o3 : Option Nat, g_gr st a0 8 0 o3 ∧ g_isN st o3 3 ∧ ∃ a4 : Nat, o3 = some a4 ∧ ∃ mc7 ms8 : Nat, mc7 ≤ cb ∧ ms8 ≤ sb ∧ g_is st a4 3 ∧ wp_J5_keyIterator l E mc7 ms8 [va_rf (some a4)] st (fun o5 st6 => g_Ext st st6 → Q o5 st6)
set_option maxHeartbeats 4000000 in
theorem wb_J36_iterator {p : Program} {l : Launch} {e : Env} {R : Room} {s : State} {m : MethodId} {args : Array Value} {below : List Frame} {meth : Method} {c : Code} {E : g_E} {st0 : g_St} {Z : State → Prop} (hC : g_Cx p s m args meth c cJ36_iterator 1 "java/util/TreeMap$KeySet" (some (.object "java/util/Iterator")) "iterator" E st0) (hR : g_Rm 4 104 R) {a0 : Nat} {st : g_St} {cb sb : Nat} {Q : Option Nat → g_St → Prop} (hret : ∀ (pc : Nat) (lv : List (Nat × Value)) (v : Option Nat) (st1 : g_St) (cb sb : Nat), decode cJ36_iterator pc = .ok (.areturn, 1) → Q v st1 → g_J p l e R s m args below meth c 1 E st0 Z pc lv [va_rf v] st1 cb sb) (hvc : vc_J36_iterator l E a0 st cb sb Q) : g_J p l e R s m args below meth c 1 E st0 Z 0 [(0, va_rf (some a0))] [] st cb sb := by
  unfold vc_J36_iterator at hvc
  refine j_aload_n hC dJ36_iterator_0 rfl 0 rfl ?_
  obtain ⟨o1, ⟨fs, hr, hv⟩, hvc⟩ := hvc
  refine j_get hC fkJ36_7_J36 dJ36_iterator_1 hr hv ?_
  clear hv hr fs
  obtain ⟨a2, rfl, hvc⟩ := hvc
  obtain ⟨⟨fs, hv⟩, hvc⟩ := hvc
  refine j_inst hC (C := "java/util/TreeMap") (ci := 3) q1309 rfl (Or.inl rfl) hv dJ36_iterator_4 ?_
  change g_J p l e R s m args below meth c 1 E st0 Z 7 _ (.int (nI 1) :: _) _ _ _
  clear hv fs
  refine j_if_eq (tgt := 21) hC dJ36_iterator_7 rfl (fun c9 => absurd c9 (by decide)) (fun _ => ?_)
  refine j_aload_n hC dJ36_iterator_10 rfl 0 rfl ?_
  obtain ⟨o3, ⟨fs, hr, hv⟩, hvc⟩ := hvc
  refine j_get hC fkJ36_7_J36 dJ36_iterator_11 hr hv ?_
  clear hv hr fs
  obtain ⟨hv, hvc⟩ := hvc
  refine j_cast hC (C := "java/util/TreeMap") (ci := 3) q1309 rfl (Or.inl rfl) hv dJ36_iterator_14 ?_
  clear hv
  obtain ⟨a4, rfl, hvc⟩ := hvc
  obtain ⟨mc7, ms8, h1, h2, hvc⟩ := hvc
  obtain ⟨⟨fs, hr⟩, hvc⟩ := hvc
  refine j_callV (As := []) (rest := []) (n := 0) (ci := 3) hC hvc (lw_V q1310 q1311 q1312 q47 q1313) (by decide +kernel) (g_rm hR rfl rfl) rfl hr rfl rfl (g_sum rfl) dJ36_iterator_17 h1 h2 (g_Ka fun o5 st6 hv2 hx => ?_)
  replace hvc := hv2 hx; clear hx hv2
  clear hr fs
  exact hret _ _ _ _ _ _ dJ36_iterator_20 hvc
theorem wk_J36_iterator {l : Launch} {E : g_E} {a0 : Nat} {st : g_St} {mc ms : Nat} {Q : Option Nat → g_St → Prop} (hvc : vc_J36_iterator l E a0 st mc ms Q) : wp_J36_iterator l E mc ms [va_rf (some a0)] st Q :=
  g_enter (lv0 := [(0, va_rf (some a0))]) (plainFor_of_name (by decide +kernel)) (by simp [lv_args, g_c1, g_ci, g_cL]) (by simp [lg_sl, g_c1, g_ci, g_cL]) (fun p e s m args below meth c hC => wb_J36_iterator hC ⟨Nat.le_refl _, Nat.le_refl _⟩ (fun pc lv v st1 cb sb hd hq => j_areturn hC rfl (by first | exact Or.inl ⟨_, rfl⟩ | exact Or.inr ⟨_, rfl⟩) hd (g_av hq)) hvc)
abbrev wp_J37_hasNext_J39 (l : Launch) (E : g_E) (mc ms : Nat) (av : List Value) (st : g_St) (Q : Int32 → g_St → Prop) : Prop := g_WPi l E yJ37_hasNext cJ37_hasNext 1 (some .boolean) 1 40 mc ms av st Q
def vc_J37_hasNext_J39 (l : Launch) (E : g_E) (a0 : Nat) (st : g_St) (Q : Int32 → g_St → Prop) : Prop :=
  ∃ o1 : Option Nat, g_gr st a0 10 0 o1 ∧ g_jn1 (fun (K3 : Int32 → Prop) => (o1 = none → K3 (nI 0)) ∧ (∀ a6 : Nat, o1 = some a6 → K3 (nI 1))) (fun (x2 : Int32) => narrow .boolean (.int x2) = .int x2 ∧ Q x2 st)
set_option maxHeartbeats 4000000 in
theorem wb_J37_hasNext_J39 {p : Program} {l : Launch} {e : Env} {R : Room} {s : State} {m : MethodId} {args : Array Value} {below : List Frame} {meth : Method} {c : Code} {E : g_E} {st0 : g_St} {Z : State → Prop} (hC : g_Cx p s m args meth c cJ37_hasNext 1 "java/util/TreeMap$PrivateEntryIterator" (some .boolean) "hasNext" E st0) (hR : g_Rm 1 40 R) {a0 : Nat} {st : g_St} {cb sb : Nat} {Q : Int32 → g_St → Prop} (hret : ∀ (pc : Nat) (lv : List (Nat × Value)) (v : Int32) (st1 : g_St) (cb sb : Nat), decode cJ37_hasNext pc = .ok (.ireturn, 1) → narrow .boolean (.int v) = .int v → Q v st1 → g_J p l e R s m args below meth c 1 E st0 Z pc lv [.int v] st1 cb sb) (hvc : vc_J37_hasNext_J39 l E a0 st Q) : g_J p l e R s m args below meth c 1 E st0 Z 0 [(0, va_rf (some a0))] [] st cb sb := by
  unfold vc_J37_hasNext_J39 at hvc
  refine j_aload_n hC dJ37_hasNext_0 rfl 0 rfl ?_
  obtain ⟨o1, ⟨fs, hr, hv⟩, hvc⟩ := hvc
  refine j_get hC fkJ37_26_J39 dJ37_hasNext_1 hr hv ?_
  clear hv hr fs
  replace hvc := g_jn1_o hvc
  obtain ⟨K3, hK7, hvc⟩ := hvc
  have kh4 : ∀ (x2 : Int32), K3 x2 → g_J p l e R s m args below meth c 1 E st0 Z 12 [] [.int x2] st cb sb := by
    clear hvc
    intro x2 hvc
    replace hvc := hK7 _ hvc
    exact hret _ _ _ _ _ _ dJ37_hasNext_12 hvc.1 hvc.2
  refine j_ifnull (tgt := 11) hC dJ37_hasNext_4 rfl (fun c5 => ?_) (fun a6 c5 => ?_)
  · subst c5; replace hvc := hvc.1 rfl
    refine j_iconst hC (nI 0) dJ37_hasNext_11 rfl ?_
    exact j_sub [] rfl (kh4 (nI 0) hvc)
  · subst c5; replace hvc := hvc.2 a6 rfl
    refine j_iconst hC (nI 1) dJ37_hasNext_7 rfl ?_
    refine j_goto (tgt := 12) hC dJ37_hasNext_8 rfl ?_
    exact j_sub [] rfl (kh4 (nI 1) hvc)
theorem wk_J37_hasNext_J39 {l : Launch} {E : g_E} {a0 : Nat} {st : g_St} {mc ms : Nat} {Q : Int32 → g_St → Prop} (hvc : vc_J37_hasNext_J39 l E a0 st Q) : wp_J37_hasNext_J39 l E mc ms [va_rf (some a0)] st Q :=
  g_enter (lv0 := [(0, va_rf (some a0))]) (plainFor_of_name (by decide +kernel)) (by simp [lv_args, g_c1, g_ci, g_cL]) (by simp [lg_sl, g_c1, g_ci, g_cL]) (fun p e s m args below meth c hC => wb_J37_hasNext_J39 hC ⟨Nat.le_refl _, Nat.le_refl _⟩ (fun pc lv v st1 cb sb hd hn hq => j_ireturn hC rfl hn hd (g_iv hq)) hvc)
abbrev wp_J37_nextEntry_J39 (l : Launch) (E : g_E) (mc ms : Nat) (av : List Value) (st : g_St) (Q : Option Nat → g_St → Prop) : Prop := g_WPa l E yJ37_nextEntry cJ37_nextEntry 2 (some (.object "java/util/TreeMap$Entry")) 2 62 mc ms av st Q
def vc_J37_nextEntry_J39 (l : Launch) (E : g_E) (a0 : Nat) (st : g_St) (Q : Option Nat → g_St → Prop) : Prop :=
  ∃ o1 : Option Nat, g_gr st a0 10 0 o1 ∧ (o1 = none → False) ∧ (∀ a3 : Nat, o1 = some a3 → ∃ o4 : Option Nat, g_gr st a0 10 3 o4 ∧ ∃ a5 : Nat, o4 = some a5 ∧ ∃ x6 : Int32, g_gi st a5 3 5 x6 ∧ ∃ x7 : Int32, g_gi st a0 10 2 x7 ∧ (x6 = x7 → wp_J5_successor l E 0 0 [va_rf (some a3)] st (fun o9 stx => stx = st ∧ ∃ fs10 : List Value, st.2.1 a0 = some (.inr (10, fs10)) ∧ ∀ st11 : g_St, st11 = g_put st a0 (.inr (10, fs10.set 0 (va_rf o9))) → ∃ fs12 : List Value, st11.2.1 a0 = some (.inr (10, fs12)) ∧ ∀ st13 : g_St, st13 = g_put st11 a0 (.inr (10, fs12.set 1 (va_rf (some a3)))) → Q (some a3) st13)) ∧ (¬ x6 = x7 → False))
set_option maxHeartbeats 4000000 in
theorem wb_J37_nextEntry_J39 {p : Program} {l : Launch} {e : Env} {R : Room} {s : State} {m : MethodId} {args : Array Value} {below : List Frame} {meth : Method} {c : Code} {E : g_E} {st0 : g_St} {Z : State → Prop} (hC : g_Cx p s m args meth c cJ37_nextEntry 2 "java/util/TreeMap$PrivateEntryIterator" (some (.object "java/util/TreeMap$Entry")) "nextEntry" E st0) (hR : g_Rm 2 62 R) {a0 : Nat} {st : g_St} {cb sb : Nat} {Q : Option Nat → g_St → Prop} (hret : ∀ (pc : Nat) (lv : List (Nat × Value)) (v : Option Nat) (st1 : g_St) (cb sb : Nat), decode cJ37_nextEntry pc = .ok (.areturn, 1) → Q v st1 → g_J p l e R s m args below meth c 2 E st0 Z pc lv [va_rf v] st1 cb sb) (hvc : vc_J37_nextEntry_J39 l E a0 st Q) : g_J p l e R s m args below meth c 2 E st0 Z 0 [(0, va_rf (some a0))] [] st cb sb := by
  unfold vc_J37_nextEntry_J39 at hvc
  refine j_aload_n hC dJ37_nextEntry_0 rfl 0 rfl ?_
  obtain ⟨o1, ⟨fs, hr, hv⟩, hvc⟩ := hvc
  refine j_get hC fkJ37_26_J39 dJ37_nextEntry_1 hr hv ?_
  clear hv hr fs
  refine j_astore_n (lv0 := [(0, va_rf (some a0))]) hC dJ37_nextEntry_4 rfl rfl [0] rfl (g_okS.h rfl g_c1 rfl) ?_
  refine j_aload_n hC dJ37_nextEntry_5 rfl 0 rfl ?_
  refine j_ifnonnull (tgt := 17) hC dJ37_nextEntry_6 rfl (fun a3 c2 => ?_) (fun c2 => ?_)
  · subst c2; replace hvc := hvc.2 a3 rfl
    refine j_aload_n hC dJ37_nextEntry_17 rfl 1 rfl ?_
    obtain ⟨o4, ⟨fs, hr, hv⟩, hvc⟩ := hvc
    refine j_get hC fkJ37_1_J39 dJ37_nextEntry_18 hr hv ?_
    clear hv hr fs
    obtain ⟨a5, rfl, hvc⟩ := hvc
    obtain ⟨x6, ⟨fs, hr, hv⟩, hvc⟩ := hvc
    refine j_getN hC fkJ37_13_J5 dJ37_nextEntry_21 hr hv ?_
    clear hv hr fs
    refine j_aload_n hC dJ37_nextEntry_24 rfl 1 rfl ?_
    obtain ⟨x7, ⟨fs, hr, hv⟩, hvc⟩ := hvc
    refine j_get hC fkJ37_19_J39 dJ37_nextEntry_25 hr hv ?_
    clear hv hr fs
    refine j_icmp_eq (tgt := 39) hC dJ37_nextEntry_28 rfl (fun c8 => ?_) (fun c8 => ?_)
    · replace hvc := hvc.1 c8
      refine j_aload_n hC dJ37_nextEntry_39 rfl 1 rfl ?_
      refine j_aload_n hC dJ37_nextEntry_40 rfl 0 rfl ?_
      refine j_callS (As := [va_rf (some a3)]) (rest := [va_rf (some a0)]) (n := 1) hC hvc (lw_S q1081 q1082 q47 q1083) (by decide +kernel) (g_rm hR rfl rfl) rfl rfl (g_sum rfl) dJ37_nextEntry_41 (Nat.zero_le _) (Nat.zero_le _) (g_Kap fun o9 hv2 => ?_)
      replace hvc := hv2; clear hv2
      obtain ⟨fs10, hm, hvc⟩ := hvc
      refine j_put hC fkJ37_26_J39 dJ37_nextEntry_44 hm g_no g_fo (fun st11 e1 => ?_)
      replace hvc := hvc st11 e1; clear hm e1
      refine j_aload_n hC dJ37_nextEntry_47 rfl 1 rfl ?_
      refine j_aload_n hC dJ37_nextEntry_48 rfl 0 rfl ?_
      obtain ⟨fs12, hm, hvc⟩ := hvc
      refine j_put hC fkJ37_22_J39 dJ37_nextEntry_49 hm g_no g_fo (fun st13 e1 => ?_)
      replace hvc := hvc st13 e1; clear hm e1
      refine j_aload_n hC dJ37_nextEntry_52 rfl 0 rfl ?_
      exact hret _ _ _ _ _ _ dJ37_nextEntry_53 hvc
    · replace hvc := hvc.2 c8
      exact hvc.elim
  · subst c2; replace hvc := hvc.1 rfl
    exact hvc.elim
theorem wk_J37_nextEntry_J39 {l : Launch} {E : g_E} {a0 : Nat} {st : g_St} {mc ms : Nat} {Q : Option Nat → g_St → Prop} (hvc : vc_J37_nextEntry_J39 l E a0 st Q) : wp_J37_nextEntry_J39 l E mc ms [va_rf (some a0)] st Q :=
  g_enter (lv0 := [(0, va_rf (some a0))]) (plainFor_of_name (by decide +kernel)) (by simp [lv_args, g_c1, g_ci, g_cL]) (by simp [lg_sl, g_c1, g_ci, g_cL]) (fun p e s m args below meth c hC => wb_J37_nextEntry_J39 hC ⟨Nat.le_refl _, Nat.le_refl _⟩ (fun pc lv v st1 cb sb hd hq => j_areturn hC rfl (by first | exact Or.inl ⟨_, rfl⟩ | exact Or.inr ⟨_, rfl⟩) hd (g_av hq)) hvc)
abbrev wp_J39_next (l : Launch) (E : g_E) (mc ms : Nat) (av : List Value) (st : g_St) (Q : Option Nat → g_St → Prop) : Prop := g_WPa l E yJ39_next cJ39_next 1 (some (.object "java/lang/Object")) 3 83 mc ms av st Q
def vc_J39_next (l : Launch) (E : g_E) (a0 : Nat) (st : g_St) (Q : Option Nat → g_St → Prop) : Prop :=
  g_is st a0 10 ∧ wp_J37_nextEntry_J39 l E 0 0 [va_rf (some a0)] st (fun o1 st2 => g_Ext st st2 → ∃ a3 : Nat, o1 = some a3 ∧ ∃ o4 : Option Nat, g_gr st2 a3 4 0 o4 ∧ Q o4 st2)
set_option maxHeartbeats 4000000 in
theorem wb_J39_next {p : Program} {l : Launch} {e : Env} {R : Room} {s : State} {m : MethodId} {args : Array Value} {below : List Frame} {meth : Method} {c : Code} {E : g_E} {st0 : g_St} {Z : State → Prop} (hC : g_Cx p s m args meth c cJ39_next 1 "java/util/TreeMap$KeyIterator" (some (.object "java/lang/Object")) "next" E st0) (hR : g_Rm 3 83 R) {a0 : Nat} {st : g_St} {cb sb : Nat} {Q : Option Nat → g_St → Prop} (hret : ∀ (pc : Nat) (lv : List (Nat × Value)) (v : Option Nat) (st1 : g_St) (cb sb : Nat), decode cJ39_next pc = .ok (.areturn, 1) → Q v st1 → g_J p l e R s m args below meth c 1 E st0 Z pc lv [va_rf v] st1 cb sb) (hvc : vc_J39_next l E a0 st Q) : g_J p l e R s m args below meth c 1 E st0 Z 0 [(0, va_rf (some a0))] [] st cb sb := by
  unfold vc_J39_next at hvc
  refine j_aload_n hC dJ39_next_0 rfl 0 rfl ?_
  obtain ⟨⟨fs, hr⟩, hvc⟩ := hvc
  refine j_callU (As := []) (rest := []) (n := 0) (x := ⟨"java/util/TreeMap$KeyIterator", "nextEntry", "()Ljava/util/TreeMap$Entry;"⟩) (C := "java/util/TreeMap$KeyIterator") (owner := "java/util/TreeMap$PrivateEntryIterator") (ci := 10) hC hvc (lw_U q1089 q1090 q1091 q1058 q83 q1059) rfl (by decide +kernel) (g_rm hR rfl rfl) rfl hr rfl rfl (g_sum rfl) dJ39_next_1 (Nat.zero_le _) (Nat.zero_le _) (g_Ka fun o1 st2 hv2 hx => ?_)
  replace hvc := hv2 hx; clear hx hv2
  clear hr fs
  obtain ⟨a3, rfl, hvc⟩ := hvc
  obtain ⟨o4, ⟨fs, hr, hv⟩, hvc⟩ := hvc
  refine j_get hC fkJ39_13_J27 dJ39_next_4 hr hv ?_
  clear hv hr fs
  exact hret _ _ _ _ _ _ dJ39_next_7 hvc
theorem wk_J39_next {l : Launch} {E : g_E} {a0 : Nat} {st : g_St} {mc ms : Nat} {Q : Option Nat → g_St → Prop} (hvc : vc_J39_next l E a0 st Q) : wp_J39_next l E mc ms [va_rf (some a0)] st Q :=
  g_enter (lv0 := [(0, va_rf (some a0))]) (plainFor_of_name (by decide +kernel)) (by simp [lv_args, g_c1, g_ci, g_cL]) (by simp [lg_sl, g_c1, g_ci, g_cL]) (fun p e s m args below meth c hC => wb_J39_next hC ⟨Nat.le_refl _, Nat.le_refl _⟩ (fun pc lv v st1 cb sb hd hq => j_areturn hC rfl (by first | exact Or.inl ⟨_, rfl⟩ | exact Or.inr ⟨_, rfl⟩) hd (g_av hq)) hvc)
abbrev wp_J30_init_J45 (l : Launch) (E : g_E) (mc ms : Nat) (av : List Value) (st : g_St) (Q : g_St → Prop) : Prop := g_WPv l E yJ30_init cJ30_init 1 none 1 40 mc ms av st Q
def vc_J30_init_J45 (l : Launch) (E : g_E) (a0 : Nat) (st : g_St) (Q : g_St → Prop) : Prop :=
  Q st
set_option maxHeartbeats 4000000 in
theorem wb_J30_init_J45 {p : Program} {l : Launch} {e : Env} {R : Room} {s : State} {m : MethodId} {args : Array Value} {below : List Frame} {meth : Method} {c : Code} {E : g_E} {st0 : g_St} {Z : State → Prop} (hC : g_Cx p s m args meth c cJ30_init 1 "java/util/AbstractCollection" none "<init>" E st0) (hR : g_Rm 1 40 R) {a0 : Nat} {st : g_St} {cb sb : Nat} {Q : g_St → Prop} (hret : ∀ (pc : Nat) (lv : List (Nat × Value)) (st1 : g_St) (cb sb : Nat), decode cJ30_init pc = .ok (.return_, 1) → Q st1 → g_J p l e R s m args below meth c 1 E st0 Z pc lv [] st1 cb sb) (hvc : vc_J30_init_J45 l E a0 st Q) : g_J p l e R s m args below meth c 1 E st0 Z 0 [(0, va_rf (some a0))] [] st cb sb := by
  unfold vc_J30_init_J45 at hvc
  refine j_aload_n hC dJ30_init_0 rfl 0 rfl ?_
  refine j_objInit hC q913 q99 q100 (Nat.le_trans (Nat.le_of_ble_eq_true rfl) hR.1) (Nat.le_trans (g_sumO rfl) hR.2) dJ30_init_1 ?_
  exact hret _ _ _ _ _ dJ30_init_4 hvc
theorem wk_J30_init_J45 {l : Launch} {E : g_E} {a0 : Nat} {st : g_St} {mc ms : Nat} {Q : g_St → Prop} (hvc : vc_J30_init_J45 l E a0 st Q) : wp_J30_init_J45 l E mc ms [va_rf (some a0)] st Q :=
  g_enter (lv0 := [(0, va_rf (some a0))]) (plainFor_of_name (by decide +kernel)) (by simp [lv_args, g_c1, g_ci, g_cL]) (by simp [lg_sl, g_c1, g_ci, g_cL]) (fun p e s m args below meth c hC => wb_J30_init_J45 hC ⟨Nat.le_refl _, Nat.le_refl _⟩ (fun pc lv st1 cb sb hd hq => j_return hC rfl hd ⟨rfl, hq⟩) hvc)
abbrev wp_J31_init_J45 (l : Launch) (E : g_E) (mc ms : Nat) (av : List Value) (st : g_St) (Q : g_St → Prop) : Prop := g_WPv l E yJ31_init cJ31_init 1 none 2 60 mc ms av st Q
def vc_J31_init_J45 (l : Launch) (E : g_E) (a0 : Nat) (st : g_St) (Q : g_St → Prop) : Prop :=
  wp_J30_init_J45 l E 0 0 [va_rf (some a0)] st (fun stx => stx = st ∧ Q st)
set_option maxHeartbeats 4000000 in
theorem wb_J31_init_J45 {p : Program} {l : Launch} {e : Env} {R : Room} {s : State} {m : MethodId} {args : Array Value} {below : List Frame} {meth : Method} {c : Code} {E : g_E} {st0 : g_St} {Z : State → Prop} (hC : g_Cx p s m args meth c cJ31_init 1 "java/util/AbstractSet" none "<init>" E st0) (hR : g_Rm 2 60 R) {a0 : Nat} {st : g_St} {cb sb : Nat} {Q : g_St → Prop} (hret : ∀ (pc : Nat) (lv : List (Nat × Value)) (st1 : g_St) (cb sb : Nat), decode cJ31_init pc = .ok (.return_, 1) → Q st1 → g_J p l e R s m args below meth c 1 E st0 Z pc lv [] st1 cb sb) (hvc : vc_J31_init_J45 l E a0 st Q) : g_J p l e R s m args below meth c 1 E st0 Z 0 [(0, va_rf (some a0))] [] st cb sb := by
  unfold vc_J31_init_J45 at hvc
  refine j_aload_n hC dJ31_init_0 rfl 0 rfl ?_
  refine j_callI (As := []) (rest := []) (n := 0) hC hvc (lw_meth q912) q76 q910 q911 rfl (by decide +kernel) (g_rm hR rfl rfl) rfl rfl (g_sum rfl) dJ31_init_1 (Nat.zero_le _) (Nat.zero_le _) (g_Kvp fun hv2 => ?_)
  replace hvc := hv2; clear hv2
  exact hret _ _ _ _ _ dJ31_init_4 hvc
theorem wk_J31_init_J45 {l : Launch} {E : g_E} {a0 : Nat} {st : g_St} {mc ms : Nat} {Q : g_St → Prop} (hvc : vc_J31_init_J45 l E a0 st Q) : wp_J31_init_J45 l E mc ms [va_rf (some a0)] st Q :=
  g_enter (lv0 := [(0, va_rf (some a0))]) (plainFor_of_name (by decide +kernel)) (by simp [lv_args, g_c1, g_ci, g_cL]) (by simp [lg_sl, g_c1, g_ci, g_cL]) (fun p e s m args below meth c hC => wb_J31_init_J45 hC ⟨Nat.le_refl _, Nat.le_refl _⟩ (fun pc lv st1 cb sb hd hq => j_return hC rfl hd ⟨rfl, hq⟩) hvc)
abbrev wp_J45_init (l : Launch) (E : g_E) (mc ms : Nat) (av : List Value) (st : g_St) (Q : g_St → Prop) : Prop := g_WPv l E yJ45_init cJ45_init 2 none 3 80 mc ms av st Q
def vc_J45_init (l : Launch) (E : g_E) (a0 : Nat) (p0 : Option Nat) (st : g_St) (Q : g_St → Prop) : Prop :=
  ∃ fs1 : List Value, st.2.1 a0 = some (.inr (14, fs1)) ∧ ∀ st2 : g_St, st2 = g_put st a0 (.inr (14, fs1.set 0 (va_rf p0))) → wp_J31_init_J45 l E 0 0 [va_rf (some a0)] st2 (fun stx => stx = st2 ∧ Q st2)
set_option maxHeartbeats 4000000 in
theorem wb_J45_init {p : Program} {l : Launch} {e : Env} {R : Room} {s : State} {m : MethodId} {args : Array Value} {below : List Frame} {meth : Method} {c : Code} {E : g_E} {st0 : g_St} {Z : State → Prop} (hC : g_Cx p s m args meth c cJ45_init 2 "java/util/TreeMap$EntrySet" none "<init>" E st0) (hR : g_Rm 3 80 R) {a0 : Nat} {p0 : Option Nat} {st : g_St} {cb sb : Nat} {Q : g_St → Prop} (hret : ∀ (pc : Nat) (lv : List (Nat × Value)) (st1 : g_St) (cb sb : Nat), decode cJ45_init pc = .ok (.return_, 1) → Q st1 → g_J p l e R s m args below meth c 2 E st0 Z pc lv [] st1 cb sb) (hvc : vc_J45_init l E a0 p0 st Q) : g_J p l e R s m args below meth c 2 E st0 Z 0 [(0, va_rf (some a0)), (1, va_rf p0)] [] st cb sb := by
  unfold vc_J45_init at hvc
  refine j_aload_n hC dJ45_init_0 rfl 0 rfl ?_
  refine j_aload_n hC dJ45_init_1 rfl 1 rfl ?_
  obtain ⟨fs1, hm, hvc⟩ := hvc
  refine j_putF hC fkJ45_1_J45 rfl dJ45_init_2 hm g_no g_fo (fun st2 e1 => ?_)
  replace hvc := hvc st2 e1; clear hm e1
  refine j_aload_n hC dJ45_init_5 rfl 0 rfl ?_
  refine j_callI (As := []) (rest := []) (n := 0) hC hvc (lw_meth q909) q77 q1264 q908 rfl (by decide +kernel) (g_rm hR rfl rfl) rfl rfl (g_sum rfl) dJ45_init_6 (Nat.zero_le _) (Nat.zero_le _) (g_Kvp fun hv2 => ?_)
  replace hvc := hv2; clear hv2
  exact hret _ _ _ _ _ dJ45_init_9 hvc
theorem wk_J45_init {l : Launch} {E : g_E} {a0 : Nat} {p0 : Option Nat} {st : g_St} {mc ms : Nat} {Q : g_St → Prop} (hvc : vc_J45_init l E a0 p0 st Q) : wp_J45_init l E mc ms [va_rf (some a0), va_rf p0] st Q :=
  g_enter (lv0 := [(0, va_rf (some a0)), (1, va_rf p0)]) (plainFor_of_name (by decide +kernel)) (by simp [lv_args, g_c1, g_ci, g_cL]) (by simp [lg_sl, g_c1, g_ci, g_cL]) (fun p e s m args below meth c hC => wb_J45_init hC ⟨Nat.le_refl _, Nat.le_refl _⟩ (fun pc lv st1 cb sb hd hq => j_return hC rfl hd ⟨rfl, hq⟩) hvc)
abbrev wp_J5_entrySet (l : Launch) (E : g_E) (mc ms : Nat) (av : List Value) (st : g_St) (Q : Option Nat → g_St → Prop) : Prop := g_WPa l E yJ5_entrySet cJ5_entrySet 2 (some (.object "java/util/Set")) 4 101 mc ms av st Q
def vc_J5_entrySet (l : Launch) (E : g_E) (a0 : Nat) (st : g_St) (cb sb : Nat) (Q : Option Nat → g_St → Prop) : Prop :=
  ∃ o1 : Option Nat, g_gr st a0 3 6 o1 ∧ g_jn4 (fun (K6 : (Option Nat) → g_St → Nat → Nat → Prop) => (o1 = none → 1 ≤ cb ∧ 1 ≤ sb ∧ ∀ (q10 : Nat) (st11 : g_St), q10 = st.2.2 → st11 = g_new st (.inr (14, [va_rf none])) → wp_J45_init l E 0 0 [va_rf (some q10), va_rf (some a0)] st11 (fun st12 => g_Ext st11 st12 → ∃ fs13 : List Value, st12.2.1 a0 = some (.inr (3, fs13)) ∧ ∀ st14 : g_St, st14 = g_put st12 a0 (.inr (3, fs13.set 6 (va_rf (some q10)))) → K6 (some q10) st14 (cb - 1) (sb - 1))) ∧ (∀ a9 : Nat, o1 = some a9 → K6 (some a9) st cb sb)) (fun (o2 : Option Nat) (st3 : g_St) (cb4 : Nat) (sb5 : Nat) => Q o2 st3)
set_option maxHeartbeats 4000000 in
theorem wb_J5_entrySet {p : Program} {l : Launch} {e : Env} {R : Room} {s : State} {m : MethodId} {args : Array Value} {below : List Frame} {meth : Method} {c : Code} {E : g_E} {st0 : g_St} {Z : State → Prop} (hC : g_Cx p s m args meth c cJ5_entrySet 2 "java/util/TreeMap" (some (.object "java/util/Set")) "entrySet" E st0) (hR : g_Rm 4 101 R) {a0 : Nat} {st : g_St} {cb sb : Nat} {Q : Option Nat → g_St → Prop} (hret : ∀ (pc : Nat) (lv : List (Nat × Value)) (v : Option Nat) (st1 : g_St) (cb sb : Nat), decode cJ5_entrySet pc = .ok (.areturn, 1) → Q v st1 → g_J p l e R s m args below meth c 2 E st0 Z pc lv [va_rf v] st1 cb sb) (hvc : vc_J5_entrySet l E a0 st cb sb Q) : g_J p l e R s m args below meth c 2 E st0 Z 0 [(0, va_rf (some a0))] [] st cb sb := by
  unfold vc_J5_entrySet at hvc
  refine j_aload_n hC dJ5_entrySet_0 rfl 0 rfl ?_
  obtain ⟨o1, ⟨fs, hr, hv⟩, hvc⟩ := hvc
  refine j_get hC fkJ5_188_J5 dJ5_entrySet_1 hr hv ?_
  clear hv hr fs
  refine j_astore_n (lv0 := [(0, va_rf (some a0))]) hC dJ5_entrySet_4 rfl rfl [0] rfl (g_okS.h rfl g_c1 rfl) ?_
  refine j_aload_n hC dJ5_entrySet_5 rfl 0 rfl ?_
  replace hvc := g_jn4_o hvc
  obtain ⟨K6, hK15, hvc⟩ := hvc
  have kh7 : ∀ (o2 : Option Nat) (st3 : g_St) (cb4 : Nat) (sb5 : Nat), K6 o2 st3 cb4 sb5 → g_J p l e R s m args below meth c 2 E st0 Z 26 [] [va_rf o2] st3 cb4 sb5 := by
    clear hvc
    intro o2 st3 cb4 sb5 hvc
    replace hvc := hK15 _ _ _ _ hvc
    exact hret _ _ _ _ _ _ dJ5_entrySet_26 hvc
  refine j_ifnull (tgt := 13) hC dJ5_entrySet_6 rfl (fun c8 => ?_) (fun a9 c8 => ?_)
  · subst c8; replace hvc := hvc.1 rfl
    refine j_aload_n hC dJ5_entrySet_13 rfl 1 rfl ?_
    obtain ⟨h1, h2, hvc⟩ := hvc
    refine j_new hC nwJ5_242 dJ5_entrySet_14 (n := 1) rfl h1 h2 (fun q10 st11 e1 e2 => ?_)
    replace hvc := hvc q10 st11 e1 e2; clear h1 h2 e1 e2
    refine j_dup hC dJ5_entrySet_17 g_c1 ?_
    refine j_aload_n hC dJ5_entrySet_18 rfl 1 rfl ?_
    refine j_callI (As := [va_rf (some a0)]) (rest := [va_rf (some q10), va_rf (some a0)]) (n := 1) hC hvc (lw_meth q1263) q91 q1261 q1262 rfl (by decide +kernel) (g_rm hR rfl rfl) rfl rfl (g_sum rfl) dJ5_entrySet_19 (Nat.zero_le _) (Nat.zero_le _) (g_Kv fun st12 hv2 hx => ?_)
    replace hvc := hv2 hx; clear hx hv2
    refine j_dup_x1 hC dJ5_entrySet_22 g_c1 g_c1 ?_
    obtain ⟨fs13, hm, hvc⟩ := hvc
    refine j_put hC fkJ5_188_J5 dJ5_entrySet_23 hm g_no g_fo (fun st14 e1 => ?_)
    replace hvc := hvc st14 e1; clear hm e1
    exact j_sub [] rfl (kh7 (some q10) st14 (cb - 1) (sb - 1) hvc)
  · subst c8; replace hvc := hvc.2 a9 rfl
    refine j_aload_n hC dJ5_entrySet_9 rfl 0 rfl ?_
    refine j_goto (tgt := 26) hC dJ5_entrySet_10 rfl ?_
    exact j_sub [] rfl (kh7 (some a9) st cb sb hvc)
theorem wk_J5_entrySet {l : Launch} {E : g_E} {a0 : Nat} {st : g_St} {mc ms : Nat} {Q : Option Nat → g_St → Prop} (hvc : vc_J5_entrySet l E a0 st mc ms Q) : wp_J5_entrySet l E mc ms [va_rf (some a0)] st Q :=
  g_enter (lv0 := [(0, va_rf (some a0))]) (plainFor_of_name (by decide +kernel)) (by simp [lv_args, g_c1, g_ci, g_cL]) (by simp [lg_sl, g_c1, g_ci, g_cL]) (fun p e s m args below meth c hC => wb_J5_entrySet hC ⟨Nat.le_refl _, Nat.le_refl _⟩ (fun pc lv v st1 cb sb hd hq => j_areturn hC rfl (by first | exact Or.inl ⟨_, rfl⟩ | exact Or.inr ⟨_, rfl⟩) hd (g_av hq)) hvc)
abbrev wp_J37_init_J38 (l : Launch) (E : g_E) (mc ms : Nat) (av : List Value) (st : g_St) (Q : g_St → Prop) : Prop := g_WPv l E yJ37_init cJ37_init 3 none 1 40 mc ms av st Q
def vc_J37_init_J38 (l : Launch) (E : g_E) (a0 : Nat) (p0 : Option Nat) (p1 : Option Nat) (st : g_St) (Q : g_St → Prop) : Prop :=
  ∃ fs1 : List Value, st.2.1 a0 = some (.inr (9, fs1)) ∧ ∀ st2 : g_St, st2 = g_put st a0 (.inr (9, fs1.set 3 (va_rf p0))) → ∃ a3 : Nat, p0 = some a3 ∧ ∃ x4 : Int32, g_gi st2 a3 3 5 x4 ∧ ∃ fs5 : List Value, st2.2.1 a0 = some (.inr (9, fs5)) ∧ ∀ st6 : g_St, st6 = g_put st2 a0 (.inr (9, fs5.set 2 (.int x4))) → ∃ fs7 : List Value, st6.2.1 a0 = some (.inr (9, fs7)) ∧ ∀ st8 : g_St, st8 = g_put st6 a0 (.inr (9, fs7.set 1 (va_rf none))) → ∃ fs9 : List Value, st8.2.1 a0 = some (.inr (9, fs9)) ∧ ∀ st10 : g_St, st10 = g_put st8 a0 (.inr (9, fs9.set 0 (va_rf p1))) → Q st10
set_option maxHeartbeats 4000000 in
theorem wb_J37_init_J38 {p : Program} {l : Launch} {e : Env} {R : Room} {s : State} {m : MethodId} {args : Array Value} {below : List Frame} {meth : Method} {c : Code} {E : g_E} {st0 : g_St} {Z : State → Prop} (hC : g_Cx p s m args meth c cJ37_init 3 "java/util/TreeMap$PrivateEntryIterator" none "<init>" E st0) (hR : g_Rm 1 40 R) {a0 : Nat} {p0 : Option Nat} {p1 : Option Nat} {st : g_St} {cb sb : Nat} {Q : g_St → Prop} (hret : ∀ (pc : Nat) (lv : List (Nat × Value)) (st1 : g_St) (cb sb : Nat), decode cJ37_init pc = .ok (.return_, 1) → Q st1 → g_J p l e R s m args below meth c 3 E st0 Z pc lv [] st1 cb sb) (hvc : vc_J37_init_J38 l E a0 p0 p1 st Q) : g_J p l e R s m args below meth c 3 E st0 Z 0 [(0, va_rf (some a0)), (1, va_rf p0), (2, va_rf p1)] [] st cb sb := by
  unfold vc_J37_init_J38 at hvc
  refine j_aload_n hC dJ37_init_0 rfl 0 rfl ?_
  refine j_aload_n hC dJ37_init_1 rfl 1 rfl ?_
  obtain ⟨fs1, hm, hvc⟩ := hvc
  refine j_putF hC fkJ37_1_J38 rfl dJ37_init_2 hm g_no g_fo (fun st2 e1 => ?_)
  replace hvc := hvc st2 e1; clear hm e1
  refine j_aload_n hC dJ37_init_5 rfl 0 rfl ?_
  refine j_objInit hC q1290 q99 q100 (Nat.le_trans (Nat.le_of_ble_eq_true rfl) hR.1) (Nat.le_trans (g_sumO rfl) hR.2) dJ37_init_6 ?_
  refine j_aload_n hC dJ37_init_9 rfl 0 rfl ?_
  refine j_aload_n hC dJ37_init_10 rfl 1 rfl ?_
  obtain ⟨a3, rfl, hvc⟩ := hvc
  obtain ⟨x4, ⟨fs, hr, hv⟩, hvc⟩ := hvc
  refine j_getN hC fkJ37_13_J5 dJ37_init_11 hr hv ?_
  clear hv hr fs
  obtain ⟨fs5, hm, hvc⟩ := hvc
  refine j_put hC fkJ37_19_J38 dJ37_init_14 hm rfl rfl (fun st6 e1 => ?_)
  replace hvc := hvc st6 e1; clear hm e1
  refine j_aload_n hC dJ37_init_17 rfl 0 rfl ?_
  refine j_null hC dJ37_init_18 ?_
  obtain ⟨fs7, hm, hvc⟩ := hvc
  refine j_put hC fkJ37_22_J38 dJ37_init_19 hm g_no g_fo (fun st8 e1 => ?_)
  replace hvc := hvc st8 e1; clear hm e1
  refine j_aload_n hC dJ37_init_22 rfl 0 rfl ?_
  refine j_aload_n hC dJ37_init_23 rfl 2 rfl ?_
  obtain ⟨fs9, hm, hvc⟩ := hvc
  refine j_put hC fkJ37_26_J38 dJ37_init_24 hm g_no g_fo (fun st10 e1 => ?_)
  replace hvc := hvc st10 e1; clear hm e1
  exact hret _ _ _ _ _ dJ37_init_27 hvc
theorem wk_J37_init_J38 {l : Launch} {E : g_E} {a0 : Nat} {p0 : Option Nat} {p1 : Option Nat} {st : g_St} {mc ms : Nat} {Q : g_St → Prop} (hvc : vc_J37_init_J38 l E a0 p0 p1 st Q) : wp_J37_init_J38 l E mc ms [va_rf (some a0), va_rf p0, va_rf p1] st Q :=
  g_enter (lv0 := [(0, va_rf (some a0)), (1, va_rf p0), (2, va_rf p1)]) (plainFor_of_name (by decide +kernel)) (by simp [lv_args, g_c1, g_ci, g_cL]) (by simp [lg_sl, g_c1, g_ci, g_cL]) (fun p e s m args below meth c hC => wb_J37_init_J38 hC ⟨Nat.le_refl _, Nat.le_refl _⟩ (fun pc lv st1 cb sb hd hq => j_return hC rfl hd ⟨rfl, hq⟩) hvc)
abbrev wp_J38_init (l : Launch) (E : g_E) (mc ms : Nat) (av : List Value) (st : g_St) (Q : g_St → Prop) : Prop := g_WPv l E yJ38_init cJ38_init 3 none 2 62 mc ms av st Q
def vc_J38_init (l : Launch) (E : g_E) (a0 : Nat) (p0 : Option Nat) (p1 : Option Nat) (st : g_St) (Q : g_St → Prop) : Prop :=
  wp_J37_init_J38 l E 0 0 [va_rf (some a0), va_rf p0, va_rf p1] st (fun st1 => g_Ext st st1 → Q st1)
set_option maxHeartbeats 4000000 in
theorem wb_J38_init {p : Program} {l : Launch} {e : Env} {R : Room} {s : State} {m : MethodId} {args : Array Value} {below : List Frame} {meth : Method} {c : Code} {E : g_E} {st0 : g_St} {Z : State → Prop} (hC : g_Cx p s m args meth c cJ38_init 3 "java/util/TreeMap$EntryIterator" none "<init>" E st0) (hR : g_Rm 2 62 R) {a0 : Nat} {p0 : Option Nat} {p1 : Option Nat} {st : g_St} {cb sb : Nat} {Q : g_St → Prop} (hret : ∀ (pc : Nat) (lv : List (Nat × Value)) (st1 : g_St) (cb sb : Nat), decode cJ38_init pc = .ok (.return_, 1) → Q st1 → g_J p l e R s m args below meth c 3 E st0 Z pc lv [] st1 cb sb) (hvc : vc_J38_init l E a0 p0 p1 st Q) : g_J p l e R s m args below meth c 3 E st0 Z 0 [(0, va_rf (some a0)), (1, va_rf p0), (2, va_rf p1)] [] st cb sb := by
  unfold vc_J38_init at hvc
  refine j_aload_n hC dJ38_init_0 rfl 0 rfl ?_
  refine j_aload_n hC dJ38_init_1 rfl 1 rfl ?_
  refine j_aload_n hC dJ38_init_2 rfl 2 rfl ?_
  refine j_callI (As := [va_rf p0, va_rf p1]) (rest := []) (n := 2) hC hvc (lw_meth q1289) q83 q1287 q1288 rfl (by decide +kernel) (g_rm hR rfl rfl) rfl rfl (g_sum rfl) dJ38_init_3 (Nat.zero_le _) (Nat.zero_le _) (g_Kv fun st1 hv2 hx => ?_)
  replace hvc := hv2 hx; clear hx hv2
  exact hret _ _ _ _ _ dJ38_init_6 hvc
theorem wk_J38_init {l : Launch} {E : g_E} {a0 : Nat} {p0 : Option Nat} {p1 : Option Nat} {st : g_St} {mc ms : Nat} {Q : g_St → Prop} (hvc : vc_J38_init l E a0 p0 p1 st Q) : wp_J38_init l E mc ms [va_rf (some a0), va_rf p0, va_rf p1] st Q :=
  g_enter (lv0 := [(0, va_rf (some a0)), (1, va_rf p0), (2, va_rf p1)]) (plainFor_of_name (by decide +kernel)) (by simp [lv_args, g_c1, g_ci, g_cL]) (by simp [lg_sl, g_c1, g_ci, g_cL]) (fun p e s m args below meth c hC => wb_J38_init hC ⟨Nat.le_refl _, Nat.le_refl _⟩ (fun pc lv st1 cb sb hd hq => j_return hC rfl hd ⟨rfl, hq⟩) hvc)
abbrev wp_J45_iterator (l : Launch) (E : g_E) (mc ms : Nat) (av : List Value) (st : g_St) (Q : Option Nat → g_St → Prop) : Prop := g_WPa l E yJ45_iterator cJ45_iterator 1 (some (.object "java/util/Iterator")) 3 84 mc ms av st Q
def vc_J45_iterator (l : Launch) (E : g_E) (a0 : Nat) (st : g_St) (cb sb : Nat) (Q : Option Nat → g_St → Prop) : Prop :=
  1 ≤ cb ∧ 4 ≤ sb ∧ ∀ (q1 : Nat) (st2 : g_St), q1 = st.2.2 → st2 = g_new st (.inr (9, [va_rf none, va_rf none, .int 0, va_rf none])) → ∃ o3 : Option Nat, g_gr st2 a0 14 0 o3 ∧ ∃ o4 : Option Nat, g_gr st2 a0 14 0 o4 ∧ ∃ a5 : Nat, o4 = some a5 ∧ g_is st2 a5 3 ∧ wp_J5_getFirstEntry l E 0 0 [va_rf (some a5)] st2 (fun o6 stx => stx = st2 ∧ wp_J38_init l E 0 0 [va_rf (some q1), va_rf o3, va_rf o6] st2 (fun st7 => g_Ext st2 st7 → Q (some q1) st7))
set_option maxHeartbeats 4000000 in
theorem wb_J45_iterator {p : Program} {l : Launch} {e : Env} {R : Room} {s : State} {m : MethodId} {args : Array Value} {below : List Frame} {meth : Method} {c : Code} {E : g_E} {st0 : g_St} {Z : State → Prop} (hC : g_Cx p s m args meth c cJ45_iterator 1 "java/util/TreeMap$EntrySet" (some (.object "java/util/Iterator")) "iterator" E st0) (hR : g_Rm 3 84 R) {a0 : Nat} {st : g_St} {cb sb : Nat} {Q : Option Nat → g_St → Prop} (hret : ∀ (pc : Nat) (lv : List (Nat × Value)) (v : Option Nat) (st1 : g_St) (cb sb : Nat), decode cJ45_iterator pc = .ok (.areturn, 1) → Q v st1 → g_J p l e R s m args below meth c 1 E st0 Z pc lv [va_rf v] st1 cb sb) (hvc : vc_J45_iterator l E a0 st cb sb Q) : g_J p l e R s m args below meth c 1 E st0 Z 0 [(0, va_rf (some a0))] [] st cb sb := by
  unfold vc_J45_iterator at hvc
  obtain ⟨h1, h2, hvc⟩ := hvc
  refine j_new hC nwJ45_13 dJ45_iterator_0 (n := 4) rfl h1 h2 (fun q1 st2 e1 e2 => ?_)
  replace hvc := hvc q1 st2 e1 e2; clear h1 h2 e1 e2
  refine j_dup hC dJ45_iterator_3 g_c1 ?_
  refine j_aload_n hC dJ45_iterator_4 rfl 0 rfl ?_
  obtain ⟨o3, ⟨fs, hr, hv⟩, hvc⟩ := hvc
  refine j_get hC fkJ45_1_J45 dJ45_iterator_5 hr hv ?_
  clear hv hr fs
  refine j_aload_n hC dJ45_iterator_8 rfl 0 rfl ?_
  obtain ⟨o4, ⟨fs, hr, hv⟩, hvc⟩ := hvc
  refine j_get hC fkJ45_1_J45 dJ45_iterator_9 hr hv ?_
  clear hv hr fs
  obtain ⟨a5, rfl, hvc⟩ := hvc
  obtain ⟨⟨fs, hr⟩, hvc⟩ := hvc
  refine j_callV (As := []) (rest := [va_rf o3, va_rf (some q1), va_rf (some q1)]) (n := 0) (ci := 3) hC hvc (lw_V q1283 q953 q954 q47 q955) (by decide +kernel) (g_rm hR rfl rfl) rfl hr rfl rfl (g_sum rfl) dJ45_iterator_12 (Nat.zero_le _) (Nat.zero_le _) (g_Kap fun o6 hv2 => ?_)
  replace hvc := hv2; clear hv2
  clear hr fs
  refine j_callI (As := [va_rf o3, va_rf o6]) (rest := [va_rf (some q1)]) (n := 2) hC hvc (lw_meth q1286) q84 q1284 q1285 rfl (by decide +kernel) (g_rm hR rfl rfl) rfl rfl (g_sum rfl) dJ45_iterator_15 (Nat.zero_le _) (Nat.zero_le _) (g_Kv fun st7 hv2 hx => ?_)
  replace hvc := hv2 hx; clear hx hv2
  exact hret _ _ _ _ _ _ dJ45_iterator_18 hvc
theorem wk_J45_iterator {l : Launch} {E : g_E} {a0 : Nat} {st : g_St} {mc ms : Nat} {Q : Option Nat → g_St → Prop} (hvc : vc_J45_iterator l E a0 st mc ms Q) : wp_J45_iterator l E mc ms [va_rf (some a0)] st Q :=
  g_enter (lv0 := [(0, va_rf (some a0))]) (plainFor_of_name (by decide +kernel)) (by simp [lv_args, g_c1, g_ci, g_cL]) (by simp [lg_sl, g_c1, g_ci, g_cL]) (fun p e s m args below meth c hC => wb_J45_iterator hC ⟨Nat.le_refl _, Nat.le_refl _⟩ (fun pc lv v st1 cb sb hd hq => j_areturn hC rfl (by first | exact Or.inl ⟨_, rfl⟩ | exact Or.inr ⟨_, rfl⟩) hd (g_av hq)) hvc)
abbrev wp_J37_hasNext_J38 (l : Launch) (E : g_E) (mc ms : Nat) (av : List Value) (st : g_St) (Q : Int32 → g_St → Prop) : Prop := g_WPi l E yJ37_hasNext cJ37_hasNext 1 (some .boolean) 1 40 mc ms av st Q
def vc_J37_hasNext_J38 (l : Launch) (E : g_E) (a0 : Nat) (st : g_St) (Q : Int32 → g_St → Prop) : Prop :=
  ∃ o1 : Option Nat, g_gr st a0 9 0 o1 ∧ g_jn1 (fun (K3 : Int32 → Prop) => (o1 = none → K3 (nI 0)) ∧ (∀ a6 : Nat, o1 = some a6 → K3 (nI 1))) (fun (x2 : Int32) => narrow .boolean (.int x2) = .int x2 ∧ Q x2 st)
set_option maxHeartbeats 4000000 in
theorem wb_J37_hasNext_J38 {p : Program} {l : Launch} {e : Env} {R : Room} {s : State} {m : MethodId} {args : Array Value} {below : List Frame} {meth : Method} {c : Code} {E : g_E} {st0 : g_St} {Z : State → Prop} (hC : g_Cx p s m args meth c cJ37_hasNext 1 "java/util/TreeMap$PrivateEntryIterator" (some .boolean) "hasNext" E st0) (hR : g_Rm 1 40 R) {a0 : Nat} {st : g_St} {cb sb : Nat} {Q : Int32 → g_St → Prop} (hret : ∀ (pc : Nat) (lv : List (Nat × Value)) (v : Int32) (st1 : g_St) (cb sb : Nat), decode cJ37_hasNext pc = .ok (.ireturn, 1) → narrow .boolean (.int v) = .int v → Q v st1 → g_J p l e R s m args below meth c 1 E st0 Z pc lv [.int v] st1 cb sb) (hvc : vc_J37_hasNext_J38 l E a0 st Q) : g_J p l e R s m args below meth c 1 E st0 Z 0 [(0, va_rf (some a0))] [] st cb sb := by
  unfold vc_J37_hasNext_J38 at hvc
  refine j_aload_n hC dJ37_hasNext_0 rfl 0 rfl ?_
  obtain ⟨o1, ⟨fs, hr, hv⟩, hvc⟩ := hvc
  refine j_get hC fkJ37_26_J38 dJ37_hasNext_1 hr hv ?_
  clear hv hr fs
  replace hvc := g_jn1_o hvc
  obtain ⟨K3, hK7, hvc⟩ := hvc
  have kh4 : ∀ (x2 : Int32), K3 x2 → g_J p l e R s m args below meth c 1 E st0 Z 12 [] [.int x2] st cb sb := by
    clear hvc
    intro x2 hvc
    replace hvc := hK7 _ hvc
    exact hret _ _ _ _ _ _ dJ37_hasNext_12 hvc.1 hvc.2
  refine j_ifnull (tgt := 11) hC dJ37_hasNext_4 rfl (fun c5 => ?_) (fun a6 c5 => ?_)
  · subst c5; replace hvc := hvc.1 rfl
    refine j_iconst hC (nI 0) dJ37_hasNext_11 rfl ?_
    exact j_sub [] rfl (kh4 (nI 0) hvc)
  · subst c5; replace hvc := hvc.2 a6 rfl
    refine j_iconst hC (nI 1) dJ37_hasNext_7 rfl ?_
    refine j_goto (tgt := 12) hC dJ37_hasNext_8 rfl ?_
    exact j_sub [] rfl (kh4 (nI 1) hvc)
theorem wk_J37_hasNext_J38 {l : Launch} {E : g_E} {a0 : Nat} {st : g_St} {mc ms : Nat} {Q : Int32 → g_St → Prop} (hvc : vc_J37_hasNext_J38 l E a0 st Q) : wp_J37_hasNext_J38 l E mc ms [va_rf (some a0)] st Q :=
  g_enter (lv0 := [(0, va_rf (some a0))]) (plainFor_of_name (by decide +kernel)) (by simp [lv_args, g_c1, g_ci, g_cL]) (by simp [lg_sl, g_c1, g_ci, g_cL]) (fun p e s m args below meth c hC => wb_J37_hasNext_J38 hC ⟨Nat.le_refl _, Nat.le_refl _⟩ (fun pc lv v st1 cb sb hd hn hq => j_ireturn hC rfl hn hd (g_iv hq)) hvc)
abbrev wp_J37_nextEntry_J38 (l : Launch) (E : g_E) (mc ms : Nat) (av : List Value) (st : g_St) (Q : Option Nat → g_St → Prop) : Prop := g_WPa l E yJ37_nextEntry cJ37_nextEntry 2 (some (.object "java/util/TreeMap$Entry")) 2 62 mc ms av st Q
def vc_J37_nextEntry_J38 (l : Launch) (E : g_E) (a0 : Nat) (st : g_St) (Q : Option Nat → g_St → Prop) : Prop :=
  ∃ o1 : Option Nat, g_gr st a0 9 0 o1 ∧ (o1 = none → False) ∧ (∀ a3 : Nat, o1 = some a3 → ∃ o4 : Option Nat, g_gr st a0 9 3 o4 ∧ ∃ a5 : Nat, o4 = some a5 ∧ ∃ x6 : Int32, g_gi st a5 3 5 x6 ∧ ∃ x7 : Int32, g_gi st a0 9 2 x7 ∧ (x6 = x7 → wp_J5_successor l E 0 0 [va_rf (some a3)] st (fun o9 stx => stx = st ∧ ∃ fs10 : List Value, st.2.1 a0 = some (.inr (9, fs10)) ∧ ∀ st11 : g_St, st11 = g_put st a0 (.inr (9, fs10.set 0 (va_rf o9))) → ∃ fs12 : List Value, st11.2.1 a0 = some (.inr (9, fs12)) ∧ ∀ st13 : g_St, st13 = g_put st11 a0 (.inr (9, fs12.set 1 (va_rf (some a3)))) → Q (some a3) st13)) ∧ (¬ x6 = x7 → False))
set_option maxHeartbeats 4000000 in
theorem wb_J37_nextEntry_J38 {p : Program} {l : Launch} {e : Env} {R : Room} {s : State} {m : MethodId} {args : Array Value} {below : List Frame} {meth : Method} {c : Code} {E : g_E} {st0 : g_St} {Z : State → Prop} (hC : g_Cx p s m args meth c cJ37_nextEntry 2 "java/util/TreeMap$PrivateEntryIterator" (some (.object "java/util/TreeMap$Entry")) "nextEntry" E st0) (hR : g_Rm 2 62 R) {a0 : Nat} {st : g_St} {cb sb : Nat} {Q : Option Nat → g_St → Prop} (hret : ∀ (pc : Nat) (lv : List (Nat × Value)) (v : Option Nat) (st1 : g_St) (cb sb : Nat), decode cJ37_nextEntry pc = .ok (.areturn, 1) → Q v st1 → g_J p l e R s m args below meth c 2 E st0 Z pc lv [va_rf v] st1 cb sb) (hvc : vc_J37_nextEntry_J38 l E a0 st Q) : g_J p l e R s m args below meth c 2 E st0 Z 0 [(0, va_rf (some a0))] [] st cb sb := by
  unfold vc_J37_nextEntry_J38 at hvc
  refine j_aload_n hC dJ37_nextEntry_0 rfl 0 rfl ?_
  obtain ⟨o1, ⟨fs, hr, hv⟩, hvc⟩ := hvc
  refine j_get hC fkJ37_26_J38 dJ37_nextEntry_1 hr hv ?_
  clear hv hr fs
  refine j_astore_n (lv0 := [(0, va_rf (some a0))]) hC dJ37_nextEntry_4 rfl rfl [0] rfl (g_okS.h rfl g_c1 rfl) ?_
  refine j_aload_n hC dJ37_nextEntry_5 rfl 0 rfl ?_
  refine j_ifnonnull (tgt := 17) hC dJ37_nextEntry_6 rfl (fun a3 c2 => ?_) (fun c2 => ?_)
  · subst c2; replace hvc := hvc.2 a3 rfl
    refine j_aload_n hC dJ37_nextEntry_17 rfl 1 rfl ?_
    obtain ⟨o4, ⟨fs, hr, hv⟩, hvc⟩ := hvc
    refine j_get hC fkJ37_1_J38 dJ37_nextEntry_18 hr hv ?_
    clear hv hr fs
    obtain ⟨a5, rfl, hvc⟩ := hvc
    obtain ⟨x6, ⟨fs, hr, hv⟩, hvc⟩ := hvc
    refine j_getN hC fkJ37_13_J5 dJ37_nextEntry_21 hr hv ?_
    clear hv hr fs
    refine j_aload_n hC dJ37_nextEntry_24 rfl 1 rfl ?_
    obtain ⟨x7, ⟨fs, hr, hv⟩, hvc⟩ := hvc
    refine j_get hC fkJ37_19_J38 dJ37_nextEntry_25 hr hv ?_
    clear hv hr fs
    refine j_icmp_eq (tgt := 39) hC dJ37_nextEntry_28 rfl (fun c8 => ?_) (fun c8 => ?_)
    · replace hvc := hvc.1 c8
      refine j_aload_n hC dJ37_nextEntry_39 rfl 1 rfl ?_
      refine j_aload_n hC dJ37_nextEntry_40 rfl 0 rfl ?_
      refine j_callS (As := [va_rf (some a3)]) (rest := [va_rf (some a0)]) (n := 1) hC hvc (lw_S q1081 q1082 q47 q1083) (by decide +kernel) (g_rm hR rfl rfl) rfl rfl (g_sum rfl) dJ37_nextEntry_41 (Nat.zero_le _) (Nat.zero_le _) (g_Kap fun o9 hv2 => ?_)
      replace hvc := hv2; clear hv2
      obtain ⟨fs10, hm, hvc⟩ := hvc
      refine j_put hC fkJ37_26_J38 dJ37_nextEntry_44 hm g_no g_fo (fun st11 e1 => ?_)
      replace hvc := hvc st11 e1; clear hm e1
      refine j_aload_n hC dJ37_nextEntry_47 rfl 1 rfl ?_
      refine j_aload_n hC dJ37_nextEntry_48 rfl 0 rfl ?_
      obtain ⟨fs12, hm, hvc⟩ := hvc
      refine j_put hC fkJ37_22_J38 dJ37_nextEntry_49 hm g_no g_fo (fun st13 e1 => ?_)
      replace hvc := hvc st13 e1; clear hm e1
      refine j_aload_n hC dJ37_nextEntry_52 rfl 0 rfl ?_
      exact hret _ _ _ _ _ _ dJ37_nextEntry_53 hvc
    · replace hvc := hvc.2 c8
      exact hvc.elim
  · subst c2; replace hvc := hvc.1 rfl
    exact hvc.elim
theorem wk_J37_nextEntry_J38 {l : Launch} {E : g_E} {a0 : Nat} {st : g_St} {mc ms : Nat} {Q : Option Nat → g_St → Prop} (hvc : vc_J37_nextEntry_J38 l E a0 st Q) : wp_J37_nextEntry_J38 l E mc ms [va_rf (some a0)] st Q :=
  g_enter (lv0 := [(0, va_rf (some a0))]) (plainFor_of_name (by decide +kernel)) (by simp [lv_args, g_c1, g_ci, g_cL]) (by simp [lg_sl, g_c1, g_ci, g_cL]) (fun p e s m args below meth c hC => wb_J37_nextEntry_J38 hC ⟨Nat.le_refl _, Nat.le_refl _⟩ (fun pc lv v st1 cb sb hd hq => j_areturn hC rfl (by first | exact Or.inl ⟨_, rfl⟩ | exact Or.inr ⟨_, rfl⟩) hd (g_av hq)) hvc)
abbrev wp_J38_next_2 (l : Launch) (E : g_E) (mc ms : Nat) (av : List Value) (st : g_St) (Q : Option Nat → g_St → Prop) : Prop := g_WPa l E yJ38_next_2 cJ38_next_2 1 (some (.object "java/util/Map$Entry")) 3 83 mc ms av st Q
def vc_J38_next_2 (l : Launch) (E : g_E) (a0 : Nat) (st : g_St) (Q : Option Nat → g_St → Prop) : Prop :=
  g_is st a0 9 ∧ wp_J37_nextEntry_J38 l E 0 0 [va_rf (some a0)] st (fun o1 st2 => g_Ext st st2 → Q o1 st2)
set_option maxHeartbeats 4000000 in
theorem wb_J38_next_2 {p : Program} {l : Launch} {e : Env} {R : Room} {s : State} {m : MethodId} {args : Array Value} {below : List Frame} {meth : Method} {c : Code} {E : g_E} {st0 : g_St} {Z : State → Prop} (hC : g_Cx p s m args meth c cJ38_next_2 1 "java/util/TreeMap$EntryIterator" (some (.object "java/util/Map$Entry")) "next" E st0) (hR : g_Rm 3 83 R) {a0 : Nat} {st : g_St} {cb sb : Nat} {Q : Option Nat → g_St → Prop} (hret : ∀ (pc : Nat) (lv : List (Nat × Value)) (v : Option Nat) (st1 : g_St) (cb sb : Nat), decode cJ38_next_2 pc = .ok (.areturn, 1) → Q v st1 → g_J p l e R s m args below meth c 1 E st0 Z pc lv [va_rf v] st1 cb sb) (hvc : vc_J38_next_2 l E a0 st Q) : g_J p l e R s m args below meth c 1 E st0 Z 0 [(0, va_rf (some a0))] [] st cb sb := by
  unfold vc_J38_next_2 at hvc
  refine j_aload_n hC dJ38_next_2_0 rfl 0 rfl ?_
  obtain ⟨⟨fs, hr⟩, hvc⟩ := hvc
  refine j_callU (As := []) (rest := []) (n := 0) (x := ⟨"java/util/TreeMap$EntryIterator", "nextEntry", "()Ljava/util/TreeMap$Entry;"⟩) (C := "java/util/TreeMap$EntryIterator") (owner := "java/util/TreeMap$PrivateEntryIterator") (ci := 9) hC hvc (lw_U q1054 q1055 q1057 q1058 q83 q1059) rfl (by decide +kernel) (g_rm hR rfl rfl) rfl hr rfl rfl (g_sum rfl) dJ38_next_2_1 (Nat.zero_le _) (Nat.zero_le _) (g_Ka fun o1 st2 hv2 hx => ?_)
  replace hvc := hv2 hx; clear hx hv2
  clear hr fs
  exact hret _ _ _ _ _ _ dJ38_next_2_4 hvc
theorem wk_J38_next_2 {l : Launch} {E : g_E} {a0 : Nat} {st : g_St} {mc ms : Nat} {Q : Option Nat → g_St → Prop} (hvc : vc_J38_next_2 l E a0 st Q) : wp_J38_next_2 l E mc ms [va_rf (some a0)] st Q :=
  g_enter (lv0 := [(0, va_rf (some a0))]) (plainFor_of_name (by decide +kernel)) (by simp [lv_args, g_c1, g_ci, g_cL]) (by simp [lg_sl, g_c1, g_ci, g_cL]) (fun p e s m args below meth c hC => wb_J38_next_2 hC ⟨Nat.le_refl _, Nat.le_refl _⟩ (fun pc lv v st1 cb sb hd hq => j_areturn hC rfl (by first | exact Or.inl ⟨_, rfl⟩ | exact Or.inr ⟨_, rfl⟩) hd (g_av hq)) hvc)
abbrev wp_J38_next (l : Launch) (E : g_E) (mc ms : Nat) (av : List Value) (st : g_St) (Q : Option Nat → g_St → Prop) : Prop := g_WPa l E yJ38_next cJ38_next 1 (some (.object "java/lang/Object")) 4 103 mc ms av st Q
def vc_J38_next (l : Launch) (E : g_E) (a0 : Nat) (st : g_St) (Q : Option Nat → g_St → Prop) : Prop :=
  g_is st a0 9 ∧ wp_J38_next_2 l E 0 0 [va_rf (some a0)] st (fun o1 st2 => g_Ext st st2 → Q o1 st2)
set_option maxHeartbeats 4000000 in
theorem wb_J38_next {p : Program} {l : Launch} {e : Env} {R : Room} {s : State} {m : MethodId} {args : Array Value} {below : List Frame} {meth : Method} {c : Code} {E : g_E} {st0 : g_St} {Z : State → Prop} (hC : g_Cx p s m args meth c cJ38_next 1 "java/util/TreeMap$EntryIterator" (some (.object "java/lang/Object")) "next" E st0) (hR : g_Rm 4 103 R) {a0 : Nat} {st : g_St} {cb sb : Nat} {Q : Option Nat → g_St → Prop} (hret : ∀ (pc : Nat) (lv : List (Nat × Value)) (v : Option Nat) (st1 : g_St) (cb sb : Nat), decode cJ38_next pc = .ok (.areturn, 1) → Q v st1 → g_J p l e R s m args below meth c 1 E st0 Z pc lv [va_rf v] st1 cb sb) (hvc : vc_J38_next l E a0 st Q) : g_J p l e R s m args below meth c 1 E st0 Z 0 [(0, va_rf (some a0))] [] st cb sb := by
  unfold vc_J38_next at hvc
  refine j_aload_n hC dJ38_next_0 rfl 0 rfl ?_
  obtain ⟨⟨fs, hr⟩, hvc⟩ := hvc
  refine j_callV (As := []) (rest := []) (n := 0) (ci := 9) hC hvc (lw_V q1050 q1051 q1052 q84 q1053) (by decide +kernel) (g_rm hR rfl rfl) rfl hr rfl rfl (g_sum rfl) dJ38_next_1 (Nat.zero_le _) (Nat.zero_le _) (g_Ka fun o1 st2 hv2 hx => ?_)
  replace hvc := hv2 hx; clear hx hv2
  clear hr fs
  exact hret _ _ _ _ _ _ dJ38_next_4 hvc
theorem wk_J38_next {l : Launch} {E : g_E} {a0 : Nat} {st : g_St} {mc ms : Nat} {Q : Option Nat → g_St → Prop} (hvc : vc_J38_next l E a0 st Q) : wp_J38_next l E mc ms [va_rf (some a0)] st Q :=
  g_enter (lv0 := [(0, va_rf (some a0))]) (plainFor_of_name (by decide +kernel)) (by simp [lv_args, g_c1, g_ci, g_cL]) (by simp [lg_sl, g_c1, g_ci, g_cL]) (fun p e s m args below meth c hC => wb_J38_next hC ⟨Nat.le_refl _, Nat.le_refl _⟩ (fun pc lv v st1 cb sb hd hq => j_areturn hC rfl (by first | exact Or.inl ⟨_, rfl⟩ | exact Or.inr ⟨_, rfl⟩) hd (g_av hq)) hvc)
abbrev wp_J27_getKey (l : Launch) (E : g_E) (mc ms : Nat) (av : List Value) (st : g_St) (Q : Option Nat → g_St → Prop) : Prop := g_WPa l E yJ27_getKey cJ27_getKey 1 (some (.object "java/lang/Object")) 1 40 mc ms av st Q
def vc_J27_getKey (l : Launch) (E : g_E) (a0 : Nat) (st : g_St) (Q : Option Nat → g_St → Prop) : Prop :=
  ∃ o1 : Option Nat, g_gr st a0 4 0 o1 ∧ Q o1 st
set_option maxHeartbeats 4000000 in
theorem wb_J27_getKey {p : Program} {l : Launch} {e : Env} {R : Room} {s : State} {m : MethodId} {args : Array Value} {below : List Frame} {meth : Method} {c : Code} {E : g_E} {st0 : g_St} {Z : State → Prop} (hC : g_Cx p s m args meth c cJ27_getKey 1 "java/util/TreeMap$Entry" (some (.object "java/lang/Object")) "getKey" E st0) (hR : g_Rm 1 40 R) {a0 : Nat} {st : g_St} {cb sb : Nat} {Q : Option Nat → g_St → Prop} (hret : ∀ (pc : Nat) (lv : List (Nat × Value)) (v : Option Nat) (st1 : g_St) (cb sb : Nat), decode cJ27_getKey pc = .ok (.areturn, 1) → Q v st1 → g_J p l e R s m args below meth c 1 E st0 Z pc lv [va_rf v] st1 cb sb) (hvc : vc_J27_getKey l E a0 st Q) : g_J p l e R s m args below meth c 1 E st0 Z 0 [(0, va_rf (some a0))] [] st cb sb := by
  unfold vc_J27_getKey at hvc
  refine j_aload_n hC dJ27_getKey_0 rfl 0 rfl ?_
  obtain ⟨o1, ⟨fs, hr, hv⟩, hvc⟩ := hvc
  refine j_get hC fkJ27_15_J27 dJ27_getKey_1 hr hv ?_
  clear hv hr fs
  exact hret _ _ _ _ _ _ dJ27_getKey_4 hvc
theorem wk_J27_getKey {l : Launch} {E : g_E} {a0 : Nat} {st : g_St} {mc ms : Nat} {Q : Option Nat → g_St → Prop} (hvc : vc_J27_getKey l E a0 st Q) : wp_J27_getKey l E mc ms [va_rf (some a0)] st Q :=
  g_enter (lv0 := [(0, va_rf (some a0))]) (plainFor_of_name (by decide +kernel)) (by simp [lv_args, g_c1, g_ci, g_cL]) (by simp [lg_sl, g_c1, g_ci, g_cL]) (fun p e s m args below meth c hC => wb_J27_getKey hC ⟨Nat.le_refl _, Nat.le_refl _⟩ (fun pc lv v st1 cb sb hd hq => j_areturn hC rfl (by first | exact Or.inl ⟨_, rfl⟩ | exact Or.inr ⟨_, rfl⟩) hd (g_av hq)) hvc)
abbrev wp_J27_init (l : Launch) (E : g_E) (mc ms : Nat) (av : List Value) (st : g_St) (Q : g_St → Prop) : Prop := g_WPv l E yJ27_init cJ27_init 4 none 1 40 mc ms av st Q
def vc_J27_init (l : Launch) (E : g_E) (a0 : Nat) (p0 : Option Nat) (p1 : Option Nat) (p2 : Option Nat) (st : g_St) (Q : g_St → Prop) : Prop :=
  ∃ fs1 : List Value, st.2.1 a0 = some (.inr (4, fs1)) ∧ ∀ st2 : g_St, st2 = g_put st a0 (.inr (4, fs1.set 5 (.int (nI 1)))) → ∃ fs3 : List Value, st2.2.1 a0 = some (.inr (4, fs3)) ∧ ∀ st4 : g_St, st4 = g_put st2 a0 (.inr (4, fs3.set 0 (va_rf p0))) → ∃ fs5 : List Value, st4.2.1 a0 = some (.inr (4, fs5)) ∧ ∀ st6 : g_St, st6 = g_put st4 a0 (.inr (4, fs5.set 1 (va_rf p1))) → ∃ fs7 : List Value, st6.2.1 a0 = some (.inr (4, fs7)) ∧ ∀ st8 : g_St, st8 = g_put st6 a0 (.inr (4, fs7.set 4 (va_rf p2))) → Q st8
set_option maxHeartbeats 4000000 in
theorem wb_J27_init {p : Program} {l : Launch} {e : Env} {R : Room} {s : State} {m : MethodId} {args : Array Value} {below : List Frame} {meth : Method} {c : Code} {E : g_E} {st0 : g_St} {Z : State → Prop} (hC : g_Cx p s m args meth c cJ27_init 4 "java/util/TreeMap$Entry" none "<init>" E st0) (hR : g_Rm 1 40 R) {a0 : Nat} {p0 : Option Nat} {p1 : Option Nat} {p2 : Option Nat} {st : g_St} {cb sb : Nat} {Q : g_St → Prop} (hret : ∀ (pc : Nat) (lv : List (Nat × Value)) (st1 : g_St) (cb sb : Nat), decode cJ27_init pc = .ok (.return_, 1) → Q st1 → g_J p l e R s m args below meth c 4 E st0 Z pc lv [] st1 cb sb) (hvc : vc_J27_init l E a0 p0 p1 p2 st Q) : g_J p l e R s m args below meth c 4 E st0 Z 0 [(0, va_rf (some a0)), (1, va_rf p0), (2, va_rf p1), (3, va_rf p2)] [] st cb sb := by
  unfold vc_J27_init at hvc
  refine j_aload_n hC dJ27_init_0 rfl 0 rfl ?_
  refine j_objInit hC q1879 q99 q100 (Nat.le_trans (Nat.le_of_ble_eq_true rfl) hR.1) (Nat.le_trans (g_sumO rfl) hR.2) dJ27_init_1 ?_
  refine j_aload_n hC dJ27_init_4 rfl 0 rfl ?_
  refine j_iconst hC (nI 1) dJ27_init_5 rfl ?_
  obtain ⟨fs1, hm, hvc⟩ := hvc
  refine j_put hC fkJ27_9_J27 dJ27_init_6 hm rfl rfl (fun st2 e1 => ?_)
  replace hvc := hvc st2 e1; clear hm e1
  refine j_aload_n hC dJ27_init_9 rfl 0 rfl ?_
  refine j_aload_n hC dJ27_init_10 rfl 1 rfl ?_
  obtain ⟨fs3, hm, hvc⟩ := hvc
  refine j_put hC fkJ27_15_J27 dJ27_init_11 hm g_no g_fo (fun st4 e1 => ?_)
  replace hvc := hvc st4 e1; clear hm e1
  refine j_aload_n hC dJ27_init_14 rfl 0 rfl ?_
  refine j_aload_n hC dJ27_init_15 rfl 2 rfl ?_
  obtain ⟨fs5, hm, hvc⟩ := hvc
  refine j_put hC fkJ27_19_J27 dJ27_init_16 hm g_no g_fo (fun st6 e1 => ?_)
  replace hvc := hvc st6 e1; clear hm e1
  refine j_aload_n hC dJ27_init_19 rfl 0 rfl ?_
  refine j_aload_n hC dJ27_init_20 rfl 3 rfl ?_
  obtain ⟨fs7, hm, hvc⟩ := hvc
  refine j_put hC fkJ27_22_J27 dJ27_init_21 hm g_no g_fo (fun st8 e1 => ?_)
  replace hvc := hvc st8 e1; clear hm e1
  exact hret _ _ _ _ _ dJ27_init_24 hvc
theorem wk_J27_init {l : Launch} {E : g_E} {a0 : Nat} {p0 : Option Nat} {p1 : Option Nat} {p2 : Option Nat} {st : g_St} {mc ms : Nat} {Q : g_St → Prop} (hvc : vc_J27_init l E a0 p0 p1 p2 st Q) : wp_J27_init l E mc ms [va_rf (some a0), va_rf p0, va_rf p1, va_rf p2] st Q :=
  g_enter (lv0 := [(0, va_rf (some a0)), (1, va_rf p0), (2, va_rf p1), (3, va_rf p2)]) (plainFor_of_name (by decide +kernel)) (by simp [lv_args, g_c1, g_ci, g_cL]) (by simp [lg_sl, g_c1, g_ci, g_cL]) (fun p e s m args below meth c hC => wb_J27_init hC ⟨Nat.le_refl _, Nat.le_refl _⟩ (fun pc lv st1 cb sb hd hq => j_return hC rfl hd ⟨rfl, hq⟩) hvc)
abbrev wp_J5_fixAfterInsertion (l : Launch) (E : g_E) (mc ms : Nat) (av : List Value) (st : g_St) (Q : g_St → Prop) : Prop := g_WPv l E yJ5_fixAfterInsertion cJ5_fixAfterInsertion 3 none 2 62 mc ms av st Q
def vc_J5_fixAfterInsertion (l : Launch) (E : g_E) (a0 : Nat) (p0 : Option Nat) (st : g_St) (Q : g_St → Prop) : Prop :=
  ∃ a1 : Nat, p0 = some a1 ∧ ∃ fs2 : List Value, st.2.1 a1 = some (.inr (4, fs2)) ∧ ∀ st3 : g_St, st3 = g_put st a1 (.inr (4, fs2.set 5 (.int (nI 0)))) → g_lp2 (fun (K6 : (Option Nat) → g_St → Prop) (o4 : Option Nat) (st5 : g_St) => g_jn0 (fun (K9 : Prop) => (o4 = none → K9) ∧ (∀ a16 : Nat, o4 = some a16 → ∃ o17 : Option Nat, g_gr st5 a0 3 3 o17 ∧ ((some a16) = o17 → K9) ∧ (¬ (some a16) = o17 → ∃ o19 : Option Nat, g_gr st5 a16 4 4 o19 ∧ ∃ a20 : Nat, o19 = some a20 ∧ ∃ x21 : Int32, g_gi st5 a20 4 5 x21 ∧ (¬ x21 = 0 → K9) ∧ (x21 = 0 → wp_J5_parentOf l E 0 0 [va_rf (some a16)] st5 (fun o23 stx => stx = st5 ∧ wp_J5_parentOf l E 0 0 [va_rf (some a16)] st5 (fun o24 stx => stx = st5 ∧ wp_J5_parentOf l E 0 0 [va_rf o24] st5 (fun o25 stx => stx = st5 ∧ wp_J5_leftOf l E 0 0 [va_rf o25] st5 (fun o26 stx => stx = st5 ∧ (¬ o23 = o26 → wp_J5_parentOf l E 0 0 [va_rf (some a16)] st5 (fun o28 stx => stx = st5 ∧ wp_J5_parentOf l E 0 0 [va_rf o28] st5 (fun o29 stx => stx = st5 ∧ wp_J5_leftOf l E 0 0 [va_rf o29] st5 (fun o30 stx => stx = st5 ∧ wp_J5_colorOf l E 0 0 [va_rf o30] st5 (fun x31 stx => stx = st5 ∧ g_jn2 (fun (K34 : (Option Nat) → g_St → Prop) => (¬ x31 = 0 → wp_J5_parentOf l E 0 0 [va_rf (some a16)] st5 (fun o37 stx => stx = st5 ∧ wp_J5_leftOf l E 0 0 [va_rf o37] st5 (fun o38 stx => stx = st5 ∧ g_jn2 (fun (K41 : (Option Nat) → g_St → Prop) => (¬ (some a16) = o38 → K41 (some a16) st5) ∧ ((some a16) = o38 → wp_J5_parentOf l E 0 0 [va_rf (some a16)] st5 (fun o52 stx => stx = st5 ∧ g_is st5 a0 3 ∧ wp_J5_rotateRight l E 0 0 [va_rf (some a0), va_rf o52] st5 (fun st53 => g_Ext st5 st53 → K41 o52 st53)))) (fun (o39 : Option Nat) (st40 : g_St) => wp_J5_parentOf l E 0 0 [va_rf o39] st40 (fun o43 stx => stx = st40 ∧ wp_J5_setColor l E 0 0 [va_rf o43, .int (nI 1)] st40 (fun st44 => g_Ext st40 st44 → wp_J5_parentOf l E 0 0 [va_rf o39] st44 (fun o45 stx => stx = st44 ∧ wp_J5_parentOf l E 0 0 [va_rf o45] st44 (fun o46 stx => stx = st44 ∧ wp_J5_setColor l E 0 0 [va_rf o46, .int (nI 0)] st44 (fun st47 => g_Ext st44 st47 → wp_J5_parentOf l E 0 0 [va_rf o39] st47 (fun o48 stx => stx = st47 ∧ wp_J5_parentOf l E 0 0 [va_rf o48] st47 (fun o49 stx => stx = st47 ∧ g_is st47 a0 3 ∧ wp_J5_rotateLeft l E 0 0 [va_rf (some a0), va_rf o49] st47 (fun st50 => g_Ext st47 st50 → K34 o39 st50)))))))))))) ∧ (x31 = 0 → wp_J5_parentOf l E 0 0 [va_rf (some a16)] st5 (fun o55 stx => stx = st5 ∧ wp_J5_setColor l E 0 0 [va_rf o55, .int (nI 1)] st5 (fun st56 => g_Ext st5 st56 → wp_J5_setColor l E 0 0 [va_rf o30, .int (nI 1)] st56 (fun st57 => g_Ext st56 st57 → wp_J5_parentOf l E 0 0 [va_rf (some a16)] st57 (fun o58 stx => stx = st57 ∧ wp_J5_parentOf l E 0 0 [va_rf o58] st57 (fun o59 stx => stx = st57 ∧ wp_J5_setColor l E 0 0 [va_rf o59, .int (nI 0)] st57 (fun st60 => g_Ext st57 st60 → wp_J5_parentOf l E 0 0 [va_rf (some a16)] st60 (fun o61 stx => stx = st60 ∧ wp_J5_parentOf l E 0 0 [va_rf o61] st60 (fun o62 stx => stx = st60 ∧ K34 o62 st60)))))))))) (fun (o32 : Option Nat) (st33 : g_St) => K6 o32 st33)))))) ∧ (o23 = o26 → wp_J5_parentOf l E 0 0 [va_rf (some a16)] st5 (fun o64 stx => stx = st5 ∧ wp_J5_parentOf l E 0 0 [va_rf o64] st5 (fun o65 stx => stx = st5 ∧ wp_J5_rightOf l E 0 0 [va_rf o65] st5 (fun o66 stx => stx = st5 ∧ wp_J5_colorOf l E 0 0 [va_rf o66] st5 (fun x67 stx => stx = st5 ∧ g_jn2 (fun (K70 : (Option Nat) → g_St → Prop) => (¬ x67 = 0 → wp_J5_parentOf l E 0 0 [va_rf (some a16)] st5 (fun o73 stx => stx = st5 ∧ wp_J5_rightOf l E 0 0 [va_rf o73] st5 (fun o74 stx => stx = st5 ∧ g_jn2 (fun (K77 : (Option Nat) → g_St → Prop) => (¬ (some a16) = o74 → K77 (some a16) st5) ∧ ((some a16) = o74 → wp_J5_parentOf l E 0 0 [va_rf (some a16)] st5 (fun o88 stx => stx = st5 ∧ g_is st5 a0 3 ∧ wp_J5_rotateLeft l E 0 0 [va_rf (some a0), va_rf o88] st5 (fun st89 => g_Ext st5 st89 → K77 o88 st89)))) (fun (o75 : Option Nat) (st76 : g_St) => wp_J5_parentOf l E 0 0 [va_rf o75] st76 (fun o79 stx => stx = st76 ∧ wp_J5_setColor l E 0 0 [va_rf o79, .int (nI 1)] st76 (fun st80 => g_Ext st76 st80 → wp_J5_parentOf l E 0 0 [va_rf o75] st80 (fun o81 stx => stx = st80 ∧ wp_J5_parentOf l E 0 0 [va_rf o81] st80 (fun o82 stx => stx = st80 ∧ wp_J5_setColor l E 0 0 [va_rf o82, .int (nI 0)] st80 (fun st83 => g_Ext st80 st83 → wp_J5_parentOf l E 0 0 [va_rf o75] st83 (fun o84 stx => stx = st83 ∧ wp_J5_parentOf l E 0 0 [va_rf o84] st83 (fun o85 stx => stx = st83 ∧ g_is st83 a0 3 ∧ wp_J5_rotateRight l E 0 0 [va_rf (some a0), va_rf o85] st83 (fun st86 => g_Ext st83 st86 → K70 o75 st86)))))))))))) ∧ (x67 = 0 → wp_J5_parentOf l E 0 0 [va_rf (some a16)] st5 (fun o91 stx => stx = st5 ∧ wp_J5_setColor l E 0 0 [va_rf o91, .int (nI 1)] st5 (fun st92 => g_Ext st5 st92 → wp_J5_setColor l E 0 0 [va_rf o66, .int (nI 1)] st92 (fun st93 => g_Ext st92 st93 → wp_J5_parentOf l E 0 0 [va_rf (some a16)] st93 (fun o94 stx => stx = st93 ∧ wp_J5_parentOf l E 0 0 [va_rf o94] st93 (fun o95 stx => stx = st93 ∧ wp_J5_setColor l E 0 0 [va_rf o95, .int (nI 0)] st93 (fun st96 => g_Ext st93 st96 → wp_J5_parentOf l E 0 0 [va_rf (some a16)] st96 (fun o97 stx => stx = st96 ∧ wp_J5_parentOf l E 0 0 [va_rf o97] st96 (fun o98 stx => stx = st96 ∧ K70 o98 st96)))))))))) (fun (o68 : Option Nat) (st69 : g_St) => K6 o68 st69)))))))))))))) (∃ o11 : Option Nat, g_gr st5 a0 3 3 o11 ∧ ∃ a12 : Nat, o11 = some a12 ∧ ∃ fs13 : List Value, st5.2.1 a12 = some (.inr (4, fs13)) ∧ ∀ st14 : g_St, st14 = g_put st5 a12 (.inr (4, fs13.set 5 (.int (nI 1)))) → Q st14)) (some a1) st3
set_option maxHeartbeats 4000000 in
theorem wb_J5_fixAfterInsertion {p : Program} {l : Launch} {e : Env} {R : Room} {s : State} {m : MethodId} {args : Array Value} {below : List Frame} {meth : Method} {c : Code} {E : g_E} {st0 : g_St} {Z : State → Prop} (hC : g_Cx p s m args meth c cJ5_fixAfterInsertion 3 "java/util/TreeMap" none "fixAfterInsertion" E st0) (hR : g_Rm 2 62 R) {a0 : Nat} {p0 : Option Nat} {st : g_St} {cb sb : Nat} {Q : g_St → Prop} (hret : ∀ (pc : Nat) (lv : List (Nat × Value)) (st1 : g_St) (cb sb : Nat), decode cJ5_fixAfterInsertion pc = .ok (.return_, 1) → Q st1 → g_J p l e R s m args below meth c 3 E st0 Z pc lv [] st1 cb sb) (hvc : vc_J5_fixAfterInsertion l E a0 p0 st Q) : g_J p l e R s m args below meth c 3 E st0 Z 0 [(0, va_rf (some a0)), (1, va_rf p0)] [] st cb sb := by
  unfold vc_J5_fixAfterInsertion at hvc
  refine j_aload_n hC dJ5_fixAfterInsertion_0 rfl 1 rfl ?_
  refine j_iconst hC (nI 0) dJ5_fixAfterInsertion_1 rfl ?_
  obtain ⟨a1, rfl, hvc⟩ := hvc
  obtain ⟨fs2, hm, hvc⟩ := hvc
  refine j_put hC fkJ5_290_J27 dJ5_fixAfterInsertion_2 hm rfl rfl (fun st3 e1 => ?_)
  replace hvc := hvc st3 e1; clear hm e1
  replace hvc := g_lp2_o hvc
  obtain ⟨K6, hz101, hs102, n103, hvc⟩ := hvc
  have kh7 : ∀ (n : Nat) (o4 : Option Nat) (st5 : g_St), K6 n o4 st5 → g_J p l e R s m args below meth c 3 E st0 Z 5 [(0, va_rf (some a0)), (1, va_rf o4)] [] st5 cb sb := by
    clear hvc
    intro n
    induction n with
    | zero => intro o4 st5 hvc; exact absurd hvc (hz101 _ _)
    | succ n ih8 =>
      intro o4 st5 hvc
      replace hvc := hs102 n _ _ hvc
      refine j_aload_n hC dJ5_fixAfterInsertion_5 rfl 1 rfl ?_
      replace hvc := g_jn0_o hvc
      obtain ⟨K9, hK100, hvc⟩ := hvc
      have kh10 : K9 → g_J p l e R s m args below meth c 3 E st0 Z 258 [(0, va_rf (some a0))] [] st5 cb sb := by
        clear hvc
        intro hvc
        replace hvc := hK100 hvc
        refine j_aload_n hC dJ5_fixAfterInsertion_258 rfl 0 rfl ?_
        obtain ⟨o11, ⟨fs, hr, hv⟩, hvc⟩ := hvc
        refine j_get hC fkJ5_101_J5 dJ5_fixAfterInsertion_259 hr hv ?_
        clear hv hr fs
        refine j_iconst hC (nI 1) dJ5_fixAfterInsertion_262 rfl ?_
        obtain ⟨a12, rfl, hvc⟩ := hvc
        obtain ⟨fs13, hm, hvc⟩ := hvc
        refine j_put hC fkJ5_290_J27 dJ5_fixAfterInsertion_263 hm rfl rfl (fun st14 e1 => ?_)
        replace hvc := hvc st14 e1; clear hm e1
        exact hret _ _ _ _ _ dJ5_fixAfterInsertion_266 hvc
      refine j_ifnull (tgt := 258) hC dJ5_fixAfterInsertion_6 rfl (fun c15 => ?_) (fun a16 c15 => ?_)
      · subst c15; replace hvc := hvc.1 rfl
        exact j_sub [0] rfl (kh10 hvc)
      · subst c15; replace hvc := hvc.2 a16 rfl
        refine j_aload_n hC dJ5_fixAfterInsertion_9 rfl 1 rfl ?_
        refine j_aload_n hC dJ5_fixAfterInsertion_10 rfl 0 rfl ?_
        obtain ⟨o17, ⟨fs, hr, hv⟩, hvc⟩ := hvc
        refine j_get hC fkJ5_101_J5 dJ5_fixAfterInsertion_11 hr hv ?_
        clear hv hr fs
        refine j_acmp_eq (tgt := 258) hC dJ5_fixAfterInsertion_14 rfl (fun c18 => ?_) (fun c18 => ?_)
        · replace hvc := hvc.1 c18
          exact j_sub [0] rfl (kh10 hvc)
        · replace hvc := hvc.2 c18
          refine j_aload_n hC dJ5_fixAfterInsertion_17 rfl 1 rfl ?_
          obtain ⟨o19, ⟨fs, hr, hv⟩, hvc⟩ := hvc
          refine j_get hC fkJ5_124_J27 dJ5_fixAfterInsertion_18 hr hv ?_
          clear hv hr fs
          obtain ⟨a20, rfl, hvc⟩ := hvc
          obtain ⟨x21, ⟨fs, hr, hv⟩, hvc⟩ := hvc
          refine j_get hC fkJ5_290_J27 dJ5_fixAfterInsertion_21 hr hv ?_
          clear hv hr fs
          refine j_if_ne (tgt := 258) hC dJ5_fixAfterInsertion_24 rfl (fun c22 => ?_) (fun c22 => ?_)
          · replace hvc := hvc.1 c22
            exact j_sub [0] rfl (kh10 hvc)
          · replace hvc := hvc.2 c22
            refine j_aload_n hC dJ5_fixAfterInsertion_27 rfl 1 rfl ?_
            refine j_callS (As := [va_rf (some a16)]) (rest := []) (n := 1) hC hvc (lw_S q1465 q1466 q47 q1467) (by decide +kernel) (g_rm hR rfl rfl) rfl rfl (g_sum rfl) dJ5_fixAfterInsertion_28 (Nat.zero_le _) (Nat.zero_le _) (g_Kap fun o23 hv2 => ?_)
            replace hvc := hv2; clear hv2
            refine j_aload_n hC dJ5_fixAfterInsertion_31 rfl 1 rfl ?_
            refine j_callS (As := [va_rf (some a16)]) (rest := [va_rf o23]) (n := 1) hC hvc (lw_S q1465 q1466 q47 q1467) (by decide +kernel) (g_rm hR rfl rfl) rfl rfl (g_sum rfl) dJ5_fixAfterInsertion_32 (Nat.zero_le _) (Nat.zero_le _) (g_Kap fun o24 hv2 => ?_)
            replace hvc := hv2; clear hv2
            refine j_callS (As := [va_rf o24]) (rest := [va_rf o23]) (n := 1) hC hvc (lw_S q1465 q1466 q47 q1467) (by decide +kernel) (g_rm hR rfl rfl) rfl rfl (g_sum rfl) dJ5_fixAfterInsertion_35 (Nat.zero_le _) (Nat.zero_le _) (g_Kap fun o25 hv2 => ?_)
            replace hvc := hv2; clear hv2
            refine j_callS (As := [va_rf o25]) (rest := [va_rf o23]) (n := 1) hC hvc (lw_S q1468 q1469 q47 q1470) (by decide +kernel) (g_rm hR rfl rfl) rfl rfl (g_sum rfl) dJ5_fixAfterInsertion_38 (Nat.zero_le _) (Nat.zero_le _) (g_Kap fun o26 hv2 => ?_)
            replace hvc := hv2; clear hv2
            refine j_acmp_ne (tgt := 151) hC dJ5_fixAfterInsertion_41 rfl (fun c27 => ?_) (fun c27 => ?_)
            · replace hvc := hvc.1 c27
              refine j_aload_n hC dJ5_fixAfterInsertion_151 rfl 1 rfl ?_
              refine j_callS (As := [va_rf (some a16)]) (rest := []) (n := 1) hC hvc (lw_S q1465 q1466 q47 q1467) (by decide +kernel) (g_rm hR rfl rfl) rfl rfl (g_sum rfl) dJ5_fixAfterInsertion_152 (Nat.zero_le _) (Nat.zero_le _) (g_Kap fun o28 hv2 => ?_)
              replace hvc := hv2; clear hv2
              refine j_callS (As := [va_rf o28]) (rest := []) (n := 1) hC hvc (lw_S q1465 q1466 q47 q1467) (by decide +kernel) (g_rm hR rfl rfl) rfl rfl (g_sum rfl) dJ5_fixAfterInsertion_155 (Nat.zero_le _) (Nat.zero_le _) (g_Kap fun o29 hv2 => ?_)
              replace hvc := hv2; clear hv2
              refine j_callS (As := [va_rf o29]) (rest := []) (n := 1) hC hvc (lw_S q1468 q1469 q47 q1470) (by decide +kernel) (g_rm hR rfl rfl) rfl rfl (g_sum rfl) dJ5_fixAfterInsertion_158 (Nat.zero_le _) (Nat.zero_le _) (g_Kap fun o30 hv2 => ?_)
              replace hvc := hv2; clear hv2
              refine j_astore_n (lv0 := [(1, va_rf (some a16)), (0, va_rf (some a0))]) hC dJ5_fixAfterInsertion_161 rfl rfl [1, 0] rfl (g_okS.h rfl g_c1 rfl) ?_
              refine j_aload_n hC dJ5_fixAfterInsertion_162 rfl 0 rfl ?_
              refine j_callS (As := [va_rf o30]) (rest := []) (n := 1) hC hvc (lw_S q1462 q1463 q47 q1464) (by decide +kernel) (g_rm hR rfl rfl) rfl rfl (g_sum rfl) dJ5_fixAfterInsertion_163 (Nat.zero_le _) (Nat.zero_le _) (g_Kip fun x31 hv2 => ?_)
              replace hvc := hv2; clear hv2
              replace hvc := g_jn2_o hvc
              obtain ⟨K34, hK63, hvc⟩ := hvc
              have kh35 : ∀ (o32 : Option Nat) (st33 : g_St), K34 o32 st33 → g_J p l e R s m args below meth c 3 E st0 Z 255 [(0, va_rf (some a0)), (1, va_rf o32)] [] st33 cb sb := by
                clear hvc
                intro o32 st33 hvc
                replace hvc := hK63 _ _ hvc
                refine j_goto (tgt := 5) hC dJ5_fixAfterInsertion_255 rfl ?_
                exact j_sub [0, 1] rfl (ih8 o32 st33 hvc)
              refine j_if_ne (tgt := 204) hC dJ5_fixAfterInsertion_166 rfl (fun c36 => ?_) (fun c36 => ?_)
              · replace hvc := hvc.1 c36
                refine j_aload_n hC dJ5_fixAfterInsertion_204 rfl 1 rfl ?_
                refine j_aload_n hC dJ5_fixAfterInsertion_205 rfl 1 rfl ?_
                refine j_callS (As := [va_rf (some a16)]) (rest := [va_rf (some a16)]) (n := 1) hC hvc (lw_S q1465 q1466 q47 q1467) (by decide +kernel) (g_rm hR rfl rfl) rfl rfl (g_sum rfl) dJ5_fixAfterInsertion_206 (Nat.zero_le _) (Nat.zero_le _) (g_Kap fun o37 hv2 => ?_)
                replace hvc := hv2; clear hv2
                refine j_callS (As := [va_rf o37]) (rest := [va_rf (some a16)]) (n := 1) hC hvc (lw_S q1468 q1469 q47 q1470) (by decide +kernel) (g_rm hR rfl rfl) rfl rfl (g_sum rfl) dJ5_fixAfterInsertion_209 (Nat.zero_le _) (Nat.zero_le _) (g_Kap fun o38 hv2 => ?_)
                replace hvc := hv2; clear hv2
                replace hvc := g_jn2_o hvc
                obtain ⟨K41, hK54, hvc⟩ := hvc
                have kh42 : ∀ (o39 : Option Nat) (st40 : g_St), K41 o39 st40 → g_J p l e R s m args below meth c 3 E st0 Z 225 [(0, va_rf (some a0)), (1, va_rf o39)] [] st40 cb sb := by
                  clear hvc
                  intro o39 st40 hvc
                  replace hvc := hK54 _ _ hvc
                  refine j_aload_n hC dJ5_fixAfterInsertion_225 rfl 1 rfl ?_
                  refine j_callS (As := [va_rf o39]) (rest := []) (n := 1) hC hvc (lw_S q1465 q1466 q47 q1467) (by decide +kernel) (g_rm hR rfl rfl) rfl rfl (g_sum rfl) dJ5_fixAfterInsertion_226 (Nat.zero_le _) (Nat.zero_le _) (g_Kap fun o43 hv2 => ?_)
                  replace hvc := hv2; clear hv2
                  refine j_iconst hC (nI 1) dJ5_fixAfterInsertion_229 rfl ?_
                  refine j_callS (As := [va_rf o43, .int (nI 1)]) (rest := []) (n := 2) hC hvc (lw_S q1474 q1475 q47 q1476) (by decide +kernel) (g_rm hR rfl rfl) rfl rfl (g_sum rfl) dJ5_fixAfterInsertion_230 (Nat.zero_le _) (Nat.zero_le _) (g_Kv fun st44 hv2 hx => ?_)
                  replace hvc := hv2 hx; clear hx hv2
                  refine j_aload_n hC dJ5_fixAfterInsertion_233 rfl 1 rfl ?_
                  refine j_callS (As := [va_rf o39]) (rest := []) (n := 1) hC hvc (lw_S q1465 q1466 q47 q1467) (by decide +kernel) (g_rm hR rfl rfl) rfl rfl (g_sum rfl) dJ5_fixAfterInsertion_234 (Nat.zero_le _) (Nat.zero_le _) (g_Kap fun o45 hv2 => ?_)
                  replace hvc := hv2; clear hv2
                  refine j_callS (As := [va_rf o45]) (rest := []) (n := 1) hC hvc (lw_S q1465 q1466 q47 q1467) (by decide +kernel) (g_rm hR rfl rfl) rfl rfl (g_sum rfl) dJ5_fixAfterInsertion_237 (Nat.zero_le _) (Nat.zero_le _) (g_Kap fun o46 hv2 => ?_)
                  replace hvc := hv2; clear hv2
                  refine j_iconst hC (nI 0) dJ5_fixAfterInsertion_240 rfl ?_
                  refine j_callS (As := [va_rf o46, .int (nI 0)]) (rest := []) (n := 2) hC hvc (lw_S q1474 q1475 q47 q1476) (by decide +kernel) (g_rm hR rfl rfl) rfl rfl (g_sum rfl) dJ5_fixAfterInsertion_241 (Nat.zero_le _) (Nat.zero_le _) (g_Kv fun st47 hv2 hx => ?_)
                  replace hvc := hv2 hx; clear hx hv2
                  refine j_aload_n hC dJ5_fixAfterInsertion_244 rfl 0 rfl ?_
                  refine j_aload_n hC dJ5_fixAfterInsertion_245 rfl 1 rfl ?_
                  refine j_callS (As := [va_rf o39]) (rest := [va_rf (some a0)]) (n := 1) hC hvc (lw_S q1465 q1466 q47 q1467) (by decide +kernel) (g_rm hR rfl rfl) rfl rfl (g_sum rfl) dJ5_fixAfterInsertion_246 (Nat.zero_le _) (Nat.zero_le _) (g_Kap fun o48 hv2 => ?_)
                  replace hvc := hv2; clear hv2
                  refine j_callS (As := [va_rf o48]) (rest := [va_rf (some a0)]) (n := 1) hC hvc (lw_S q1465 q1466 q47 q1467) (by decide +kernel) (g_rm hR rfl rfl) rfl rfl (g_sum rfl) dJ5_fixAfterInsertion_249 (Nat.zero_le _) (Nat.zero_le _) (g_Kap fun o49 hv2 => ?_)
                  replace hvc := hv2; clear hv2
                  obtain ⟨⟨fs, hr⟩, hvc⟩ := hvc
                  refine j_callV (As := [va_rf o49]) (rest := []) (n := 1) (ci := 3) hC hvc (lw_V q1477 q1479 qs4 q47 q1480) (by decide +kernel) (g_rm hR rfl rfl) rfl hr rfl rfl (g_sum rfl) dJ5_fixAfterInsertion_252 (Nat.zero_le _) (Nat.zero_le _) (g_Kv fun st50 hv2 hx => ?_)
                  replace hvc := hv2 hx; clear hx hv2
                  clear hr fs
                  exact j_sub [0, 1] rfl (kh35 o39 st50 hvc)
                refine j_acmp_ne (tgt := 225) hC dJ5_fixAfterInsertion_212 rfl (fun c51 => ?_) (fun c51 => ?_)
                · replace hvc := hvc.1 c51
                  exact j_sub [2, 1] rfl (kh42 (some a16) st5 hvc)
                · replace hvc := hvc.2 c51
                  refine j_aload_n hC dJ5_fixAfterInsertion_215 rfl 1 rfl ?_
                  refine j_callS (As := [va_rf (some a16)]) (rest := []) (n := 1) hC hvc (lw_S q1465 q1466 q47 q1467) (by decide +kernel) (g_rm hR rfl rfl) rfl rfl (g_sum rfl) dJ5_fixAfterInsertion_216 (Nat.zero_le _) (Nat.zero_le _) (g_Kap fun o52 hv2 => ?_)
                  replace hvc := hv2; clear hv2
                  refine j_astore_n (lv0 := [(0, va_rf (some a0)), (2, va_rf o30)]) hC dJ5_fixAfterInsertion_219 rfl rfl [2, 0] rfl (g_okS.h rfl g_c1 rfl) ?_
                  refine j_aload_n hC dJ5_fixAfterInsertion_220 rfl 1 rfl ?_
                  refine j_aload_n hC dJ5_fixAfterInsertion_221 rfl 0 rfl ?_
                  obtain ⟨⟨fs, hr⟩, hvc⟩ := hvc
                  refine j_callV (As := [va_rf o52]) (rest := []) (n := 1) (ci := 3) hC hvc (lw_V q1481 q1483 qs5 q47 q1484) (by decide +kernel) (g_rm hR rfl rfl) rfl hr rfl rfl (g_sum rfl) dJ5_fixAfterInsertion_222 (Nat.zero_le _) (Nat.zero_le _) (g_Kv fun st53 hv2 hx => ?_)
                  replace hvc := hv2 hx; clear hx hv2
                  clear hr fs
                  exact j_sub [1, 0] rfl (kh42 o52 st53 hvc)
              · replace hvc := hvc.2 c36
                refine j_aload_n hC dJ5_fixAfterInsertion_169 rfl 1 rfl ?_
                refine j_callS (As := [va_rf (some a16)]) (rest := []) (n := 1) hC hvc (lw_S q1465 q1466 q47 q1467) (by decide +kernel) (g_rm hR rfl rfl) rfl rfl (g_sum rfl) dJ5_fixAfterInsertion_170 (Nat.zero_le _) (Nat.zero_le _) (g_Kap fun o55 hv2 => ?_)
                replace hvc := hv2; clear hv2
                refine j_iconst hC (nI 1) dJ5_fixAfterInsertion_173 rfl ?_
                refine j_callS (As := [va_rf o55, .int (nI 1)]) (rest := []) (n := 2) hC hvc (lw_S q1474 q1475 q47 q1476) (by decide +kernel) (g_rm hR rfl rfl) rfl rfl (g_sum rfl) dJ5_fixAfterInsertion_174 (Nat.zero_le _) (Nat.zero_le _) (g_Kv fun st56 hv2 hx => ?_)
                replace hvc := hv2 hx; clear hx hv2
                refine j_aload_n hC dJ5_fixAfterInsertion_177 rfl 0 rfl ?_
                refine j_iconst hC (nI 1) dJ5_fixAfterInsertion_178 rfl ?_
                refine j_callS (As := [va_rf o30, .int (nI 1)]) (rest := []) (n := 2) hC hvc (lw_S q1474 q1475 q47 q1476) (by decide +kernel) (g_rm hR rfl rfl) rfl rfl (g_sum rfl) dJ5_fixAfterInsertion_179 (Nat.zero_le _) (Nat.zero_le _) (g_Kv fun st57 hv2 hx => ?_)
                replace hvc := hv2 hx; clear hx hv2
                refine j_aload_n hC dJ5_fixAfterInsertion_182 rfl 1 rfl ?_
                refine j_callS (As := [va_rf (some a16)]) (rest := []) (n := 1) hC hvc (lw_S q1465 q1466 q47 q1467) (by decide +kernel) (g_rm hR rfl rfl) rfl rfl (g_sum rfl) dJ5_fixAfterInsertion_183 (Nat.zero_le _) (Nat.zero_le _) (g_Kap fun o58 hv2 => ?_)
                replace hvc := hv2; clear hv2
                refine j_callS (As := [va_rf o58]) (rest := []) (n := 1) hC hvc (lw_S q1465 q1466 q47 q1467) (by decide +kernel) (g_rm hR rfl rfl) rfl rfl (g_sum rfl) dJ5_fixAfterInsertion_186 (Nat.zero_le _) (Nat.zero_le _) (g_Kap fun o59 hv2 => ?_)
                replace hvc := hv2; clear hv2
                refine j_iconst hC (nI 0) dJ5_fixAfterInsertion_189 rfl ?_
                refine j_callS (As := [va_rf o59, .int (nI 0)]) (rest := []) (n := 2) hC hvc (lw_S q1474 q1475 q47 q1476) (by decide +kernel) (g_rm hR rfl rfl) rfl rfl (g_sum rfl) dJ5_fixAfterInsertion_190 (Nat.zero_le _) (Nat.zero_le _) (g_Kv fun st60 hv2 hx => ?_)
                replace hvc := hv2 hx; clear hx hv2
                refine j_aload_n hC dJ5_fixAfterInsertion_193 rfl 1 rfl ?_
                refine j_callS (As := [va_rf (some a16)]) (rest := []) (n := 1) hC hvc (lw_S q1465 q1466 q47 q1467) (by decide +kernel) (g_rm hR rfl rfl) rfl rfl (g_sum rfl) dJ5_fixAfterInsertion_194 (Nat.zero_le _) (Nat.zero_le _) (g_Kap fun o61 hv2 => ?_)
                replace hvc := hv2; clear hv2
                refine j_callS (As := [va_rf o61]) (rest := []) (n := 1) hC hvc (lw_S q1465 q1466 q47 q1467) (by decide +kernel) (g_rm hR rfl rfl) rfl rfl (g_sum rfl) dJ5_fixAfterInsertion_197 (Nat.zero_le _) (Nat.zero_le _) (g_Kap fun o62 hv2 => ?_)
                replace hvc := hv2; clear hv2
                refine j_astore_n (lv0 := [(0, va_rf (some a0)), (2, va_rf o30)]) hC dJ5_fixAfterInsertion_200 rfl rfl [2, 0] rfl (g_okS.h rfl g_c1 rfl) ?_
                refine j_goto (tgt := 255) hC dJ5_fixAfterInsertion_201 rfl ?_
                exact j_sub [1, 0] rfl (kh35 o62 st60 hvc)
            · replace hvc := hvc.2 c27
              refine j_aload_n hC dJ5_fixAfterInsertion_44 rfl 1 rfl ?_
              refine j_callS (As := [va_rf (some a16)]) (rest := []) (n := 1) hC hvc (lw_S q1465 q1466 q47 q1467) (by decide +kernel) (g_rm hR rfl rfl) rfl rfl (g_sum rfl) dJ5_fixAfterInsertion_45 (Nat.zero_le _) (Nat.zero_le _) (g_Kap fun o64 hv2 => ?_)
              replace hvc := hv2; clear hv2
              refine j_callS (As := [va_rf o64]) (rest := []) (n := 1) hC hvc (lw_S q1465 q1466 q47 q1467) (by decide +kernel) (g_rm hR rfl rfl) rfl rfl (g_sum rfl) dJ5_fixAfterInsertion_48 (Nat.zero_le _) (Nat.zero_le _) (g_Kap fun o65 hv2 => ?_)
              replace hvc := hv2; clear hv2
              refine j_callS (As := [va_rf o65]) (rest := []) (n := 1) hC hvc (lw_S q1471 q1472 q47 q1473) (by decide +kernel) (g_rm hR rfl rfl) rfl rfl (g_sum rfl) dJ5_fixAfterInsertion_51 (Nat.zero_le _) (Nat.zero_le _) (g_Kap fun o66 hv2 => ?_)
              replace hvc := hv2; clear hv2
              refine j_astore_n (lv0 := [(1, va_rf (some a16)), (0, va_rf (some a0))]) hC dJ5_fixAfterInsertion_54 rfl rfl [1, 0] rfl (g_okS.h rfl g_c1 rfl) ?_
              refine j_aload_n hC dJ5_fixAfterInsertion_55 rfl 0 rfl ?_
              refine j_callS (As := [va_rf o66]) (rest := []) (n := 1) hC hvc (lw_S q1462 q1463 q47 q1464) (by decide +kernel) (g_rm hR rfl rfl) rfl rfl (g_sum rfl) dJ5_fixAfterInsertion_56 (Nat.zero_le _) (Nat.zero_le _) (g_Kip fun x67 hv2 => ?_)
              replace hvc := hv2; clear hv2
              replace hvc := g_jn2_o hvc
              obtain ⟨K70, hK99, hvc⟩ := hvc
              have kh71 : ∀ (o68 : Option Nat) (st69 : g_St), K70 o68 st69 → g_J p l e R s m args below meth c 3 E st0 Z 148 [(0, va_rf (some a0)), (1, va_rf o68)] [] st69 cb sb := by
                clear hvc
                intro o68 st69 hvc
                replace hvc := hK99 _ _ hvc
                refine j_goto (tgt := 5) hC dJ5_fixAfterInsertion_148 rfl ?_
                exact j_sub [0, 1] rfl (ih8 o68 st69 hvc)
              refine j_if_ne (tgt := 97) hC dJ5_fixAfterInsertion_59 rfl (fun c72 => ?_) (fun c72 => ?_)
              · replace hvc := hvc.1 c72
                refine j_aload_n hC dJ5_fixAfterInsertion_97 rfl 1 rfl ?_
                refine j_aload_n hC dJ5_fixAfterInsertion_98 rfl 1 rfl ?_
                refine j_callS (As := [va_rf (some a16)]) (rest := [va_rf (some a16)]) (n := 1) hC hvc (lw_S q1465 q1466 q47 q1467) (by decide +kernel) (g_rm hR rfl rfl) rfl rfl (g_sum rfl) dJ5_fixAfterInsertion_99 (Nat.zero_le _) (Nat.zero_le _) (g_Kap fun o73 hv2 => ?_)
                replace hvc := hv2; clear hv2
                refine j_callS (As := [va_rf o73]) (rest := [va_rf (some a16)]) (n := 1) hC hvc (lw_S q1471 q1472 q47 q1473) (by decide +kernel) (g_rm hR rfl rfl) rfl rfl (g_sum rfl) dJ5_fixAfterInsertion_102 (Nat.zero_le _) (Nat.zero_le _) (g_Kap fun o74 hv2 => ?_)
                replace hvc := hv2; clear hv2
                replace hvc := g_jn2_o hvc
                obtain ⟨K77, hK90, hvc⟩ := hvc
                have kh78 : ∀ (o75 : Option Nat) (st76 : g_St), K77 o75 st76 → g_J p l e R s m args below meth c 3 E st0 Z 118 [(0, va_rf (some a0)), (1, va_rf o75)] [] st76 cb sb := by
                  clear hvc
                  intro o75 st76 hvc
                  replace hvc := hK90 _ _ hvc
                  refine j_aload_n hC dJ5_fixAfterInsertion_118 rfl 1 rfl ?_
                  refine j_callS (As := [va_rf o75]) (rest := []) (n := 1) hC hvc (lw_S q1465 q1466 q47 q1467) (by decide +kernel) (g_rm hR rfl rfl) rfl rfl (g_sum rfl) dJ5_fixAfterInsertion_119 (Nat.zero_le _) (Nat.zero_le _) (g_Kap fun o79 hv2 => ?_)
                  replace hvc := hv2; clear hv2
                  refine j_iconst hC (nI 1) dJ5_fixAfterInsertion_122 rfl ?_
                  refine j_callS (As := [va_rf o79, .int (nI 1)]) (rest := []) (n := 2) hC hvc (lw_S q1474 q1475 q47 q1476) (by decide +kernel) (g_rm hR rfl rfl) rfl rfl (g_sum rfl) dJ5_fixAfterInsertion_123 (Nat.zero_le _) (Nat.zero_le _) (g_Kv fun st80 hv2 hx => ?_)
                  replace hvc := hv2 hx; clear hx hv2
                  refine j_aload_n hC dJ5_fixAfterInsertion_126 rfl 1 rfl ?_
                  refine j_callS (As := [va_rf o75]) (rest := []) (n := 1) hC hvc (lw_S q1465 q1466 q47 q1467) (by decide +kernel) (g_rm hR rfl rfl) rfl rfl (g_sum rfl) dJ5_fixAfterInsertion_127 (Nat.zero_le _) (Nat.zero_le _) (g_Kap fun o81 hv2 => ?_)
                  replace hvc := hv2; clear hv2
                  refine j_callS (As := [va_rf o81]) (rest := []) (n := 1) hC hvc (lw_S q1465 q1466 q47 q1467) (by decide +kernel) (g_rm hR rfl rfl) rfl rfl (g_sum rfl) dJ5_fixAfterInsertion_130 (Nat.zero_le _) (Nat.zero_le _) (g_Kap fun o82 hv2 => ?_)
                  replace hvc := hv2; clear hv2
                  refine j_iconst hC (nI 0) dJ5_fixAfterInsertion_133 rfl ?_
                  refine j_callS (As := [va_rf o82, .int (nI 0)]) (rest := []) (n := 2) hC hvc (lw_S q1474 q1475 q47 q1476) (by decide +kernel) (g_rm hR rfl rfl) rfl rfl (g_sum rfl) dJ5_fixAfterInsertion_134 (Nat.zero_le _) (Nat.zero_le _) (g_Kv fun st83 hv2 hx => ?_)
                  replace hvc := hv2 hx; clear hx hv2
                  refine j_aload_n hC dJ5_fixAfterInsertion_137 rfl 0 rfl ?_
                  refine j_aload_n hC dJ5_fixAfterInsertion_138 rfl 1 rfl ?_
                  refine j_callS (As := [va_rf o75]) (rest := [va_rf (some a0)]) (n := 1) hC hvc (lw_S q1465 q1466 q47 q1467) (by decide +kernel) (g_rm hR rfl rfl) rfl rfl (g_sum rfl) dJ5_fixAfterInsertion_139 (Nat.zero_le _) (Nat.zero_le _) (g_Kap fun o84 hv2 => ?_)
                  replace hvc := hv2; clear hv2
                  refine j_callS (As := [va_rf o84]) (rest := [va_rf (some a0)]) (n := 1) hC hvc (lw_S q1465 q1466 q47 q1467) (by decide +kernel) (g_rm hR rfl rfl) rfl rfl (g_sum rfl) dJ5_fixAfterInsertion_142 (Nat.zero_le _) (Nat.zero_le _) (g_Kap fun o85 hv2 => ?_)
                  replace hvc := hv2; clear hv2
                  obtain ⟨⟨fs, hr⟩, hvc⟩ := hvc
                  refine j_callV (As := [va_rf o85]) (rest := []) (n := 1) (ci := 3) hC hvc (lw_V q1481 q1483 qs5 q47 q1484) (by decide +kernel) (g_rm hR rfl rfl) rfl hr rfl rfl (g_sum rfl) dJ5_fixAfterInsertion_145 (Nat.zero_le _) (Nat.zero_le _) (g_Kv fun st86 hv2 hx => ?_)
                  replace hvc := hv2 hx; clear hx hv2
                  clear hr fs
                  exact j_sub [0, 1] rfl (kh71 o75 st86 hvc)
                refine j_acmp_ne (tgt := 118) hC dJ5_fixAfterInsertion_105 rfl (fun c87 => ?_) (fun c87 => ?_)
                · replace hvc := hvc.1 c87
                  exact j_sub [2, 1] rfl (kh78 (some a16) st5 hvc)
                · replace hvc := hvc.2 c87
                  refine j_aload_n hC dJ5_fixAfterInsertion_108 rfl 1 rfl ?_
                  refine j_callS (As := [va_rf (some a16)]) (rest := []) (n := 1) hC hvc (lw_S q1465 q1466 q47 q1467) (by decide +kernel) (g_rm hR rfl rfl) rfl rfl (g_sum rfl) dJ5_fixAfterInsertion_109 (Nat.zero_le _) (Nat.zero_le _) (g_Kap fun o88 hv2 => ?_)
                  replace hvc := hv2; clear hv2
                  refine j_astore_n (lv0 := [(0, va_rf (some a0)), (2, va_rf o66)]) hC dJ5_fixAfterInsertion_112 rfl rfl [2, 0] rfl (g_okS.h rfl g_c1 rfl) ?_
                  refine j_aload_n hC dJ5_fixAfterInsertion_113 rfl 1 rfl ?_
                  refine j_aload_n hC dJ5_fixAfterInsertion_114 rfl 0 rfl ?_
                  obtain ⟨⟨fs, hr⟩, hvc⟩ := hvc
                  refine j_callV (As := [va_rf o88]) (rest := []) (n := 1) (ci := 3) hC hvc (lw_V q1477 q1479 qs4 q47 q1480) (by decide +kernel) (g_rm hR rfl rfl) rfl hr rfl rfl (g_sum rfl) dJ5_fixAfterInsertion_115 (Nat.zero_le _) (Nat.zero_le _) (g_Kv fun st89 hv2 hx => ?_)
                  replace hvc := hv2 hx; clear hx hv2
                  clear hr fs
                  exact j_sub [1, 0] rfl (kh78 o88 st89 hvc)
              · replace hvc := hvc.2 c72
                refine j_aload_n hC dJ5_fixAfterInsertion_62 rfl 1 rfl ?_
                refine j_callS (As := [va_rf (some a16)]) (rest := []) (n := 1) hC hvc (lw_S q1465 q1466 q47 q1467) (by decide +kernel) (g_rm hR rfl rfl) rfl rfl (g_sum rfl) dJ5_fixAfterInsertion_63 (Nat.zero_le _) (Nat.zero_le _) (g_Kap fun o91 hv2 => ?_)
                replace hvc := hv2; clear hv2
                refine j_iconst hC (nI 1) dJ5_fixAfterInsertion_66 rfl ?_
                refine j_callS (As := [va_rf o91, .int (nI 1)]) (rest := []) (n := 2) hC hvc (lw_S q1474 q1475 q47 q1476) (by decide +kernel) (g_rm hR rfl rfl) rfl rfl (g_sum rfl) dJ5_fixAfterInsertion_67 (Nat.zero_le _) (Nat.zero_le _) (g_Kv fun st92 hv2 hx => ?_)
                replace hvc := hv2 hx; clear hx hv2
                refine j_aload_n hC dJ5_fixAfterInsertion_70 rfl 0 rfl ?_
                refine j_iconst hC (nI 1) dJ5_fixAfterInsertion_71 rfl ?_
                refine j_callS (As := [va_rf o66, .int (nI 1)]) (rest := []) (n := 2) hC hvc (lw_S q1474 q1475 q47 q1476) (by decide +kernel) (g_rm hR rfl rfl) rfl rfl (g_sum rfl) dJ5_fixAfterInsertion_72 (Nat.zero_le _) (Nat.zero_le _) (g_Kv fun st93 hv2 hx => ?_)
                replace hvc := hv2 hx; clear hx hv2
                refine j_aload_n hC dJ5_fixAfterInsertion_75 rfl 1 rfl ?_
                refine j_callS (As := [va_rf (some a16)]) (rest := []) (n := 1) hC hvc (lw_S q1465 q1466 q47 q1467) (by decide +kernel) (g_rm hR rfl rfl) rfl rfl (g_sum rfl) dJ5_fixAfterInsertion_76 (Nat.zero_le _) (Nat.zero_le _) (g_Kap fun o94 hv2 => ?_)
                replace hvc := hv2; clear hv2
                refine j_callS (As := [va_rf o94]) (rest := []) (n := 1) hC hvc (lw_S q1465 q1466 q47 q1467) (by decide +kernel) (g_rm hR rfl rfl) rfl rfl (g_sum rfl) dJ5_fixAfterInsertion_79 (Nat.zero_le _) (Nat.zero_le _) (g_Kap fun o95 hv2 => ?_)
                replace hvc := hv2; clear hv2
                refine j_iconst hC (nI 0) dJ5_fixAfterInsertion_82 rfl ?_
                refine j_callS (As := [va_rf o95, .int (nI 0)]) (rest := []) (n := 2) hC hvc (lw_S q1474 q1475 q47 q1476) (by decide +kernel) (g_rm hR rfl rfl) rfl rfl (g_sum rfl) dJ5_fixAfterInsertion_83 (Nat.zero_le _) (Nat.zero_le _) (g_Kv fun st96 hv2 hx => ?_)
                replace hvc := hv2 hx; clear hx hv2
                refine j_aload_n hC dJ5_fixAfterInsertion_86 rfl 1 rfl ?_
                refine j_callS (As := [va_rf (some a16)]) (rest := []) (n := 1) hC hvc (lw_S q1465 q1466 q47 q1467) (by decide +kernel) (g_rm hR rfl rfl) rfl rfl (g_sum rfl) dJ5_fixAfterInsertion_87 (Nat.zero_le _) (Nat.zero_le _) (g_Kap fun o97 hv2 => ?_)
                replace hvc := hv2; clear hv2
                refine j_callS (As := [va_rf o97]) (rest := []) (n := 1) hC hvc (lw_S q1465 q1466 q47 q1467) (by decide +kernel) (g_rm hR rfl rfl) rfl rfl (g_sum rfl) dJ5_fixAfterInsertion_90 (Nat.zero_le _) (Nat.zero_le _) (g_Kap fun o98 hv2 => ?_)
                replace hvc := hv2; clear hv2
                refine j_astore_n (lv0 := [(0, va_rf (some a0)), (2, va_rf o66)]) hC dJ5_fixAfterInsertion_93 rfl rfl [2, 0] rfl (g_okS.h rfl g_c1 rfl) ?_
                refine j_goto (tgt := 148) hC dJ5_fixAfterInsertion_94 rfl ?_
                exact j_sub [1, 0] rfl (kh71 o98 st96 hvc)
  exact j_sub [0, 1] rfl (kh7 n103 (some a1) st3 hvc)
theorem wk_J5_fixAfterInsertion {l : Launch} {E : g_E} {a0 : Nat} {p0 : Option Nat} {st : g_St} {mc ms : Nat} {Q : g_St → Prop} (hvc : vc_J5_fixAfterInsertion l E a0 p0 st Q) : wp_J5_fixAfterInsertion l E mc ms [va_rf (some a0), va_rf p0] st Q :=
  g_enter (lv0 := [(0, va_rf (some a0)), (1, va_rf p0)]) (plainFor_of_name (by decide +kernel)) (by simp [lv_args, g_c1, g_ci, g_cL]) (by simp [lg_sl, g_c1, g_ci, g_cL]) (fun p e s m args below meth c hC => wb_J5_fixAfterInsertion hC ⟨Nat.le_refl _, Nat.le_refl _⟩ (fun pc lv st1 cb sb hd hq => j_return hC rfl hd ⟨rfl, hq⟩) hvc)
abbrev wp_J5_addEntry (l : Launch) (E : g_E) (mc ms : Nat) (av : List Value) (st : g_St) (Q : g_St → Prop) : Prop := g_WPv l E yJ5_addEntry cJ5_addEntry 6 none 3 84 mc ms av st Q
def vc_J5_addEntry (l : Launch) (E : g_E) (a0 : Nat) (p0 : Option Nat) (p1 : Option Nat) (p2 : Option Nat) (p3 : Int32) (st : g_St) (cb sb : Nat) (Q : g_St → Prop) : Prop :=
  1 ≤ cb ∧ 6 ≤ sb ∧ ∀ (q1 : Nat) (st2 : g_St), q1 = st.2.2 → st2 = g_new st (.inr (4, [va_rf none, va_rf none, va_rf none, va_rf none, va_rf none, .int 0])) → wp_J27_init l E 0 0 [va_rf (some q1), va_rf p0, va_rf p1, va_rf p2] st2 (fun st3 => g_Ext st2 st3 → g_jn1 (fun (K5 : g_St → Prop) => (p3 = 0 → ∃ a15 : Nat, p2 = some a15 ∧ ∃ fs16 : List Value, st3.2.1 a15 = some (.inr (4, fs16)) ∧ ∀ st17 : g_St, st17 = g_put st3 a15 (.inr (4, fs16.set 3 (va_rf (some q1)))) → K5 st17) ∧ (¬ p3 = 0 → ∃ a18 : Nat, p2 = some a18 ∧ ∃ fs19 : List Value, st3.2.1 a18 = some (.inr (4, fs19)) ∧ ∀ st20 : g_St, st20 = g_put st3 a18 (.inr (4, fs19.set 2 (va_rf (some q1)))) → K5 st20)) (fun (st4 : g_St) => g_is st4 a0 3 ∧ wp_J5_fixAfterInsertion l E 0 0 [va_rf (some a0), va_rf (some q1)] st4 (fun st7 => g_Ext st4 st7 → ∃ x8 : Int32, g_gi st7 a0 3 4 x8 ∧ ∃ fs9 : List Value, st7.2.1 a0 = some (.inr (3, fs9)) ∧ ∀ st10 : g_St, st10 = g_put st7 a0 (.inr (3, fs9.set 4 (.int (x8 + (nI 1))))) → ∃ x11 : Int32, g_gi st10 a0 3 5 x11 ∧ ∃ fs12 : List Value, st10.2.1 a0 = some (.inr (3, fs12)) ∧ ∀ st13 : g_St, st13 = g_put st10 a0 (.inr (3, fs12.set 5 (.int (x11 + (nI 1))))) → Q st13)))
set_option maxHeartbeats 4000000 in
theorem wb_J5_addEntry {p : Program} {l : Launch} {e : Env} {R : Room} {s : State} {m : MethodId} {args : Array Value} {below : List Frame} {meth : Method} {c : Code} {E : g_E} {st0 : g_St} {Z : State → Prop} (hC : g_Cx p s m args meth c cJ5_addEntry 6 "java/util/TreeMap" none "addEntry" E st0) (hR : g_Rm 3 84 R) {a0 : Nat} {p0 : Option Nat} {p1 : Option Nat} {p2 : Option Nat} {p3 : Int32} {st : g_St} {cb sb : Nat} {Q : g_St → Prop} (hret : ∀ (pc : Nat) (lv : List (Nat × Value)) (st1 : g_St) (cb sb : Nat), decode cJ5_addEntry pc = .ok (.return_, 1) → Q st1 → g_J p l e R s m args below meth c 6 E st0 Z pc lv [] st1 cb sb) (hvc : vc_J5_addEntry l E a0 p0 p1 p2 p3 st cb sb Q) : g_J p l e R s m args below meth c 6 E st0 Z 0 [(0, va_rf (some a0)), (1, va_rf p0), (2, va_rf p1), (3, va_rf p2), (4, .int p3)] [] st cb sb := by
  unfold vc_J5_addEntry at hvc
  obtain ⟨h1, h2, hvc⟩ := hvc
  refine j_new hC nwJ5_59 dJ5_addEntry_0 (n := 6) rfl h1 h2 (fun q1 st2 e1 e2 => ?_)
  replace hvc := hvc q1 st2 e1 e2; clear h1 h2 e1 e2
  refine j_dup hC dJ5_addEntry_3 g_c1 ?_
  refine j_aload_n hC dJ5_addEntry_4 rfl 1 rfl ?_
  refine j_aload_n hC dJ5_addEntry_5 rfl 2 rfl ?_
  refine j_aload_n hC dJ5_addEntry_6 rfl 3 rfl ?_
  refine j_callI (As := [va_rf p0, va_rf p1, va_rf p2]) (rest := [va_rf (some q1)]) (n := 3) hC hvc (lw_meth q1878) q73 q1876 q1877 rfl (by decide +kernel) (g_rm hR rfl rfl) rfl rfl (g_sum rfl) dJ5_addEntry_7 (Nat.zero_le _) (Nat.zero_le _) (g_Kv fun st3 hv2 hx => ?_)
  replace hvc := hv2 hx; clear hx hv2
  refine j_astore (lv0 := [(4, .int p3), (0, va_rf (some a0)), (1, va_rf p0), (2, va_rf p1), (3, va_rf p2)]) hC dJ5_addEntry_10 rfl [4, 0, 1, 2, 3] rfl (g_okS.h rfl rfl rfl) ?_
  refine j_iload hC dJ5_addEntry_12 1 rfl ?_
  replace hvc := g_jn1_o hvc
  obtain ⟨K5, hK21, hvc⟩ := hvc
  have kh6 : ∀ (st4 : g_St), K5 st4 → g_J p l e R s m args below meth c 6 E st0 Z 32 [(0, va_rf (some a0)), (5, va_rf (some q1))] [] st4 (cb - 1) (sb - 6) := by
    clear hvc
    intro st4 hvc
    replace hvc := hK21 _ hvc
    refine j_aload_n hC dJ5_addEntry_32 rfl 0 rfl ?_
    refine j_aload hC dJ5_addEntry_33 1 rfl ?_
    obtain ⟨⟨fs, hr⟩, hvc⟩ := hvc
    refine j_callV (As := [va_rf (some q1)]) (rest := []) (n := 1) (ci := 3) hC hvc (lw_V q1916 q1918 qs16 q47 q1919) (by decide +kernel) (g_rm hR rfl rfl) rfl hr rfl rfl (g_sum rfl) dJ5_addEntry_35 (Nat.zero_le _) (Nat.zero_le _) (g_Kv fun st7 hv2 hx => ?_)
    replace hvc := hv2 hx; clear hx hv2
    clear hr fs
    refine j_aload_n hC dJ5_addEntry_38 rfl 0 rfl ?_
    refine j_dup hC dJ5_addEntry_39 g_c1 ?_
    obtain ⟨x8, ⟨fs, hr, hv⟩, hvc⟩ := hvc
    refine j_get hC fkJ5_7_J5 dJ5_addEntry_40 hr hv ?_
    clear hv hr fs
    refine j_iconst hC (nI 1) dJ5_addEntry_43 rfl ?_
    refine j_iadd hC dJ5_addEntry_44 ?_
    obtain ⟨fs9, hm, hvc⟩ := hvc
    refine j_put hC fkJ5_7_J5 dJ5_addEntry_45 hm rfl rfl (fun st10 e1 => ?_)
    replace hvc := hvc st10 e1; clear hm e1
    refine j_aload_n hC dJ5_addEntry_48 rfl 0 rfl ?_
    refine j_dup hC dJ5_addEntry_49 g_c1 ?_
    obtain ⟨x11, ⟨fs, hr, hv⟩, hvc⟩ := hvc
    refine j_get hC fkJ5_13_J5 dJ5_addEntry_50 hr hv ?_
    clear hv hr fs
    refine j_iconst hC (nI 1) dJ5_addEntry_53 rfl ?_
    refine j_iadd hC dJ5_addEntry_54 ?_
    obtain ⟨fs12, hm, hvc⟩ := hvc
    refine j_put hC fkJ5_13_J5 dJ5_addEntry_55 hm rfl rfl (fun st13 e1 => ?_)
    replace hvc := hvc st13 e1; clear hm e1
    exact hret _ _ _ _ _ dJ5_addEntry_58 hvc
  refine j_if_eq (tgt := 26) hC dJ5_addEntry_14 rfl (fun c14 => ?_) (fun c14 => ?_)
  · replace hvc := hvc.1 c14
    refine j_aload_n hC dJ5_addEntry_26 rfl 5 rfl ?_
    refine j_aload hC dJ5_addEntry_27 0 rfl ?_
    obtain ⟨a15, rfl, hvc⟩ := hvc
    obtain ⟨fs16, hm, hvc⟩ := hvc
    refine j_put hC fkJ5_114_J27 dJ5_addEntry_29 hm g_no g_fo (fun st17 e1 => ?_)
    replace hvc := hvc st17 e1; clear hm e1
    exact j_sub [2, 0] rfl (kh6 st17 hvc)
  · replace hvc := hvc.2 c14
    refine j_aload_n hC dJ5_addEntry_17 rfl 5 rfl ?_
    refine j_aload hC dJ5_addEntry_18 0 rfl ?_
    obtain ⟨a18, rfl, hvc⟩ := hvc
    obtain ⟨fs19, hm, hvc⟩ := hvc
    refine j_put hC fkJ5_111_J27 dJ5_addEntry_20 hm g_no g_fo (fun st20 e1 => ?_)
    replace hvc := hvc st20 e1; clear hm e1
    refine j_goto (tgt := 32) hC dJ5_addEntry_23 rfl ?_
    exact j_sub [2, 0] rfl (kh6 st20 hvc)
theorem wk_J5_addEntry {l : Launch} {E : g_E} {a0 : Nat} {p0 : Option Nat} {p1 : Option Nat} {p2 : Option Nat} {p3 : Int32} {st : g_St} {mc ms : Nat} {Q : g_St → Prop} (hvc : vc_J5_addEntry l E a0 p0 p1 p2 p3 st mc ms Q) : wp_J5_addEntry l E mc ms [va_rf (some a0), va_rf p0, va_rf p1, va_rf p2, .int p3] st Q :=
  g_enter (lv0 := [(0, va_rf (some a0)), (1, va_rf p0), (2, va_rf p1), (3, va_rf p2), (4, .int p3)]) (plainFor_of_name (by decide +kernel)) (by simp [lv_args, g_c1, g_ci, g_cL]) (by simp [lg_sl, g_c1, g_ci, g_cL]) (fun p e s m args below meth c hC => wb_J5_addEntry hC ⟨Nat.le_refl _, Nat.le_refl _⟩ (fun pc lv st1 cb sb hd hq => j_return hC rfl hd ⟨rfl, hq⟩) hvc)
abbrev wp_J5_addEntryToEmptyMap (l : Launch) (E : g_E) (mc ms : Nat) (av : List Value) (st : g_St) (Q : g_St → Prop) : Prop := g_WPv l E yJ5_addEntryToEmptyMap cJ5_addEntryToEmptyMap 3 none 10 259 mc ms av st Q
def vc_J5_addEntryToEmptyMap (l : Launch) (E : g_E) (a0 : Nat) (p0 : Option Nat) (p1 : Option Nat) (st : g_St) (cb sb : Nat) (Q : g_St → Prop) : Prop :=
  g_is st a0 3 ∧ wp_J5_compare l E 0 0 [va_rf (some a0), va_rf p0, va_rf p0] st (fun x1 stx => stx = st ∧ 1 ≤ cb ∧ 6 ≤ sb ∧ ∀ (q2 : Nat) (st3 : g_St), q2 = st.2.2 → st3 = g_new st (.inr (4, [va_rf none, va_rf none, va_rf none, va_rf none, va_rf none, .int 0])) → wp_J27_init l E 0 0 [va_rf (some q2), va_rf p0, va_rf p1, va_rf none] st3 (fun st4 => g_Ext st3 st4 → ∃ fs5 : List Value, st4.2.1 a0 = some (.inr (3, fs5)) ∧ ∀ st6 : g_St, st6 = g_put st4 a0 (.inr (3, fs5.set 3 (va_rf (some q2)))) → ∃ fs7 : List Value, st6.2.1 a0 = some (.inr (3, fs7)) ∧ ∀ st8 : g_St, st8 = g_put st6 a0 (.inr (3, fs7.set 4 (.int (nI 1)))) → ∃ x9 : Int32, g_gi st8 a0 3 5 x9 ∧ ∃ fs10 : List Value, st8.2.1 a0 = some (.inr (3, fs10)) ∧ ∀ st11 : g_St, st11 = g_put st8 a0 (.inr (3, fs10.set 5 (.int (x9 + (nI 1))))) → Q st11))
set_option maxHeartbeats 4000000 in
theorem wb_J5_addEntryToEmptyMap {p : Program} {l : Launch} {e : Env} {R : Room} {s : State} {m : MethodId} {args : Array Value} {below : List Frame} {meth : Method} {c : Code} {E : g_E} {st0 : g_St} {Z : State → Prop} (hC : g_Cx p s m args meth c cJ5_addEntryToEmptyMap 3 "java/util/TreeMap" none "addEntryToEmptyMap" E st0) (hR : g_Rm 10 259 R) {a0 : Nat} {p0 : Option Nat} {p1 : Option Nat} {st : g_St} {cb sb : Nat} {Q : g_St → Prop} (hret : ∀ (pc : Nat) (lv : List (Nat × Value)) (st1 : g_St) (cb sb : Nat), decode cJ5_addEntryToEmptyMap pc = .ok (.return_, 1) → Q st1 → g_J p l e R s m args below meth c 3 E st0 Z pc lv [] st1 cb sb) (hvc : vc_J5_addEntryToEmptyMap l E a0 p0 p1 st cb sb Q) : g_J p l e R s m args below meth c 3 E st0 Z 0 [(0, va_rf (some a0)), (1, va_rf p0), (2, va_rf p1)] [] st cb sb := by
  unfold vc_J5_addEntryToEmptyMap at hvc
  refine j_aload_n hC dJ5_addEntryToEmptyMap_0 rfl 0 rfl ?_
  refine j_aload_n hC dJ5_addEntryToEmptyMap_1 rfl 1 rfl ?_
  refine j_aload_n hC dJ5_addEntryToEmptyMap_2 rfl 1 rfl ?_
  obtain ⟨⟨fs, hr⟩, hvc⟩ := hvc
  refine j_callV (As := [va_rf p0, va_rf p0]) (rest := []) (n := 2) (ci := 3) hC hvc (lw_V q960 q640 q641 q47 q642) (by decide +kernel) (g_rm hR rfl rfl) rfl hr rfl rfl (g_sum rfl) dJ5_addEntryToEmptyMap_3 (Nat.zero_le _) (Nat.zero_le _) (g_Kip fun x1 hv2 => ?_)
  replace hvc := hv2; clear hv2
  clear hr fs
  refine j_pop hC dJ5_addEntryToEmptyMap_6 rfl ?_
  refine j_aload_n hC dJ5_addEntryToEmptyMap_7 rfl 0 rfl ?_
  obtain ⟨h1, h2, hvc⟩ := hvc
  refine j_new hC nwJ5_59 dJ5_addEntryToEmptyMap_8 (n := 6) rfl h1 h2 (fun q2 st3 e1 e2 => ?_)
  replace hvc := hvc q2 st3 e1 e2; clear h1 h2 e1 e2
  refine j_dup hC dJ5_addEntryToEmptyMap_11 g_c1 ?_
  refine j_aload_n hC dJ5_addEntryToEmptyMap_12 rfl 1 rfl ?_
  refine j_aload_n hC dJ5_addEntryToEmptyMap_13 rfl 2 rfl ?_
  refine j_null hC dJ5_addEntryToEmptyMap_14 ?_
  refine j_callI (As := [va_rf p0, va_rf p1, va_rf none]) (rest := [va_rf (some q2), va_rf (some a0)]) (n := 3) hC hvc (lw_meth q1878) q73 q1876 q1877 rfl (by decide +kernel) (g_rm hR rfl rfl) rfl rfl (g_sum rfl) dJ5_addEntryToEmptyMap_15 (Nat.zero_le _) (Nat.zero_le _) (g_Kv fun st4 hv2 hx => ?_)
  replace hvc := hv2 hx; clear hx hv2
  obtain ⟨fs5, hm, hvc⟩ := hvc
  refine j_put hC fkJ5_101_J5 dJ5_addEntryToEmptyMap_18 hm g_no g_fo (fun st6 e1 => ?_)
  replace hvc := hvc st6 e1; clear hm e1
  refine j_aload_n hC dJ5_addEntryToEmptyMap_21 rfl 0 rfl ?_
  refine j_iconst hC (nI 1) dJ5_addEntryToEmptyMap_22 rfl ?_
  obtain ⟨fs7, hm, hvc⟩ := hvc
  refine j_put hC fkJ5_7_J5 dJ5_addEntryToEmptyMap_23 hm rfl rfl (fun st8 e1 => ?_)
  replace hvc := hvc st8 e1; clear hm e1
  refine j_aload_n hC dJ5_addEntryToEmptyMap_26 rfl 0 rfl ?_
  refine j_dup hC dJ5_addEntryToEmptyMap_27 g_c1 ?_
  obtain ⟨x9, ⟨fs, hr, hv⟩, hvc⟩ := hvc
  refine j_get hC fkJ5_13_J5 dJ5_addEntryToEmptyMap_28 hr hv ?_
  clear hv hr fs
  refine j_iconst hC (nI 1) dJ5_addEntryToEmptyMap_31 rfl ?_
  refine j_iadd hC dJ5_addEntryToEmptyMap_32 ?_
  obtain ⟨fs10, hm, hvc⟩ := hvc
  refine j_put hC fkJ5_13_J5 dJ5_addEntryToEmptyMap_33 hm rfl rfl (fun st11 e1 => ?_)
  replace hvc := hvc st11 e1; clear hm e1
  exact hret _ _ _ _ _ dJ5_addEntryToEmptyMap_36 hvc
theorem wk_J5_addEntryToEmptyMap {l : Launch} {E : g_E} {a0 : Nat} {p0 : Option Nat} {p1 : Option Nat} {st : g_St} {mc ms : Nat} {Q : g_St → Prop} (hvc : vc_J5_addEntryToEmptyMap l E a0 p0 p1 st mc ms Q) : wp_J5_addEntryToEmptyMap l E mc ms [va_rf (some a0), va_rf p0, va_rf p1] st Q :=
  g_enter (lv0 := [(0, va_rf (some a0)), (1, va_rf p0), (2, va_rf p1)]) (plainFor_of_name (by decide +kernel)) (by simp [lv_args, g_c1, g_ci, g_cL]) (by simp [lg_sl, g_c1, g_ci, g_cL]) (fun p e s m args below meth c hC => wb_J5_addEntryToEmptyMap hC ⟨Nat.le_refl _, Nat.le_refl _⟩ (fun pc lv st1 cb sb hd hq => j_return hC rfl hd ⟨rfl, hq⟩) hvc)
abbrev wp_J5_put_2 (l : Launch) (E : g_E) (mc ms : Nat) (av : List Value) (st : g_St) (Q : Option Nat → g_St → Prop) : Prop := g_WPa l E yJ5_put_2 cJ5_put_2 10 (some (.object "java/lang/Object")) 11 281 mc ms av st Q
def vc_J5_put_2 (l : Launch) (E : g_E) (a0 : Nat) (p0 : Option Nat) (p1 : Option Nat) (p2 : Int32) (st : g_St) (cb sb : Nat) (Q : Option Nat → g_St → Prop) : Prop :=
  ∃ o1 : Option Nat, g_gr st a0 3 3 o1 ∧ (o1 = none → ∃ mc5 ms6 : Nat, mc5 ≤ cb ∧ ms6 ≤ sb ∧ g_is st a0 3 ∧ wp_J5_addEntryToEmptyMap l E mc5 ms6 [va_rf (some a0), va_rf p0, va_rf p1] st (fun st4 => g_Ext st st4 → Q none st4)) ∧ (∀ a3 : Nat, o1 = some a3 → ∃ o7 : Option Nat, g_gr st a0 3 2 o7 ∧ (o7 = none → wp_J24_requireNonNull l E 0 0 [va_rf p0] st (fun o10 stx => stx = st ∧ g_isN st p0 1 ∧ g_lp1 (fun (K12 : (Option Nat) → Prop) (o11 : Option Nat) => ∃ a15 : Nat, o11 = some a15 ∧ ∃ o16 : Option Nat, g_gr st a15 4 0 o16 ∧ ∃ a17 : Nat, p0 = some a17 ∧ g_is st a17 1 ∧ wp_J2_compareTo l E 0 0 [va_rf (some a17), va_rf o16] st (fun x18 stx => stx = st ∧ g_jn1 (fun (K20 : (Option Nat) → Prop) => (0 ≤ x18 → (x18 ≤ 0 → ∃ o34 : Option Nat, g_gr st a15 4 1 o34 ∧ g_jn1 (fun (K36 : g_St → Prop) => g_jn0 (fun (K38 : Prop) => (¬ p2 = 0 → K38) ∧ (p2 = 0 → (o34 = none → K38) ∧ (∀ a44 : Nat, o34 = some a44 → K36 st))) (∃ fs40 : List Value, st.2.1 a15 = some (.inr (4, fs40)) ∧ ∀ st41 : g_St, st41 = g_put st a15 (.inr (4, fs40.set 1 (va_rf p1))) → K36 st41)) (fun (st35 : g_St) => Q o34 st35)) ∧ (¬ x18 ≤ 0 → ∃ o47 : Option Nat, g_gr st a15 4 3 o47 ∧ K20 o47)) ∧ (¬ 0 ≤ x18 → ∃ o48 : Option Nat, g_gr st a15 4 2 o48 ∧ K20 o48)) (fun (o19 : Option Nat) => (o19 = none → g_jn1 (fun (K25 : Int32 → Prop) => (0 ≤ x18 → K25 (nI 0)) ∧ (¬ 0 ≤ x18 → K25 (nI 1))) (fun (x24 : Int32) => ∃ mc28 ms29 : Nat, mc28 ≤ cb ∧ ms29 ≤ sb ∧ g_is st a0 3 ∧ wp_J5_addEntry l E mc28 ms29 [va_rf (some a0), va_rf (some a17), va_rf p1, va_rf (some a15), .int x24] st (fun st27 => g_Ext st st27 → Q none st27))) ∧ (∀ a23 : Nat, o19 = some a23 → K12 (some a23))))) (some a3))) ∧ (∀ a9 : Nat, o7 = some a9 → ∃ o53 : Option Nat, g_gr st a3 4 0 o53 ∧ False))
set_option maxHeartbeats 4000000 in
theorem wb_J5_put_2 {p : Program} {l : Launch} {e : Env} {R : Room} {s : State} {m : MethodId} {args : Array Value} {below : List Frame} {meth : Method} {c : Code} {E : g_E} {st0 : g_St} {Z : State → Prop} (hC : g_Cx p s m args meth c cJ5_put_2 10 "java/util/TreeMap" (some (.object "java/lang/Object")) "put" E st0) (hR : g_Rm 11 281 R) {a0 : Nat} {p0 : Option Nat} {p1 : Option Nat} {p2 : Int32} {st : g_St} {cb sb : Nat} {Q : Option Nat → g_St → Prop} (hret : ∀ (pc : Nat) (lv : List (Nat × Value)) (v : Option Nat) (st1 : g_St) (cb sb : Nat), decode cJ5_put_2 pc = .ok (.areturn, 1) → Q v st1 → g_J p l e R s m args below meth c 10 E st0 Z pc lv [va_rf v] st1 cb sb) (hvc : vc_J5_put_2 l E a0 p0 p1 p2 st cb sb Q) : g_J p l e R s m args below meth c 10 E st0 Z 0 [(0, va_rf (some a0)), (1, va_rf p0), (2, va_rf p1), (3, .int p2)] [] st cb sb := by
  unfold vc_J5_put_2 at hvc
  refine j_aload_n hC dJ5_put_2_0 rfl 0 rfl ?_
  obtain ⟨o1, ⟨fs, hr, hv⟩, hvc⟩ := hvc
  refine j_get hC fkJ5_101_J5 dJ5_put_2_1 hr hv ?_
  clear hv hr fs
  refine j_astore (lv0 := [(3, .int p2), (0, va_rf (some a0)), (1, va_rf p0), (2, va_rf p1)]) hC dJ5_put_2_4 rfl [3, 0, 1, 2] rfl (g_okS.h rfl rfl rfl) ?_
  refine j_aload hC dJ5_put_2_6 0 rfl ?_
  refine j_ifnonnull (tgt := 19) hC dJ5_put_2_8 rfl (fun a3 c2 => ?_) (fun c2 => ?_)
  · subst c2; replace hvc := hvc.2 a3 rfl
    refine j_aload_n hC dJ5_put_2_19 rfl 2 rfl ?_
    obtain ⟨o7, ⟨fs, hr, hv⟩, hvc⟩ := hvc
    refine j_get hC fkJ5_16_J5 dJ5_put_2_20 hr hv ?_
    clear hv hr fs
    refine j_astore (lv0 := [(4, va_rf (some a3)), (3, .int p2), (0, va_rf (some a0)), (1, va_rf p0), (2, va_rf p1)]) hC dJ5_put_2_23 rfl [0, 1, 2, 3, 4] rfl (g_okS.n rfl) ?_
    refine j_aload hC dJ5_put_2_25 0 rfl ?_
    refine j_ifnull (tgt := 112) hC dJ5_put_2_27 rfl (fun c8 => ?_) (fun a9 c8 => ?_)
    · subst c8; replace hvc := hvc.1 rfl
      refine j_aload_n hC dJ5_put_2_112 rfl 4 rfl ?_
      refine j_callS (As := [va_rf p0]) (rest := []) (n := 1) hC hvc (lw_S q1605 q1606 q68 q1607) (by decide +kernel) (g_rm hR rfl rfl) rfl rfl (g_sum rfl) dJ5_put_2_113 (Nat.zero_le _) (Nat.zero_le _) (g_Kap fun o10 hv2 => ?_)
      replace hvc := hv2; clear hv2
      refine j_pop hC dJ5_put_2_116 g_c1 ?_
      refine j_aload_n hC dJ5_put_2_117 rfl 4 rfl ?_
      obtain ⟨hv, hvc⟩ := hvc
      refine j_cast hC (C := "java/lang/String") (ci := 1) q643 rfl (Or.inr ge_7) hv dJ5_put_2_118 ?_
      clear hv
      refine j_astore (lv0 := [(7, va_rf none), (4, va_rf (some a3)), (3, .int p2), (0, va_rf (some a0)), (1, va_rf p0), (2, va_rf p1)]) hC dJ5_put_2_121 rfl [0, 1, 2, 3, 4, 5] rfl (g_okS.h rfl g_c1 rfl) ?_
      replace hvc := g_lp1_o hvc
      obtain ⟨K12, hz50, hs51, n52, hvc⟩ := hvc
      have kh13 : ∀ (n : Nat) (o11 : Option Nat), K12 n o11 → g_J p l e R s m args below meth c 10 E st0 Z 123 [(0, va_rf (some a0)), (1, va_rf p0), (2, va_rf p1), (3, .int p2), (4, va_rf o11), (8, va_rf p0)] [] st cb sb := by
        clear hvc
        intro n
        induction n with
        | zero => intro o11 hvc; exact absurd hvc (hz50 _)
        | succ n ih14 =>
          intro o11 hvc
          replace hvc := hs51 n _ hvc
          refine j_aload hC dJ5_put_2_123 4 rfl ?_
          refine j_astore (lv0 := [(0, va_rf (some a0)), (1, va_rf p0), (2, va_rf p1), (3, .int p2), (4, va_rf o11), (8, va_rf p0)]) hC dJ5_put_2_125 rfl [0, 1, 2, 3, 4, 5] rfl (g_okS.n rfl) ?_
          refine j_aload hC dJ5_put_2_127 6 rfl ?_
          refine j_aload hC dJ5_put_2_129 5 rfl ?_
          obtain ⟨a15, rfl, hvc⟩ := hvc
          obtain ⟨o16, ⟨fs, hr, hv⟩, hvc⟩ := hvc
          refine j_get hC fkJ5_105_J27 dJ5_put_2_131 hr hv ?_
          clear hv hr fs
          obtain ⟨a17, rfl, hvc⟩ := hvc
          obtain ⟨⟨fs, hr⟩, hvc⟩ := hvc
          refine j_callF (As := [va_rf o16]) (rest := []) (n := 1) (x := ⟨"java/lang/Comparable", "compareTo", "(Ljava/lang/Object;)I"⟩) (C := "java/lang/String") (ci := 1) hC hvc (lw_F q645 q663 q665 q44 q667) gf_2 (by decide +kernel) (g_rm hR rfl rfl) rfl hr rfl rfl (g_sum rfl) dJ5_put_2_134 (Nat.zero_le _) (Nat.zero_le _) (g_Kip fun x18 hv2 => ?_)
          replace hvc := hv2; clear hv2
          clear hr fs
          refine j_istore (lv0 := [(4, va_rf (some a15)), (6, va_rf (some a15)), (0, va_rf (some a0)), (1, va_rf (some a17)), (2, va_rf p1), (3, .int p2), (8, va_rf (some a17))]) hC dJ5_put_2_139 rfl [5, 0, 1, 2, 3, 4, 6] rfl (g_okS.h rfl g_c1 rfl) ?_
          refine j_iload hC dJ5_put_2_141 0 rfl ?_
          replace hvc := g_jn1_o hvc
          obtain ⟨K20, hK49, hvc⟩ := hvc
          have kh21 : ∀ (o19 : Option Nat), K20 o19 → g_J p l e R s m args below meth c 10 E st0 Z 196 [(0, va_rf (some a0)), (1, va_rf (some a17)), (2, va_rf p1), (3, .int p2), (4, va_rf o19), (5, .int x18), (6, va_rf (some a15)), (8, va_rf (some a17))] [] st cb sb := by
            clear hvc
            intro o19 hvc
            replace hvc := hK49 _ hvc
            refine j_aload hC dJ5_put_2_196 4 rfl ?_
            refine j_ifnonnull (tgt := 123) hC dJ5_put_2_198 rfl (fun a23 c22 => ?_) (fun c22 => ?_)
            · subst c22; replace hvc := hvc.2 a23 rfl
              exact j_sub [0, 1, 2, 3, 4, 7] rfl (ih14 (some a23) hvc)
            · subst c22; replace hvc := hvc.1 rfl
              refine j_aload_n hC dJ5_put_2_201 rfl 0 rfl ?_
              refine j_aload_n hC dJ5_put_2_202 rfl 1 rfl ?_
              refine j_aload_n hC dJ5_put_2_203 rfl 2 rfl ?_
              refine j_aload hC dJ5_put_2_204 6 rfl ?_
              refine j_iload hC dJ5_put_2_206 5 rfl ?_
              replace hvc := g_jn1_o hvc
              obtain ⟨K25, hK31, hvc⟩ := hvc
              have kh26 : ∀ (x24 : Int32), K25 x24 → g_J p l e R s m args below meth c 10 E st0 Z 216 [] [.int x24, va_rf (some a15), va_rf p1, va_rf (some a17), va_rf (some a0)] st cb sb := by
                clear hvc
                intro x24 hvc
                replace hvc := hK31 _ hvc
                obtain ⟨mc28, ms29, h1, h2, hvc⟩ := hvc
                obtain ⟨⟨fs, hr⟩, hvc⟩ := hvc
                refine j_callV (As := [va_rf (some a17), va_rf p1, va_rf (some a15), .int x24]) (rest := []) (n := 4) (ci := 3) hC hvc (lw_V q1912 q1914 qs15 q47 q1915) (by decide +kernel) (g_rm hR rfl rfl) rfl hr rfl rfl (g_sum rfl) dJ5_put_2_216 h1 h2 (g_Kv fun st27 hv2 hx => ?_)
                replace hvc := hv2 hx; clear hx hv2
                clear hr fs
                refine j_null hC dJ5_put_2_219 ?_
                exact hret _ _ _ _ _ _ dJ5_put_2_220 hvc
              refine j_if_ge (tgt := 215) hC dJ5_put_2_208 rfl (fun c30 => ?_) (fun c30 => ?_)
              · replace hvc := hvc.1 c30
                refine j_iconst hC (nI 0) dJ5_put_2_215 rfl ?_
                exact j_sub [] rfl (kh26 (nI 0) hvc)
              · replace hvc := hvc.2 c30
                refine j_iconst hC (nI 1) dJ5_put_2_211 rfl ?_
                refine j_goto (tgt := 216) hC dJ5_put_2_212 rfl ?_
                exact j_sub [] rfl (kh26 (nI 1) hvc)
          refine j_if_ge (tgt := 156) hC dJ5_put_2_143 rfl (fun c32 => ?_) (fun c32 => ?_)
          · replace hvc := hvc.1 c32
            refine j_iload hC dJ5_put_2_156 0 rfl ?_
            refine j_if_le (tgt := 171) hC dJ5_put_2_158 rfl (fun c33 => ?_) (fun c33 => ?_)
            · replace hvc := hvc.1 c33
              refine j_aload hC dJ5_put_2_171 1 rfl ?_
              obtain ⟨o34, ⟨fs, hr, hv⟩, hvc⟩ := hvc
              refine j_get hC fkJ5_58_J27 dJ5_put_2_173 hr hv ?_
              clear hv hr fs
              refine j_astore (lv0 := [(8, va_rf (some a17)), (5, .int x18), (4, va_rf (some a15)), (6, va_rf (some a15)), (0, va_rf (some a0)), (1, va_rf (some a17)), (2, va_rf p1), (3, .int p2)]) hC dJ5_put_2_176 rfl [7, 0, 1, 2, 3, 4, 5, 6] rfl (g_okS.h rfl g_c1 rfl) ?_
              refine j_iload_n hC dJ5_put_2_178 rfl 8 rfl ?_
              replace hvc := g_jn1_o hvc
              obtain ⟨K36, hK46, hvc⟩ := hvc
              have kh37 : ∀ (st35 : g_St), K36 st35 → g_J p l e R s m args below meth c 10 E st0 Z 193 [(9, va_rf o34)] [] st35 cb sb := by
                clear hvc
                intro st35 hvc
                replace hvc := hK46 _ hvc
                refine j_aload hC dJ5_put_2_193 0 rfl ?_
                exact hret _ _ _ _ _ _ dJ5_put_2_195 hvc
              replace hvc := g_jn0_o hvc
              obtain ⟨K38, hK45, hvc⟩ := hvc
              have kh39 : K38 → g_J p l e R s m args below meth c 10 E st0 Z 187 [(2, va_rf p1), (4, va_rf (some a15)), (9, va_rf o34)] [] st cb sb := by
                clear hvc
                intro hvc
                replace hvc := hK45 hvc
                refine j_aload hC dJ5_put_2_187 1 rfl ?_
                refine j_aload_n hC dJ5_put_2_189 rfl 0 rfl ?_
                obtain ⟨fs40, hm, hvc⟩ := hvc
                refine j_put hC fkJ5_58_J27 dJ5_put_2_190 hm g_no g_fo (fun st41 e1 => ?_)
                replace hvc := hvc st41 e1; clear hm e1
                exact j_sub [2] rfl (kh37 st41 hvc)
              refine j_if_ne (tgt := 187) hC dJ5_put_2_179 rfl (fun c42 => ?_) (fun c42 => ?_)
              · replace hvc := hvc.1 c42
                exact j_sub [7, 3, 0] rfl (kh39 hvc)
              · replace hvc := hvc.2 c42
                refine j_aload hC dJ5_put_2_182 0 rfl ?_
                refine j_ifnonnull (tgt := 193) hC dJ5_put_2_184 rfl (fun a44 c43 => ?_) (fun c43 => ?_)
                · subst c43; replace hvc := hvc.2 a44 rfl
                  exact j_sub [0] rfl (kh37 st hvc)
                · subst c43; replace hvc := hvc.1 rfl
                  exact j_sub [7, 3, 0] rfl (kh39 hvc)
            · replace hvc := hvc.2 c33
              refine j_aload hC dJ5_put_2_161 1 rfl ?_
              obtain ⟨o47, ⟨fs, hr, hv⟩, hvc⟩ := hvc
              refine j_get hC fkJ5_114_J27 dJ5_put_2_163 hr hv ?_
              clear hv hr fs
              refine j_astore (lv0 := [(3, .int p2), (5, .int x18), (6, va_rf (some a15)), (0, va_rf (some a0)), (1, va_rf (some a17)), (2, va_rf p1), (8, va_rf (some a17))]) hC dJ5_put_2_166 rfl [6, 0, 2, 3, 4, 5, 7] rfl (g_okS.h rfl rfl rfl) ?_
              refine j_goto (tgt := 196) hC dJ5_put_2_168 rfl ?_
              exact j_sub [4, 5, 6, 1, 0, 2, 3, 7] rfl (kh21 o47 hvc)
          · replace hvc := hvc.2 c32
            refine j_aload hC dJ5_put_2_146 1 rfl ?_
            obtain ⟨o48, ⟨fs, hr, hv⟩, hvc⟩ := hvc
            refine j_get hC fkJ5_111_J27 dJ5_put_2_148 hr hv ?_
            clear hv hr fs
            refine j_astore (lv0 := [(3, .int p2), (5, .int x18), (6, va_rf (some a15)), (0, va_rf (some a0)), (1, va_rf (some a17)), (2, va_rf p1), (8, va_rf (some a17))]) hC dJ5_put_2_151 rfl [6, 0, 2, 3, 4, 5, 7] rfl (g_okS.h rfl rfl rfl) ?_
            refine j_goto (tgt := 196) hC dJ5_put_2_153 rfl ?_
            exact j_sub [4, 5, 6, 1, 0, 2, 3, 7] rfl (kh21 o48 hvc)
      exact j_sub [4, 5, 6, 3, 2, 0] rfl (kh13 n52 (some a3) hvc)
    · subst c8; replace hvc := hvc.2 a9 rfl
      refine j_aload hC dJ5_put_2_30 1 rfl ?_
      refine j_astore (lv0 := [(7, va_rf (some a9)), (4, va_rf (some a3)), (3, .int p2), (0, va_rf (some a0)), (1, va_rf p0), (2, va_rf p1)]) hC dJ5_put_2_32 rfl [0, 1, 2, 3, 4, 5] rfl (g_okS.n rfl) ?_
      refine j_aload hC dJ5_put_2_34 1 rfl ?_
      refine j_aload_n hC dJ5_put_2_36 rfl 5 rfl ?_
      refine j_aload hC dJ5_put_2_37 2 rfl ?_
      obtain ⟨o53, ⟨fs, hr, hv⟩, hvc⟩ := hvc
      refine j_get hC fkJ5_105_J27 dJ5_put_2_39 hr hv ?_
      clear hv hr fs
      exact hvc.elim
  · subst c2; replace hvc := hvc.1 rfl
    refine j_aload_n hC dJ5_put_2_11 rfl 2 rfl ?_
    refine j_aload_n hC dJ5_put_2_12 rfl 3 rfl ?_
    refine j_aload_n hC dJ5_put_2_13 rfl 4 rfl ?_
    obtain ⟨mc5, ms6, h1, h2, hvc⟩ := hvc
    obtain ⟨⟨fs, hr⟩, hvc⟩ := hvc
    refine j_callV (As := [va_rf p0, va_rf p1]) (rest := []) (n := 2) (ci := 3) hC hvc (lw_V q1870 q1872 qs14 q47 q1873) (by decide +kernel) (g_rm hR rfl rfl) rfl hr rfl rfl (g_sum rfl) dJ5_put_2_14 h1 h2 (g_Kv fun st4 hv2 hx => ?_)
    replace hvc := hv2 hx; clear hx hv2
    clear hr fs
    refine j_null hC dJ5_put_2_17 ?_
    exact hret _ _ _ _ _ _ dJ5_put_2_18 hvc
theorem wk_J5_put_2 {l : Launch} {E : g_E} {a0 : Nat} {p0 : Option Nat} {p1 : Option Nat} {p2 : Int32} {st : g_St} {mc ms : Nat} {Q : Option Nat → g_St → Prop} (hvc : vc_J5_put_2 l E a0 p0 p1 p2 st mc ms Q) : wp_J5_put_2 l E mc ms [va_rf (some a0), va_rf p0, va_rf p1, .int p2] st Q :=
  g_enter (lv0 := [(0, va_rf (some a0)), (1, va_rf p0), (2, va_rf p1), (3, .int p2)]) (plainFor_of_name (by decide +kernel)) (by simp [lv_args, g_c1, g_ci, g_cL]) (by simp [lg_sl, g_c1, g_ci, g_cL]) (fun p e s m args below meth c hC => wb_J5_put_2 hC ⟨Nat.le_refl _, Nat.le_refl _⟩ (fun pc lv v st1 cb sb hd hq => j_areturn hC rfl (by first | exact Or.inl ⟨_, rfl⟩ | exact Or.inr ⟨_, rfl⟩) hd (g_av hq)) hvc)
abbrev wp_J5_put (l : Launch) (E : g_E) (mc ms : Nat) (av : List Value) (st : g_St) (Q : Option Nat → g_St → Prop) : Prop := g_WPa l E yJ5_put cJ5_put 3 (some (.object "java/lang/Object")) 12 310 mc ms av st Q
def vc_J5_put (l : Launch) (E : g_E) (a0 : Nat) (p0 : Option Nat) (p1 : Option Nat) (st : g_St) (cb sb : Nat) (Q : Option Nat → g_St → Prop) : Prop :=
  ∃ mc3 ms4 : Nat, mc3 ≤ cb ∧ ms4 ≤ sb ∧ g_is st a0 3 ∧ wp_J5_put_2 l E mc3 ms4 [va_rf (some a0), va_rf p0, va_rf p1, .int (nI 1)] st (fun o1 st2 => g_Ext st st2 → Q o1 st2)
set_option maxHeartbeats 4000000 in
theorem wb_J5_put {p : Program} {l : Launch} {e : Env} {R : Room} {s : State} {m : MethodId} {args : Array Value} {below : List Frame} {meth : Method} {c : Code} {E : g_E} {st0 : g_St} {Z : State → Prop} (hC : g_Cx p s m args meth c cJ5_put 3 "java/util/TreeMap" (some (.object "java/lang/Object")) "put" E st0) (hR : g_Rm 12 310 R) {a0 : Nat} {p0 : Option Nat} {p1 : Option Nat} {st : g_St} {cb sb : Nat} {Q : Option Nat → g_St → Prop} (hret : ∀ (pc : Nat) (lv : List (Nat × Value)) (v : Option Nat) (st1 : g_St) (cb sb : Nat), decode cJ5_put pc = .ok (.areturn, 1) → Q v st1 → g_J p l e R s m args below meth c 3 E st0 Z pc lv [va_rf v] st1 cb sb) (hvc : vc_J5_put l E a0 p0 p1 st cb sb Q) : g_J p l e R s m args below meth c 3 E st0 Z 0 [(0, va_rf (some a0)), (1, va_rf p0), (2, va_rf p1)] [] st cb sb := by
  unfold vc_J5_put at hvc
  refine j_aload_n hC dJ5_put_0 rfl 0 rfl ?_
  refine j_aload_n hC dJ5_put_1 rfl 1 rfl ?_
  refine j_aload_n hC dJ5_put_2 rfl 2 rfl ?_
  refine j_iconst hC (nI 1) dJ5_put_3 rfl ?_
  obtain ⟨mc3, ms4, h1, h2, hvc⟩ := hvc
  obtain ⟨⟨fs, hr⟩, hvc⟩ := hvc
  refine j_callV (As := [va_rf p0, va_rf p1, .int (nI 1)]) (rest := []) (n := 3) (ci := 3) hC hvc (lw_V q1866 q1868 qs13 q47 q1869) (by decide +kernel) (g_rm hR rfl rfl) rfl hr rfl rfl (g_sum rfl) dJ5_put_4 h1 h2 (g_Ka fun o1 st2 hv2 hx => ?_)
  replace hvc := hv2 hx; clear hx hv2
  clear hr fs
  exact hret _ _ _ _ _ _ dJ5_put_7 hvc
theorem wk_J5_put {l : Launch} {E : g_E} {a0 : Nat} {p0 : Option Nat} {p1 : Option Nat} {st : g_St} {mc ms : Nat} {Q : Option Nat → g_St → Prop} (hvc : vc_J5_put l E a0 p0 p1 st mc ms Q) : wp_J5_put l E mc ms [va_rf (some a0), va_rf p0, va_rf p1] st Q :=
  g_enter (lv0 := [(0, va_rf (some a0)), (1, va_rf p0), (2, va_rf p1)]) (plainFor_of_name (by decide +kernel)) (by simp [lv_args, g_c1, g_ci, g_cL]) (by simp [lg_sl, g_c1, g_ci, g_cL]) (fun p e s m args below meth c hC => wb_J5_put hC ⟨Nat.le_refl _, Nat.le_refl _⟩ (fun pc lv v st1 cb sb hd hq => j_areturn hC rfl (by first | exact Or.inl ⟨_, rfl⟩ | exact Or.inr ⟨_, rfl⟩) hd (g_av hq)) hvc)
abbrev wp_J5_remove (l : Launch) (E : g_E) (mc ms : Nat) (av : List Value) (st : g_St) (Q : Option Nat → g_St → Prop) : Prop := g_WPa l E yJ5_remove cJ5_remove 4 (some (.object "java/lang/Object")) 10 261 mc ms av st Q
def vc_J5_remove (l : Launch) (E : g_E) (a0 : Nat) (p0 : Option Nat) (st : g_St) (Q : Option Nat → g_St → Prop) : Prop :=
  g_is st a0 3 ∧ wp_J5_getEntry l E 0 0 [va_rf (some a0), va_rf p0] st (fun o1 stx => stx = st ∧ (o1 = none → Q none st) ∧ (∀ a3 : Nat, o1 = some a3 → ∃ o4 : Option Nat, g_gr st a3 4 1 o4 ∧ g_is st a0 3 ∧ wp_J5_deleteEntry l E 0 0 [va_rf (some a0), va_rf (some a3)] st (fun st5 => g_Ext st st5 → Q o4 st5)))
set_option maxHeartbeats 4000000 in
theorem wb_J5_remove {p : Program} {l : Launch} {e : Env} {R : Room} {s : State} {m : MethodId} {args : Array Value} {below : List Frame} {meth : Method} {c : Code} {E : g_E} {st0 : g_St} {Z : State → Prop} (hC : g_Cx p s m args meth c cJ5_remove 4 "java/util/TreeMap" (some (.object "java/lang/Object")) "remove" E st0) (hR : g_Rm 10 261 R) {a0 : Nat} {p0 : Option Nat} {st : g_St} {cb sb : Nat} {Q : Option Nat → g_St → Prop} (hret : ∀ (pc : Nat) (lv : List (Nat × Value)) (v : Option Nat) (st1 : g_St) (cb sb : Nat), decode cJ5_remove pc = .ok (.areturn, 1) → Q v st1 → g_J p l e R s m args below meth c 4 E st0 Z pc lv [va_rf v] st1 cb sb) (hvc : vc_J5_remove l E a0 p0 st Q) : g_J p l e R s m args below meth c 4 E st0 Z 0 [(0, va_rf (some a0)), (1, va_rf p0)] [] st cb sb := by
  unfold vc_J5_remove at hvc
  refine j_aload_n hC dJ5_remove_0 rfl 0 rfl ?_
  refine j_aload_n hC dJ5_remove_1 rfl 1 rfl ?_
  obtain ⟨⟨fs, hr⟩, hvc⟩ := hvc
  refine j_callV (As := [va_rf p0]) (rest := []) (n := 1) (ci := 3) hC hvc (lw_V q1597 q1598 q1599 q47 q1600) (by decide +kernel) (g_rm hR rfl rfl) rfl hr rfl rfl (g_sum rfl) dJ5_remove_2 (Nat.zero_le _) (Nat.zero_le _) (g_Kap fun o1 hv2 => ?_)
  replace hvc := hv2; clear hv2
  clear hr fs
  refine j_astore_n (lv0 := [(1, va_rf p0), (0, va_rf (some a0))]) hC dJ5_remove_5 rfl rfl [1, 0] rfl (g_okS.h rfl g_c1 rfl) ?_
  refine j_aload_n hC dJ5_remove_6 rfl 0 rfl ?_
  refine j_ifnonnull (tgt := 12) hC dJ5_remove_7 rfl (fun a3 c2 => ?_) (fun c2 => ?_)
  · subst c2; replace hvc := hvc.2 a3 rfl
    refine j_aload_n hC dJ5_remove_12 rfl 0 rfl ?_
    obtain ⟨o4, ⟨fs, hr, hv⟩, hvc⟩ := hvc
    refine j_get hC fkJ5_58_J27 dJ5_remove_13 hr hv ?_
    clear hv hr fs
    refine j_astore_n (lv0 := [(2, va_rf (some a3)), (1, va_rf p0), (0, va_rf (some a0))]) hC dJ5_remove_16 rfl rfl [0, 1, 2] rfl (g_okS.h rfl g_c1 rfl) ?_
    refine j_aload_n hC dJ5_remove_17 rfl 3 rfl ?_
    refine j_aload_n hC dJ5_remove_18 rfl 1 rfl ?_
    obtain ⟨⟨fs, hr⟩, hvc⟩ := hvc
    refine j_callV (As := [va_rf (some a3)]) (rest := []) (n := 1) (ci := 3) hC hvc (lw_V q1931 q1455 qs2 q47 q1456) (by decide +kernel) (g_rm hR rfl rfl) rfl hr rfl rfl (g_sum rfl) dJ5_remove_19 (Nat.zero_le _) (Nat.zero_le _) (g_Kv fun st5 hv2 hx => ?_)
    replace hvc := hv2 hx; clear hx hv2
    clear hr fs
    refine j_aload_n hC dJ5_remove_22 rfl 0 rfl ?_
    exact hret _ _ _ _ _ _ dJ5_remove_23 hvc
  · subst c2; replace hvc := hvc.1 rfl
    refine j_null hC dJ5_remove_10 ?_
    exact hret _ _ _ _ _ _ dJ5_remove_11 hvc
theorem wk_J5_remove {l : Launch} {E : g_E} {a0 : Nat} {p0 : Option Nat} {st : g_St} {mc ms : Nat} {Q : Option Nat → g_St → Prop} (hvc : vc_J5_remove l E a0 p0 st Q) : wp_J5_remove l E mc ms [va_rf (some a0), va_rf p0] st Q :=
  g_enter (lv0 := [(0, va_rf (some a0)), (1, va_rf p0)]) (plainFor_of_name (by decide +kernel)) (by simp [lv_args, g_c1, g_ci, g_cL]) (by simp [lg_sl, g_c1, g_ci, g_cL]) (fun p e s m args below meth c hC => wb_J5_remove hC ⟨Nat.le_refl _, Nat.le_refl _⟩ (fun pc lv v st1 cb sb hd hq => j_areturn hC rfl (by first | exact Or.inl ⟨_, rfl⟩ | exact Or.inr ⟨_, rfl⟩) hd (g_av hq)) hvc)
abbrev wp_J5_get (l : Launch) (E : g_E) (mc ms : Nat) (av : List Value) (st : g_St) (Q : Option Nat → g_St → Prop) : Prop := g_WPa l E yJ5_get cJ5_get 3 (some (.object "java/lang/Object")) 10 261 mc ms av st Q
def vc_J5_get (l : Launch) (E : g_E) (a0 : Nat) (p0 : Option Nat) (st : g_St) (Q : Option Nat → g_St → Prop) : Prop :=
  g_is st a0 3 ∧ wp_J5_getEntry l E 0 0 [va_rf (some a0), va_rf p0] st (fun o1 stx => stx = st ∧ g_jn1 (fun (K3 : (Option Nat) → Prop) => (o1 = none → K3 none) ∧ (∀ a6 : Nat, o1 = some a6 → ∃ o7 : Option Nat, g_gr st a6 4 1 o7 ∧ K3 o7)) (fun (o2 : Option Nat) => Q o2 st))
set_option maxHeartbeats 4000000 in
theorem wb_J5_get {p : Program} {l : Launch} {e : Env} {R : Room} {s : State} {m : MethodId} {args : Array Value} {below : List Frame} {meth : Method} {c : Code} {E : g_E} {st0 : g_St} {Z : State → Prop} (hC : g_Cx p s m args meth c cJ5_get 3 "java/util/TreeMap" (some (.object "java/lang/Object")) "get" E st0) (hR : g_Rm 10 261 R) {a0 : Nat} {p0 : Option Nat} {st : g_St} {cb sb : Nat} {Q : Option Nat → g_St → Prop} (hret : ∀ (pc : Nat) (lv : List (Nat × Value)) (v : Option Nat) (st1 : g_St) (cb sb : Nat), decode cJ5_get pc = .ok (.areturn, 1) → Q v st1 → g_J p l e R s m args below meth c 3 E st0 Z pc lv [va_rf v] st1 cb sb) (hvc : vc_J5_get l E a0 p0 st Q) : g_J p l e R s m args below meth c 3 E st0 Z 0 [(0, va_rf (some a0)), (1, va_rf p0)] [] st cb sb := by
  unfold vc_J5_get at hvc
  refine j_aload_n hC dJ5_get_0 rfl 0 rfl ?_
  refine j_aload_n hC dJ5_get_1 rfl 1 rfl ?_
  obtain ⟨⟨fs, hr⟩, hvc⟩ := hvc
  refine j_callV (As := [va_rf p0]) (rest := []) (n := 1) (ci := 3) hC hvc (lw_V q1597 q1598 q1599 q47 q1600) (by decide +kernel) (g_rm hR rfl rfl) rfl hr rfl rfl (g_sum rfl) dJ5_get_2 (Nat.zero_le _) (Nat.zero_le _) (g_Kap fun o1 hv2 => ?_)
  replace hvc := hv2; clear hv2
  clear hr fs
  refine j_astore_n (lv0 := [(1, va_rf p0), (0, va_rf (some a0))]) hC dJ5_get_5 rfl rfl [1, 0] rfl (g_okS.h rfl g_c1 rfl) ?_
  refine j_aload_n hC dJ5_get_6 rfl 0 rfl ?_
  replace hvc := g_jn1_o hvc
  obtain ⟨K3, hK8, hvc⟩ := hvc
  have kh4 : ∀ (o2 : Option Nat), K3 o2 → g_J p l e R s m args below meth c 3 E st0 Z 18 [] [va_rf o2] st cb sb := by
    clear hvc
    intro o2 hvc
    replace hvc := hK8 _ hvc
    exact hret _ _ _ _ _ _ dJ5_get_18 hvc
  refine j_ifnonnull (tgt := 14) hC dJ5_get_7 rfl (fun a6 c5 => ?_) (fun c5 => ?_)
  · subst c5; replace hvc := hvc.2 a6 rfl
    refine j_aload_n hC dJ5_get_14 rfl 0 rfl ?_
    obtain ⟨o7, ⟨fs, hr, hv⟩, hvc⟩ := hvc
    refine j_get hC fkJ5_58_J27 dJ5_get_15 hr hv ?_
    clear hv hr fs
    exact j_sub [] rfl (kh4 o7 hvc)
  · subst c5; replace hvc := hvc.1 rfl
    refine j_null hC dJ5_get_10 ?_
    refine j_goto (tgt := 18) hC dJ5_get_11 rfl ?_
    exact j_sub [] rfl (kh4 none hvc)
theorem wk_J5_get {l : Launch} {E : g_E} {a0 : Nat} {p0 : Option Nat} {st : g_St} {mc ms : Nat} {Q : Option Nat → g_St → Prop} (hvc : vc_J5_get l E a0 p0 st Q) : wp_J5_get l E mc ms [va_rf (some a0), va_rf p0] st Q :=
  g_enter (lv0 := [(0, va_rf (some a0)), (1, va_rf p0)]) (plainFor_of_name (by decide +kernel)) (by simp [lv_args, g_c1, g_ci, g_cL]) (by simp [lg_sl, g_c1, g_ci, g_cL]) (fun p e s m args below meth c hC => wb_J5_get hC ⟨Nat.le_refl _, Nat.le_refl _⟩ (fun pc lv v st1 cb sb hd hq => j_areturn hC rfl (by first | exact Or.inl ⟨_, rfl⟩ | exact Or.inr ⟨_, rfl⟩) hd (g_av hq)) hvc)
abbrev wp_J5_higherKey (l : Launch) (E : g_E) (mc ms : Nat) (av : List Value) (st : g_St) (Q : Option Nat → g_St → Prop) : Prop := g_WPa l E yJ5_higherKey cJ5_higherKey 2 (some (.object "java/lang/Object")) 11 284 mc ms av st Q
def vc_J5_higherKey (l : Launch) (E : g_E) (a0 : Nat) (p0 : Option Nat) (st : g_St) (Q : Option Nat → g_St → Prop) : Prop :=
  g_is st a0 3 ∧ wp_J5_getHigherEntry l E 0 0 [va_rf (some a0), va_rf p0] st (fun o1 stx => stx = st ∧ wp_J5_keyOrNull l E 0 0 [va_rf o1] st (fun o2 stx => stx = st ∧ Q o2 st))
set_option maxHeartbeats 4000000 in
theorem wb_J5_higherKey {p : Program} {l : Launch} {e : Env} {R : Room} {s : State} {m : MethodId} {args : Array Value} {below : List Frame} {meth : Method} {c : Code} {E : g_E} {st0 : g_St} {Z : State → Prop} (hC : g_Cx p s m args meth c cJ5_higherKey 2 "java/util/TreeMap" (some (.object "java/lang/Object")) "higherKey" E st0) (hR : g_Rm 11 284 R) {a0 : Nat} {p0 : Option Nat} {st : g_St} {cb sb : Nat} {Q : Option Nat → g_St → Prop} (hret : ∀ (pc : Nat) (lv : List (Nat × Value)) (v : Option Nat) (st1 : g_St) (cb sb : Nat), decode cJ5_higherKey pc = .ok (.areturn, 1) → Q v st1 → g_J p l e R s m args below meth c 2 E st0 Z pc lv [va_rf v] st1 cb sb) (hvc : vc_J5_higherKey l E a0 p0 st Q) : g_J p l e R s m args below meth c 2 E st0 Z 0 [(0, va_rf (some a0)), (1, va_rf p0)] [] st cb sb := by
  unfold vc_J5_higherKey at hvc
  refine j_aload_n hC dJ5_higherKey_0 rfl 0 rfl ?_
  refine j_aload_n hC dJ5_higherKey_1 rfl 1 rfl ?_
  obtain ⟨⟨fs, hr⟩, hvc⟩ := hvc
  refine j_callV (As := [va_rf p0]) (rest := []) (n := 1) (ci := 3) hC hvc (lw_V q1973 q962 q963 q47 q964) (by decide +kernel) (g_rm hR rfl rfl) rfl hr rfl rfl (g_sum rfl) dJ5_higherKey_2 (Nat.zero_le _) (Nat.zero_le _) (g_Kap fun o1 hv2 => ?_)
  replace hvc := hv2; clear hv2
  clear hr fs
  refine j_callS (As := [va_rf o1]) (rest := []) (n := 1) hC hvc (lw_S q1535 q1536 q47 q1537) (by decide +kernel) (g_rm hR rfl rfl) rfl rfl (g_sum rfl) dJ5_higherKey_5 (Nat.zero_le _) (Nat.zero_le _) (g_Kap fun o2 hv2 => ?_)
  replace hvc := hv2; clear hv2
  exact hret _ _ _ _ _ _ dJ5_higherKey_8 hvc
theorem wk_J5_higherKey {l : Launch} {E : g_E} {a0 : Nat} {p0 : Option Nat} {st : g_St} {mc ms : Nat} {Q : Option Nat → g_St → Prop} (hvc : vc_J5_higherKey l E a0 p0 st Q) : wp_J5_higherKey l E mc ms [va_rf (some a0), va_rf p0] st Q :=
  g_enter (lv0 := [(0, va_rf (some a0)), (1, va_rf p0)]) (plainFor_of_name (by decide +kernel)) (by simp [lv_args, g_c1, g_ci, g_cL]) (by simp [lg_sl, g_c1, g_ci, g_cL]) (fun p e s m args below meth c hC => wb_J5_higherKey hC ⟨Nat.le_refl _, Nat.le_refl _⟩ (fun pc lv v st1 cb sb hd hq => j_areturn hC rfl (by first | exact Or.inl ⟨_, rfl⟩ | exact Or.inr ⟨_, rfl⟩) hd (g_av hq)) hvc)
abbrev wp_J5_getLowerEntry (l : Launch) (E : g_E) (mc ms : Nat) (av : List Value) (st : g_St) (Q : Option Nat → g_St → Prop) : Prop := g_WPa l E yJ5_getLowerEntry cJ5_getLowerEntry 6 (some (.object "java/util/TreeMap$Entry")) 10 259 mc ms av st Q
def vc_J5_getLowerEntry (l : Launch) (E : g_E) (a0 : Nat) (p0 : Option Nat) (st : g_St) (Q : Option Nat → g_St → Prop) : Prop :=
  ∃ o1 : Option Nat, g_gr st a0 3 3 o1 ∧ g_lp1 (fun (K3 : (Option Nat) → Prop) (o2 : Option Nat) => (o2 = none → Q none st) ∧ (∀ a7 : Nat, o2 = some a7 → ∃ o8 : Option Nat, g_gr st a7 4 0 o8 ∧ g_is st a0 3 ∧ wp_J5_compare l E 0 0 [va_rf (some a0), va_rf p0, va_rf o8] st (fun x9 stx => stx = st ∧ g_jn1 (fun (K11 : (Option Nat) → Prop) => (x9 ≤ 0 → ∃ o14 : Option Nat, g_gr st a7 4 2 o14 ∧ (o14 = none → ∃ o17 : Option Nat, g_gr st a7 4 4 o17 ∧ g_lp2 (fun (K20 : (Option Nat) → (Option Nat) → Prop) (o18 : Option Nat) (o19 : Option Nat) => g_jn0 (fun (K23 : Prop) => (o18 = none → K23) ∧ (∀ a26 : Nat, o18 = some a26 → ∃ o27 : Option Nat, g_gr st a26 4 2 o27 ∧ (¬ o19 = o27 → K23) ∧ (o19 = o27 → ∃ o29 : Option Nat, g_gr st a26 4 4 o29 ∧ K20 o29 (some a26)))) (Q o18 st)) o17 (some a7)) ∧ (∀ a16 : Nat, o14 = some a16 → ∃ o34 : Option Nat, g_gr st a7 4 2 o34 ∧ K11 o34)) ∧ (¬ x9 ≤ 0 → ∃ o35 : Option Nat, g_gr st a7 4 3 o35 ∧ (o35 = none → Q (some a7) st) ∧ (∀ a37 : Nat, o35 = some a37 → ∃ o38 : Option Nat, g_gr st a7 4 3 o38 ∧ K11 o38))) (fun (o10 : Option Nat) => K3 o10)))) o1
set_option maxHeartbeats 4000000 in
theorem wb_J5_getLowerEntry {p : Program} {l : Launch} {e : Env} {R : Room} {s : State} {m : MethodId} {args : Array Value} {below : List Frame} {meth : Method} {c : Code} {E : g_E} {st0 : g_St} {Z : State → Prop} (hC : g_Cx p s m args meth c cJ5_getLowerEntry 6 "java/util/TreeMap" (some (.object "java/util/TreeMap$Entry")) "getLowerEntry" E st0) (hR : g_Rm 10 259 R) {a0 : Nat} {p0 : Option Nat} {st : g_St} {cb sb : Nat} {Q : Option Nat → g_St → Prop} (hret : ∀ (pc : Nat) (lv : List (Nat × Value)) (v : Option Nat) (st1 : g_St) (cb sb : Nat), decode cJ5_getLowerEntry pc = .ok (.areturn, 1) → Q v st1 → g_J p l e R s m args below meth c 6 E st0 Z pc lv [va_rf v] st1 cb sb) (hvc : vc_J5_getLowerEntry l E a0 p0 st Q) : g_J p l e R s m args below meth c 6 E st0 Z 0 [(0, va_rf (some a0)), (1, va_rf p0)] [] st cb sb := by
  unfold vc_J5_getLowerEntry at hvc
  refine j_aload_n hC dJ5_getLowerEntry_0 rfl 0 rfl ?_
  obtain ⟨o1, ⟨fs, hr, hv⟩, hvc⟩ := hvc
  refine j_get hC fkJ5_101_J5 dJ5_getLowerEntry_1 hr hv ?_
  clear hv hr fs
  refine j_astore_n (lv0 := [(1, va_rf p0), (0, va_rf (some a0))]) hC dJ5_getLowerEntry_4 rfl rfl [1, 0] rfl (g_okS.h rfl g_c1 rfl) ?_
  replace hvc := g_lp1_o hvc
  obtain ⟨K3, hz40, hs41, n42, hvc⟩ := hvc
  have kh4 : ∀ (n : Nat) (o2 : Option Nat), K3 n o2 → g_J p l e R s m args below meth c 6 E st0 Z 5 [(0, va_rf (some a0)), (1, va_rf p0), (2, va_rf o2)] [] st cb sb := by
    clear hvc
    intro n
    induction n with
    | zero => intro o2 hvc; exact absurd hvc (hz40 _)
    | succ n ih5 =>
      intro o2 hvc
      replace hvc := hs41 n _ hvc
      refine j_aload_n hC dJ5_getLowerEntry_5 rfl 2 rfl ?_
      refine j_ifnull (tgt := 99) hC dJ5_getLowerEntry_6 rfl (fun c6 => ?_) (fun a7 c6 => ?_)
      · subst c6; replace hvc := hvc.1 rfl
        refine j_null hC dJ5_getLowerEntry_99 ?_
        exact hret _ _ _ _ _ _ dJ5_getLowerEntry_100 hvc
      · subst c6; replace hvc := hvc.2 a7 rfl
        refine j_aload_n hC dJ5_getLowerEntry_9 rfl 0 rfl ?_
        refine j_aload_n hC dJ5_getLowerEntry_10 rfl 1 rfl ?_
        refine j_aload_n hC dJ5_getLowerEntry_11 rfl 2 rfl ?_
        obtain ⟨o8, ⟨fs, hr, hv⟩, hvc⟩ := hvc
        refine j_get hC fkJ5_105_J27 dJ5_getLowerEntry_12 hr hv ?_
        clear hv hr fs
        obtain ⟨⟨fs, hr⟩, hvc⟩ := hvc
        refine j_callV (As := [va_rf p0, va_rf o8]) (rest := []) (n := 2) (ci := 3) hC hvc (lw_V q960 q640 q641 q47 q642) (by decide +kernel) (g_rm hR rfl rfl) rfl hr rfl rfl (g_sum rfl) dJ5_getLowerEntry_15 (Nat.zero_le _) (Nat.zero_le _) (g_Kip fun x9 hv2 => ?_)
        replace hvc := hv2; clear hv2
        clear hr fs
        refine j_istore_n (lv0 := [(2, va_rf (some a7)), (0, va_rf (some a0)), (1, va_rf p0)]) hC dJ5_getLowerEntry_18 rfl rfl [2, 0, 1] rfl (g_okS.h rfl g_c1 rfl) ?_
        refine j_iload_n hC dJ5_getLowerEntry_19 rfl 0 rfl ?_
        replace hvc := g_jn1_o hvc
        obtain ⟨K11, hK39, hvc⟩ := hvc
        have kh12 : ∀ (o10 : Option Nat), K11 o10 → g_J p l e R s m args below meth c 6 E st0 Z 96 [(0, va_rf (some a0)), (1, va_rf p0), (2, va_rf o10)] [] st cb sb := by
          clear hvc
          intro o10 hvc
          replace hvc := hK39 _ hvc
          refine j_goto (tgt := 5) hC dJ5_getLowerEntry_96 rfl ?_
          exact j_sub [0, 1, 2] rfl (ih5 o10 hvc)
        refine j_if_le (tgt := 40) hC dJ5_getLowerEntry_20 rfl (fun c13 => ?_) (fun c13 => ?_)
        · replace hvc := hvc.1 c13
          refine j_aload_n hC dJ5_getLowerEntry_40 rfl 1 rfl ?_
          obtain ⟨o14, ⟨fs, hr, hv⟩, hvc⟩ := hvc
          refine j_get hC fkJ5_111_J27 dJ5_getLowerEntry_41 hr hv ?_
          clear hv hr fs
          refine j_ifnull (tgt := 55) hC dJ5_getLowerEntry_44 rfl (fun c15 => ?_) (fun a16 c15 => ?_)
          · subst c15; replace hvc := hvc.1 rfl
            refine j_aload_n hC dJ5_getLowerEntry_55 rfl 1 rfl ?_
            obtain ⟨o17, ⟨fs, hr, hv⟩, hvc⟩ := hvc
            refine j_get hC fkJ5_124_J27 dJ5_getLowerEntry_56 hr hv ?_
            clear hv hr fs
            refine j_astore (lv0 := [(3, .int x9), (2, va_rf (some a7)), (0, va_rf (some a0)), (1, va_rf p0)]) hC dJ5_getLowerEntry_59 rfl [0, 1, 2, 3] rfl (g_okS.h rfl rfl rfl) ?_
            refine j_aload_n hC dJ5_getLowerEntry_61 rfl 2 rfl ?_
            refine j_astore (lv0 := [(4, va_rf o17), (3, .int x9), (2, va_rf (some a7)), (0, va_rf (some a0)), (1, va_rf p0)]) hC dJ5_getLowerEntry_62 rfl [0, 1, 2, 3, 4] rfl (g_okS.h rfl g_c1 rfl) ?_
            replace hvc := g_lp2_o hvc
            obtain ⟨K20, hz31, hs32, n33, hvc⟩ := hvc
            have kh21 : ∀ (n : Nat) (o18 : Option Nat) (o19 : Option Nat), K20 n o18 o19 → g_J p l e R s m args below meth c 6 E st0 Z 64 [(4, va_rf o18), (5, va_rf o19)] [] st cb sb := by
              clear hvc
              intro n
              induction n with
              | zero => intro o18 o19 hvc; exact absurd hvc (hz31 _ _)
              | succ n ih22 =>
                intro o18 o19 hvc
                replace hvc := hs32 n _ _ hvc
                refine j_aload hC dJ5_getLowerEntry_64 0 rfl ?_
                replace hvc := g_jn0_o hvc
                obtain ⟨K23, hK30, hvc⟩ := hvc
                have kh24 : K23 → g_J p l e R s m args below meth c 6 E st0 Z 93 [(4, va_rf o18)] [] st cb sb := by
                  clear hvc
                  intro hvc
                  replace hvc := hK30 hvc
                  refine j_aload hC dJ5_getLowerEntry_93 0 rfl ?_
                  exact hret _ _ _ _ _ _ dJ5_getLowerEntry_95 hvc
                refine j_ifnull (tgt := 93) hC dJ5_getLowerEntry_66 rfl (fun c25 => ?_) (fun a26 c25 => ?_)
                · subst c25; replace hvc := hvc.1 rfl
                  exact j_sub [0] rfl (kh24 hvc)
                · subst c25; replace hvc := hvc.2 a26 rfl
                  refine j_aload hC dJ5_getLowerEntry_69 1 rfl ?_
                  refine j_aload hC dJ5_getLowerEntry_71 0 rfl ?_
                  obtain ⟨o27, ⟨fs, hr, hv⟩, hvc⟩ := hvc
                  refine j_get hC fkJ5_111_J27 dJ5_getLowerEntry_73 hr hv ?_
                  clear hv hr fs
                  refine j_acmp_ne (tgt := 93) hC dJ5_getLowerEntry_76 rfl (fun c28 => ?_) (fun c28 => ?_)
                  · replace hvc := hvc.1 c28
                    exact j_sub [0] rfl (kh24 hvc)
                  · replace hvc := hvc.2 c28
                    refine j_aload hC dJ5_getLowerEntry_79 0 rfl ?_
                    refine j_astore (lv0 := [(4, va_rf (some a26))]) hC dJ5_getLowerEntry_81 rfl [0] rfl (g_okS.h rfl g_c1 rfl) ?_
                    refine j_aload hC dJ5_getLowerEntry_83 1 rfl ?_
                    obtain ⟨o29, ⟨fs, hr, hv⟩, hvc⟩ := hvc
                    refine j_get hC fkJ5_124_J27 dJ5_getLowerEntry_85 hr hv ?_
                    clear hv hr fs
                    refine j_astore (lv0 := [(5, va_rf (some a26))]) hC dJ5_getLowerEntry_88 rfl [0] rfl (g_okS.n rfl) ?_
                    refine j_goto (tgt := 64) hC dJ5_getLowerEntry_90 rfl ?_
                    exact j_sub [0, 1] rfl (ih22 o29 (some a26) hvc)
            exact j_sub [1, 0] rfl (kh21 n33 o17 (some a7) hvc)
          · subst c15; replace hvc := hvc.2 a16 rfl
            refine j_aload_n hC dJ5_getLowerEntry_47 rfl 1 rfl ?_
            obtain ⟨o34, ⟨fs, hr, hv⟩, hvc⟩ := hvc
            refine j_get hC fkJ5_111_J27 dJ5_getLowerEntry_48 hr hv ?_
            clear hv hr fs
            refine j_astore_n (lv0 := [(1, va_rf p0), (3, .int x9), (0, va_rf (some a0))]) hC dJ5_getLowerEntry_51 rfl rfl [3, 0, 2] rfl (g_okS.h rfl g_c1 rfl) ?_
            refine j_goto (tgt := 96) hC dJ5_getLowerEntry_52 rfl ?_
            exact j_sub [3, 1, 0] rfl (kh12 o34 hvc)
        · replace hvc := hvc.2 c13
          refine j_aload_n hC dJ5_getLowerEntry_23 rfl 1 rfl ?_
          obtain ⟨o35, ⟨fs, hr, hv⟩, hvc⟩ := hvc
          refine j_get hC fkJ5_114_J27 dJ5_getLowerEntry_24 hr hv ?_
          clear hv hr fs
          refine j_ifnull (tgt := 38) hC dJ5_getLowerEntry_27 rfl (fun c36 => ?_) (fun a37 c36 => ?_)
          · subst c36; replace hvc := hvc.1 rfl
            refine j_aload_n hC dJ5_getLowerEntry_38 rfl 1 rfl ?_
            exact hret _ _ _ _ _ _ dJ5_getLowerEntry_39 hvc
          · subst c36; replace hvc := hvc.2 a37 rfl
            refine j_aload_n hC dJ5_getLowerEntry_30 rfl 1 rfl ?_
            obtain ⟨o38, ⟨fs, hr, hv⟩, hvc⟩ := hvc
            refine j_get hC fkJ5_114_J27 dJ5_getLowerEntry_31 hr hv ?_
            clear hv hr fs
            refine j_astore_n (lv0 := [(1, va_rf p0), (3, .int x9), (0, va_rf (some a0))]) hC dJ5_getLowerEntry_34 rfl rfl [3, 0, 2] rfl (g_okS.h rfl g_c1 rfl) ?_
            refine j_goto (tgt := 96) hC dJ5_getLowerEntry_35 rfl ?_
            exact j_sub [3, 1, 0] rfl (kh12 o38 hvc)
  exact j_sub [2, 1, 0] rfl (kh4 n42 o1 hvc)
theorem wk_J5_getLowerEntry {l : Launch} {E : g_E} {a0 : Nat} {p0 : Option Nat} {st : g_St} {mc ms : Nat} {Q : Option Nat → g_St → Prop} (hvc : vc_J5_getLowerEntry l E a0 p0 st Q) : wp_J5_getLowerEntry l E mc ms [va_rf (some a0), va_rf p0] st Q :=
  g_enter (lv0 := [(0, va_rf (some a0)), (1, va_rf p0)]) (plainFor_of_name (by decide +kernel)) (by simp [lv_args, g_c1, g_ci, g_cL]) (by simp [lg_sl, g_c1, g_ci, g_cL]) (fun p e s m args below meth c hC => wb_J5_getLowerEntry hC ⟨Nat.le_refl _, Nat.le_refl _⟩ (fun pc lv v st1 cb sb hd hq => j_areturn hC rfl (by first | exact Or.inl ⟨_, rfl⟩ | exact Or.inr ⟨_, rfl⟩) hd (g_av hq)) hvc)
abbrev wp_J5_lowerKey (l : Launch) (E : g_E) (mc ms : Nat) (av : List Value) (st : g_St) (Q : Option Nat → g_St → Prop) : Prop := g_WPa l E yJ5_lowerKey cJ5_lowerKey 2 (some (.object "java/lang/Object")) 11 284 mc ms av st Q
def vc_J5_lowerKey (l : Launch) (E : g_E) (a0 : Nat) (p0 : Option Nat) (st : g_St) (Q : Option Nat → g_St → Prop) : Prop :=
  g_is st a0 3 ∧ wp_J5_getLowerEntry l E 0 0 [va_rf (some a0), va_rf p0] st (fun o1 stx => stx = st ∧ wp_J5_keyOrNull l E 0 0 [va_rf o1] st (fun o2 stx => stx = st ∧ Q o2 st))
set_option maxHeartbeats 4000000 in
theorem wb_J5_lowerKey {p : Program} {l : Launch} {e : Env} {R : Room} {s : State} {m : MethodId} {args : Array Value} {below : List Frame} {meth : Method} {c : Code} {E : g_E} {st0 : g_St} {Z : State → Prop} (hC : g_Cx p s m args meth c cJ5_lowerKey 2 "java/util/TreeMap" (some (.object "java/lang/Object")) "lowerKey" E st0) (hR : g_Rm 11 284 R) {a0 : Nat} {p0 : Option Nat} {st : g_St} {cb sb : Nat} {Q : Option Nat → g_St → Prop} (hret : ∀ (pc : Nat) (lv : List (Nat × Value)) (v : Option Nat) (st1 : g_St) (cb sb : Nat), decode cJ5_lowerKey pc = .ok (.areturn, 1) → Q v st1 → g_J p l e R s m args below meth c 2 E st0 Z pc lv [va_rf v] st1 cb sb) (hvc : vc_J5_lowerKey l E a0 p0 st Q) : g_J p l e R s m args below meth c 2 E st0 Z 0 [(0, va_rf (some a0)), (1, va_rf p0)] [] st cb sb := by
  unfold vc_J5_lowerKey at hvc
  refine j_aload_n hC dJ5_lowerKey_0 rfl 0 rfl ?_
  refine j_aload_n hC dJ5_lowerKey_1 rfl 1 rfl ?_
  obtain ⟨⟨fs, hr⟩, hvc⟩ := hvc
  refine j_callV (As := [va_rf p0]) (rest := []) (n := 1) (ci := 3) hC hvc (lw_V q1965 q1966 q1967 q47 q1968) (by decide +kernel) (g_rm hR rfl rfl) rfl hr rfl rfl (g_sum rfl) dJ5_lowerKey_2 (Nat.zero_le _) (Nat.zero_le _) (g_Kap fun o1 hv2 => ?_)
  replace hvc := hv2; clear hv2
  clear hr fs
  refine j_callS (As := [va_rf o1]) (rest := []) (n := 1) hC hvc (lw_S q1535 q1536 q47 q1537) (by decide +kernel) (g_rm hR rfl rfl) rfl rfl (g_sum rfl) dJ5_lowerKey_5 (Nat.zero_le _) (Nat.zero_le _) (g_Kap fun o2 hv2 => ?_)
  replace hvc := hv2; clear hv2
  exact hret _ _ _ _ _ _ dJ5_lowerKey_8 hvc
theorem wk_J5_lowerKey {l : Launch} {E : g_E} {a0 : Nat} {p0 : Option Nat} {st : g_St} {mc ms : Nat} {Q : Option Nat → g_St → Prop} (hvc : vc_J5_lowerKey l E a0 p0 st Q) : wp_J5_lowerKey l E mc ms [va_rf (some a0), va_rf p0] st Q :=
  g_enter (lv0 := [(0, va_rf (some a0)), (1, va_rf p0)]) (plainFor_of_name (by decide +kernel)) (by simp [lv_args, g_c1, g_ci, g_cL]) (by simp [lg_sl, g_c1, g_ci, g_cL]) (fun p e s m args below meth c hC => wb_J5_lowerKey hC ⟨Nat.le_refl _, Nat.le_refl _⟩ (fun pc lv v st1 cb sb hd hq => j_areturn hC rfl (by first | exact Or.inl ⟨_, rfl⟩ | exact Or.inr ⟨_, rfl⟩) hd (g_av hq)) hvc)
abbrev wp_J41_init (l : Launch) (E : g_E) (mc ms : Nat) (av : List Value) (st : g_St) (Q : g_St → Prop) : Prop := g_WPv l E yJ41_init cJ41_init 2 none 2 60 mc ms av st Q
def vc_J41_init (l : Launch) (E : g_E) (a0 : Nat) (p0 : Option Nat) (st : g_St) (Q : g_St → Prop) : Prop :=
  ∃ a1 : Nat, p0 = some a1 ∧ g_is st a1 4 ∧ wp_J27_getKey l E 0 0 [va_rf (some a1)] st (fun o2 stx => stx = st ∧ ∃ fs3 : List Value, st.2.1 a0 = some (.inr (11, fs3)) ∧ ∀ st4 : g_St, st4 = g_put st a0 (.inr (11, fs3.set 0 (va_rf o2))) → g_is st4 a1 4 ∧ wp_J27_getValue l E 0 0 [va_rf (some a1)] st4 (fun o5 stx => stx = st4 ∧ ∃ fs6 : List Value, st4.2.1 a0 = some (.inr (11, fs6)) ∧ ∀ st7 : g_St, st7 = g_put st4 a0 (.inr (11, fs6.set 1 (va_rf o5))) → Q st7))
set_option maxHeartbeats 4000000 in
theorem wb_J41_init {p : Program} {l : Launch} {e : Env} {R : Room} {s : State} {m : MethodId} {args : Array Value} {below : List Frame} {meth : Method} {c : Code} {E : g_E} {st0 : g_St} {Z : State → Prop} (hC : g_Cx p s m args meth c cJ41_init 2 "java/util/AbstractMap$SimpleImmutableEntry" none "<init>" E st0) (hR : g_Rm 2 60 R) {a0 : Nat} {p0 : Option Nat} {st : g_St} {cb sb : Nat} {Q : g_St → Prop} (hret : ∀ (pc : Nat) (lv : List (Nat × Value)) (st1 : g_St) (cb sb : Nat), decode cJ41_init pc = .ok (.return_, 1) → Q st1 → g_J p l e R s m args below meth c 2 E st0 Z pc lv [] st1 cb sb) (hvc : vc_J41_init l E a0 p0 st Q) : g_J p l e R s m args below meth c 2 E st0 Z 0 [(0, va_rf (some a0)), (1, va_rf p0)] [] st cb sb := by
  unfold vc_J41_init at hvc
  refine j_aload_n hC dJ41_init_0 rfl 0 rfl ?_
  refine j_objInit hC q1993 q99 q100 (Nat.le_trans (Nat.le_of_ble_eq_true rfl) hR.1) (Nat.le_trans (g_sumO rfl) hR.2) dJ41_init_1 ?_
  refine j_aload_n hC dJ41_init_4 rfl 0 rfl ?_
  refine j_aload_n hC dJ41_init_5 rfl 1 rfl ?_
  obtain ⟨a1, rfl, hvc⟩ := hvc
  obtain ⟨⟨fs, hr⟩, hvc⟩ := hvc
  refine j_callF (As := []) (rest := [va_rf (some a0)]) (n := 0) (x := ⟨"java/util/Map$Entry", "getKey", "()Ljava/lang/Object;"⟩) (C := "java/util/TreeMap$Entry") (ci := 4) hC hvc (lw_F q1995 q1712 q1714 q73 q1716) gf_4 (by decide +kernel) (g_rm hR rfl rfl) rfl hr rfl rfl (g_sum rfl) dJ41_init_6 (Nat.zero_le _) (Nat.zero_le _) (g_Kap fun o2 hv2 => ?_)
  replace hvc := hv2; clear hv2
  clear hr fs
  obtain ⟨fs3, hm, hvc⟩ := hvc
  refine j_putF hC fkJ41_7_J41 rfl dJ41_init_11 hm g_no g_fo (fun st4 e1 => ?_)
  replace hvc := hvc st4 e1; clear hm e1
  refine j_aload_n hC dJ41_init_14 rfl 0 rfl ?_
  refine j_aload_n hC dJ41_init_15 rfl 1 rfl ?_
  obtain ⟨⟨fs, hr⟩, hvc⟩ := hvc
  refine j_callF (As := []) (rest := [va_rf (some a0)]) (n := 0) (x := ⟨"java/util/Map$Entry", "getValue", "()Ljava/lang/Object;"⟩) (C := "java/util/TreeMap$Entry") (ci := 4) hC hvc (lw_F q1997 q1138 q1140 q73 q1142) gf_3 (by decide +kernel) (g_rm hR rfl rfl) rfl hr rfl rfl (g_sum rfl) dJ41_init_16 (Nat.zero_le _) (Nat.zero_le _) (g_Kap fun o5 hv2 => ?_)
  replace hvc := hv2; clear hv2
  clear hr fs
  obtain ⟨fs6, hm, hvc⟩ := hvc
  refine j_putF hC fkJ41_13_J41 rfl dJ41_init_21 hm g_no g_fo (fun st7 e1 => ?_)
  replace hvc := hvc st7 e1; clear hm e1
  exact hret _ _ _ _ _ dJ41_init_24 hvc
theorem wk_J41_init {l : Launch} {E : g_E} {a0 : Nat} {p0 : Option Nat} {st : g_St} {mc ms : Nat} {Q : g_St → Prop} (hvc : vc_J41_init l E a0 p0 st Q) : wp_J41_init l E mc ms [va_rf (some a0), va_rf p0] st Q :=
  g_enter (lv0 := [(0, va_rf (some a0)), (1, va_rf p0)]) (plainFor_of_name (by decide +kernel)) (by simp [lv_args, g_c1, g_ci, g_cL]) (by simp [lg_sl, g_c1, g_ci, g_cL]) (fun p e s m args below meth c hC => wb_J41_init hC ⟨Nat.le_refl _, Nat.le_refl _⟩ (fun pc lv st1 cb sb hd hq => j_return hC rfl hd ⟨rfl, hq⟩) hvc)
abbrev wp_J5_exportEntry (l : Launch) (E : g_E) (mc ms : Nat) (av : List Value) (st : g_St) (Q : Option Nat → g_St → Prop) : Prop := g_WPa l E yJ5_exportEntry cJ5_exportEntry 1 (some (.object "java/util/Map$Entry")) 3 81 mc ms av st Q
def vc_J5_exportEntry (l : Launch) (E : g_E) (p0 : Option Nat) (st : g_St) (cb sb : Nat) (Q : Option Nat → g_St → Prop) : Prop :=
  g_jn4 (fun (K5 : (Option Nat) → g_St → Nat → Nat → Prop) => (p0 = none → K5 none st cb sb) ∧ (∀ a8 : Nat, p0 = some a8 → 1 ≤ cb ∧ 2 ≤ sb ∧ ∀ (q9 : Nat) (st10 : g_St), q9 = st.2.2 → st10 = g_new st (.inr (11, [va_rf none, va_rf none])) → wp_J41_init l E 0 0 [va_rf (some q9), va_rf (some a8)] st10 (fun st11 => g_Ext st10 st11 → K5 (some q9) st11 (cb - 1) (sb - 2)))) (fun (o1 : Option Nat) (st2 : g_St) (cb3 : Nat) (sb4 : Nat) => Q o1 st2)
set_option maxHeartbeats 4000000 in
theorem wb_J5_exportEntry {p : Program} {l : Launch} {e : Env} {R : Room} {s : State} {m : MethodId} {args : Array Value} {below : List Frame} {meth : Method} {c : Code} {E : g_E} {st0 : g_St} {Z : State → Prop} (hC : g_Cx p s m args meth c cJ5_exportEntry 1 "java/util/TreeMap" (some (.object "java/util/Map$Entry")) "exportEntry" E st0) (hR : g_Rm 3 81 R) {p0 : Option Nat} {st : g_St} {cb sb : Nat} {Q : Option Nat → g_St → Prop} (hret : ∀ (pc : Nat) (lv : List (Nat × Value)) (v : Option Nat) (st1 : g_St) (cb sb : Nat), decode cJ5_exportEntry pc = .ok (.areturn, 1) → Q v st1 → g_J p l e R s m args below meth c 1 E st0 Z pc lv [va_rf v] st1 cb sb) (hvc : vc_J5_exportEntry l E p0 st cb sb Q) : g_J p l e R s m args below meth c 1 E st0 Z 0 [(0, va_rf p0)] [] st cb sb := by
  unfold vc_J5_exportEntry at hvc
  refine j_aload_n hC dJ5_exportEntry_0 rfl 0 rfl ?_
  replace hvc := g_jn4_o hvc
  obtain ⟨K5, hK12, hvc⟩ := hvc
  have kh6 : ∀ (o1 : Option Nat) (st2 : g_St) (cb3 : Nat) (sb4 : Nat), K5 o1 st2 cb3 sb4 → g_J p l e R s m args below meth c 1 E st0 Z 16 [] [va_rf o1] st2 cb3 sb4 := by
    clear hvc
    intro o1 st2 cb3 sb4 hvc
    replace hvc := hK12 _ _ _ _ hvc
    exact hret _ _ _ _ _ _ dJ5_exportEntry_16 hvc
  refine j_ifnonnull (tgt := 8) hC dJ5_exportEntry_1 rfl (fun a8 c7 => ?_) (fun c7 => ?_)
  · subst c7; replace hvc := hvc.2 a8 rfl
    obtain ⟨h1, h2, hvc⟩ := hvc
    refine j_new hC nwJ5_282 dJ5_exportEntry_8 (n := 2) rfl h1 h2 (fun q9 st10 e1 e2 => ?_)
    replace hvc := hvc q9 st10 e1 e2; clear h1 h2 e1 e2
    refine j_dup hC dJ5_exportEntry_11 g_c1 ?_
    refine j_aload_n hC dJ5_exportEntry_12 rfl 0 rfl ?_
    refine j_callI (As := [va_rf (some a8)]) (rest := [va_rf (some q9)]) (n := 1) hC hvc (lw_meth q1992) q87 q1990 q1991 rfl (by decide +kernel) (g_rm hR rfl rfl) rfl rfl (g_sum rfl) dJ5_exportEntry_13 (Nat.zero_le _) (Nat.zero_le _) (g_Kv fun st11 hv2 hx => ?_)
    replace hvc := hv2 hx; clear hx hv2
    exact j_sub [] rfl (kh6 (some q9) st11 (cb - 1) (sb - 2) hvc)
  · subst c7; replace hvc := hvc.1 rfl
    refine j_null hC dJ5_exportEntry_4 ?_
    refine j_goto (tgt := 16) hC dJ5_exportEntry_5 rfl ?_
    exact j_sub [] rfl (kh6 none st cb sb hvc)
theorem wk_J5_exportEntry {l : Launch} {E : g_E} {p0 : Option Nat} {st : g_St} {mc ms : Nat} {Q : Option Nat → g_St → Prop} (hvc : vc_J5_exportEntry l E p0 st mc ms Q) : wp_J5_exportEntry l E mc ms [va_rf p0] st Q :=
  g_enter (lv0 := [(0, va_rf p0)]) (plainFor_of_name (by decide +kernel)) (by simp [lv_args, g_c1, g_ci, g_cL]) (by simp [lg_sl, g_c1, g_ci, g_cL]) (fun p e s m args below meth c hC => wb_J5_exportEntry hC ⟨Nat.le_refl _, Nat.le_refl _⟩ (fun pc lv v st1 cb sb hd hq => j_areturn hC rfl (by first | exact Or.inl ⟨_, rfl⟩ | exact Or.inr ⟨_, rfl⟩) hd (g_av hq)) hvc)
abbrev wp_J5_ceilingEntry (l : Launch) (E : g_E) (mc ms : Nat) (av : List Value) (st : g_St) (Q : Option Nat → g_St → Prop) : Prop := g_WPa l E yJ5_ceilingEntry cJ5_ceilingEntry 2 (some (.object "java/util/Map$Entry")) 11 284 mc ms av st Q
def vc_J5_ceilingEntry (l : Launch) (E : g_E) (a0 : Nat) (p0 : Option Nat) (st : g_St) (cb sb : Nat) (Q : Option Nat → g_St → Prop) : Prop :=
  g_is st a0 3 ∧ wp_J5_getCeilingEntry l E 0 0 [va_rf (some a0), va_rf p0] st (fun o1 stx => stx = st ∧ ∃ mc4 ms5 : Nat, mc4 ≤ cb ∧ ms5 ≤ sb ∧ wp_J5_exportEntry l E mc4 ms5 [va_rf o1] st (fun o2 st3 => g_Ext st st3 → Q o2 st3))
set_option maxHeartbeats 4000000 in
theorem wb_J5_ceilingEntry {p : Program} {l : Launch} {e : Env} {R : Room} {s : State} {m : MethodId} {args : Array Value} {below : List Frame} {meth : Method} {c : Code} {E : g_E} {st0 : g_St} {Z : State → Prop} (hC : g_Cx p s m args meth c cJ5_ceilingEntry 2 "java/util/TreeMap" (some (.object "java/util/Map$Entry")) "ceilingEntry" E st0) (hR : g_Rm 11 284 R) {a0 : Nat} {p0 : Option Nat} {st : g_St} {cb sb : Nat} {Q : Option Nat → g_St → Prop} (hret : ∀ (pc : Nat) (lv : List (Nat × Value)) (v : Option Nat) (st1 : g_St) (cb sb : Nat), decode cJ5_ceilingEntry pc = .ok (.areturn, 1) → Q v st1 → g_J p l e R s m args below meth c 2 E st0 Z pc lv [va_rf v] st1 cb sb) (hvc : vc_J5_ceilingEntry l E a0 p0 st cb sb Q) : g_J p l e R s m args below meth c 2 E st0 Z 0 [(0, va_rf (some a0)), (1, va_rf p0)] [] st cb sb := by
  unfold vc_J5_ceilingEntry at hvc
  refine j_aload_n hC dJ5_ceilingEntry_0 rfl 0 rfl ?_
  refine j_aload_n hC dJ5_ceilingEntry_1 rfl 1 rfl ?_
  obtain ⟨⟨fs, hr⟩, hvc⟩ := hvc
  refine j_callV (As := [va_rf p0]) (rest := []) (n := 1) (ci := 3) hC hvc (lw_V q1542 q957 q958 q47 q959) (by decide +kernel) (g_rm hR rfl rfl) rfl hr rfl rfl (g_sum rfl) dJ5_ceilingEntry_2 (Nat.zero_le _) (Nat.zero_le _) (g_Kap fun o1 hv2 => ?_)
  replace hvc := hv2; clear hv2
  clear hr fs
  obtain ⟨mc4, ms5, h1, h2, hvc⟩ := hvc
  refine j_callS (As := [va_rf o1]) (rest := []) (n := 1) hC hvc (lw_S q1985 q1986 q47 q1987) (by decide +kernel) (g_rm hR rfl rfl) rfl rfl (g_sum rfl) dJ5_ceilingEntry_5 h1 h2 (g_Ka fun o2 st3 hv2 hx => ?_)
  replace hvc := hv2 hx; clear hx hv2
  exact hret _ _ _ _ _ _ dJ5_ceilingEntry_8 hvc
theorem wk_J5_ceilingEntry {l : Launch} {E : g_E} {a0 : Nat} {p0 : Option Nat} {st : g_St} {mc ms : Nat} {Q : Option Nat → g_St → Prop} (hvc : vc_J5_ceilingEntry l E a0 p0 st mc ms Q) : wp_J5_ceilingEntry l E mc ms [va_rf (some a0), va_rf p0] st Q :=
  g_enter (lv0 := [(0, va_rf (some a0)), (1, va_rf p0)]) (plainFor_of_name (by decide +kernel)) (by simp [lv_args, g_c1, g_ci, g_cL]) (by simp [lg_sl, g_c1, g_ci, g_cL]) (fun p e s m args below meth c hC => wb_J5_ceilingEntry hC ⟨Nat.le_refl _, Nat.le_refl _⟩ (fun pc lv v st1 cb sb hd hq => j_areturn hC rfl (by first | exact Or.inl ⟨_, rfl⟩ | exact Or.inr ⟨_, rfl⟩) hd (g_av hq)) hvc)
abbrev wp_J41_getKey (l : Launch) (E : g_E) (mc ms : Nat) (av : List Value) (st : g_St) (Q : Option Nat → g_St → Prop) : Prop := g_WPa l E yJ41_getKey cJ41_getKey 1 (some (.object "java/lang/Object")) 1 40 mc ms av st Q
def vc_J41_getKey (l : Launch) (E : g_E) (a0 : Nat) (st : g_St) (Q : Option Nat → g_St → Prop) : Prop :=
  ∃ o1 : Option Nat, g_gr st a0 11 0 o1 ∧ Q o1 st
set_option maxHeartbeats 4000000 in
theorem wb_J41_getKey {p : Program} {l : Launch} {e : Env} {R : Room} {s : State} {m : MethodId} {args : Array Value} {below : List Frame} {meth : Method} {c : Code} {E : g_E} {st0 : g_St} {Z : State → Prop} (hC : g_Cx p s m args meth c cJ41_getKey 1 "java/util/AbstractMap$SimpleImmutableEntry" (some (.object "java/lang/Object")) "getKey" E st0) (hR : g_Rm 1 40 R) {a0 : Nat} {st : g_St} {cb sb : Nat} {Q : Option Nat → g_St → Prop} (hret : ∀ (pc : Nat) (lv : List (Nat × Value)) (v : Option Nat) (st1 : g_St) (cb sb : Nat), decode cJ41_getKey pc = .ok (.areturn, 1) → Q v st1 → g_J p l e R s m args below meth c 1 E st0 Z pc lv [va_rf v] st1 cb sb) (hvc : vc_J41_getKey l E a0 st Q) : g_J p l e R s m args below meth c 1 E st0 Z 0 [(0, va_rf (some a0))] [] st cb sb := by
  unfold vc_J41_getKey at hvc
  refine j_aload_n hC dJ41_getKey_0 rfl 0 rfl ?_
  obtain ⟨o1, ⟨fs, hr, hv⟩, hvc⟩ := hvc
  refine j_get hC fkJ41_7_J41 dJ41_getKey_1 hr hv ?_
  clear hv hr fs
  exact hret _ _ _ _ _ _ dJ41_getKey_4 hvc
theorem wk_J41_getKey {l : Launch} {E : g_E} {a0 : Nat} {st : g_St} {mc ms : Nat} {Q : Option Nat → g_St → Prop} (hvc : vc_J41_getKey l E a0 st Q) : wp_J41_getKey l E mc ms [va_rf (some a0)] st Q :=
  g_enter (lv0 := [(0, va_rf (some a0))]) (plainFor_of_name (by decide +kernel)) (by simp [lv_args, g_c1, g_ci, g_cL]) (by simp [lg_sl, g_c1, g_ci, g_cL]) (fun p e s m args below meth c hC => wb_J41_getKey hC ⟨Nat.le_refl _, Nat.le_refl _⟩ (fun pc lv v st1 cb sb hd hq => j_areturn hC rfl (by first | exact Or.inl ⟨_, rfl⟩ | exact Or.inr ⟨_, rfl⟩) hd (g_av hq)) hvc)
abbrev wp_J41_getValue (l : Launch) (E : g_E) (mc ms : Nat) (av : List Value) (st : g_St) (Q : Option Nat → g_St → Prop) : Prop := g_WPa l E yJ41_getValue cJ41_getValue 1 (some (.object "java/lang/Object")) 1 40 mc ms av st Q
def vc_J41_getValue (l : Launch) (E : g_E) (a0 : Nat) (st : g_St) (Q : Option Nat → g_St → Prop) : Prop :=
  ∃ o1 : Option Nat, g_gr st a0 11 1 o1 ∧ Q o1 st
set_option maxHeartbeats 4000000 in
theorem wb_J41_getValue {p : Program} {l : Launch} {e : Env} {R : Room} {s : State} {m : MethodId} {args : Array Value} {below : List Frame} {meth : Method} {c : Code} {E : g_E} {st0 : g_St} {Z : State → Prop} (hC : g_Cx p s m args meth c cJ41_getValue 1 "java/util/AbstractMap$SimpleImmutableEntry" (some (.object "java/lang/Object")) "getValue" E st0) (hR : g_Rm 1 40 R) {a0 : Nat} {st : g_St} {cb sb : Nat} {Q : Option Nat → g_St → Prop} (hret : ∀ (pc : Nat) (lv : List (Nat × Value)) (v : Option Nat) (st1 : g_St) (cb sb : Nat), decode cJ41_getValue pc = .ok (.areturn, 1) → Q v st1 → g_J p l e R s m args below meth c 1 E st0 Z pc lv [va_rf v] st1 cb sb) (hvc : vc_J41_getValue l E a0 st Q) : g_J p l e R s m args below meth c 1 E st0 Z 0 [(0, va_rf (some a0))] [] st cb sb := by
  unfold vc_J41_getValue at hvc
  refine j_aload_n hC dJ41_getValue_0 rfl 0 rfl ?_
  obtain ⟨o1, ⟨fs, hr, hv⟩, hvc⟩ := hvc
  refine j_get hC fkJ41_13_J41 dJ41_getValue_1 hr hv ?_
  clear hv hr fs
  exact hret _ _ _ _ _ _ dJ41_getValue_4 hvc
theorem wk_J41_getValue {l : Launch} {E : g_E} {a0 : Nat} {st : g_St} {mc ms : Nat} {Q : Option Nat → g_St → Prop} (hvc : vc_J41_getValue l E a0 st Q) : wp_J41_getValue l E mc ms [va_rf (some a0)] st Q :=
  g_enter (lv0 := [(0, va_rf (some a0))]) (plainFor_of_name (by decide +kernel)) (by simp [lv_args, g_c1, g_ci, g_cL]) (by simp [lg_sl, g_c1, g_ci, g_cL]) (fun p e s m args below meth c hC => wb_J41_getValue hC ⟨Nat.le_refl _, Nat.le_refl _⟩ (fun pc lv v st1 cb sb hd hq => j_areturn hC rfl (by first | exact Or.inl ⟨_, rfl⟩ | exact Or.inr ⟨_, rfl⟩) hd (g_av hq)) hvc)
abbrev wp_J5_higherEntry (l : Launch) (E : g_E) (mc ms : Nat) (av : List Value) (st : g_St) (Q : Option Nat → g_St → Prop) : Prop := g_WPa l E yJ5_higherEntry cJ5_higherEntry 2 (some (.object "java/util/Map$Entry")) 11 284 mc ms av st Q
def vc_J5_higherEntry (l : Launch) (E : g_E) (a0 : Nat) (p0 : Option Nat) (st : g_St) (cb sb : Nat) (Q : Option Nat → g_St → Prop) : Prop :=
  g_is st a0 3 ∧ wp_J5_getHigherEntry l E 0 0 [va_rf (some a0), va_rf p0] st (fun o1 stx => stx = st ∧ ∃ mc4 ms5 : Nat, mc4 ≤ cb ∧ ms5 ≤ sb ∧ wp_J5_exportEntry l E mc4 ms5 [va_rf o1] st (fun o2 st3 => g_Ext st st3 → Q o2 st3))
set_option maxHeartbeats 4000000 in
theorem wb_J5_higherEntry {p : Program} {l : Launch} {e : Env} {R : Room} {s : State} {m : MethodId} {args : Array Value} {below : List Frame} {meth : Method} {c : Code} {E : g_E} {st0 : g_St} {Z : State → Prop} (hC : g_Cx p s m args meth c cJ5_higherEntry 2 "java/util/TreeMap" (some (.object "java/util/Map$Entry")) "higherEntry" E st0) (hR : g_Rm 11 284 R) {a0 : Nat} {p0 : Option Nat} {st : g_St} {cb sb : Nat} {Q : Option Nat → g_St → Prop} (hret : ∀ (pc : Nat) (lv : List (Nat × Value)) (v : Option Nat) (st1 : g_St) (cb sb : Nat), decode cJ5_higherEntry pc = .ok (.areturn, 1) → Q v st1 → g_J p l e R s m args below meth c 2 E st0 Z pc lv [va_rf v] st1 cb sb) (hvc : vc_J5_higherEntry l E a0 p0 st cb sb Q) : g_J p l e R s m args below meth c 2 E st0 Z 0 [(0, va_rf (some a0)), (1, va_rf p0)] [] st cb sb := by
  unfold vc_J5_higherEntry at hvc
  refine j_aload_n hC dJ5_higherEntry_0 rfl 0 rfl ?_
  refine j_aload_n hC dJ5_higherEntry_1 rfl 1 rfl ?_
  obtain ⟨⟨fs, hr⟩, hvc⟩ := hvc
  refine j_callV (As := [va_rf p0]) (rest := []) (n := 1) (ci := 3) hC hvc (lw_V q1973 q962 q963 q47 q964) (by decide +kernel) (g_rm hR rfl rfl) rfl hr rfl rfl (g_sum rfl) dJ5_higherEntry_2 (Nat.zero_le _) (Nat.zero_le _) (g_Kap fun o1 hv2 => ?_)
  replace hvc := hv2; clear hv2
  clear hr fs
  obtain ⟨mc4, ms5, h1, h2, hvc⟩ := hvc
  refine j_callS (As := [va_rf o1]) (rest := []) (n := 1) hC hvc (lw_S q1985 q1986 q47 q1987) (by decide +kernel) (g_rm hR rfl rfl) rfl rfl (g_sum rfl) dJ5_higherEntry_5 h1 h2 (g_Ka fun o2 st3 hv2 hx => ?_)
  replace hvc := hv2 hx; clear hx hv2
  exact hret _ _ _ _ _ _ dJ5_higherEntry_8 hvc
theorem wk_J5_higherEntry {l : Launch} {E : g_E} {a0 : Nat} {p0 : Option Nat} {st : g_St} {mc ms : Nat} {Q : Option Nat → g_St → Prop} (hvc : vc_J5_higherEntry l E a0 p0 st mc ms Q) : wp_J5_higherEntry l E mc ms [va_rf (some a0), va_rf p0] st Q :=
  g_enter (lv0 := [(0, va_rf (some a0)), (1, va_rf p0)]) (plainFor_of_name (by decide +kernel)) (by simp [lv_args, g_c1, g_ci, g_cL]) (by simp [lg_sl, g_c1, g_ci, g_cL]) (fun p e s m args below meth c hC => wb_J5_higherEntry hC ⟨Nat.le_refl _, Nat.le_refl _⟩ (fun pc lv v st1 cb sb hd hq => j_areturn hC rfl (by first | exact Or.inl ⟨_, rfl⟩ | exact Or.inr ⟨_, rfl⟩) hd (g_av hq)) hvc)
abbrev wp_J5_clear (l : Launch) (E : g_E) (mc ms : Nat) (av : List Value) (st : g_St) (Q : g_St → Prop) : Prop := g_WPv l E yJ5_clear cJ5_clear 1 none 1 40 mc ms av st Q
def vc_J5_clear (l : Launch) (E : g_E) (a0 : Nat) (st : g_St) (Q : g_St → Prop) : Prop :=
  ∃ x1 : Int32, g_gi st a0 3 5 x1 ∧ ∃ fs2 : List Value, st.2.1 a0 = some (.inr (3, fs2)) ∧ ∀ st3 : g_St, st3 = g_put st a0 (.inr (3, fs2.set 5 (.int (x1 + (nI 1))))) → ∃ fs4 : List Value, st3.2.1 a0 = some (.inr (3, fs4)) ∧ ∀ st5 : g_St, st5 = g_put st3 a0 (.inr (3, fs4.set 4 (.int (nI 0)))) → ∃ fs6 : List Value, st5.2.1 a0 = some (.inr (3, fs6)) ∧ ∀ st7 : g_St, st7 = g_put st5 a0 (.inr (3, fs6.set 3 (va_rf none))) → Q st7
set_option maxHeartbeats 4000000 in
theorem wb_J5_clear {p : Program} {l : Launch} {e : Env} {R : Room} {s : State} {m : MethodId} {args : Array Value} {below : List Frame} {meth : Method} {c : Code} {E : g_E} {st0 : g_St} {Z : State → Prop} (hC : g_Cx p s m args meth c cJ5_clear 1 "java/util/TreeMap" none "clear" E st0) (hR : g_Rm 1 40 R) {a0 : Nat} {st : g_St} {cb sb : Nat} {Q : g_St → Prop} (hret : ∀ (pc : Nat) (lv : List (Nat × Value)) (st1 : g_St) (cb sb : Nat), decode cJ5_clear pc = .ok (.return_, 1) → Q st1 → g_J p l e R s m args below meth c 1 E st0 Z pc lv [] st1 cb sb) (hvc : vc_J5_clear l E a0 st Q) : g_J p l e R s m args below meth c 1 E st0 Z 0 [(0, va_rf (some a0))] [] st cb sb := by
  unfold vc_J5_clear at hvc
  refine j_aload_n hC dJ5_clear_0 rfl 0 rfl ?_
  refine j_dup hC dJ5_clear_1 g_c1 ?_
  obtain ⟨x1, ⟨fs, hr, hv⟩, hvc⟩ := hvc
  refine j_get hC fkJ5_13_J5 dJ5_clear_2 hr hv ?_
  clear hv hr fs
  refine j_iconst hC (nI 1) dJ5_clear_5 rfl ?_
  refine j_iadd hC dJ5_clear_6 ?_
  obtain ⟨fs2, hm, hvc⟩ := hvc
  refine j_put hC fkJ5_13_J5 dJ5_clear_7 hm rfl rfl (fun st3 e1 => ?_)
  replace hvc := hvc st3 e1; clear hm e1
  refine j_aload_n hC dJ5_clear_10 rfl 0 rfl ?_
  refine j_iconst hC (nI 0) dJ5_clear_11 rfl ?_
  obtain ⟨fs4, hm, hvc⟩ := hvc
  refine j_put hC fkJ5_7_J5 dJ5_clear_12 hm rfl rfl (fun st5 e1 => ?_)
  replace hvc := hvc st5 e1; clear hm e1
  refine j_aload_n hC dJ5_clear_15 rfl 0 rfl ?_
  refine j_null hC dJ5_clear_16 ?_
  obtain ⟨fs6, hm, hvc⟩ := hvc
  refine j_put hC fkJ5_101_J5 dJ5_clear_17 hm g_no g_fo (fun st7 e1 => ?_)
  replace hvc := hvc st7 e1; clear hm e1
  exact hret _ _ _ _ _ dJ5_clear_20 hvc
theorem wk_J5_clear {l : Launch} {E : g_E} {a0 : Nat} {st : g_St} {mc ms : Nat} {Q : g_St → Prop} (hvc : vc_J5_clear l E a0 st Q) : wp_J5_clear l E mc ms [va_rf (some a0)] st Q :=
  g_enter (lv0 := [(0, va_rf (some a0))]) (plainFor_of_name (by decide +kernel)) (by simp [lv_args, g_c1, g_ci, g_cL]) (by simp [lg_sl, g_c1, g_ci, g_cL]) (fun p e s m args below meth c hC => wb_J5_clear hC ⟨Nat.le_refl _, Nat.le_refl _⟩ (fun pc lv st1 cb sb hd hq => j_return hC rfl hd ⟨rfl, hq⟩) hvc)
abbrev wp_J4_putAll (l : Launch) (E : g_E) (mc ms : Nat) (av : List Value) (st : g_St) (Q : g_St → Prop) : Prop := g_WPv l E yJ4_putAll cJ4_putAll 4 none 5 122 mc ms av st Q
def vc_J4_putAll (l : Launch) (E : g_E) (a0 : Nat) (p0 : Option Nat) (st : g_St) (cb sb : Nat) (Q : g_St → Prop) : Prop :=
  ∃ a1 : Nat, p0 = some a1 ∧ ∃ mc4 ms5 : Nat, mc4 ≤ cb ∧ ms5 ≤ sb ∧ g_is st a1 3 ∧ wp_J5_entrySet l E mc4 ms5 [va_rf (some a1)] st (fun o2 st3 => g_Ext st st3 → ∃ a6 : Nat, o2 = some a6 ∧ ∃ mc9 ms10 : Nat, mc9 ≤ (cb - mc4) ∧ ms10 ≤ (sb - ms5) ∧ g_is st3 a6 14 ∧ wp_J45_iterator l E mc9 ms10 [va_rf (some a6)] st3 (fun o7 st8 => g_Ext st3 st8 → ∃ a11 : Nat, o7 = some a11 ∧ g_is st8 a11 9 ∧ wp_J37_hasNext_J38 l E 0 0 [va_rf (some a11)] st8 (fun x12 stx => stx = st8 ∧ (x12 = 0 → Q st8) ∧ (¬ x12 = 0 → False))))
set_option maxHeartbeats 4000000 in
theorem wb_J4_putAll {p : Program} {l : Launch} {e : Env} {R : Room} {s : State} {m : MethodId} {args : Array Value} {below : List Frame} {meth : Method} {c : Code} {E : g_E} {st0 : g_St} {Z : State → Prop} (hC : g_Cx p s m args meth c cJ4_putAll 4 "java/util/AbstractMap" none "putAll" E st0) (hR : g_Rm 5 122 R) {a0 : Nat} {p0 : Option Nat} {st : g_St} {cb sb : Nat} {Q : g_St → Prop} (hret : ∀ (pc : Nat) (lv : List (Nat × Value)) (st1 : g_St) (cb sb : Nat), decode cJ4_putAll pc = .ok (.return_, 1) → Q st1 → g_J p l e R s m args below meth c 4 E st0 Z pc lv [] st1 cb sb) (hvc : vc_J4_putAll l E a0 p0 st cb sb Q) : g_J p l e R s m args below meth c 4 E st0 Z 0 [(0, va_rf (some a0)), (1, va_rf p0)] [] st cb sb := by
  unfold vc_J4_putAll at hvc
  refine j_aload_n hC dJ4_putAll_0 rfl 1 rfl ?_
  obtain ⟨a1, rfl, hvc⟩ := hvc
  obtain ⟨mc4, ms5, h1, h2, hvc⟩ := hvc
  obtain ⟨⟨fs, hr⟩, hvc⟩ := hvc
  refine j_callF (As := []) (rest := []) (n := 0) (x := ⟨"java/util/Map", "entrySet", "()Ljava/util/Set;"⟩) (C := "java/util/TreeMap") (ci := 3) hC hvc (lw_F q2139 q2108 q1257 q47 q1258) gf_39 (by decide +kernel) (g_rm hR rfl rfl) rfl hr rfl rfl (g_sum rfl) dJ4_putAll_1 h1 h2 (g_Ka fun o2 st3 hv2 hx => ?_)
  replace hvc := hv2 hx; clear hx hv2
  clear hr fs
  obtain ⟨a6, rfl, hvc⟩ := hvc
  obtain ⟨mc9, ms10, h1, h2, hvc⟩ := hvc
  obtain ⟨⟨fs, hr⟩, hvc⟩ := hvc
  refine j_callF (As := []) (rest := []) (n := 0) (x := ⟨"java/util/Set", "iterator", "()Ljava/util/Iterator;"⟩) (C := "java/util/TreeMap$EntrySet") (ci := 14) hC hvc (lw_F q2141 q1276 q1278 q91 q1280) gf_33 (by decide +kernel) (g_rm hR rfl rfl) rfl hr rfl rfl (g_sum rfl) dJ4_putAll_6 h1 h2 (g_Ka fun o7 st8 hv2 hx => ?_)
  replace hvc := hv2 hx; clear hx hv2
  clear hr fs
  refine j_astore_n (lv0 := [(1, va_rf (some a1)), (0, va_rf (some a0))]) hC dJ4_putAll_11 rfl rfl [1, 0] rfl (g_okS.h rfl g_c1 rfl) ?_
  refine j_aload_n hC dJ4_putAll_12 rfl 0 rfl ?_
  obtain ⟨a11, rfl, hvc⟩ := hvc
  obtain ⟨⟨fs, hr⟩, hvc⟩ := hvc
  refine j_callF (As := []) (rest := []) (n := 0) (x := ⟨"java/util/Iterator", "hasNext", "()Z"⟩) (C := "java/util/TreeMap$EntryIterator") (ci := 9) hC hvc (lw_F q2143 q1014 q1016 q83 q1018) gf_20 (by decide +kernel) (g_rm hR rfl rfl) rfl hr rfl rfl (g_sum rfl) dJ4_putAll_13 (Nat.zero_le _) (Nat.zero_le _) (g_Kip fun x12 hv2 => ?_)
  replace hvc := hv2; clear hv2
  clear hr fs
  refine j_if_eq (tgt := 51) hC dJ4_putAll_18 rfl (fun c13 => ?_) (fun c13 => ?_)
  · replace hvc := hvc.1 c13
    exact hret _ _ _ _ _ dJ4_putAll_51 hvc
  · replace hvc := hvc.2 c13
    refine j_aload_n hC dJ4_putAll_21 rfl 0 rfl ?_
    exact hvc.elim
theorem wk_J4_putAll {l : Launch} {E : g_E} {a0 : Nat} {p0 : Option Nat} {st : g_St} {mc ms : Nat} {Q : g_St → Prop} (hvc : vc_J4_putAll l E a0 p0 st mc ms Q) : wp_J4_putAll l E mc ms [va_rf (some a0), va_rf p0] st Q :=
  g_enter (lv0 := [(0, va_rf (some a0)), (1, va_rf p0)]) (plainFor_of_name (by decide +kernel)) (by simp [lv_args, g_c1, g_ci, g_cL]) (by simp [lg_sl, g_c1, g_ci, g_cL]) (fun p e s m args below meth c hC => wb_J4_putAll hC ⟨Nat.le_refl _, Nat.le_refl _⟩ (fun pc lv st1 cb sb hd hq => j_return hC rfl hd ⟨rfl, hq⟩) hvc)
abbrev wp_J5_comparator (l : Launch) (E : g_E) (mc ms : Nat) (av : List Value) (st : g_St) (Q : Option Nat → g_St → Prop) : Prop := g_WPa l E yJ5_comparator cJ5_comparator 1 (some (.object "java/util/Comparator")) 1 40 mc ms av st Q
def vc_J5_comparator (l : Launch) (E : g_E) (a0 : Nat) (st : g_St) (Q : Option Nat → g_St → Prop) : Prop :=
  ∃ o1 : Option Nat, g_gr st a0 3 2 o1 ∧ Q o1 st
set_option maxHeartbeats 4000000 in
theorem wb_J5_comparator {p : Program} {l : Launch} {e : Env} {R : Room} {s : State} {m : MethodId} {args : Array Value} {below : List Frame} {meth : Method} {c : Code} {E : g_E} {st0 : g_St} {Z : State → Prop} (hC : g_Cx p s m args meth c cJ5_comparator 1 "java/util/TreeMap" (some (.object "java/util/Comparator")) "comparator" E st0) (hR : g_Rm 1 40 R) {a0 : Nat} {st : g_St} {cb sb : Nat} {Q : Option Nat → g_St → Prop} (hret : ∀ (pc : Nat) (lv : List (Nat × Value)) (v : Option Nat) (st1 : g_St) (cb sb : Nat), decode cJ5_comparator pc = .ok (.areturn, 1) → Q v st1 → g_J p l e R s m args below meth c 1 E st0 Z pc lv [va_rf v] st1 cb sb) (hvc : vc_J5_comparator l E a0 st Q) : g_J p l e R s m args below meth c 1 E st0 Z 0 [(0, va_rf (some a0))] [] st cb sb := by
  unfold vc_J5_comparator at hvc
  refine j_aload_n hC dJ5_comparator_0 rfl 0 rfl ?_
  obtain ⟨o1, ⟨fs, hr, hv⟩, hvc⟩ := hvc
  refine j_get hC fkJ5_16_J5 dJ5_comparator_1 hr hv ?_
  clear hv hr fs
  exact hret _ _ _ _ _ _ dJ5_comparator_4 hvc
theorem wk_J5_comparator {l : Launch} {E : g_E} {a0 : Nat} {st : g_St} {mc ms : Nat} {Q : Option Nat → g_St → Prop} (hvc : vc_J5_comparator l E a0 st Q) : wp_J5_comparator l E mc ms [va_rf (some a0)] st Q :=
  g_enter (lv0 := [(0, va_rf (some a0))]) (plainFor_of_name (by decide +kernel)) (by simp [lv_args, g_c1, g_ci, g_cL]) (by simp [lg_sl, g_c1, g_ci, g_cL]) (fun p e s m args below meth c hC => wb_J5_comparator hC ⟨Nat.le_refl _, Nat.le_refl _⟩ (fun pc lv v st1 cb sb hd hq => j_areturn hC rfl (by first | exact Or.inl ⟨_, rfl⟩ | exact Or.inr ⟨_, rfl⟩) hd (g_av hq)) hvc)
abbrev wp_J5_computeRedLevel (l : Launch) (E : g_E) (mc ms : Nat) (av : List Value) (st : g_St) (Q : Int32 → g_St → Prop) : Prop := g_WPi l E yJ5_computeRedLevel cJ5_computeRedLevel 1 (some .int) 2 61 mc ms av st Q
def vc_J5_computeRedLevel (l : Launch) (E : g_E) (p0 : Int32) (st : g_St) (Q : Int32 → g_St → Prop) : Prop :=
  wp_J14_numberOfLeadingZeros l E 0 0 [.int (p0 + (nI 1))] st (fun x1 stx => stx = st ∧ Q ((nI 31) - x1) st)
set_option maxHeartbeats 4000000 in
theorem wb_J5_computeRedLevel {p : Program} {l : Launch} {e : Env} {R : Room} {s : State} {m : MethodId} {args : Array Value} {below : List Frame} {meth : Method} {c : Code} {E : g_E} {st0 : g_St} {Z : State → Prop} (hC : g_Cx p s m args meth c cJ5_computeRedLevel 1 "java/util/TreeMap" (some .int) "computeRedLevel" E st0) (hR : g_Rm 2 61 R) {p0 : Int32} {st : g_St} {cb sb : Nat} {Q : Int32 → g_St → Prop} (hret : ∀ (pc : Nat) (lv : List (Nat × Value)) (v : Int32) (st1 : g_St) (cb sb : Nat), decode cJ5_computeRedLevel pc = .ok (.ireturn, 1) → narrow .int (.int v) = .int v → Q v st1 → g_J p l e R s m args below meth c 1 E st0 Z pc lv [.int v] st1 cb sb) (hvc : vc_J5_computeRedLevel l E p0 st Q) : g_J p l e R s m args below meth c 1 E st0 Z 0 [(0, .int p0)] [] st cb sb := by
  unfold vc_J5_computeRedLevel at hvc
  refine j_bipush hC (nI 31) dJ5_computeRedLevel_0 rfl ?_
  refine j_iload_n hC dJ5_computeRedLevel_2 rfl 0 rfl ?_
  refine j_iconst hC (nI 1) dJ5_computeRedLevel_3 rfl ?_
  refine j_iadd hC dJ5_computeRedLevel_4 ?_
  refine j_callS (As := [.int (p0 + (nI 1))]) (rest := [.int (nI 31)]) (n := 1) hC hvc (lw_S q2123 q751 q56 q752) (by decide +kernel) (g_rm hR rfl rfl) rfl rfl (g_sum rfl) dJ5_computeRedLevel_5 (Nat.zero_le _) (Nat.zero_le _) (g_Kip fun x1 hv2 => ?_)
  replace hvc := hv2; clear hv2
  refine j_isub hC dJ5_computeRedLevel_8 ?_
  exact hret _ _ _ _ _ _ dJ5_computeRedLevel_9 rfl hvc
theorem wk_J5_computeRedLevel {l : Launch} {E : g_E} {p0 : Int32} {st : g_St} {mc ms : Nat} {Q : Int32 → g_St → Prop} (hvc : vc_J5_computeRedLevel l E p0 st Q) : wp_J5_computeRedLevel l E mc ms [.int p0] st Q :=
  g_enter (lv0 := [(0, .int p0)]) (plainFor_of_name (by decide +kernel)) (by simp [lv_args, g_c1, g_ci, g_cL]) (by simp [lg_sl, g_c1, g_ci, g_cL]) (fun p e s m args below meth c hC => wb_J5_computeRedLevel hC ⟨Nat.le_refl _, Nat.le_refl _⟩ (fun pc lv v st1 cb sb hd hn hq => j_ireturn hC rfl hn hd (g_iv hq)) hvc)
abbrev wp_J5_buildFromSorted_2 (l : Launch) (E : g_E) (dep : Nat) (mc ms : Nat) (av : List Value) (st : g_St) (Q : Option Nat → g_St → Prop) : Prop := g_WPa l E yJ5_buildFromSorted_2 cJ5_buildFromSorted_2 14 (some (.object "java/util/TreeMap$Entry")) (5 + dep) (123 + 33 * dep) mc ms av st Q
def vc_J5_buildFromSorted_2 (l : Launch) (E : g_E) (dep : Nat) (a0 : Nat) (p0 : Int32) (p1 : Int32) (p2 : Int32) (p3 : Int32) (p4 : Option Nat) (p5 : Option Nat) (p6 : Option Nat) (st : g_St) (cb sb : Nat) (Q : Option Nat → g_St → Prop) : Prop :=
  (p1 ≤ p2 → g_jn4 (fun (K6 : (Option Nat) → g_St → Nat → Nat → Prop) => (((((p1 + p2)).toUInt32 >>> (((nI 1)).toUInt32 &&& Int32.toUInt32 31)).toInt32) ≤ p1 → K6 none st cb sb) ∧ (¬ ((((p1 + p2)).toUInt32 >>> (((nI 1)).toUInt32 &&& Int32.toUInt32 31)).toInt32) ≤ p1 → ∃ mc64 ms65 : Nat, mc64 ≤ cb ∧ ms65 ≤ sb ∧ g_is st a0 3 ∧ wp_J5_buildFromSorted_2 l E dep mc64 ms65 [va_rf (some a0), .int (p0 + (nI 1)), .int p1, .int (((((p1 + p2)).toUInt32 >>> (((nI 1)).toUInt32 &&& Int32.toUInt32 31)).toInt32) - (nI 1)), .int p3, va_rf p4, va_rf p5, va_rf p6] st (fun o62 st63 => g_Ext st st63 → K6 o62 st63 (cb - mc64) (sb - ms65)))) (fun (o2 : Option Nat) (st3 : g_St) (cb4 : Nat) (sb5 : Nat) => (p4 = none → False) ∧ (∀ a9 : Nat, p4 = some a9 → g_jn3 (fun (K13 : (Option Nat) → (Option Nat) → g_St → Prop) => (p6 = none → g_is st3 a9 9 ∧ wp_J38_next l E 0 0 [va_rf (some a9)] st3 (fun o53 st54 => g_Ext st3 st54 → g_isN st54 o53 4 ∧ ∃ a55 : Nat, o53 = some a55 ∧ g_is st54 a55 4 ∧ wp_J27_getKey l E 0 0 [va_rf (some a55)] st54 (fun o56 stx => stx = st54 ∧ g_is st54 a55 4 ∧ wp_J27_getValue l E 0 0 [va_rf (some a55)] st54 (fun o57 stx => stx = st54 ∧ K13 o56 o57 st54)))) ∧ (∀ a52 : Nat, p6 = some a52 → g_is st3 a9 9 ∧ wp_J38_next l E 0 0 [va_rf (some a9)] st3 (fun o58 st59 => g_Ext st3 st59 → K13 o58 (some a52) st59))) (fun (o10 : Option Nat) (o11 : Option Nat) (st12 : g_St) => 1 ≤ cb4 ∧ 6 ≤ sb5 ∧ ∀ (q15 : Nat) (st16 : g_St), q15 = st12.2.2 → st16 = g_new st12 (.inr (4, [va_rf none, va_rf none, va_rf none, va_rf none, va_rf none, .int 0])) → wp_J27_init l E 0 0 [va_rf (some q15), va_rf o10, va_rf o11, va_rf none] st16 (fun st17 => g_Ext st16 st17 → g_jn1 (fun (K19 : g_St → Prop) => (¬ p0 = p3 → K19 st17) ∧ (p0 = p3 → ∃ fs48 : List Value, st17.2.1 q15 = some (.inr (4, fs48)) ∧ ∀ st49 : g_St, st49 = g_put st17 q15 (.inr (4, fs48.set 5 (.int (nI 0)))) → K19 st49)) (fun (st18 : g_St) => g_jn1 (fun (K22 : g_St → Prop) => (o2 = none → K22 st18) ∧ (∀ a41 : Nat, o2 = some a41 → ∃ fs42 : List Value, st18.2.1 q15 = some (.inr (4, fs42)) ∧ ∀ st43 : g_St, st43 = g_put st18 q15 (.inr (4, fs42.set 2 (va_rf (some a41)))) → ∃ fs44 : List Value, st43.2.1 a41 = some (.inr (4, fs44)) ∧ ∀ st45 : g_St, st45 = g_put st43 a41 (.inr (4, fs44.set 4 (va_rf (some q15)))) → K22 st45)) (fun (st21 : g_St) => g_jn3 (fun (K27 : g_St → Nat → Nat → Prop) => (p2 ≤ ((((p1 + p2)).toUInt32 >>> (((nI 1)).toUInt32 &&& Int32.toUInt32 31)).toInt32) → K27 st21 (cb4 - 1) (sb5 - 6)) ∧ (¬ p2 ≤ ((((p1 + p2)).toUInt32 >>> (((nI 1)).toUInt32 &&& Int32.toUInt32 31)).toInt32) → ∃ mc32 ms33 : Nat, mc32 ≤ (cb4 - 1) ∧ ms33 ≤ (sb5 - 6) ∧ g_is st21 a0 3 ∧ wp_J5_buildFromSorted_2 l E dep mc32 ms33 [va_rf (some a0), .int (p0 + (nI 1)), .int (((((p1 + p2)).toUInt32 >>> (((nI 1)).toUInt32 &&& Int32.toUInt32 31)).toInt32) + (nI 1)), .int p2, .int p3, va_rf (some a9), va_rf p5, va_rf p6] st21 (fun o30 st31 => g_Ext st21 st31 → ∃ fs34 : List Value, st31.2.1 q15 = some (.inr (4, fs34)) ∧ ∀ st35 : g_St, st35 = g_put st31 q15 (.inr (4, fs34.set 3 (va_rf o30))) → ∃ a36 : Nat, o30 = some a36 ∧ ∃ fs37 : List Value, st35.2.1 a36 = some (.inr (4, fs37)) ∧ ∀ st38 : g_St, st38 = g_put st35 a36 (.inr (4, fs37.set 4 (va_rf (some q15)))) → K27 st38 ((cb4 - 1) - mc32) ((sb5 - 6) - ms33)))) (fun (st24 : g_St) (cb25 : Nat) (sb26 : Nat) => Q (some q15) st24)))))))) ∧ (¬ p1 ≤ p2 → Q none st)
set_option maxHeartbeats 4000000 in
theorem wb_J5_buildFromSorted_2 {dep : Nat} {p : Program} {l : Launch} {e : Env} {R : Room} {s : State} {m : MethodId} {args : Array Value} {below : List Frame} {meth : Method} {c : Code} {E : g_E} {st0 : g_St} {Z : State → Prop} (hC : g_Cx p s m args meth c cJ5_buildFromSorted_2 14 "java/util/TreeMap" (some (.object "java/util/TreeMap$Entry")) "buildFromSorted" E st0) (hR1 : g_Rm (5 + (dep + 1)) (123 + 33 * (dep + 1)) R) {a0 : Nat} {p0 : Int32} {p1 : Int32} {p2 : Int32} {p3 : Int32} {p4 : Option Nat} {p5 : Option Nat} {p6 : Option Nat} {st : g_St} {cb sb : Nat} {Q : Option Nat → g_St → Prop} (hret : ∀ (pc : Nat) (lv : List (Nat × Value)) (v : Option Nat) (st1 : g_St) (cb sb : Nat), decode cJ5_buildFromSorted_2 pc = .ok (.areturn, 1) → Q v st1 → g_J p l e R s m args below meth c 14 E st0 Z pc lv [va_rf v] st1 cb sb) (hvc : vc_J5_buildFromSorted_2 l E dep a0 p0 p1 p2 p3 p4 p5 p6 st cb sb Q) : g_J p l e R s m args below meth c 14 E st0 Z 0 [(0, va_rf (some a0)), (1, .int p0), (2, .int p1), (3, .int p2), (4, .int p3), (5, va_rf p4), (6, va_rf p5), (7, va_rf p6)] [] st cb sb := by
  unfold vc_J5_buildFromSorted_2 at hvc
  have hR : g_Rm 5 123 R := ⟨by have := hR1.1; omega, by have := hR1.2; omega⟩
  refine j_iload_n hC dJ5_buildFromSorted_2_0 rfl 3 rfl ?_
  refine j_iload_n hC dJ5_buildFromSorted_2_1 rfl 2 rfl ?_
  refine j_icmp_ge (tgt := 7) hC dJ5_buildFromSorted_2_2 rfl (fun c1 => ?_) (fun c1 => ?_)
  · replace hvc := hvc.1 c1
    refine j_iload_n hC dJ5_buildFromSorted_2_7 rfl 2 rfl ?_
    refine j_iload_n hC dJ5_buildFromSorted_2_8 rfl 3 rfl ?_
    refine j_iadd hC dJ5_buildFromSorted_2_9 ?_
    refine j_iconst hC (nI 1) dJ5_buildFromSorted_2_10 rfl ?_
    refine j_iushr hC dJ5_buildFromSorted_2_11 ?_
    refine j_istore (lv0 := [(7, va_rf p6), (0, va_rf (some a0)), (1, .int p0), (2, .int p1), (3, .int p2), (4, .int p3), (5, va_rf p4), (6, va_rf p5)]) hC dJ5_buildFromSorted_2_12 rfl [7, 0, 1, 2, 3, 4, 5, 6] rfl (g_okS.h rfl g_c1 rfl) ?_
    refine j_null hC dJ5_buildFromSorted_2_14 ?_
    refine j_astore (lv0 := [(8, .int ((((p1 + p2)).toUInt32 >>> (((nI 1)).toUInt32 &&& Int32.toUInt32 31)).toInt32)), (7, va_rf p6), (0, va_rf (some a0)), (1, .int p0), (2, .int p1), (3, .int p2), (4, .int p3), (5, va_rf p4), (6, va_rf p5)]) hC dJ5_buildFromSorted_2_15 rfl [0, 1, 2, 3, 4, 5, 6, 7, 8] rfl (g_okS.h rfl rfl rfl) ?_
    refine j_iload_n hC dJ5_buildFromSorted_2_17 rfl 5 rfl ?_
    refine j_iload hC dJ5_buildFromSorted_2_18 1 rfl ?_
    replace hvc := g_jn4_o hvc
    obtain ⟨K6, hK66, hvc⟩ := hvc
    have kh7 : ∀ (o2 : Option Nat) (st3 : g_St) (cb4 : Nat) (sb5 : Nat), K6 o2 st3 cb4 sb5 → g_J p l e R s m args below meth c 14 E st0 Z 45 [(0, va_rf (some a0)), (1, .int p0), (3, .int p2), (4, .int p3), (5, va_rf p4), (6, va_rf p5), (7, va_rf p6), (8, .int ((((p1 + p2)).toUInt32 >>> (((nI 1)).toUInt32 &&& Int32.toUInt32 31)).toInt32)), (9, va_rf o2)] [] st3 cb4 sb5 := by
      clear hvc
      intro o2 st3 cb4 sb5 hvc
      replace hvc := hK66 _ _ _ _ hvc
      refine j_aload hC dJ5_buildFromSorted_2_45 4 rfl ?_
      refine j_ifnull (tgt := 104) hC dJ5_buildFromSorted_2_47 rfl (fun c8 => ?_) (fun a9 c8 => ?_)
      · subst c8; replace hvc := hvc.1 rfl
        refine j_aload hC dJ5_buildFromSorted_2_104 5 rfl ?_
        exact hvc.elim
      · subst c8; replace hvc := hvc.2 a9 rfl
        refine j_aload hC dJ5_buildFromSorted_2_50 6 rfl ?_
        replace hvc := g_jn3_o hvc
        obtain ⟨K13, hK60, hvc⟩ := hvc
        have kh14 : ∀ (o10 : Option Nat) (o11 : Option Nat) (st12 : g_St), K13 o10 o11 st12 → g_J p l e R s m args below meth c 14 E st0 Z 128 [(0, va_rf (some a0)), (1, .int p0), (3, .int p2), (4, .int p3), (5, va_rf (some a9)), (6, va_rf p5), (7, va_rf p6), (8, .int ((((p1 + p2)).toUInt32 >>> (((nI 1)).toUInt32 &&& Int32.toUInt32 31)).toInt32)), (9, va_rf o2), (10, va_rf o10), (11, va_rf o11)] [] st12 cb4 sb5 := by
          clear hvc
          intro o10 o11 st12 hvc
          replace hvc := hK60 _ _ _ hvc
          obtain ⟨h1, h2, hvc⟩ := hvc
          refine j_new hC nwJ5_59 dJ5_buildFromSorted_2_128 (n := 6) rfl h1 h2 (fun q15 st16 e1 e2 => ?_)
          replace hvc := hvc q15 st16 e1 e2; clear h1 h2 e1 e2
          refine j_dup hC dJ5_buildFromSorted_2_131 g_c1 ?_
          refine j_aload hC dJ5_buildFromSorted_2_132 9 rfl ?_
          refine j_aload hC dJ5_buildFromSorted_2_134 10 rfl ?_
          refine j_null hC dJ5_buildFromSorted_2_136 ?_
          refine j_callI (As := [va_rf o10, va_rf o11, va_rf none]) (rest := [va_rf (some q15)]) (n := 3) hC hvc (lw_meth q1878) q73 q1876 q1877 rfl (by decide +kernel) (g_rm hR rfl rfl) rfl rfl (g_sum rfl) dJ5_buildFromSorted_2_137 (Nat.zero_le _) (Nat.zero_le _) (g_Kv fun st17 hv2 hx => ?_)
          replace hvc := hv2 hx; clear hx hv2
          refine j_astore (lv0 := [(11, va_rf o11), (0, va_rf (some a0)), (1, .int p0), (3, .int p2), (4, .int p3), (5, va_rf (some a9)), (6, va_rf p5), (7, va_rf p6), (8, .int ((((p1 + p2)).toUInt32 >>> (((nI 1)).toUInt32 &&& Int32.toUInt32 31)).toInt32)), (9, va_rf o2), (10, va_rf o10)]) hC dJ5_buildFromSorted_2_140 rfl [10, 0, 1, 2, 3, 4, 5, 6, 7, 8, 9] rfl (g_okS.h rfl g_c1 rfl) ?_
          refine j_iload_n hC dJ5_buildFromSorted_2_142 rfl 3 rfl ?_
          refine j_iload hC dJ5_buildFromSorted_2_143 5 rfl ?_
          replace hvc := g_jn1_o hvc
          obtain ⟨K19, hK50, hvc⟩ := hvc
          have kh20 : ∀ (st18 : g_St), K19 st18 → g_J p l e R s m args below meth c 14 E st0 Z 154 [(0, va_rf (some a0)), (1, .int p0), (3, .int p2), (4, .int p3), (5, va_rf (some a9)), (6, va_rf p5), (7, va_rf p6), (8, .int ((((p1 + p2)).toUInt32 >>> (((nI 1)).toUInt32 &&& Int32.toUInt32 31)).toInt32)), (9, va_rf o2), (12, va_rf (some q15))] [] st18 (cb4 - 1) (sb5 - 6) := by
            clear hvc
            intro st18 hvc
            replace hvc := hK50 _ hvc
            refine j_aload hC dJ5_buildFromSorted_2_154 8 rfl ?_
            replace hvc := g_jn1_o hvc
            obtain ⟨K22, hK46, hvc⟩ := hvc
            have kh23 : ∀ (st21 : g_St), K22 st21 → g_J p l e R s m args below meth c 14 E st0 Z 173 [(0, va_rf (some a0)), (1, .int p0), (3, .int p2), (4, .int p3), (5, va_rf (some a9)), (6, va_rf p5), (7, va_rf p6), (8, .int ((((p1 + p2)).toUInt32 >>> (((nI 1)).toUInt32 &&& Int32.toUInt32 31)).toInt32)), (12, va_rf (some q15))] [] st21 (cb4 - 1) (sb5 - 6) := by
              clear hvc
              intro st21 hvc
              replace hvc := hK46 _ hvc
              refine j_iload hC dJ5_buildFromSorted_2_173 7 rfl ?_
              refine j_iload_n hC dJ5_buildFromSorted_2_175 rfl 2 rfl ?_
              replace hvc := g_jn3_o hvc
              obtain ⟨K27, hK39, hvc⟩ := hvc
              have kh28 : ∀ (st24 : g_St) (cb25 : Nat) (sb26 : Nat), K27 st24 cb25 sb26 → g_J p l e R s m args below meth c 14 E st0 Z 215 [(12, va_rf (some q15))] [] st24 cb25 sb26 := by
                clear hvc
                intro st24 cb25 sb26 hvc
                replace hvc := hK39 _ _ _ hvc
                refine j_aload hC dJ5_buildFromSorted_2_215 0 rfl ?_
                exact hret _ _ _ _ _ _ dJ5_buildFromSorted_2_217 hvc
              refine j_icmp_ge (tgt := 215) hC dJ5_buildFromSorted_2_176 rfl (fun c29 => ?_) (fun c29 => ?_)
              · replace hvc := hvc.1 c29
                exact j_sub [8] rfl (kh28 st21 (cb4 - 1) (sb5 - 6) hvc)
              · replace hvc := hvc.2 c29
                refine j_aload_n hC dJ5_buildFromSorted_2_179 rfl 0 rfl ?_
                refine j_iload_n hC dJ5_buildFromSorted_2_180 rfl 1 rfl ?_
                refine j_iconst hC (nI 1) dJ5_buildFromSorted_2_181 rfl ?_
                refine j_iadd hC dJ5_buildFromSorted_2_182 ?_
                refine j_iload hC dJ5_buildFromSorted_2_183 7 rfl ?_
                refine j_iconst hC (nI 1) dJ5_buildFromSorted_2_185 rfl ?_
                refine j_iadd hC dJ5_buildFromSorted_2_186 ?_
                refine j_iload_n hC dJ5_buildFromSorted_2_187 rfl 2 rfl ?_
                refine j_iload hC dJ5_buildFromSorted_2_188 3 rfl ?_
                refine j_aload hC dJ5_buildFromSorted_2_190 4 rfl ?_
                refine j_aload hC dJ5_buildFromSorted_2_192 5 rfl ?_
                refine j_aload hC dJ5_buildFromSorted_2_194 6 rfl ?_
                obtain ⟨mc32, ms33, h1, h2, hvc⟩ := hvc
                obtain ⟨⟨fs, hr⟩, hvc⟩ := hvc
                refine j_callV (As := [.int (p0 + (nI 1)), .int (((((p1 + p2)).toUInt32 >>> (((nI 1)).toUInt32 &&& Int32.toUInt32 31)).toInt32) + (nI 1)), .int p2, .int p3, va_rf (some a9), va_rf p5, va_rf p6]) (rest := []) (n := 7) (ci := 3) hC hvc (lw_V q2124 q2126 qs19 q47 q2127) (by decide +kernel) ⟨by have := hR1.1; omega, by have := hR1.2; omega⟩ rfl hr rfl rfl (g_sum rfl) dJ5_buildFromSorted_2_196 h1 h2 (g_Ka fun o30 st31 hv2 hx => ?_)
                replace hvc := hv2 hx; clear hx hv2
                clear hr fs
                refine j_astore (lv0 := [(12, va_rf (some q15)), (0, va_rf (some a0)), (1, .int p0), (3, .int p2), (4, .int p3), (5, va_rf (some a9)), (6, va_rf p5), (7, va_rf p6), (8, .int ((((p1 + p2)).toUInt32 >>> (((nI 1)).toUInt32 &&& Int32.toUInt32 31)).toInt32))]) hC dJ5_buildFromSorted_2_199 rfl [8, 0, 1, 2, 3, 4, 5, 6, 7] rfl (g_okS.h rfl g_c1 rfl) ?_
                refine j_aload hC dJ5_buildFromSorted_2_201 1 rfl ?_
                refine j_aload hC dJ5_buildFromSorted_2_203 0 rfl ?_
                obtain ⟨fs34, hm, hvc⟩ := hvc
                refine j_put hC fkJ5_114_J27 dJ5_buildFromSorted_2_205 hm g_no g_fo (fun st35 e1 => ?_)
                replace hvc := hvc st35 e1; clear hm e1
                refine j_aload hC dJ5_buildFromSorted_2_208 0 rfl ?_
                refine j_aload hC dJ5_buildFromSorted_2_210 1 rfl ?_
                obtain ⟨a36, rfl, hvc⟩ := hvc
                obtain ⟨fs37, hm, hvc⟩ := hvc
                refine j_put hC fkJ5_124_J27 dJ5_buildFromSorted_2_212 hm g_no g_fo (fun st38 e1 => ?_)
                replace hvc := hvc st38 e1; clear hm e1
                exact j_sub [1] rfl (kh28 st38 ((cb4 - 1) - mc32) ((sb5 - 6) - ms33) hvc)
            refine j_ifnull (tgt := 173) hC dJ5_buildFromSorted_2_156 rfl (fun c40 => ?_) (fun a41 c40 => ?_)
            · subst c40; replace hvc := hvc.1 rfl
              exact j_sub [0, 1, 2, 3, 4, 5, 6, 7, 9] rfl (kh23 st18 hvc)
            · subst c40; replace hvc := hvc.2 a41 rfl
              refine j_aload hC dJ5_buildFromSorted_2_159 9 rfl ?_
              refine j_aload hC dJ5_buildFromSorted_2_161 8 rfl ?_
              obtain ⟨fs42, hm, hvc⟩ := hvc
              refine j_put hC fkJ5_111_J27 dJ5_buildFromSorted_2_163 hm g_no g_fo (fun st43 e1 => ?_)
              replace hvc := hvc st43 e1; clear hm e1
              refine j_aload hC dJ5_buildFromSorted_2_166 8 rfl ?_
              refine j_aload hC dJ5_buildFromSorted_2_168 9 rfl ?_
              obtain ⟨fs44, hm, hvc⟩ := hvc
              refine j_put hC fkJ5_124_J27 dJ5_buildFromSorted_2_170 hm g_no g_fo (fun st45 e1 => ?_)
              replace hvc := hvc st45 e1; clear hm e1
              exact j_sub [0, 1, 2, 3, 4, 5, 6, 7, 9] rfl (kh23 st45 hvc)
          refine j_icmp_ne (tgt := 154) hC dJ5_buildFromSorted_2_145 rfl (fun c47 => ?_) (fun c47 => ?_)
          · replace hvc := hvc.1 c47
            exact j_sub [2, 3, 4, 5, 6, 7, 8, 9, 10, 0] rfl (kh20 st17 hvc)
          · replace hvc := hvc.2 c47
            refine j_aload hC dJ5_buildFromSorted_2_148 0 rfl ?_
            refine j_iconst hC (nI 0) dJ5_buildFromSorted_2_150 rfl ?_
            obtain ⟨fs48, hm, hvc⟩ := hvc
            refine j_put hC fkJ5_290_J27 dJ5_buildFromSorted_2_151 hm rfl rfl (fun st49 e1 => ?_)
            replace hvc := hvc st49 e1; clear hm e1
            exact j_sub [2, 3, 4, 5, 6, 7, 8, 9, 10, 0] rfl (kh20 st49 hvc)
        refine j_ifnonnull (tgt := 88) hC dJ5_buildFromSorted_2_52 rfl (fun a52 c51 => ?_) (fun c51 => ?_)
        · subst c51; replace hvc := hvc.2 a52 rfl
          refine j_aload hC dJ5_buildFromSorted_2_88 4 rfl ?_
          obtain ⟨⟨fs, hr⟩, hvc⟩ := hvc
          refine j_callF (As := []) (rest := []) (n := 0) (x := ⟨"java/util/Iterator", "next", "()Ljava/lang/Object;"⟩) (C := "java/util/TreeMap$EntryIterator") (ci := 9) hC hvc (lw_F q2129 q1045 q1047 q84 q1049) gf_21 (by decide +kernel) (g_rm hR rfl rfl) rfl hr rfl rfl (g_sum rfl) dJ5_buildFromSorted_2_90 (Nat.zero_le _) (Nat.zero_le _) (g_Ka fun o58 st59 hv2 hx => ?_)
          replace hvc := hv2 hx; clear hx hv2
          clear hr fs
          refine j_astore (lv0 := [(9, va_rf o2), (0, va_rf (some a0)), (1, .int p0), (3, .int p2), (4, .int p3), (5, va_rf (some a9)), (6, va_rf p5), (7, va_rf (some a52)), (8, .int ((((p1 + p2)).toUInt32 >>> (((nI 1)).toUInt32 &&& Int32.toUInt32 31)).toInt32))]) hC dJ5_buildFromSorted_2_95 rfl [8, 0, 1, 2, 3, 4, 5, 6, 7] rfl (g_okS.h rfl g_c1 rfl) ?_
          refine j_aload hC dJ5_buildFromSorted_2_97 8 rfl ?_
          refine j_astore (lv0 := [(10, va_rf o58), (9, va_rf o2), (0, va_rf (some a0)), (1, .int p0), (3, .int p2), (4, .int p3), (5, va_rf (some a9)), (6, va_rf p5), (7, va_rf (some a52)), (8, .int ((((p1 + p2)).toUInt32 >>> (((nI 1)).toUInt32 &&& Int32.toUInt32 31)).toInt32))]) hC dJ5_buildFromSorted_2_99 rfl [0, 1, 2, 3, 4, 5, 6, 7, 8, 9] rfl (g_okS.h rfl g_c1 rfl) ?_
          refine j_goto (tgt := 128) hC dJ5_buildFromSorted_2_101 rfl ?_
          exact j_sub [3, 4, 5, 6, 7, 8, 9, 10, 2, 1, 0] rfl (kh14 o58 (some a52) st59 hvc)
        · subst c51; replace hvc := hvc.1 rfl
          refine j_aload hC dJ5_buildFromSorted_2_55 4 rfl ?_
          obtain ⟨⟨fs, hr⟩, hvc⟩ := hvc
          refine j_callF (As := []) (rest := []) (n := 0) (x := ⟨"java/util/Iterator", "next", "()Ljava/lang/Object;"⟩) (C := "java/util/TreeMap$EntryIterator") (ci := 9) hC hvc (lw_F q2129 q1045 q1047 q84 q1049) gf_21 (by decide +kernel) (g_rm hR rfl rfl) rfl hr rfl rfl (g_sum rfl) dJ5_buildFromSorted_2_57 (Nat.zero_le _) (Nat.zero_le _) (g_Ka fun o53 st54 hv2 hx => ?_)
          replace hvc := hv2 hx; clear hx hv2
          clear hr fs
          obtain ⟨hv, hvc⟩ := hvc
          refine j_cast hC (C := "java/util/TreeMap$Entry") (ci := 4) q2130 rfl (Or.inr ge_11) hv dJ5_buildFromSorted_2_62 ?_
          clear hv
          refine j_astore (lv0 := [(0, va_rf (some a0)), (1, .int p0), (3, .int p2), (4, .int p3), (5, va_rf (some a9)), (6, va_rf p5), (7, va_rf none), (8, .int ((((p1 + p2)).toUInt32 >>> (((nI 1)).toUInt32 &&& Int32.toUInt32 31)).toInt32)), (9, va_rf o2)]) hC dJ5_buildFromSorted_2_65 rfl [0, 1, 2, 3, 4, 5, 6, 7, 8] rfl (g_okS.n rfl) ?_
          refine j_aload hC dJ5_buildFromSorted_2_67 0 rfl ?_
          obtain ⟨a55, rfl, hvc⟩ := hvc
          obtain ⟨⟨fs, hr⟩, hvc⟩ := hvc
          refine j_callF (As := []) (rest := []) (n := 0) (x := ⟨"java/util/Map$Entry", "getKey", "()Ljava/lang/Object;"⟩) (C := "java/util/TreeMap$Entry") (ci := 4) hC hvc (lw_F q2132 q1712 q1714 q73 q1716) gf_4 (by decide +kernel) (g_rm hR rfl rfl) rfl hr rfl rfl (g_sum rfl) dJ5_buildFromSorted_2_69 (Nat.zero_le _) (Nat.zero_le _) (g_Kap fun o56 hv2 => ?_)
          replace hvc := hv2; clear hv2
          clear hr fs
          refine j_astore (lv0 := [(9, va_rf o2), (12, va_rf (some a55)), (0, va_rf (some a0)), (1, .int p0), (3, .int p2), (4, .int p3), (5, va_rf (some a9)), (6, va_rf p5), (7, va_rf none), (8, .int ((((p1 + p2)).toUInt32 >>> (((nI 1)).toUInt32 &&& Int32.toUInt32 31)).toInt32))]) hC dJ5_buildFromSorted_2_74 rfl [9, 0, 1, 2, 3, 4, 5, 6, 7, 8] rfl (g_okS.h rfl g_c1 rfl) ?_
          refine j_aload hC dJ5_buildFromSorted_2_76 2 rfl ?_
          obtain ⟨⟨fs, hr⟩, hvc⟩ := hvc
          refine j_callF (As := []) (rest := []) (n := 0) (x := ⟨"java/util/Map$Entry", "getValue", "()Ljava/lang/Object;"⟩) (C := "java/util/TreeMap$Entry") (ci := 4) hC hvc (lw_F q2134 q1138 q1140 q73 q1142) gf_3 (by decide +kernel) (g_rm hR rfl rfl) rfl hr rfl rfl (g_sum rfl) dJ5_buildFromSorted_2_78 (Nat.zero_le _) (Nat.zero_le _) (g_Kap fun o57 hv2 => ?_)
          replace hvc := hv2; clear hv2
          clear hr fs
          refine j_astore (lv0 := [(10, va_rf o56), (9, va_rf o2), (12, va_rf (some a55)), (0, va_rf (some a0)), (1, .int p0), (3, .int p2), (4, .int p3), (5, va_rf (some a9)), (6, va_rf p5), (7, va_rf none), (8, .int ((((p1 + p2)).toUInt32 >>> (((nI 1)).toUInt32 &&& Int32.toUInt32 31)).toInt32))]) hC dJ5_buildFromSorted_2_83 rfl [0, 1, 2, 3, 4, 5, 6, 7, 8, 9, 10] rfl (g_okS.h rfl g_c1 rfl) ?_
          refine j_goto (tgt := 128) hC dJ5_buildFromSorted_2_85 rfl ?_
          exact j_sub [4, 5, 6, 7, 8, 9, 10, 11, 2, 1, 0] rfl (kh14 o56 o57 st54 hvc)
    refine j_icmp_ge (tgt := 45) hC dJ5_buildFromSorted_2_20 rfl (fun c61 => ?_) (fun c61 => ?_)
    · replace hvc := hvc.1 c61
      exact j_sub [3, 4, 6, 7, 8, 9, 2, 1, 0] rfl (kh7 none st cb sb hvc)
    · replace hvc := hvc.2 c61
      refine j_aload_n hC dJ5_buildFromSorted_2_23 rfl 3 rfl ?_
      refine j_iload_n hC dJ5_buildFromSorted_2_24 rfl 4 rfl ?_
      refine j_iconst hC (nI 1) dJ5_buildFromSorted_2_25 rfl ?_
      refine j_iadd hC dJ5_buildFromSorted_2_26 ?_
      refine j_iload_n hC dJ5_buildFromSorted_2_27 rfl 5 rfl ?_
      refine j_iload hC dJ5_buildFromSorted_2_28 1 rfl ?_
      refine j_iconst hC (nI 1) dJ5_buildFromSorted_2_30 rfl ?_
      refine j_isub hC dJ5_buildFromSorted_2_31 ?_
      refine j_iload hC dJ5_buildFromSorted_2_32 7 rfl ?_
      refine j_aload hC dJ5_buildFromSorted_2_34 8 rfl ?_
      refine j_aload hC dJ5_buildFromSorted_2_36 9 rfl ?_
      refine j_aload hC dJ5_buildFromSorted_2_38 2 rfl ?_
      obtain ⟨mc64, ms65, h1, h2, hvc⟩ := hvc
      obtain ⟨⟨fs, hr⟩, hvc⟩ := hvc
      refine j_callV (As := [.int (p0 + (nI 1)), .int p1, .int (((((p1 + p2)).toUInt32 >>> (((nI 1)).toUInt32 &&& Int32.toUInt32 31)).toInt32) - (nI 1)), .int p3, va_rf p4, va_rf p5, va_rf p6]) (rest := []) (n := 7) (ci := 3) hC hvc (lw_V q2124 q2126 qs19 q47 q2127) (by decide +kernel) ⟨by have := hR1.1; omega, by have := hR1.2; omega⟩ rfl hr rfl rfl (g_sum rfl) dJ5_buildFromSorted_2_40 h1 h2 (g_Ka fun o62 st63 hv2 hx => ?_)
      replace hvc := hv2 hx; clear hx hv2
      clear hr fs
      refine j_astore (lv0 := [(8, .int ((((p1 + p2)).toUInt32 >>> (((nI 1)).toUInt32 &&& Int32.toUInt32 31)).toInt32)), (7, va_rf p6), (0, va_rf (some a0)), (1, .int p0), (2, .int p1), (3, .int p2), (4, .int p3), (5, va_rf p4), (6, va_rf p5)]) hC dJ5_buildFromSorted_2_43 rfl [1, 2, 3, 4, 5, 6, 7, 8, 9] rfl (g_okS.h rfl rfl rfl) ?_
      exact j_sub [3, 4, 6, 7, 8, 9, 2, 1, 0] rfl (kh7 o62 st63 (cb - mc64) (sb - ms65) hvc)
  · replace hvc := hvc.2 c1
    refine j_null hC dJ5_buildFromSorted_2_5 ?_
    exact hret _ _ _ _ _ _ dJ5_buildFromSorted_2_6 hvc
theorem wk_J5_buildFromSorted_2 {l : Launch} {E : g_E} {dep : Nat} {a0 : Nat} {p0 : Int32} {p1 : Int32} {p2 : Int32} {p3 : Int32} {p4 : Option Nat} {p5 : Option Nat} {p6 : Option Nat} {st : g_St} {mc ms : Nat} {Q : Option Nat → g_St → Prop} (hvc : vc_J5_buildFromSorted_2 l E dep a0 p0 p1 p2 p3 p4 p5 p6 st mc ms Q) : wp_J5_buildFromSorted_2 l E (dep + 1) mc ms [va_rf (some a0), .int p0, .int p1, .int p2, .int p3, va_rf p4, va_rf p5, va_rf p6] st Q :=
  g_enter (lv0 := [(0, va_rf (some a0)), (1, .int p0), (2, .int p1), (3, .int p2), (4, .int p3), (5, va_rf p4), (6, va_rf p5), (7, va_rf p6)]) (plainFor_of_name (by decide +kernel)) (by simp [lv_args, g_c1, g_ci, g_cL]) (by simp [lg_sl, g_c1, g_ci, g_cL]) (fun p e s m args below meth c hC => wb_J5_buildFromSorted_2 hC ⟨Nat.le_refl _, Nat.le_refl _⟩ (fun pc lv v st1 cb sb hd hq => j_areturn hC rfl (by first | exact Or.inl ⟨_, rfl⟩ | exact Or.inr ⟨_, rfl⟩) hd (g_av hq)) hvc)
abbrev wp_J5_buildFromSorted (l : Launch) (E : g_E) (mc ms : Nat) (av : List Value) (st : g_St) (Q : g_St → Prop) : Prop := g_WPv l E yJ5_buildFromSorted cJ5_buildFromSorted 5 none 13 387 mc ms av st Q
def vc_J5_buildFromSorted (l : Launch) (E : g_E) (a0 : Nat) (p0 : Int32) (p1 : Option Nat) (p2 : Option Nat) (p3 : Option Nat) (st : g_St) (cb sb : Nat) (Q : g_St → Prop) : Prop :=
  ∃ fs1 : List Value, st.2.1 a0 = some (.inr (3, fs1)) ∧ ∀ st2 : g_St, st2 = g_put st a0 (.inr (3, fs1.set 4 (.int p0))) → wp_J5_computeRedLevel l E 0 0 [.int p0] st2 (fun x3 stx => stx = st2 ∧ ∃ mc6 ms7 : Nat, mc6 ≤ cb ∧ ms7 ≤ sb ∧ g_is st2 a0 3 ∧ wp_J5_buildFromSorted_2 l E 7 mc6 ms7 [va_rf (some a0), .int (nI 0), .int (nI 0), .int (p0 - (nI 1)), .int x3, va_rf p1, va_rf p2, va_rf p3] st2 (fun o4 st5 => g_Ext st2 st5 → ∃ fs8 : List Value, st5.2.1 a0 = some (.inr (3, fs8)) ∧ ∀ st9 : g_St, st9 = g_put st5 a0 (.inr (3, fs8.set 3 (va_rf o4))) → Q st9))
set_option maxHeartbeats 4000000 in
theorem wb_J5_buildFromSorted {p : Program} {l : Launch} {e : Env} {R : Room} {s : State} {m : MethodId} {args : Array Value} {below : List Frame} {meth : Method} {c : Code} {E : g_E} {st0 : g_St} {Z : State → Prop} (hC : g_Cx p s m args meth c cJ5_buildFromSorted 5 "java/util/TreeMap" none "buildFromSorted" E st0) (hR : g_Rm 13 387 R) {a0 : Nat} {p0 : Int32} {p1 : Option Nat} {p2 : Option Nat} {p3 : Option Nat} {st : g_St} {cb sb : Nat} {Q : g_St → Prop} (hret : ∀ (pc : Nat) (lv : List (Nat × Value)) (st1 : g_St) (cb sb : Nat), decode cJ5_buildFromSorted pc = .ok (.return_, 1) → Q st1 → g_J p l e R s m args below meth c 5 E st0 Z pc lv [] st1 cb sb) (hvc : vc_J5_buildFromSorted l E a0 p0 p1 p2 p3 st cb sb Q) : g_J p l e R s m args below meth c 5 E st0 Z 0 [(0, va_rf (some a0)), (1, .int p0), (2, va_rf p1), (3, va_rf p2), (4, va_rf p3)] [] st cb sb := by
  unfold vc_J5_buildFromSorted at hvc
  refine j_aload_n hC dJ5_buildFromSorted_0 rfl 0 rfl ?_
  refine j_iload_n hC dJ5_buildFromSorted_1 rfl 1 rfl ?_
  obtain ⟨fs1, hm, hvc⟩ := hvc
  refine j_put hC fkJ5_7_J5 dJ5_buildFromSorted_2 hm rfl rfl (fun st2 e1 => ?_)
  replace hvc := hvc st2 e1; clear hm e1
  refine j_aload_n hC dJ5_buildFromSorted_5 rfl 0 rfl ?_
  refine j_aload_n hC dJ5_buildFromSorted_6 rfl 0 rfl ?_
  refine j_iconst hC (nI 0) dJ5_buildFromSorted_7 rfl ?_
  refine j_iconst hC (nI 0) dJ5_buildFromSorted_8 rfl ?_
  refine j_iload_n hC dJ5_buildFromSorted_9 rfl 1 rfl ?_
  refine j_iconst hC (nI 1) dJ5_buildFromSorted_10 rfl ?_
  refine j_isub hC dJ5_buildFromSorted_11 ?_
  refine j_iload_n hC dJ5_buildFromSorted_12 rfl 1 rfl ?_
  refine j_callS (As := [.int p0]) (rest := [.int (p0 - (nI 1)), .int (nI 0), .int (nI 0), va_rf (some a0), va_rf (some a0)]) (n := 1) hC hvc (lw_S q2120 q2121 q47 q2122) (by decide +kernel) (g_rm hR rfl rfl) rfl rfl (Nat.le_of_ble_eq_true rfl) dJ5_buildFromSorted_13 (Nat.zero_le _) (Nat.zero_le _) (g_Kip fun x3 hv2 => ?_)
  replace hvc := hv2; clear hv2
  refine j_aload_n hC dJ5_buildFromSorted_16 rfl 2 rfl ?_
  refine j_aload_n hC dJ5_buildFromSorted_17 rfl 3 rfl ?_
  refine j_aload hC dJ5_buildFromSorted_18 4 rfl ?_
  obtain ⟨mc6, ms7, h1, h2, hvc⟩ := hvc
  obtain ⟨⟨fs, hr⟩, hvc⟩ := hvc
  refine j_callV (As := [.int (nI 0), .int (nI 0), .int (p0 - (nI 1)), .int x3, va_rf p1, va_rf p2, va_rf p3]) (rest := [va_rf (some a0)]) (n := 7) (ci := 3) hC hvc (lw_V q2124 q2126 qs19 q47 q2127) (by decide +kernel) (g_rm hR rfl rfl) rfl hr rfl rfl (g_sum rfl) dJ5_buildFromSorted_20 h1 h2 (g_Ka fun o4 st5 hv2 hx => ?_)
  replace hvc := hv2 hx; clear hx hv2
  clear hr fs
  obtain ⟨fs8, hm, hvc⟩ := hvc
  refine j_put hC fkJ5_101_J5 dJ5_buildFromSorted_23 hm g_no g_fo (fun st9 e1 => ?_)
  replace hvc := hvc st9 e1; clear hm e1
  exact hret _ _ _ _ _ dJ5_buildFromSorted_26 hvc
theorem wk_J5_buildFromSorted {l : Launch} {E : g_E} {a0 : Nat} {p0 : Int32} {p1 : Option Nat} {p2 : Option Nat} {p3 : Option Nat} {st : g_St} {mc ms : Nat} {Q : g_St → Prop} (hvc : vc_J5_buildFromSorted l E a0 p0 p1 p2 p3 st mc ms Q) : wp_J5_buildFromSorted l E mc ms [va_rf (some a0), .int p0, va_rf p1, va_rf p2, va_rf p3] st Q :=
  g_enter (lv0 := [(0, va_rf (some a0)), (1, .int p0), (2, va_rf p1), (3, va_rf p2), (4, va_rf p3)]) (plainFor_of_name (by decide +kernel)) (by simp [lv_args, g_c1, g_ci, g_cL]) (by simp [lg_sl, g_c1, g_ci, g_cL]) (fun p e s m args below meth c hC => wb_J5_buildFromSorted hC ⟨Nat.le_refl _, Nat.le_refl _⟩ (fun pc lv st1 cb sb hd hq => j_return hC rfl hd ⟨rfl, hq⟩) hvc)
abbrev wp_J5_putAll (l : Launch) (E : g_E) (mc ms : Nat) (av : List Value) (st : g_St) (Q : g_St → Prop) : Prop := g_WPWv l E yJ5_putAll cJ5_putAll 4 none [((54 : Nat), (72 : Nat), (75 : Nat), (46 : Nat)), ((54 : Nat), (72 : Nat), (75 : Nat), (48 : Nat))] 14 411 mc ms av st Q
def vc_J5_putAll (l : Launch) (E : g_E) (a0 : Nat) (p0 : Option Nat) (st : g_St) (cb sb : Nat) (Q : g_St → Prop) : Prop :=
  ∃ a1 : Nat, p0 = some a1 ∧ g_is st a1 3 ∧ wp_J5_size l E 0 0 [va_rf (some a1)] st (fun x2 stx => stx = st ∧ ∃ x3 : Int32, g_gi st a0 3 4 x3 ∧ g_jn0 (fun (K4 : Prop) => (¬ x3 = 0 → K4) ∧ (x3 = 0 → (x2 = 0 → K4) ∧ (¬ x2 = 0 → g_is st a1 3 ∧ ∃ o11 : Option Nat, g_gr st a0 3 2 o11 ∧ g_isN st (some a1) 3 ∧ g_is st a1 3 ∧ wp_J5_comparator l E 0 0 [va_rf (some a1)] st (fun o12 stx => stx = st ∧ wp_J24_equals l E 0 0 [va_rf o11, va_rf o12] st (fun x13 stx => stx = st ∧ (x13 = 0 → K4) ∧ (¬ x13 = 0 → ∃ x15 : Int32, g_gi st a0 3 5 x15 ∧ ∃ fs16 : List Value, st.2.1 a0 = some (.inr (3, fs16)) ∧ ∀ st17 : g_St, st17 = g_put st a0 (.inr (3, fs16.set 5 (.int (x15 + (nI 1))))) → ∃ mc20 ms21 : Nat, mc20 ≤ cb ∧ ms21 ≤ sb ∧ g_is st17 a1 3 ∧ wp_J5_entrySet l E mc20 ms21 [va_rf (some a1)] st17 (fun o18 st19 => g_Ext st17 st19 → ∃ a22 : Nat, o18 = some a22 ∧ ∃ mc25 ms26 : Nat, mc25 ≤ (cb - mc20) ∧ ms26 ≤ (sb - ms21) ∧ g_is st19 a22 14 ∧ wp_J45_iterator l E mc25 ms26 [va_rf (some a22)] st19 (fun o23 st24 => g_Ext st19 st24 → ∃ mc28 ms29 : Nat, mc28 ≤ ((cb - mc20) - mc25) ∧ ms29 ≤ ((sb - ms21) - ms26) ∧ g_is st24 a0 3 ∧ wp_J5_buildFromSorted l E mc28 ms29 [va_rf (some a0), .int x2, va_rf o23, va_rf none, va_rf none] st24 (fun st27 => g_Ext st24 st27 → Q st27))))))))) (∃ mc7 ms8 : Nat, mc7 ≤ cb ∧ ms8 ≤ sb ∧ g_is st a0 3 ∧ wp_J4_putAll l E mc7 ms8 [va_rf (some a0), va_rf (some a1)] st (fun st6 => g_Ext st st6 → Q st6)))
set_option maxHeartbeats 4000000 in
theorem wb_J5_putAll {p : Program} {l : Launch} {e : Env} {R : Room} {s : State} {m : MethodId} {args : Array Value} {below : List Frame} {meth : Method} {c : Code} {E : g_E} {st0 : g_St} {Z : State → Prop} (hC : g_Cx p s m args meth c cJ5_putAll 4 "java/util/TreeMap" none "putAll" E st0) (hR : g_Rm 14 411 R) (ht : c.exceptionTable.toList = tableOf [((54 : Nat), (72 : Nat), (75 : Nat), (46 : Nat)), ((54 : Nat), (72 : Nat), (75 : Nat), (48 : Nat))]) {a0 : Nat} {p0 : Option Nat} {st : g_St} {cb sb : Nat} {Q : g_St → Prop} (hret : ∀ (pc : Nat) (lv : List (Nat × Value)) (st1 : g_St) (cb sb : Nat), decode cJ5_putAll pc = .ok (.return_, 1) → Q st1 → g_J p l e R s m args below meth c 4 E st0 Z pc lv [] st1 cb sb) (hvc : vc_J5_putAll l E a0 p0 st cb sb Q) : g_J p l e R s m args below meth c 4 E st0 Z 0 [(0, va_rf (some a0)), (1, va_rf p0)] [] st cb sb := by
  unfold vc_J5_putAll at hvc
  refine j_aload_n hC dJ5_putAll_0 rfl 1 rfl ?_
  obtain ⟨a1, rfl, hvc⟩ := hvc
  obtain ⟨⟨fs, hr⟩, hvc⟩ := hvc
  refine j_callF (As := []) (rest := []) (n := 0) (x := ⟨"java/util/Map", "size", "()I"⟩) (C := "java/util/TreeMap") (ci := 3) hC hvc (lw_F q2061 q883 q615 q47 q617) gf_36 (by decide +kernel) (g_rm hR rfl rfl) rfl hr rfl rfl (g_sum rfl) dJ5_putAll_1 (Nat.zero_le _) (Nat.zero_le _) (g_Kip fun x2 hv2 => ?_)
  replace hvc := hv2; clear hv2
  clear hr fs
  refine j_istore_n (lv0 := [(1, va_rf (some a1)), (0, va_rf (some a0))]) hC dJ5_putAll_6 rfl rfl [1, 0] rfl (g_okS.h rfl g_c1 rfl) ?_
  refine j_aload_n hC dJ5_putAll_7 rfl 2 rfl ?_
  obtain ⟨x3, ⟨fs, hr, hv⟩, hvc⟩ := hvc
  refine j_get hC fkJ5_7_J5 dJ5_putAll_8 hr hv ?_
  clear hv hr fs
  replace hvc := g_jn0_o hvc
  obtain ⟨K4, hK31, hvc⟩ := hvc
  have kh5 : K4 → g_J p l e R s m args below meth c 4 E st0 Z 77 [(0, va_rf (some a0)), (1, va_rf (some a1))] [] st cb sb := by
    clear hvc
    intro hvc
    replace hvc := hK31 hvc
    refine j_aload_n hC dJ5_putAll_77 rfl 0 rfl ?_
    refine j_aload_n hC dJ5_putAll_78 rfl 1 rfl ?_
    obtain ⟨mc7, ms8, h1, h2, hvc⟩ := hvc
    obtain ⟨⟨fs, hr⟩, hvc⟩ := hvc
    refine j_callSU (As := [va_rf (some a1)]) (rest := []) (n := 1) (ci := 3) hC hvc (lw_SU q2135 q2475 q173 q2136 q46 q2137) (by decide +kernel) (g_rm hR rfl rfl) rfl hr rfl rfl (g_sum rfl) dJ5_putAll_79 h1 h2 (g_Kv fun st6 hv2 hx => ?_)
    replace hvc := hv2 hx; clear hx hv2
    clear hr fs
    exact hret _ _ _ _ _ dJ5_putAll_82 hvc
  refine j_if_ne (tgt := 77) hC dJ5_putAll_11 rfl (fun c9 => ?_) (fun c9 => ?_)
  · replace hvc := hvc.1 c9
    exact j_sub [2, 1] rfl (kh5 hvc)
  · replace hvc := hvc.2 c9
    refine j_iload_n hC dJ5_putAll_14 rfl 0 rfl ?_
    refine j_if_eq (tgt := 77) hC dJ5_putAll_15 rfl (fun c10 => ?_) (fun c10 => ?_)
    · replace hvc := hvc.1 c10
      exact j_sub [2, 1] rfl (kh5 hvc)
    · replace hvc := hvc.2 c10
      refine j_aload_n hC dJ5_putAll_18 rfl 1 rfl ?_
      obtain ⟨⟨fs, hv⟩, hvc⟩ := hvc
      refine j_inst hC (C := "java/util/TreeMap") (ci := 3) q2065 rfl (Or.inr ge_39) hv dJ5_putAll_19 ?_
      change g_J p l e R s m args below meth c 4 E st0 Z 22 _ (.int (nI 1) :: _) _ _ _
      clear hv fs
      refine j_if_eq (tgt := 77) hC dJ5_putAll_22 rfl (fun c30 => absurd c30 (by decide)) (fun _ => ?_)
      refine j_aload_n hC dJ5_putAll_25 rfl 2 rfl ?_
      obtain ⟨o11, ⟨fs, hr, hv⟩, hvc⟩ := hvc
      refine j_get hC fkJ5_16_J5 dJ5_putAll_26 hr hv ?_
      clear hv hr fs
      refine j_aload_n hC dJ5_putAll_29 rfl 1 rfl ?_
      obtain ⟨hv, hvc⟩ := hvc
      refine j_cast hC (C := "java/util/TreeMap") (ci := 3) q2065 rfl (Or.inr ge_39) hv dJ5_putAll_30 ?_
      clear hv
      obtain ⟨⟨fs, hr⟩, hvc⟩ := hvc
      refine j_callF (As := []) (rest := [va_rf o11]) (n := 0) (x := ⟨"java/util/SortedMap", "comparator", "()Ljava/util/Comparator;"⟩) (C := "java/util/TreeMap") (ci := 3) hC hvc (lw_F q2067 q2070 q2072 q47 q2074) gf_38 (by decide +kernel) (g_rm hR rfl rfl) rfl hr rfl rfl (g_sum rfl) dJ5_putAll_33 (Nat.zero_le _) (Nat.zero_le _) (g_Kap fun o12 hv2 => ?_)
      replace hvc := hv2; clear hv2
      clear hr fs
      refine j_callS (As := [va_rf o11, va_rf o12]) (rest := []) (n := 2) hC hvc (lw_S q2081 q2082 q68 q2083) (by decide +kernel) (g_rm hR rfl rfl) rfl rfl (g_sum rfl) dJ5_putAll_38 (Nat.zero_le _) (Nat.zero_le _) (g_Kip fun x13 hv2 => ?_)
      replace hvc := hv2; clear hv2
      refine j_if_eq (tgt := 77) hC dJ5_putAll_41 rfl (fun c14 => ?_) (fun c14 => ?_)
      · replace hvc := hvc.1 c14
        exact j_sub [2, 1] rfl (kh5 hvc)
      · replace hvc := hvc.2 c14
        refine j_aload_n hC dJ5_putAll_44 rfl 2 rfl ?_
        refine j_dup hC dJ5_putAll_45 g_c1 ?_
        obtain ⟨x15, ⟨fs, hr, hv⟩, hvc⟩ := hvc
        refine j_get hC fkJ5_13_J5 dJ5_putAll_46 hr hv ?_
        clear hv hr fs
        refine j_iconst hC (nI 1) dJ5_putAll_49 rfl ?_
        refine j_iadd hC dJ5_putAll_50 ?_
        obtain ⟨fs16, hm, hvc⟩ := hvc
        refine j_put hC fkJ5_13_J5 dJ5_putAll_51 hm rfl rfl (fun st17 e1 => ?_)
        replace hvc := hvc st17 e1; clear hm e1
        refine j_aload_n hC dJ5_putAll_54 rfl 2 rfl ?_
        refine j_iload_n hC dJ5_putAll_55 rfl 0 rfl ?_
        refine j_aload_n hC dJ5_putAll_56 rfl 1 rfl ?_
        obtain ⟨mc20, ms21, h1, h2, hvc⟩ := hvc
        obtain ⟨⟨fs, hr⟩, hvc⟩ := hvc
        refine j_callF (As := []) (rest := [.int x2, va_rf (some a0)]) (n := 0) (x := ⟨"java/util/Map", "entrySet", "()Ljava/util/Set;"⟩) (C := "java/util/TreeMap") (ci := 3) hC hvc (lw_F q2105 q2108 q1257 q47 q1258) gf_39 (by decide +kernel) (g_rm hR rfl rfl) rfl hr rfl rfl (g_sum rfl) dJ5_putAll_57 h1 h2 (g_Ka fun o18 st19 hv2 hx => ?_)
        replace hvc := hv2 hx; clear hx hv2
        clear hr fs
        obtain ⟨a22, rfl, hvc⟩ := hvc
        obtain ⟨mc25, ms26, h1, h2, hvc⟩ := hvc
        obtain ⟨⟨fs, hr⟩, hvc⟩ := hvc
        refine j_callF (As := []) (rest := [.int x2, va_rf (some a0)]) (n := 0) (x := ⟨"java/util/Set", "iterator", "()Ljava/util/Iterator;"⟩) (C := "java/util/TreeMap$EntrySet") (ci := 14) hC hvc (lw_F q2115 q1276 q1278 q91 q1280) gf_33 (by decide +kernel) (g_rm hR rfl rfl) rfl hr rfl rfl (g_sum rfl) dJ5_putAll_62 h1 h2 (g_Ka fun o23 st24 hv2 hx => ?_)
        replace hvc := hv2 hx; clear hx hv2
        clear hr fs
        refine j_null hC dJ5_putAll_67 ?_
        refine j_null hC dJ5_putAll_68 ?_
        obtain ⟨mc28, ms29, h1, h2, hvc⟩ := hvc
        obtain ⟨⟨fs, hr⟩, hvc⟩ := hvc
        refine j_callV (As := [.int x2, va_rf o23, va_rf none, va_rf none]) (rest := []) (n := 4) (ci := 3) hC hvc (lw_V q2116 q2118 qs18 q47 q2119) (by decide +kernel) (g_rm hR rfl rfl) rfl hr rfl rfl (g_sum rfl) dJ5_putAll_69 h1 h2 (g_Kv fun st27 hv2 hx => ?_)
        replace hvc := hv2 hx; clear hx hv2
        clear hr fs
        refine j_goto (tgt := 76) hC dJ5_putAll_72 rfl ?_
        exact hret _ _ _ _ _ dJ5_putAll_76 hvc
theorem wk_J5_putAll {l : Launch} {E : g_E} {a0 : Nat} {p0 : Option Nat} {st : g_St} {mc ms : Nat} {Q : g_St → Prop} (hvc : vc_J5_putAll l E a0 p0 st mc ms Q) : wp_J5_putAll l E mc ms [va_rf (some a0), va_rf p0] st Q :=
  g_enterW (lv0 := [(0, va_rf (some a0)), (1, va_rf p0)]) (by decide +kernel) (by simp [lv_args, g_c1, g_ci, g_cL]) (by simp [lg_sl, g_c1, g_ci, g_cL]) (fun p e s m args below meth c hC ht => wb_J5_putAll hC ⟨Nat.le_refl _, Nat.le_refl _⟩ ht (fun pc lv st1 cb sb hd hq => j_return hC rfl hd ⟨rfl, hq⟩) hvc)
