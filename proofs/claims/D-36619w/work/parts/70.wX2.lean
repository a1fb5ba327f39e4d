set_option maxRecDepth 100000
theorem fkX2_1_X2 : g_Fd "StemspanModel" 1 16 0 .int false := ⟨RX2, TX2, 14, tyX2, "StemspanModel", rfl, in_X2, by decide, q2181, Or.inl rfl, tyX2_ok, (g_nmL nmX2), rfl, rfl, fun h => by cases h⟩
theorem fkX2_13_X2 : g_Fd "StemspanModel" 13 16 1 (.array .char) true := ⟨RX2, TX2, 14, tyX2, "StemspanModel", rfl, in_X2, by decide, q2182, Or.inl rfl, tyX2_ok, (g_nmL nmX2), rfl, rfl, fun _ => rfl⟩
theorem fkX2_17_X2 : g_Fd "StemspanModel" 17 16 2 (.array .char) true := ⟨RX2, TX2, 14, tyX2, "StemspanModel", rfl, in_X2, by decide, q2183, Or.inl rfl, tyX2_ok, (g_nmL nmX2), rfl, rfl, fun _ => rfl⟩
theorem fkX2_20_X2 : g_Fd "StemspanModel" 20 16 3 (.array .char) true := ⟨RX2, TX2, 14, tyX2, "StemspanModel", rfl, in_X2, by decide, q2184, Or.inl rfl, tyX2_ok, (g_nmL nmX2), rfl, rfl, fun _ => rfl⟩
theorem fkX2_23_X2 : g_Fd "StemspanModel" 23 16 4 (.array .char) true := ⟨RX2, TX2, 14, tyX2, "StemspanModel", rfl, in_X2, by decide, q2185, Or.inl rfl, tyX2_ok, (g_nmL nmX2), rfl, rfl, fun _ => rfl⟩
theorem fkX2_26_X2 : g_Fd "StemspanModel" 26 16 5 (.array .int) true := ⟨RX2, TX2, 14, tyX2, "StemspanModel", rfl, in_X2, by decide, q2186, Or.inl rfl, tyX2_ok, (g_nmL nmX2), rfl, rfl, fun _ => rfl⟩
theorem fkX2_30_X2 : g_Fd "StemspanModel" 30 16 6 (.array .int) true := ⟨RX2, TX2, 14, tyX2, "StemspanModel", rfl, in_X2, by decide, q2187, Or.inl rfl, tyX2_ok, (g_nmL nmX2), rfl, rfl, fun _ => rfl⟩
theorem fkX2_33_X2 : g_Fd "StemspanModel" 33 16 7 (.array .int) true := ⟨RX2, TX2, 14, tyX2, "StemspanModel", rfl, in_X2, by decide, q2188, Or.inl rfl, tyX2_ok, (g_nmL nmX2), rfl, rfl, fun _ => rfl⟩
theorem fkX2_36_X2 : g_Fd "StemspanModel" 36 16 10 (.array .int) true := ⟨RX2, TX2, 14, tyX2, "StemspanModel", rfl, in_X2, by decide, q2191, Or.inl rfl, tyX2_ok, (g_nmL nmX2), rfl, rfl, fun _ => rfl⟩
theorem fkX2_39_X2 : g_Fd "StemspanModel" 39 16 11 (.array .int) true := ⟨RX2, TX2, 14, tyX2, "StemspanModel", rfl, in_X2, by decide, q2192, Or.inl rfl, tyX2_ok, (g_nmL nmX2), rfl, rfl, fun _ => rfl⟩
theorem fkX2_42_X2 : g_Fd "StemspanModel" 42 16 12 (.array .long) true := ⟨RX2, TX2, 14, tyX2, "StemspanModel", rfl, in_X2, by decide, q2193, Or.inl rfl, tyX2_ok, (g_nmL nmX2), rfl, rfl, fun _ => rfl⟩
theorem fkX2_46_X2 : g_Fd "StemspanModel" 46 16 13 (.array .int) true := ⟨RX2, TX2, 14, tyX2, "StemspanModel", rfl, in_X2, by decide, q2194, Or.inl rfl, tyX2_ok, (g_nmL nmX2), rfl, rfl, fun _ => rfl⟩
theorem fkX2_49_X2 : g_Fd "StemspanModel" 49 16 8 .int false := ⟨RX2, TX2, 14, tyX2, "StemspanModel", rfl, in_X2, by decide, q2189, Or.inl rfl, tyX2_ok, (g_nmL nmX2), rfl, rfl, fun h => by cases h⟩
theorem fkX2_59_X2 : g_Fd "StemspanModel" 59 16 9 .int false := ⟨RX2, TX2, 14, tyX2, "StemspanModel", rfl, in_X2, by decide, q2190, Or.inl rfl, tyX2_ok, (g_nmL nmX2), rfl, rfl, fun h => by cases h⟩
abbrev wp_X2_thrown (l : Launch) (E : g_E) (mc ms : Nat) (av : List Value) (st : g_St) (Q : Int32 → g_St → Prop) : Prop := g_WPi l E yX2_thrown cX2_thrown 1 (some .int) 1 40 mc ms av st Q
def vc_X2_thrown (l : Launch) (E : g_E) (a0 : Nat) (st : g_St) (Q : Int32 → g_St → Prop) : Prop :=
  ∃ x1 : Int32, g_gi st a0 16 0 x1 ∧ Q x1 st
set_option maxHeartbeats 4000000 in
theorem wb_X2_thrown {p : Program} {l : Launch} {e : Env} {R : Room} {s : State} {m : MethodId} {args : Array Value} {below : List Frame} {meth : Method} {c : Code} {E : g_E} {st0 : g_St} {Z : State → Prop} (hC : g_Cx p s m args meth c cX2_thrown 1 "StemspanModel" (some .int) "thrown" E st0) (hR : g_Rm 1 40 R) {a0 : Nat} {st : g_St} {cb sb : Nat} {Q : Int32 → g_St → Prop} (hret : ∀ (pc : Nat) (lv : List (Nat × Value)) (v : Int32) (st1 : g_St) (cb sb : Nat), decode cX2_thrown pc = .ok (.ireturn, 1) → narrow .int (.int v) = .int v → Q v st1 → g_J p l e R s m args below meth c 1 E st0 Z pc lv [.int v] st1 cb sb) (hvc : vc_X2_thrown l E a0 st Q) : g_J p l e R s m args below meth c 1 E st0 Z 0 [(0, va_rf (some a0))] [] st cb sb := by
  unfold vc_X2_thrown at hvc
  refine j_aload_n hC dX2_thrown_0 rfl 0 rfl ?_
  obtain ⟨x1, ⟨fs, hr, hv⟩, hvc⟩ := hvc
  refine j_get hC fkX2_1_X2 dX2_thrown_1 hr hv ?_
  clear hv hr fs
  exact hret _ _ _ _ _ _ dX2_thrown_4 rfl hvc
theorem wk_X2_thrown {l : Launch} {E : g_E} {a0 : Nat} {st : g_St} {mc ms : Nat} {Q : Int32 → g_St → Prop} (hvc : vc_X2_thrown l E a0 st Q) : wp_X2_thrown l E mc ms [va_rf (some a0)] st Q :=
  g_enter (lv0 := [(0, va_rf (some a0))]) (plainFor_of_name (by decide +kernel)) (by simp [lv_args, g_c1, g_ci, g_cL]) (by simp [lg_sl, g_c1, g_ci, g_cL]) (fun p e s m args below meth c hC => wb_X2_thrown hC ⟨Nat.le_refl _, Nat.le_refl _⟩ (fun pc lv v st1 cb sb hd hn hq => j_ireturn hC rfl hn hd (g_iv hq)) hvc)
abbrev wp_X2_init (l : Launch) (E : g_E) (mc ms : Nat) (av : List Value) (st : g_St) (Q : g_St → Prop) : Prop := g_WPv l E yX2_init cX2_init 2 none 1 40 mc ms av st Q
def vc_X2_init (l : Launch) (E : g_E) (a0 : Nat) (st : g_St) (cb sb : Nat) (Q : g_St → Prop) : Prop :=
  ∃ n1 : Nat, (nI 24) = nI n1 ∧ n1 ≤ 67108864 ∧ 1 ≤ cb ∧ n1 ≤ sb ∧ ∀ (q2 : Nat) (st3 : g_St), q2 = st.2.2 → st3 = g_new st (.inl (2, n1, .inl fun _ => 0)) → ∃ fs4 : List Value, st3.2.1 a0 = some (.inr (16, fs4)) ∧ ∀ st5 : g_St, st5 = g_put st3 a0 (.inr (16, fs4.set 1 (va_rf (some q2)))) → ∃ n6 : Nat, (nI 240) = nI n6 ∧ n6 ≤ 67108864 ∧ 1 ≤ (cb - 1) ∧ n6 ≤ (sb - n1) ∧ ∀ (q7 : Nat) (st8 : g_St), q7 = st5.2.2 → st8 = g_new st5 (.inl (2, n6, .inl fun _ => 0)) → ∃ fs9 : List Value, st8.2.1 a0 = some (.inr (16, fs9)) ∧ ∀ st10 : g_St, st10 = g_put st8 a0 (.inr (16, fs9.set 2 (va_rf (some q7)))) → ∃ n11 : Nat, (nI 18) = nI n11 ∧ n11 ≤ 67108864 ∧ 1 ≤ ((cb - 1) - 1) ∧ n11 ≤ ((sb - n1) - n6) ∧ ∀ (q12 : Nat) (st13 : g_St), q12 = st10.2.2 → st13 = g_new st10 (.inl (2, n11, .inl fun _ => 0)) → ∃ fs14 : List Value, st13.2.1 a0 = some (.inr (16, fs14)) ∧ ∀ st15 : g_St, st15 = g_put st13 a0 (.inr (16, fs14.set 3 (va_rf (some q12)))) → ∃ n16 : Nat, (nI 72) = nI n16 ∧ n16 ≤ 67108864 ∧ 1 ≤ (((cb - 1) - 1) - 1) ∧ n16 ≤ (((sb - n1) - n6) - n11) ∧ ∀ (q17 : Nat) (st18 : g_St), q17 = st15.2.2 → st18 = g_new st15 (.inl (2, n16, .inl fun _ => 0)) → ∃ fs19 : List Value, st18.2.1 a0 = some (.inr (16, fs19)) ∧ ∀ st20 : g_St, st20 = g_put st18 a0 (.inr (16, fs19.set 4 (va_rf (some q17)))) → ∃ n21 : Nat, (nI 24) = nI n21 ∧ n21 ≤ 67108864 ∧ 1 ≤ ((((cb - 1) - 1) - 1) - 1) ∧ n21 ≤ ((((sb - n1) - n6) - n11) - n16) ∧ ∀ (q22 : Nat) (st23 : g_St), q22 = st20.2.2 → st23 = g_new st20 (.inl (0, n21, .inl fun _ => 0)) → ∃ fs24 : List Value, st23.2.1 a0 = some (.inr (16, fs24)) ∧ ∀ st25 : g_St, st25 = g_put st23 a0 (.inr (16, fs24.set 5 (va_rf (some q22)))) → ∃ n26 : Nat, (nI 24) = nI n26 ∧ n26 ≤ 67108864 ∧ 1 ≤ (((((cb - 1) - 1) - 1) - 1) - 1) ∧ n26 ≤ (((((sb - n1) - n6) - n11) - n16) - n21) ∧ ∀ (q27 : Nat) (st28 : g_St), q27 = st25.2.2 → st28 = g_new st25 (.inl (0, n26, .inl fun _ => 0)) → ∃ fs29 : List Value, st28.2.1 a0 = some (.inr (16, fs29)) ∧ ∀ st30 : g_St, st30 = g_put st28 a0 (.inr (16, fs29.set 6 (va_rf (some q27)))) → ∃ n31 : Nat, (nI 6) = nI n31 ∧ n31 ≤ 67108864 ∧ 1 ≤ ((((((cb - 1) - 1) - 1) - 1) - 1) - 1) ∧ n31 ≤ ((((((sb - n1) - n6) - n11) - n16) - n21) - n26) ∧ ∀ (q32 : Nat) (st33 : g_St), q32 = st30.2.2 → st33 = g_new st30 (.inl (0, n31, .inl fun _ => 0)) → ∃ fs34 : List Value, st33.2.1 a0 = some (.inr (16, fs34)) ∧ ∀ st35 : g_St, st35 = g_put st33 a0 (.inr (16, fs34.set 7 (va_rf (some q32)))) → ∃ n36 : Nat, (nI 24) = nI n36 ∧ n36 ≤ 67108864 ∧ 1 ≤ (((((((cb - 1) - 1) - 1) - 1) - 1) - 1) - 1) ∧ n36 ≤ (((((((sb - n1) - n6) - n11) - n16) - n21) - n26) - n31) ∧ ∀ (q37 : Nat) (st38 : g_St), q37 = st35.2.2 → st38 = g_new st35 (.inl (0, n36, .inl fun _ => 0)) → ∃ fs39 : List Value, st38.2.1 a0 = some (.inr (16, fs39)) ∧ ∀ st40 : g_St, st40 = g_put st38 a0 (.inr (16, fs39.set 10 (va_rf (some q37)))) → ∃ n41 : Nat, (nI 24) = nI n41 ∧ n41 ≤ 67108864 ∧ 1 ≤ ((((((((cb - 1) - 1) - 1) - 1) - 1) - 1) - 1) - 1) ∧ n41 ≤ ((((((((sb - n1) - n6) - n11) - n16) - n21) - n26) - n31) - n36) ∧ ∀ (q42 : Nat) (st43 : g_St), q42 = st40.2.2 → st43 = g_new st40 (.inl (0, n41, .inl fun _ => 0)) → ∃ fs44 : List Value, st43.2.1 a0 = some (.inr (16, fs44)) ∧ ∀ st45 : g_St, st45 = g_put st43 a0 (.inr (16, fs44.set 11 (va_rf (some q42)))) → ∃ n46 : Nat, (nI 25) = nI n46 ∧ n46 ≤ 67108864 ∧ 1 ≤ (((((((((cb - 1) - 1) - 1) - 1) - 1) - 1) - 1) - 1) - 1) ∧ n46 ≤ (((((((((sb - n1) - n6) - n11) - n16) - n21) - n26) - n31) - n36) - n41) ∧ ∀ (q47 : Nat) (st48 : g_St), q47 = st45.2.2 → st48 = g_new st45 (.inl (3, n46, .inr (.inl fun _ => 0))) → ∃ fs49 : List Value, st48.2.1 a0 = some (.inr (16, fs49)) ∧ ∀ st50 : g_St, st50 = g_put st48 a0 (.inr (16, fs49.set 12 (va_rf (some q47)))) → ∃ n51 : Nat, (nI 25) = nI n51 ∧ n51 ≤ 67108864 ∧ 1 ≤ ((((((((((cb - 1) - 1) - 1) - 1) - 1) - 1) - 1) - 1) - 1) - 1) ∧ n51 ≤ ((((((((((sb - n1) - n6) - n11) - n16) - n21) - n26) - n31) - n36) - n41) - n46) ∧ ∀ (q52 : Nat) (st53 : g_St), q52 = st50.2.2 → st53 = g_new st50 (.inl (0, n51, .inl fun _ => 0)) → ∃ fs54 : List Value, st53.2.1 a0 = some (.inr (16, fs54)) ∧ ∀ st55 : g_St, st55 = g_put st53 a0 (.inr (16, fs54.set 13 (va_rf (some q52)))) → g_lp2 (fun (K58 : Int32 → g_St → Prop) (x56 : Int32) (st57 : g_St) => ((nI 6) ≤ x56 → Q st57) ∧ (¬ (nI 6) ≤ x56 → ∃ o62 : Option Nat, g_gr st57 a0 16 3 o62 ∧ ∃ a63 : Nat, o62 = some a63 ∧ ∃ (n64 : Nat) (f65 : Nat → Int32) (j66 : Nat), st57.2.1 a63 = some (.inl (2, n64, .inl (f65))) ∧ ((nI 3) * x56) = nI j66 ∧ j66 < n64 ∧ j66 < 2 ^ 31 ∧ ∀ st67 : g_St, st67 = g_put st57 a63 (.inl (2, n64, .inl (va_up f65 j66 (vp_nar .char (((((nI 97) + x56)).toUInt32 % 65536).toInt32))))) → ∃ o68 : Option Nat, g_gr st67 a0 16 7 o68 ∧ ∃ a69 : Nat, o68 = some a69 ∧ ∃ (n70 : Nat) (f71 : Nat → Int32) (j72 : Nat), st67.2.1 a69 = some (.inl (0, n70, .inl (f71))) ∧ x56 = nI j72 ∧ j72 < n70 ∧ j72 < 2 ^ 31 ∧ ∀ st73 : g_St, st73 = g_put st67 a69 (.inl (0, n70, .inl (va_up f71 j72 (nI 1)))) → K58 (x56 + (nI 1)) st73)) (nI 0) st55
set_option maxHeartbeats 4000000 in
theorem wb_X2_init {p : Program} {l : Launch} {e : Env} {R : Room} {s : State} {m : MethodId} {args : Array Value} {below : List Frame} {meth : Method} {c : Code} {E : g_E} {st0 : g_St} {Z : State → Prop} (hC : g_Cx p s m args meth c cX2_init 2 "StemspanModel" none "<init>" E st0) (hR : g_Rm 1 40 R) {a0 : Nat} {st : g_St} {cb sb : Nat} {Q : g_St → Prop} (hret : ∀ (pc : Nat) (lv : List (Nat × Value)) (st1 : g_St) (cb sb : Nat), decode cX2_init pc = .ok (.return_, 1) → Q st1 → g_J p l e R s m args below meth c 2 E st0 Z pc lv [] st1 cb sb) (hvc : vc_X2_init l E a0 st cb sb Q) : g_J p l e R s m args below meth c 2 E st0 Z 0 [(0, va_rf (some a0))] [] st cb sb := by
  unfold vc_X2_init at hvc
  refine j_aload_n hC dX2_init_0 rfl 0 rfl ?_
  refine j_objInit hC q2180 q99 q100 (Nat.le_trans (Nat.le_of_ble_eq_true rfl) hR.1) (Nat.le_trans (g_sumO rfl) hR.2) dX2_init_1 ?_
  refine j_aload_n hC dX2_init_4 rfl 0 rfl ?_
  refine j_bipush hC (nI 24) dX2_init_5 rfl ?_
  obtain ⟨n1, hi, hn, h1, h2, hvc⟩ := hvc
  refine j_ix hi ?_
  refine j_newC hC q2224 hn h1 h2 dX2_init_7 (fun q2 st3 e1 e2 => ?_)
  replace hvc := hvc q2 st3 e1 e2; clear hi hn h1 h2 e1 e2
  obtain ⟨fs4, hm, hvc⟩ := hvc
  refine j_putF hC fkX2_13_X2 rfl dX2_init_9 hm g_noA g_foA (fun st5 e1 => ?_)
  replace hvc := hvc st5 e1; clear hm e1
  refine j_aload_n hC dX2_init_12 rfl 0 rfl ?_
  refine j_sipush hC (nI 240) dX2_init_13 rfl ?_
  obtain ⟨n6, hi, hn, h1, h2, hvc⟩ := hvc
  refine j_ix hi ?_
  refine j_newC hC q2224 hn h1 h2 dX2_init_16 (fun q7 st8 e1 e2 => ?_)
  replace hvc := hvc q7 st8 e1 e2; clear hi hn h1 h2 e1 e2
  obtain ⟨fs9, hm, hvc⟩ := hvc
  refine j_putF hC fkX2_17_X2 rfl dX2_init_18 hm g_noA g_foA (fun st10 e1 => ?_)
  replace hvc := hvc st10 e1; clear hm e1
  refine j_aload_n hC dX2_init_21 rfl 0 rfl ?_
  refine j_bipush hC (nI 18) dX2_init_22 rfl ?_
  obtain ⟨n11, hi, hn, h1, h2, hvc⟩ := hvc
  refine j_ix hi ?_
  refine j_newC hC q2224 hn h1 h2 dX2_init_24 (fun q12 st13 e1 e2 => ?_)
  replace hvc := hvc q12 st13 e1 e2; clear hi hn h1 h2 e1 e2
  obtain ⟨fs14, hm, hvc⟩ := hvc
  refine j_putF hC fkX2_20_X2 rfl dX2_init_26 hm g_noA g_foA (fun st15 e1 => ?_)
  replace hvc := hvc st15 e1; clear hm e1
  refine j_aload_n hC dX2_init_29 rfl 0 rfl ?_
  refine j_bipush hC (nI 72) dX2_init_30 rfl ?_
  obtain ⟨n16, hi, hn, h1, h2, hvc⟩ := hvc
  refine j_ix hi ?_
  refine j_newC hC q2224 hn h1 h2 dX2_init_32 (fun q17 st18 e1 e2 => ?_)
  replace hvc := hvc q17 st18 e1 e2; clear hi hn h1 h2 e1 e2
  obtain ⟨fs19, hm, hvc⟩ := hvc
  refine j_putF hC fkX2_23_X2 rfl dX2_init_34 hm g_noA g_foA (fun st20 e1 => ?_)
  replace hvc := hvc st20 e1; clear hm e1
  refine j_aload_n hC dX2_init_37 rfl 0 rfl ?_
  refine j_bipush hC (nI 24) dX2_init_38 rfl ?_
  obtain ⟨n21, hi, hn, h1, h2, hvc⟩ := hvc
  refine j_ix hi ?_
  refine j_newI hC q1613 hn h1 h2 dX2_init_40 (fun q22 st23 e1 e2 => ?_)
  replace hvc := hvc q22 st23 e1 e2; clear hi hn h1 h2 e1 e2
  obtain ⟨fs24, hm, hvc⟩ := hvc
  refine j_putF hC fkX2_26_X2 rfl dX2_init_42 hm g_noA g_foA (fun st25 e1 => ?_)
  replace hvc := hvc st25 e1; clear hm e1
  refine j_aload_n hC dX2_init_45 rfl 0 rfl ?_
  refine j_bipush hC (nI 24) dX2_init_46 rfl ?_
  obtain ⟨n26, hi, hn, h1, h2, hvc⟩ := hvc
  refine j_ix hi ?_
  refine j_newI hC q1613 hn h1 h2 dX2_init_48 (fun q27 st28 e1 e2 => ?_)
  replace hvc := hvc q27 st28 e1 e2; clear hi hn h1 h2 e1 e2
  obtain ⟨fs29, hm, hvc⟩ := hvc
  refine j_putF hC fkX2_30_X2 rfl dX2_init_50 hm g_noA g_foA (fun st30 e1 => ?_)
  replace hvc := hvc st30 e1; clear hm e1
  refine j_aload_n hC dX2_init_53 rfl 0 rfl ?_
  refine j_bipush hC (nI 6) dX2_init_54 rfl ?_
  obtain ⟨n31, hi, hn, h1, h2, hvc⟩ := hvc
  refine j_ix hi ?_
  refine j_newI hC q1613 hn h1 h2 dX2_init_56 (fun q32 st33 e1 e2 => ?_)
  replace hvc := hvc q32 st33 e1 e2; clear hi hn h1 h2 e1 e2
  obtain ⟨fs34, hm, hvc⟩ := hvc
  refine j_putF hC fkX2_33_X2 rfl dX2_init_58 hm g_noA g_foA (fun st35 e1 => ?_)
  replace hvc := hvc st35 e1; clear hm e1
  refine j_aload_n hC dX2_init_61 rfl 0 rfl ?_
  refine j_bipush hC (nI 24) dX2_init_62 rfl ?_
  obtain ⟨n36, hi, hn, h1, h2, hvc⟩ := hvc
  refine j_ix hi ?_
  refine j_newI hC q1613 hn h1 h2 dX2_init_64 (fun q37 st38 e1 e2 => ?_)
  replace hvc := hvc q37 st38 e1 e2; clear hi hn h1 h2 e1 e2
  obtain ⟨fs39, hm, hvc⟩ := hvc
  refine j_putF hC fkX2_36_X2 rfl dX2_init_66 hm g_noA g_foA (fun st40 e1 => ?_)
  replace hvc := hvc st40 e1; clear hm e1
  refine j_aload_n hC dX2_init_69 rfl 0 rfl ?_
  refine j_bipush hC (nI 24) dX2_init_70 rfl ?_
  obtain ⟨n41, hi, hn, h1, h2, hvc⟩ := hvc
  refine j_ix hi ?_
  refine j_newI hC q1613 hn h1 h2 dX2_init_72 (fun q42 st43 e1 e2 => ?_)
  replace hvc := hvc q42 st43 e1 e2; clear hi hn h1 h2 e1 e2
  obtain ⟨fs44, hm, hvc⟩ := hvc
  refine j_putF hC fkX2_39_X2 rfl dX2_init_74 hm g_noA g_foA (fun st45 e1 => ?_)
  replace hvc := hvc st45 e1; clear hm e1
  refine j_aload_n hC dX2_init_77 rfl 0 rfl ?_
  refine j_bipush hC (nI 25) dX2_init_78 rfl ?_
  obtain ⟨n46, hi, hn, h1, h2, hvc⟩ := hvc
  refine j_ix hi ?_
  refine j_newL hC q1608 hn h1 h2 dX2_init_80 (fun q47 st48 e1 e2 => ?_)
  replace hvc := hvc q47 st48 e1 e2; clear hi hn h1 h2 e1 e2
  obtain ⟨fs49, hm, hvc⟩ := hvc
  refine j_putF hC fkX2_42_X2 rfl dX2_init_82 hm g_noA g_foA (fun st50 e1 => ?_)
  replace hvc := hvc st50 e1; clear hm e1
  refine j_aload_n hC dX2_init_85 rfl 0 rfl ?_
  refine j_bipush hC (nI 25) dX2_init_86 rfl ?_
  obtain ⟨n51, hi, hn, h1, h2, hvc⟩ := hvc
  refine j_ix hi ?_
  refine j_newI hC q1613 hn h1 h2 dX2_init_88 (fun q52 st53 e1 e2 => ?_)
  replace hvc := hvc q52 st53 e1 e2; clear hi hn h1 h2 e1 e2
  obtain ⟨fs54, hm, hvc⟩ := hvc
  refine j_putF hC fkX2_46_X2 rfl dX2_init_90 hm g_noA g_foA (fun st55 e1 => ?_)
  replace hvc := hvc st55 e1; clear hm e1
  refine j_iconst hC (nI 0) dX2_init_93 rfl ?_
  refine j_istore_n (lv0 := [(0, va_rf (some a0))]) hC dX2_init_94 rfl rfl [0] rfl (g_okS.h rfl g_c1 rfl) ?_
  replace hvc := g_lp2_o hvc
  obtain ⟨K58, hz74, hs75, n76, hvc⟩ := hvc
  have kh59 : ∀ (n : Nat) (x56 : Int32) (st57 : g_St), K58 n x56 st57 → g_J p l e R s m args below meth c 2 E st0 Z 95 [(0, va_rf (some a0)), (1, .int x56)] [] st57 (((((((((((cb - 1) - 1) - 1) - 1) - 1) - 1) - 1) - 1) - 1) - 1) - 1) (((((((((((sb - n1) - n6) - n11) - n16) - n21) - n26) - n31) - n36) - n41) - n46) - n51) := by
    clear hvc
    intro n
    induction n with
    | zero => intro x56 st57 hvc; exact absurd hvc (hz74 _ _)
    | succ n ih60 =>
      intro x56 st57 hvc
      replace hvc := hs75 n _ _ hvc
      refine j_iload_n hC dX2_init_95 rfl 1 rfl ?_
      refine j_bipush hC (nI 6) dX2_init_96 rfl ?_
      refine j_icmp_ge (tgt := 127) hC dX2_init_98 rfl (fun c61 => ?_) (fun c61 => ?_)
      · replace hvc := hvc.1 c61
        exact hret _ _ _ _ _ dX2_init_127 hvc
      · replace hvc := hvc.2 c61
        refine j_aload_n hC dX2_init_101 rfl 0 rfl ?_
        obtain ⟨o62, ⟨fs, hr, hv⟩, hvc⟩ := hvc
        refine j_get hC fkX2_20_X2 dX2_init_102 hr hv ?_
        clear hv hr fs
        refine j_iconst hC (nI 3) dX2_init_105 rfl ?_
        refine j_iload_n hC dX2_init_106 rfl 1 rfl ?_
        refine j_imul hC dX2_init_107 ?_
        refine j_bipush hC (nI 97) dX2_init_108 rfl ?_
        refine j_iload_n hC dX2_init_110 rfl 1 rfl ?_
        refine j_iadd hC dX2_init_111 ?_
        refine j_i2c hC dX2_init_112 ?_
        obtain ⟨a63, rfl, hvc⟩ := hvc
        obtain ⟨n64, f65, j66, hm, hi, hj, hJ, hvc⟩ := hvc
        refine j_ix1 hi ?_
        refine j_stc hC hm hj hJ dX2_init_113 (fun st67 e1 => ?_)
        replace hvc := hvc st67 e1; clear hm hi hj hJ e1
        refine j_aload_n hC dX2_init_114 rfl 0 rfl ?_
        obtain ⟨o68, ⟨fs, hr, hv⟩, hvc⟩ := hvc
        refine j_get hC fkX2_33_X2 dX2_init_115 hr hv ?_
        clear hv hr fs
        refine j_iload_n hC dX2_init_118 rfl 1 rfl ?_
        refine j_iconst hC (nI 1) dX2_init_119 rfl ?_
        obtain ⟨a69, rfl, hvc⟩ := hvc
        obtain ⟨n70, f71, j72, hm, hi, hj, hJ, hvc⟩ := hvc
        refine j_ix1 hi ?_
        refine j_sti hC hm hj hJ dX2_init_120 (fun st73 e1 => ?_)
        replace hvc := hvc st73 e1; clear hm hi hj hJ e1
        refine j_iinc (lv0 := [(0, va_rf (some a0))]) hC (nI 1) dX2_init_121 1 rfl rfl rfl [0] rfl (g_okS.h rfl g_c1 rfl) ?_
        refine j_goto (tgt := 95) hC dX2_init_124 rfl ?_
        exact j_sub [1, 0] rfl (ih60 (x56 + (nI 1)) st73 hvc)
  exact j_sub [1, 0] rfl (kh59 n76 (nI 0) st55 hvc)
theorem wk_X2_init {l : Launch} {E : g_E} {a0 : Nat} {st : g_St} {mc ms : Nat} {Q : g_St → Prop} (hvc : vc_X2_init l E a0 st mc ms Q) : wp_X2_init l E mc ms [va_rf (some a0)] st Q :=
  g_enter (lv0 := [(0, va_rf (some a0))]) (plainFor_of_name (by decide +kernel)) (by simp [lv_args, g_c1, g_ci, g_cL]) (by simp [lg_sl, g_c1, g_ci, g_cL]) (fun p e s m args below meth c hC => wb_X2_init hC ⟨Nat.le_refl _, Nat.le_refl _⟩ (fun pc lv st1 cb sb hd hq => j_return hC rfl hd ⟨rfl, hq⟩) hvc)
abbrev wp_X2_isSign (l : Launch) (E : g_E) (mc ms : Nat) (av : List Value) (st : g_St) (Q : Int32 → g_St → Prop) : Prop := g_WPi l E yX2_isSign cX2_isSign 1 (some .boolean) 1 40 mc ms av st Q
def vc_X2_isSign (l : Launch) (E : g_E) (p0 : Int32) (st : g_St) (Q : Int32 → g_St → Prop) : Prop :=
  g_jn1 (fun (K2 : Int32 → Prop) => g_jn0 (fun (K4 : Prop) => (p0 < (nI 97) → K4) ∧ (¬ p0 < (nI 97) → ((nI 102) < p0 → K4) ∧ (¬ (nI 102) < p0 → K2 (nI 1)))) (K2 (nI 0))) (fun (x1 : Int32) => narrow .boolean (.int x1) = .int x1 ∧ Q x1 st)
set_option maxHeartbeats 4000000 in
theorem wb_X2_isSign {p : Program} {l : Launch} {e : Env} {R : Room} {s : State} {m : MethodId} {args : Array Value} {below : List Frame} {meth : Method} {c : Code} {E : g_E} {st0 : g_St} {Z : State → Prop} (hC : g_Cx p s m args meth c cX2_isSign 1 "StemspanModel" (some .boolean) "isSign" E st0) (hR : g_Rm 1 40 R) {p0 : Int32} {st : g_St} {cb sb : Nat} {Q : Int32 → g_St → Prop} (hret : ∀ (pc : Nat) (lv : List (Nat × Value)) (v : Int32) (st1 : g_St) (cb sb : Nat), decode cX2_isSign pc = .ok (.ireturn, 1) → narrow .boolean (.int v) = .int v → Q v st1 → g_J p l e R s m args below meth c 1 E st0 Z pc lv [.int v] st1 cb sb) (hvc : vc_X2_isSign l E p0 st Q) : g_J p l e R s m args below meth c 1 E st0 Z 0 [(0, .int p0)] [] st cb sb := by
  unfold vc_X2_isSign at hvc
  refine j_iload_n hC dX2_isSign_0 rfl 0 rfl ?_
  refine j_bipush hC (nI 97) dX2_isSign_1 rfl ?_
  replace hvc := g_jn1_o hvc
  obtain ⟨K2, hK9, hvc⟩ := hvc
  have kh3 : ∀ (x1 : Int32), K2 x1 → g_J p l e R s m args below meth c 1 E st0 Z 17 [] [.int x1] st cb sb := by
    clear hvc
    intro x1 hvc
    replace hvc := hK9 _ hvc
    exact hret _ _ _ _ _ _ dX2_isSign_17 hvc.1 hvc.2
  replace hvc := g_jn0_o hvc
  obtain ⟨K4, hK8, hvc⟩ := hvc
  have kh5 : K4 → g_J p l e R s m args below meth c 1 E st0 Z 16 [] [] st cb sb := by
    clear hvc
    intro hvc
    replace hvc := hK8 hvc
    refine j_iconst hC (nI 0) dX2_isSign_16 rfl ?_
    exact j_sub [] rfl (kh3 (nI 0) hvc)
  refine j_icmp_lt (tgt := 16) hC dX2_isSign_3 rfl (fun c6 => ?_) (fun c6 => ?_)
  · replace hvc := hvc.1 c6
    exact j_sub [] rfl (kh5 hvc)
  · replace hvc := hvc.2 c6
    refine j_iload_n hC dX2_isSign_6 rfl 0 rfl ?_
    refine j_bipush hC (nI 102) dX2_isSign_7 rfl ?_
    refine j_icmp_gt (tgt := 16) hC dX2_isSign_9 rfl (fun c7 => ?_) (fun c7 => ?_)
    · replace hvc := hvc.1 c7
      exact j_sub [] rfl (kh5 hvc)
    · replace hvc := hvc.2 c7
      refine j_iconst hC (nI 1) dX2_isSign_12 rfl ?_
      refine j_goto (tgt := 17) hC dX2_isSign_13 rfl ?_
      exact j_sub [] rfl (kh3 (nI 1) hvc)
theorem wk_X2_isSign {l : Launch} {E : g_E} {p0 : Int32} {st : g_St} {mc ms : Nat} {Q : Int32 → g_St → Prop} (hvc : vc_X2_isSign l E p0 st Q) : wp_X2_isSign l E mc ms [.int p0] st Q :=
  g_enter (lv0 := [(0, .int p0)]) (plainFor_of_name (by decide +kernel)) (by simp [lv_args, g_c1, g_ci, g_cL]) (by simp [lg_sl, g_c1, g_ci, g_cL]) (fun p e s m args below meth c hC => wb_X2_isSign hC ⟨Nat.le_refl _, Nat.le_refl _⟩ (fun pc lv v st1 cb sb hd hn hq => j_ireturn hC rfl hn hd (g_iv hq)) hvc)
abbrev wp_X2_fails (l : Launch) (E : g_E) (mc ms : Nat) (av : List Value) (st : g_St) (Q : Int32 → g_St → Prop) : Prop := g_WPi l E yX2_fails cX2_fails 2 (some .boolean) 1 40 mc ms av st Q
def vc_X2_fails (l : Launch) (E : g_E) (a0 : Nat) (p0 : Int32) (st : g_St) (Q : Int32 → g_St → Prop) : Prop :=
  ∃ fs1 : List Value, st.2.1 a0 = some (.inr (16, fs1)) ∧ ∀ st2 : g_St, st2 = g_put st a0 (.inr (16, fs1.set 0 (.int p0))) → g_jn1 (fun (K4 : Int32 → Prop) => (p0 ≤ 0 → K4 (nI 0)) ∧ (¬ p0 ≤ 0 → K4 (nI 1))) (fun (x3 : Int32) => narrow .boolean (.int x3) = .int x3 ∧ Q x3 st2)
set_option maxHeartbeats 4000000 in
theorem wb_X2_fails {p : Program} {l : Launch} {e : Env} {R : Room} {s : State} {m : MethodId} {args : Array Value} {below : List Frame} {meth : Method} {c : Code} {E : g_E} {st0 : g_St} {Z : State → Prop} (hC : g_Cx p s m args meth c cX2_fails 2 "StemspanModel" (some .boolean) "fails" E st0) (hR : g_Rm 1 40 R) {a0 : Nat} {p0 : Int32} {st : g_St} {cb sb : Nat} {Q : Int32 → g_St → Prop} (hret : ∀ (pc : Nat) (lv : List (Nat × Value)) (v : Int32) (st1 : g_St) (cb sb : Nat), decode cX2_fails pc = .ok (.ireturn, 1) → narrow .boolean (.int v) = .int v → Q v st1 → g_J p l e R s m args below meth c 2 E st0 Z pc lv [.int v] st1 cb sb) (hvc : vc_X2_fails l E a0 p0 st Q) : g_J p l e R s m args below meth c 2 E st0 Z 0 [(0, va_rf (some a0)), (1, .int p0)] [] st cb sb := by
  unfold vc_X2_fails at hvc
  refine j_aload_n hC dX2_fails_0 rfl 0 rfl ?_
  refine j_iload_n hC dX2_fails_1 rfl 1 rfl ?_
  obtain ⟨fs1, hm, hvc⟩ := hvc
  refine j_put hC fkX2_1_X2 dX2_fails_2 hm rfl rfl (fun st2 e1 => ?_)
  replace hvc := hvc st2 e1; clear hm e1
  refine j_iload_n hC dX2_fails_5 rfl 1 rfl ?_
  replace hvc := g_jn1_o hvc
  obtain ⟨K4, hK7, hvc⟩ := hvc
  have kh5 : ∀ (x3 : Int32), K4 x3 → g_J p l e R s m args below meth c 2 E st0 Z 14 [] [.int x3] st2 cb sb := by
    clear hvc
    intro x3 hvc
    replace hvc := hK7 _ hvc
    exact hret _ _ _ _ _ _ dX2_fails_14 hvc.1 hvc.2
  refine j_if_le (tgt := 13) hC dX2_fails_6 rfl (fun c6 => ?_) (fun c6 => ?_)
  · replace hvc := hvc.1 c6
    refine j_iconst hC (nI 0) dX2_fails_13 rfl ?_
    exact j_sub [] rfl (kh5 (nI 0) hvc)
  · replace hvc := hvc.2 c6
    refine j_iconst hC (nI 1) dX2_fails_9 rfl ?_
    refine j_goto (tgt := 14) hC dX2_fails_10 rfl ?_
    exact j_sub [] rfl (kh5 (nI 1) hvc)
theorem wk_X2_fails {l : Launch} {E : g_E} {a0 : Nat} {p0 : Int32} {st : g_St} {mc ms : Nat} {Q : Int32 → g_St → Prop} (hvc : vc_X2_fails l E a0 p0 st Q) : wp_X2_fails l E mc ms [va_rf (some a0), .int p0] st Q :=
  g_enter (lv0 := [(0, va_rf (some a0)), (1, .int p0)]) (plainFor_of_name (by decide +kernel)) (by simp [lv_args, g_c1, g_ci, g_cL]) (by simp [lg_sl, g_c1, g_ci, g_cL]) (fun p e s m args below meth c hC => wb_X2_fails hC ⟨Nat.le_refl _, Nat.le_refl _⟩ (fun pc lv v st1 cb sb hd hn hq => j_ireturn hC rfl hn hd (g_iv hq)) hvc)
abbrev wp_X2_type (l : Launch) (E : g_E) (mc ms : Nat) (av : List Value) (st : g_St) (Q : Int32 → g_St → Prop) : Prop := g_WPi l E yX2_type cX2_type 2 (some .int) 2 61 mc ms av st Q
def vc_X2_type (l : Launch) (E : g_E) (a0 : Nat) (p0 : Int32) (st : g_St) (Q : Int32 → g_St → Prop) : Prop :=
  wp_X2_isSign l E 0 0 [.int p0] st (fun x1 stx => stx = st ∧ g_jn1 (fun (K3 : Int32 → Prop) => (¬ x1 = 0 → ∃ x20 : Int32, g_gi st a0 16 8 x20 ∧ (¬ x20 = (nI 24) → K3 (nI 0)) ∧ (x20 = (nI 24) → K3 (nI 2))) ∧ (x1 = 0 → K3 (nI 1))) (fun (x2 : Int32) => g_is st a0 16 ∧ wp_X2_fails l E 0 0 [va_rf (some a0), .int x2] st (fun x5 st6 => g_Ext st st6 → (x5 = 0 → ∃ o8 : Option Nat, g_gr st6 a0 16 1 o8 ∧ ∃ x9 : Int32, g_gi st6 a0 16 8 x9 ∧ ∃ a10 : Nat, o8 = some a10 ∧ ∃ (n11 : Nat) (f12 : Nat → Int32) (j13 : Nat), st6.2.1 a10 = some (.inl (2, n11, .inl (f12))) ∧ x9 = nI j13 ∧ j13 < n11 ∧ j13 < 2 ^ 31 ∧ ∀ st14 : g_St, st14 = g_put st6 a10 (.inl (2, n11, .inl (va_up f12 j13 (vp_nar .char p0)))) → ∃ x15 : Int32, g_gi st14 a0 16 8 x15 ∧ ∃ fs16 : List Value, st14.2.1 a0 = some (.inr (16, fs16)) ∧ ∀ st17 : g_St, st17 = g_put st14 a0 (.inr (16, fs16.set 8 (.int (x15 + (nI 1))))) → ∃ x18 : Int32, g_gi st17 a0 16 8 x18 ∧ Q x18 st17) ∧ (¬ x5 = 0 → Q (nI 0) st6))))
set_option maxHeartbeats 4000000 in
theorem wb_X2_type {p : Program} {l : Launch} {e : Env} {R : Room} {s : State} {m : MethodId} {args : Array Value} {below : List Frame} {meth : Method} {c : Code} {E : g_E} {st0 : g_St} {Z : State → Prop} (hC : g_Cx p s m args meth c cX2_type 2 "StemspanModel" (some .int) "type" E st0) (hR : g_Rm 2 61 R) {a0 : Nat} {p0 : Int32} {st : g_St} {cb sb : Nat} {Q : Int32 → g_St → Prop} (hret : ∀ (pc : Nat) (lv : List (Nat × Value)) (v : Int32) (st1 : g_St) (cb sb : Nat), decode cX2_type pc = .ok (.ireturn, 1) → narrow .int (.int v) = .int v → Q v st1 → g_J p l e R s m args below meth c 2 E st0 Z pc lv [.int v] st1 cb sb) (hvc : vc_X2_type l E a0 p0 st Q) : g_J p l e R s m args below meth c 2 E st0 Z 0 [(0, va_rf (some a0)), (1, .int p0)] [] st cb sb := by
  unfold vc_X2_type at hvc
  refine j_aload_n hC dX2_type_0 rfl 0 rfl ?_
  refine j_iload_n hC dX2_type_1 rfl 1 rfl ?_
  refine j_callS (As := [.int p0]) (rest := [va_rf (some a0)]) (n := 1) hC hvc (lw_S q2229 q2230 q60 q2231) (by decide +kernel) (g_rm hR rfl rfl) rfl rfl (g_sum rfl) dX2_type_2 (Nat.zero_le _) (Nat.zero_le _) (g_Kip fun x1 hv2 => ?_)
  replace hvc := hv2; clear hv2
  replace hvc := g_jn1_o hvc
  obtain ⟨K3, hK22, hvc⟩ := hvc
  have kh4 : ∀ (x2 : Int32), K3 x2 → g_J p l e R s m args below meth c 2 E st0 Z 26 [(0, va_rf (some a0)), (1, .int p0)] [.int x2, va_rf (some a0)] st cb sb := by
    clear hvc
    intro x2 hvc
    replace hvc := hK22 _ hvc
    obtain ⟨⟨fs, hr⟩, hvc⟩ := hvc
    refine j_callV (As := [.int x2]) (rest := []) (n := 1) (ci := 16) hC hvc (lw_V q2232 q2234 qs20 q60 q2235) (by decide +kernel) (g_rm hR rfl rfl) rfl hr rfl rfl (g_sum rfl) dX2_type_26 (Nat.zero_le _) (Nat.zero_le _) (g_Ki fun x5 st6 hv2 hx => ?_)
    replace hvc := hv2 hx; clear hx hv2
    clear hr fs
    refine j_if_eq (tgt := 34) hC dX2_type_29 rfl (fun c7 => ?_) (fun c7 => ?_)
    · replace hvc := hvc.1 c7
      refine j_aload_n hC dX2_type_34 rfl 0 rfl ?_
      obtain ⟨o8, ⟨fs, hr, hv⟩, hvc⟩ := hvc
      refine j_get hC fkX2_13_X2 dX2_type_35 hr hv ?_
      clear hv hr fs
      refine j_aload_n hC dX2_type_38 rfl 0 rfl ?_
      obtain ⟨x9, ⟨fs, hr, hv⟩, hvc⟩ := hvc
      refine j_get hC fkX2_49_X2 dX2_type_39 hr hv ?_
      clear hv hr fs
      refine j_iload_n hC dX2_type_42 rfl 1 rfl ?_
      obtain ⟨a10, rfl, hvc⟩ := hvc
      obtain ⟨n11, f12, j13, hm, hi, hj, hJ, hvc⟩ := hvc
      refine j_ix1 hi ?_
      refine j_stc hC hm hj hJ dX2_type_43 (fun st14 e1 => ?_)
      replace hvc := hvc st14 e1; clear hm hi hj hJ e1
      refine j_aload_n hC dX2_type_44 rfl 0 rfl ?_
      refine j_dup hC dX2_type_45 g_c1 ?_
      obtain ⟨x15, ⟨fs, hr, hv⟩, hvc⟩ := hvc
      refine j_get hC fkX2_49_X2 dX2_type_46 hr hv ?_
      clear hv hr fs
      refine j_iconst hC (nI 1) dX2_type_49 rfl ?_
      refine j_iadd hC dX2_type_50 ?_
      obtain ⟨fs16, hm, hvc⟩ := hvc
      refine j_put hC fkX2_49_X2 dX2_type_51 hm rfl rfl (fun st17 e1 => ?_)
      replace hvc := hvc st17 e1; clear hm e1
      refine j_aload_n hC dX2_type_54 rfl 0 rfl ?_
      obtain ⟨x18, ⟨fs, hr, hv⟩, hvc⟩ := hvc
      refine j_get hC fkX2_49_X2 dX2_type_55 hr hv ?_
      clear hv hr fs
      exact hret _ _ _ _ _ _ dX2_type_58 rfl hvc
    · replace hvc := hvc.2 c7
      refine j_iconst hC (nI 0) dX2_type_32 rfl ?_
      exact hret _ _ _ _ _ _ dX2_type_33 rfl hvc
  refine j_if_ne (tgt := 12) hC dX2_type_5 rfl (fun c19 => ?_) (fun c19 => ?_)
  · replace hvc := hvc.1 c19
    refine j_aload_n hC dX2_type_12 rfl 0 rfl ?_
    obtain ⟨x20, ⟨fs, hr, hv⟩, hvc⟩ := hvc
    refine j_get hC fkX2_49_X2 dX2_type_13 hr hv ?_
    clear hv hr fs
    refine j_bipush hC (nI 24) dX2_type_16 rfl ?_
    refine j_icmp_ne (tgt := 25) hC dX2_type_18 rfl (fun c21 => ?_) (fun c21 => ?_)
    · replace hvc := hvc.1 c21
      refine j_iconst hC (nI 0) dX2_type_25 rfl ?_
      exact j_sub [0, 1] rfl (kh4 (nI 0) hvc)
    · replace hvc := hvc.2 c21
      refine j_iconst hC (nI 2) dX2_type_21 rfl ?_
      refine j_goto (tgt := 26) hC dX2_type_22 rfl ?_
      exact j_sub [0, 1] rfl (kh4 (nI 2) hvc)
  · replace hvc := hvc.2 c19
    refine j_iconst hC (nI 1) dX2_type_8 rfl ?_
    refine j_goto (tgt := 26) hC dX2_type_9 rfl ?_
    exact j_sub [0, 1] rfl (kh4 (nI 1) hvc)
theorem wk_X2_type {l : Launch} {E : g_E} {a0 : Nat} {p0 : Int32} {st : g_St} {mc ms : Nat} {Q : Int32 → g_St → Prop} (hvc : vc_X2_type l E a0 p0 st Q) : wp_X2_type l E mc ms [va_rf (some a0), .int p0] st Q :=
  g_enter (lv0 := [(0, va_rf (some a0)), (1, .int p0)]) (plainFor_of_name (by decide +kernel)) (by simp [lv_args, g_c1, g_ci, g_cL]) (by simp [lg_sl, g_c1, g_ci, g_cL]) (fun p e s m args below meth c hC => wb_X2_type hC ⟨Nat.le_refl _, Nat.le_refl _⟩ (fun pc lv v st1 cb sb hd hn hq => j_ireturn hC rfl hn hd (g_iv hq)) hvc)
abbrev wp_X2_in (l : Launch) (E : g_E) (mc ms : Nat) (av : List Value) (st : g_St) (Q : Int32 → g_St → Prop) : Prop := g_WPi l E yX2_in cX2_in 3 (some .boolean) 1 40 mc ms av st Q
def vc_X2_in (l : Launch) (E : g_E) (p0 : Int32) (p1 : Int32) (p2 : Int32) (st : g_St) (Q : Int32 → g_St → Prop) : Prop :=
  g_jn1 (fun (K2 : Int32 → Prop) => g_jn0 (fun (K4 : Prop) => (p0 < p1 → K4) ∧ (¬ p0 < p1 → (p2 < p0 → K4) ∧ (¬ p2 < p0 → K2 (nI 1)))) (K2 (nI 0))) (fun (x1 : Int32) => narrow .boolean (.int x1) = .int x1 ∧ Q x1 st)
set_option maxHeartbeats 4000000 in
theorem wb_X2_in {p : Program} {l : Launch} {e : Env} {R : Room} {s : State} {m : MethodId} {args : Array Value} {below : List Frame} {meth : Method} {c : Code} {E : g_E} {st0 : g_St} {Z : State → Prop} (hC : g_Cx p s m args meth c cX2_in 3 "StemspanModel" (some .boolean) "in" E st0) (hR : g_Rm 1 40 R) {p0 : Int32} {p1 : Int32} {p2 : Int32} {st : g_St} {cb sb : Nat} {Q : Int32 → g_St → Prop} (hret : ∀ (pc : Nat) (lv : List (Nat × Value)) (v : Int32) (st1 : g_St) (cb sb : Nat), decode cX2_in pc = .ok (.ireturn, 1) → narrow .boolean (.int v) = .int v → Q v st1 → g_J p l e R s m args below meth c 3 E st0 Z pc lv [.int v] st1 cb sb) (hvc : vc_X2_in l E p0 p1 p2 st Q) : g_J p l e R s m args below meth c 3 E st0 Z 0 [(0, .int p0), (1, .int p1), (2, .int p2)] [] st cb sb := by
  unfold vc_X2_in at hvc
  refine j_iload_n hC dX2_in_0 rfl 0 rfl ?_
  refine j_iload_n hC dX2_in_1 rfl 1 rfl ?_
  replace hvc := g_jn1_o hvc
  obtain ⟨K2, hK9, hvc⟩ := hvc
  have kh3 : ∀ (x1 : Int32), K2 x1 → g_J p l e R s m args below meth c 3 E st0 Z 15 [] [.int x1] st cb sb := by
    clear hvc
    intro x1 hvc
    replace hvc := hK9 _ hvc
    exact hret _ _ _ _ _ _ dX2_in_15 hvc.1 hvc.2
  replace hvc := g_jn0_o hvc
  obtain ⟨K4, hK8, hvc⟩ := hvc
  have kh5 : K4 → g_J p l e R s m args below meth c 3 E st0 Z 14 [] [] st cb sb := by
    clear hvc
    intro hvc
    replace hvc := hK8 hvc
    refine j_iconst hC (nI 0) dX2_in_14 rfl ?_
    exact j_sub [] rfl (kh3 (nI 0) hvc)
  refine j_icmp_lt (tgt := 14) hC dX2_in_2 rfl (fun c6 => ?_) (fun c6 => ?_)
  · replace hvc := hvc.1 c6
    exact j_sub [] rfl (kh5 hvc)
  · replace hvc := hvc.2 c6
    refine j_iload_n hC dX2_in_5 rfl 0 rfl ?_
    refine j_iload_n hC dX2_in_6 rfl 2 rfl ?_
    refine j_icmp_gt (tgt := 14) hC dX2_in_7 rfl (fun c7 => ?_) (fun c7 => ?_)
    · replace hvc := hvc.1 c7
      exact j_sub [] rfl (kh5 hvc)
    · replace hvc := hvc.2 c7
      refine j_iconst hC (nI 1) dX2_in_10 rfl ?_
      refine j_goto (tgt := 15) hC dX2_in_11 rfl ?_
      exact j_sub [] rfl (kh3 (nI 1) hvc)
theorem wk_X2_in {l : Launch} {E : g_E} {p0 : Int32} {p1 : Int32} {p2 : Int32} {st : g_St} {mc ms : Nat} {Q : Int32 → g_St → Prop} (hvc : vc_X2_in l E p0 p1 p2 st Q) : wp_X2_in l E mc ms [.int p0, .int p1, .int p2] st Q :=
  g_enter (lv0 := [(0, .int p0), (1, .int p1), (2, .int p2)]) (plainFor_of_name (by decide +kernel)) (by simp [lv_args, g_c1, g_ci, g_cL]) (by simp [lg_sl, g_c1, g_ci, g_cL]) (fun p e s m args below meth c hC => wb_X2_in hC ⟨Nat.le_refl _, Nat.le_refl _⟩ (fun pc lv v st1 cb sb hd hn hq => j_ireturn hC rfl hn hd (g_iv hq)) hvc)
abbrev wp_X2_typeMore (l : Launch) (E : g_E) (mc ms : Nat) (av : List Value) (st : g_St) (Q : Int32 → g_St → Prop) : Prop := g_WPi l E yX2_typeMore cX2_typeMore 5 (some .int) 2 62 mc ms av st Q
def vc_X2_typeMore (l : Launch) (E : g_E) (a0 : Nat) (p0 : Int32) (p1 : Int32) (st : g_St) (Q : Int32 → g_St → Prop) : Prop :=
  wp_X2_in l E 0 0 [.int p0, .int (nI 1), .int (nI 8)] st (fun x1 stx => stx = st ∧ g_jn1 (fun (K3 : Int32 → Prop) => g_jn0 (fun (K29 : Prop) => (x1 = 0 → K29) ∧ (¬ x1 = 0 → wp_X2_in l E 0 0 [.int p1, .int (nI 0), .int (nI 1679615)] st (fun x32 stx => stx = st ∧ (¬ x32 = 0 → ∃ x34 : Int32, g_gi st a0 16 8 x34 ∧ ((x34 + p0) ≤ (nI 24) → K3 (nI 0)) ∧ (¬ (x34 + p0) ≤ (nI 24) → K3 (nI 2))) ∧ (x32 = 0 → K29)))) (K3 (nI 1))) (fun (x2 : Int32) => g_is st a0 16 ∧ wp_X2_fails l E 0 0 [va_rf (some a0), .int x2] st (fun x5 st6 => g_Ext st st6 → (x5 = 0 → g_lp3 (fun (K11 : Int32 → Int32 → g_St → Prop) (x8 : Int32) (x9 : Int32) (st10 : g_St) => (p0 ≤ x9 → ∃ x15 : Int32, g_gi st10 a0 16 8 x15 ∧ Q x15 st10) ∧ (¬ p0 ≤ x9 → ∃ o16 : Option Nat, g_gr st10 a0 16 1 o16 ∧ ∃ x17 : Int32, g_gi st10 a0 16 8 x17 ∧ ∃ a18 : Nat, o16 = some a18 ∧ ∃ (n19 : Nat) (f20 : Nat → Int32) (j21 : Nat), st10.2.1 a18 = some (.inl (2, n19, .inl (f20))) ∧ x17 = nI j21 ∧ j21 < n19 ∧ j21 < 2 ^ 31 ∧ ∀ st22 : g_St, st22 = g_put st10 a18 (.inl (2, n19, .inl (va_up f20 j21 (vp_nar .char (((((nI 97) + (x8 - x8 / (nI 6) * (nI 6)))).toUInt32 % 65536).toInt32))))) → ∃ x23 : Int32, g_gi st22 a0 16 8 x23 ∧ ∃ fs24 : List Value, st22.2.1 a0 = some (.inr (16, fs24)) ∧ ∀ st25 : g_St, st25 = g_put st22 a0 (.inr (16, fs24.set 8 (.int (x23 + (nI 1))))) → K11 (x8 / (nI 6)) (x9 + (nI 1)) st25)) p1 (nI 0) st6) ∧ (¬ x5 = 0 → Q (nI 0) st6))))
set_option maxHeartbeats 4000000 in
theorem wb_X2_typeMore {p : Program} {l : Launch} {e : Env} {R : Room} {s : State} {m : MethodId} {args : Array Value} {below : List Frame} {meth : Method} {c : Code} {E : g_E} {st0 : g_St} {Z : State → Prop} (hC : g_Cx p s m args meth c cX2_typeMore 5 "StemspanModel" (some .int) "typeMore" E st0) (hR : g_Rm 2 62 R) {a0 : Nat} {p0 : Int32} {p1 : Int32} {st : g_St} {cb sb : Nat} {Q : Int32 → g_St → Prop} (hret : ∀ (pc : Nat) (lv : List (Nat × Value)) (v : Int32) (st1 : g_St) (cb sb : Nat), decode cX2_typeMore pc = .ok (.ireturn, 1) → narrow .int (.int v) = .int v → Q v st1 → g_J p l e R s m args below meth c 5 E st0 Z pc lv [.int v] st1 cb sb) (hvc : vc_X2_typeMore l E a0 p0 p1 st Q) : g_J p l e R s m args below meth c 5 E st0 Z 0 [(0, va_rf (some a0)), (1, .int p0), (2, .int p1)] [] st cb sb := by
  unfold vc_X2_typeMore at hvc
  refine j_aload_n hC dX2_typeMore_0 rfl 0 rfl ?_
  refine j_iload_n hC dX2_typeMore_1 rfl 1 rfl ?_
  refine j_iconst hC (nI 1) dX2_typeMore_2 rfl ?_
  refine j_bipush hC (nI 8) dX2_typeMore_3 rfl ?_
  refine j_callS (As := [.int p0, .int (nI 1), .int (nI 8)]) (rest := [va_rf (some a0)]) (n := 3) hC hvc (lw_S q2240 q2241 q60 q2242) (by decide +kernel) (g_rm hR rfl rfl) rfl rfl (g_sum rfl) dX2_typeMore_5 (Nat.zero_le _) (Nat.zero_le _) (g_Kip fun x1 hv2 => ?_)
  replace hvc := hv2; clear hv2
  replace hvc := g_jn1_o hvc
  obtain ⟨K3, hK37, hvc⟩ := hvc
  have kh4 : ∀ (x2 : Int32), K3 x2 → g_J p l e R s m args below meth c 5 E st0 Z 41 [(0, va_rf (some a0)), (1, .int p0), (2, .int p1)] [.int x2, va_rf (some a0)] st cb sb := by
    clear hvc
    intro x2 hvc
    replace hvc := hK37 _ hvc
    obtain ⟨⟨fs, hr⟩, hvc⟩ := hvc
    refine j_callV (As := [.int x2]) (rest := []) (n := 1) (ci := 16) hC hvc (lw_V q2232 q2234 qs20 q60 q2235) (by decide +kernel) (g_rm hR rfl rfl) rfl hr rfl rfl (g_sum rfl) dX2_typeMore_41 (Nat.zero_le _) (Nat.zero_le _) (g_Ki fun x5 st6 hv2 hx => ?_)
    replace hvc := hv2 hx; clear hx hv2
    clear hr fs
    refine j_if_eq (tgt := 49) hC dX2_typeMore_44 rfl (fun c7 => ?_) (fun c7 => ?_)
    · replace hvc := hvc.1 c7
      refine j_iload_n hC dX2_typeMore_49 rfl 2 rfl ?_
      refine j_istore_n (lv0 := [(2, .int p1), (0, va_rf (some a0)), (1, .int p0)]) hC dX2_typeMore_50 rfl rfl [2, 0, 1] rfl (g_okS.h rfl rfl rfl) ?_
      refine j_iconst hC (nI 0) dX2_typeMore_51 rfl ?_
      refine j_istore (lv0 := [(3, .int p1), (2, .int p1), (0, va_rf (some a0)), (1, .int p0)]) hC dX2_typeMore_52 rfl [0, 1, 2, 3] rfl (g_okS.h rfl rfl rfl) ?_
      replace hvc := g_lp3_o hvc
      obtain ⟨K11, hz26, hs27, n28, hvc⟩ := hvc
      have kh12 : ∀ (n : Nat) (x8 : Int32) (x9 : Int32) (st10 : g_St), K11 n x8 x9 st10 → g_J p l e R s m args below meth c 5 E st0 Z 54 [(0, va_rf (some a0)), (1, .int p0), (3, .int x8), (4, .int x9)] [] st10 cb sb := by
        clear hvc
        intro n
        induction n with
        | zero => intro x8 x9 st10 hvc; exact absurd hvc (hz26 _ _ _)
        | succ n ih13 =>
          intro x8 x9 st10 hvc
          replace hvc := hs27 n _ _ _ hvc
          refine j_iload hC dX2_typeMore_54 3 rfl ?_
          refine j_iload_n hC dX2_typeMore_56 rfl 1 rfl ?_
          refine j_icmp_ge (tgt := 98) hC dX2_typeMore_57 rfl (fun c14 => ?_) (fun c14 => ?_)
          · replace hvc := hvc.1 c14
            refine j_aload_n hC dX2_typeMore_98 rfl 0 rfl ?_
            obtain ⟨x15, ⟨fs, hr, hv⟩, hvc⟩ := hvc
            refine j_get hC fkX2_49_X2 dX2_typeMore_99 hr hv ?_
            clear hv hr fs
            exact hret _ _ _ _ _ _ dX2_typeMore_102 rfl hvc
          · replace hvc := hvc.2 c14
            refine j_aload_n hC dX2_typeMore_60 rfl 0 rfl ?_
            obtain ⟨o16, ⟨fs, hr, hv⟩, hvc⟩ := hvc
            refine j_get hC fkX2_13_X2 dX2_typeMore_61 hr hv ?_
            clear hv hr fs
            refine j_aload_n hC dX2_typeMore_64 rfl 0 rfl ?_
            obtain ⟨x17, ⟨fs, hr, hv⟩, hvc⟩ := hvc
            refine j_get hC fkX2_49_X2 dX2_typeMore_65 hr hv ?_
            clear hv hr fs
            refine j_bipush hC (nI 97) dX2_typeMore_68 rfl ?_
            refine j_iload_n hC dX2_typeMore_70 rfl 2 rfl ?_
            refine j_bipush hC (nI 6) dX2_typeMore_71 rfl ?_
            refine j_irem hC dX2_typeMore_73 (by decide) ?_
            refine j_iadd hC dX2_typeMore_74 ?_
            refine j_i2c hC dX2_typeMore_75 ?_
            obtain ⟨a18, rfl, hvc⟩ := hvc
            obtain ⟨n19, f20, j21, hm, hi, hj, hJ, hvc⟩ := hvc
            refine j_ix1 hi ?_
            refine j_stc hC hm hj hJ dX2_typeMore_76 (fun st22 e1 => ?_)
            replace hvc := hvc st22 e1; clear hm hi hj hJ e1
            refine j_aload_n hC dX2_typeMore_77 rfl 0 rfl ?_
            refine j_dup hC dX2_typeMore_78 g_c1 ?_
            obtain ⟨x23, ⟨fs, hr, hv⟩, hvc⟩ := hvc
            refine j_get hC fkX2_49_X2 dX2_typeMore_79 hr hv ?_
            clear hv hr fs
            refine j_iconst hC (nI 1) dX2_typeMore_82 rfl ?_
            refine j_iadd hC dX2_typeMore_83 ?_
            obtain ⟨fs24, hm, hvc⟩ := hvc
            refine j_put hC fkX2_49_X2 dX2_typeMore_84 hm rfl rfl (fun st25 e1 => ?_)
            replace hvc := hvc st25 e1; clear hm e1
            refine j_iload_n hC dX2_typeMore_87 rfl 2 rfl ?_
            refine j_bipush hC (nI 6) dX2_typeMore_88 rfl ?_
            refine j_idiv hC dX2_typeMore_90 (by decide) ?_
            refine j_istore_n (lv0 := [(0, va_rf (some a0)), (1, .int p0), (4, .int x9)]) hC dX2_typeMore_91 rfl rfl [0, 1, 3] rfl (g_okS.n rfl) ?_
            refine j_iinc (lv0 := [(3, .int (x8 / (nI 6))), (0, va_rf (some a0)), (1, .int p0)]) hC (nI 1) dX2_typeMore_92 3 rfl rfl rfl [0, 1, 2] rfl (g_okS.h rfl rfl rfl) ?_
            refine j_goto (tgt := 54) hC dX2_typeMore_95 rfl ?_
            exact j_sub [2, 3, 1, 0] rfl (ih13 (x8 / (nI 6)) (x9 + (nI 1)) st25 hvc)
      exact j_sub [3, 4, 1, 0] rfl (kh12 n28 p1 (nI 0) st6 hvc)
    · replace hvc := hvc.2 c7
      refine j_iconst hC (nI 0) dX2_typeMore_47 rfl ?_
      exact hret _ _ _ _ _ _ dX2_typeMore_48 rfl hvc
  replace hvc := g_jn0_o hvc
  obtain ⟨K29, hK36, hvc⟩ := hvc
  have kh30 : K29 → g_J p l e R s m args below meth c 5 E st0 Z 21 [(0, va_rf (some a0)), (1, .int p0), (2, .int p1)] [va_rf (some a0)] st cb sb := by
    clear hvc
    intro hvc
    replace hvc := hK36 hvc
    refine j_iconst hC (nI 1) dX2_typeMore_21 rfl ?_
    refine j_goto (tgt := 41) hC dX2_typeMore_22 rfl ?_
    exact j_sub [0, 1, 2] rfl (kh4 (nI 1) hvc)
  refine j_if_eq (tgt := 21) hC dX2_typeMore_8 rfl (fun c31 => ?_) (fun c31 => ?_)
  · replace hvc := hvc.1 c31
    exact j_sub [0, 1, 2] rfl (kh30 hvc)
  · replace hvc := hvc.2 c31
    refine j_iload_n hC dX2_typeMore_11 rfl 2 rfl ?_
    refine j_iconst hC (nI 0) dX2_typeMore_12 rfl ?_
    refine j_ldc hC (nI 1679615) q2243 dX2_typeMore_13 ?_
    refine j_callS (As := [.int p1, .int (nI 0), .int (nI 1679615)]) (rest := [va_rf (some a0)]) (n := 3) hC hvc (lw_S q2240 q2241 q60 q2242) (by decide +kernel) (g_rm hR rfl rfl) rfl rfl (g_sum rfl) dX2_typeMore_15 (Nat.zero_le _) (Nat.zero_le _) (g_Kip fun x32 hv2 => ?_)
    replace hvc := hv2; clear hv2
    refine j_if_ne (tgt := 25) hC dX2_typeMore_18 rfl (fun c33 => ?_) (fun c33 => ?_)
    · replace hvc := hvc.1 c33
      refine j_aload_n hC dX2_typeMore_25 rfl 0 rfl ?_
      obtain ⟨x34, ⟨fs, hr, hv⟩, hvc⟩ := hvc
      refine j_get hC fkX2_49_X2 dX2_typeMore_26 hr hv ?_
      clear hv hr fs
      refine j_iload_n hC dX2_typeMore_29 rfl 1 rfl ?_
      refine j_iadd hC dX2_typeMore_30 ?_
      refine j_bipush hC (nI 24) dX2_typeMore_31 rfl ?_
      refine j_icmp_le (tgt := 40) hC dX2_typeMore_33 rfl (fun c35 => ?_) (fun c35 => ?_)
      · replace hvc := hvc.1 c35
        refine j_iconst hC (nI 0) dX2_typeMore_40 rfl ?_
        exact j_sub [0, 1, 2] rfl (kh4 (nI 0) hvc)
      · replace hvc := hvc.2 c35
        refine j_iconst hC (nI 2) dX2_typeMore_36 rfl ?_
        refine j_goto (tgt := 41) hC dX2_typeMore_37 rfl ?_
        exact j_sub [0, 1, 2] rfl (kh4 (nI 2) hvc)
    · replace hvc := hvc.2 c33
      exact j_sub [0, 1, 2] rfl (kh30 hvc)
theorem wk_X2_typeMore {l : Launch} {E : g_E} {a0 : Nat} {p0 : Int32} {p1 : Int32} {st : g_St} {mc ms : Nat} {Q : Int32 → g_St → Prop} (hvc : vc_X2_typeMore l E a0 p0 p1 st Q) : wp_X2_typeMore l E mc ms [va_rf (some a0), .int p0, .int p1] st Q :=
  g_enter (lv0 := [(0, va_rf (some a0)), (1, .int p0), (2, .int p1)]) (plainFor_of_name (by decide +kernel)) (by simp [lv_args, g_c1, g_ci, g_cL]) (by simp [lg_sl, g_c1, g_ci, g_cL]) (fun p e s m args below meth c hC => wb_X2_typeMore hC ⟨Nat.le_refl _, Nat.le_refl _⟩ (fun pc lv v st1 cb sb hd hn hq => j_ireturn hC rfl hn hd (g_iv hq)) hvc)
abbrev wp_X2_typeAt (l : Launch) (E : g_E) (mc ms : Nat) (av : List Value) (st : g_St) (Q : Int32 → g_St → Prop) : Prop := g_WPi l E yX2_typeAt cX2_typeAt 4 (some .int) 2 62 mc ms av st Q
def vc_X2_typeAt (l : Launch) (E : g_E) (a0 : Nat) (p0 : Int32) (p1 : Int32) (st : g_St) (Q : Int32 → g_St → Prop) : Prop :=
  ∃ x1 : Int32, g_gi st a0 16 8 x1 ∧ wp_X2_in l E 0 0 [.int p0, .int (nI 0), .int x1] st (fun x2 stx => stx = st ∧ g_jn1 (fun (K4 : Int32 → Prop) => (¬ x2 = 0 → wp_X2_isSign l E 0 0 [.int p1] st (fun x41 stx => stx = st ∧ (¬ x41 = 0 → ∃ x43 : Int32, g_gi st a0 16 8 x43 ∧ (¬ x43 = (nI 24) → K4 (nI 0)) ∧ (x43 = (nI 24) → K4 (nI 3))) ∧ (x41 = 0 → K4 (nI 2)))) ∧ (x2 = 0 → K4 (nI 1))) (fun (x3 : Int32) => g_is st a0 16 ∧ wp_X2_fails l E 0 0 [va_rf (some a0), .int x3] st (fun x6 st7 => g_Ext st st7 → (x6 = 0 → ∃ x9 : Int32, g_gi st7 a0 16 8 x9 ∧ g_lp2 (fun (K12 : Int32 → g_St → Prop) (x10 : Int32) (st11 : g_St) => (x10 ≤ p0 → ∃ o16 : Option Nat, g_gr st11 a0 16 1 o16 ∧ ∃ a17 : Nat, o16 = some a17 ∧ ∃ (n18 : Nat) (f19 : Nat → Int32) (j20 : Nat), st11.2.1 a17 = some (.inl (2, n18, .inl (f19))) ∧ p0 = nI j20 ∧ j20 < n18 ∧ j20 < 2 ^ 31 ∧ ∀ st21 : g_St, st21 = g_put st11 a17 (.inl (2, n18, .inl (va_up f19 j20 (vp_nar .char p1)))) → ∃ x22 : Int32, g_gi st21 a0 16 8 x22 ∧ ∃ fs23 : List Value, st21.2.1 a0 = some (.inr (16, fs23)) ∧ ∀ st24 : g_St, st24 = g_put st21 a0 (.inr (16, fs23.set 8 (.int (x22 + (nI 1))))) → ∃ x25 : Int32, g_gi st24 a0 16 8 x25 ∧ Q x25 st24) ∧ (¬ x10 ≤ p0 → ∃ o26 : Option Nat, g_gr st11 a0 16 1 o26 ∧ ∃ o27 : Option Nat, g_gr st11 a0 16 1 o27 ∧ ∃ a28 : Nat, o27 = some a28 ∧ ∃ (n29 : Nat) (f30 : Nat → Int32) (j31 : Nat), g_ai st11 a28 2 n29 f30 ∧ (x10 - (nI 1)) = nI j31 ∧ j31 < n29 ∧ j31 < 2 ^ 31 ∧ ∃ a32 : Nat, o26 = some a32 ∧ ∃ (n33 : Nat) (f34 : Nat → Int32) (j35 : Nat), st11.2.1 a32 = some (.inl (2, n33, .inl (f34))) ∧ x10 = nI j35 ∧ j35 < n33 ∧ j35 < 2 ^ 31 ∧ ∀ st36 : g_St, st36 = g_put st11 a32 (.inl (2, n33, .inl (va_up f34 j35 (vp_nar .char (f30 j31))))) → K12 (x10 + (-1)) st36)) x9 st7) ∧ (¬ x6 = 0 → Q (nI 0) st7))))
set_option maxHeartbeats 4000000 in
theorem wb_X2_typeAt {p : Program} {l : Launch} {e : Env} {R : Room} {s : State} {m : MethodId} {args : Array Value} {below : List Frame} {meth : Method} {c : Code} {E : g_E} {st0 : g_St} {Z : State → Prop} (hC : g_Cx p s m args meth c cX2_typeAt 4 "StemspanModel" (some .int) "typeAt" E st0) (hR : g_Rm 2 62 R) {a0 : Nat} {p0 : Int32} {p1 : Int32} {st : g_St} {cb sb : Nat} {Q : Int32 → g_St → Prop} (hret : ∀ (pc : Nat) (lv : List (Nat × Value)) (v : Int32) (st1 : g_St) (cb sb : Nat), decode cX2_typeAt pc = .ok (.ireturn, 1) → narrow .int (.int v) = .int v → Q v st1 → g_J p l e R s m args below meth c 4 E st0 Z pc lv [.int v] st1 cb sb) (hvc : vc_X2_typeAt l E a0 p0 p1 st Q) : g_J p l e R s m args below meth c 4 E st0 Z 0 [(0, va_rf (some a0)), (1, .int p0), (2, .int p1)] [] st cb sb := by
  unfold vc_X2_typeAt at hvc
  refine j_aload_n hC dX2_typeAt_0 rfl 0 rfl ?_
  refine j_iload_n hC dX2_typeAt_1 rfl 1 rfl ?_
  refine j_iconst hC (nI 0) dX2_typeAt_2 rfl ?_
  refine j_aload_n hC dX2_typeAt_3 rfl 0 rfl ?_
  obtain ⟨x1, ⟨fs, hr, hv⟩, hvc⟩ := hvc
  refine j_get hC fkX2_49_X2 dX2_typeAt_4 hr hv ?_
  clear hv hr fs
  refine j_callS (As := [.int p0, .int (nI 0), .int x1]) (rest := [va_rf (some a0)]) (n := 3) hC hvc (lw_S q2240 q2241 q60 q2242) (by decide +kernel) (g_rm hR rfl rfl) rfl rfl (g_sum rfl) dX2_typeAt_7 (Nat.zero_le _) (Nat.zero_le _) (g_Kip fun x2 hv2 => ?_)
  replace hvc := hv2; clear hv2
  replace hvc := g_jn1_o hvc
  obtain ⟨K4, hK45, hvc⟩ := hvc
  have kh5 : ∀ (x3 : Int32), K4 x3 → g_J p l e R s m args below meth c 4 E st0 Z 42 [(0, va_rf (some a0)), (1, .int p0), (2, .int p1)] [.int x3, va_rf (some a0)] st cb sb := by
    clear hvc
    intro x3 hvc
    replace hvc := hK45 _ hvc
    obtain ⟨⟨fs, hr⟩, hvc⟩ := hvc
    refine j_callV (As := [.int x3]) (rest := []) (n := 1) (ci := 16) hC hvc (lw_V q2232 q2234 qs20 q60 q2235) (by decide +kernel) (g_rm hR rfl rfl) rfl hr rfl rfl (g_sum rfl) dX2_typeAt_42 (Nat.zero_le _) (Nat.zero_le _) (g_Ki fun x6 st7 hv2 hx => ?_)
    replace hvc := hv2 hx; clear hx hv2
    clear hr fs
    refine j_if_eq (tgt := 50) hC dX2_typeAt_45 rfl (fun c8 => ?_) (fun c8 => ?_)
    · replace hvc := hvc.1 c8
      refine j_aload_n hC dX2_typeAt_50 rfl 0 rfl ?_
      obtain ⟨x9, ⟨fs, hr, hv⟩, hvc⟩ := hvc
      refine j_get hC fkX2_49_X2 dX2_typeAt_51 hr hv ?_
      clear hv hr fs
      refine j_istore_n (lv0 := [(2, .int p1), (0, va_rf (some a0)), (1, .int p0)]) hC dX2_typeAt_54 rfl rfl [2, 0, 1] rfl (g_okS.h rfl rfl rfl) ?_
      replace hvc := g_lp2_o hvc
      obtain ⟨K12, hz37, hs38, n39, hvc⟩ := hvc
      have kh13 : ∀ (n : Nat) (x10 : Int32) (st11 : g_St), K12 n x10 st11 → g_J p l e R s m args below meth c 4 E st0 Z 55 [(0, va_rf (some a0)), (1, .int p0), (2, .int p1), (3, .int x10)] [] st11 cb sb := by
        clear hvc
        intro n
        induction n with
        | zero => intro x10 st11 hvc; exact absurd hvc (hz37 _ _)
        | succ n ih14 =>
          intro x10 st11 hvc
          replace hvc := hs38 n _ _ hvc
          refine j_iload_n hC dX2_typeAt_55 rfl 3 rfl ?_
          refine j_iload_n hC dX2_typeAt_56 rfl 1 rfl ?_
          refine j_icmp_le (tgt := 80) hC dX2_typeAt_57 rfl (fun c15 => ?_) (fun c15 => ?_)
          · replace hvc := hvc.1 c15
            refine j_aload_n hC dX2_typeAt_80 rfl 0 rfl ?_
            obtain ⟨o16, ⟨fs, hr, hv⟩, hvc⟩ := hvc
            refine j_get hC fkX2_13_X2 dX2_typeAt_81 hr hv ?_
            clear hv hr fs
            refine j_iload_n hC dX2_typeAt_84 rfl 1 rfl ?_
            refine j_iload_n hC dX2_typeAt_85 rfl 2 rfl ?_
            obtain ⟨a17, rfl, hvc⟩ := hvc
            obtain ⟨n18, f19, j20, hm, hi, hj, hJ, hvc⟩ := hvc
            refine j_ix1 hi ?_
            refine j_stc hC hm hj hJ dX2_typeAt_86 (fun st21 e1 => ?_)
            replace hvc := hvc st21 e1; clear hm hi hj hJ e1
            refine j_aload_n hC dX2_typeAt_87 rfl 0 rfl ?_
            refine j_dup hC dX2_typeAt_88 g_c1 ?_
            obtain ⟨x22, ⟨fs, hr, hv⟩, hvc⟩ := hvc
            refine j_get hC fkX2_49_X2 dX2_typeAt_89 hr hv ?_
            clear hv hr fs
            refine j_iconst hC (nI 1) dX2_typeAt_92 rfl ?_
            refine j_iadd hC dX2_typeAt_93 ?_
            obtain ⟨fs23, hm, hvc⟩ := hvc
            refine j_put hC fkX2_49_X2 dX2_typeAt_94 hm rfl rfl (fun st24 e1 => ?_)
            replace hvc := hvc st24 e1; clear hm e1
            refine j_aload_n hC dX2_typeAt_97 rfl 0 rfl ?_
            obtain ⟨x25, ⟨fs, hr, hv⟩, hvc⟩ := hvc
            refine j_get hC fkX2_49_X2 dX2_typeAt_98 hr hv ?_
            clear hv hr fs
            exact hret _ _ _ _ _ _ dX2_typeAt_101 rfl hvc
          · replace hvc := hvc.2 c15
            refine j_aload_n hC dX2_typeAt_60 rfl 0 rfl ?_
            obtain ⟨o26, ⟨fs, hr, hv⟩, hvc⟩ := hvc
            refine j_get hC fkX2_13_X2 dX2_typeAt_61 hr hv ?_
            clear hv hr fs
            refine j_iload_n hC dX2_typeAt_64 rfl 3 rfl ?_
            refine j_aload_n hC dX2_typeAt_65 rfl 0 rfl ?_
            obtain ⟨o27, ⟨fs, hr, hv⟩, hvc⟩ := hvc
            refine j_get hC fkX2_13_X2 dX2_typeAt_66 hr hv ?_
            clear hv hr fs
            refine j_iload_n hC dX2_typeAt_69 rfl 3 rfl ?_
            refine j_iconst hC (nI 1) dX2_typeAt_70 rfl ?_
            refine j_isub hC dX2_typeAt_71 ?_
            obtain ⟨a28, rfl, hvc⟩ := hvc
            obtain ⟨n29, f30, j31, hr, hi, hj, hJ, hvc⟩ := hvc
            refine j_ix hi ?_
            refine j_cald hC hr hj hJ dX2_typeAt_72 ?_
            clear hr hi hj hJ
            obtain ⟨a32, rfl, hvc⟩ := hvc
            obtain ⟨n33, f34, j35, hm, hi, hj, hJ, hvc⟩ := hvc
            refine j_ix1 hi ?_
            refine j_stc hC hm hj hJ dX2_typeAt_73 (fun st36 e1 => ?_)
            replace hvc := hvc st36 e1; clear hm hi hj hJ e1
            refine j_iinc (lv0 := [(2, .int p1), (0, va_rf (some a0)), (1, .int p0)]) hC (-1) dX2_typeAt_74 3 rfl rfl rfl [2, 0, 1] rfl (g_okS.h rfl rfl rfl) ?_
            refine j_goto (tgt := 55) hC dX2_typeAt_77 rfl ?_
            exact j_sub [2, 3, 1, 0] rfl (ih14 (x10 + (-1)) st36 hvc)
      exact j_sub [2, 3, 1, 0] rfl (kh13 n39 x9 st7 hvc)
    · replace hvc := hvc.2 c8
      refine j_iconst hC (nI 0) dX2_typeAt_48 rfl ?_
      exact hret _ _ _ _ _ _ dX2_typeAt_49 rfl hvc
  refine j_if_ne (tgt := 17) hC dX2_typeAt_10 rfl (fun c40 => ?_) (fun c40 => ?_)
  · replace hvc := hvc.1 c40
    refine j_iload_n hC dX2_typeAt_17 rfl 2 rfl ?_
    refine j_callS (As := [.int p1]) (rest := [va_rf (some a0)]) (n := 1) hC hvc (lw_S q2229 q2230 q60 q2231) (by decide +kernel) (g_rm hR rfl rfl) rfl rfl (g_sum rfl) dX2_typeAt_18 (Nat.zero_le _) (Nat.zero_le _) (g_Kip fun x41 hv2 => ?_)
    replace hvc := hv2; clear hv2
    refine j_if_ne (tgt := 28) hC dX2_typeAt_21 rfl (fun c42 => ?_) (fun c42 => ?_)
    · replace hvc := hvc.1 c42
      refine j_aload_n hC dX2_typeAt_28 rfl 0 rfl ?_
      obtain ⟨x43, ⟨fs, hr, hv⟩, hvc⟩ := hvc
      refine j_get hC fkX2_49_X2 dX2_typeAt_29 hr hv ?_
      clear hv hr fs
      refine j_bipush hC (nI 24) dX2_typeAt_32 rfl ?_
      refine j_icmp_ne (tgt := 41) hC dX2_typeAt_34 rfl (fun c44 => ?_) (fun c44 => ?_)
      · replace hvc := hvc.1 c44
        refine j_iconst hC (nI 0) dX2_typeAt_41 rfl ?_
        exact j_sub [0, 1, 2] rfl (kh5 (nI 0) hvc)
      · replace hvc := hvc.2 c44
        refine j_iconst hC (nI 3) dX2_typeAt_37 rfl ?_
        refine j_goto (tgt := 42) hC dX2_typeAt_38 rfl ?_
        exact j_sub [0, 1, 2] rfl (kh5 (nI 3) hvc)
    · replace hvc := hvc.2 c42
      refine j_iconst hC (nI 2) dX2_typeAt_24 rfl ?_
      refine j_goto (tgt := 42) hC dX2_typeAt_25 rfl ?_
      exact j_sub [0, 1, 2] rfl (kh5 (nI 2) hvc)
  · replace hvc := hvc.2 c40
    refine j_iconst hC (nI 1) dX2_typeAt_13 rfl ?_
    refine j_goto (tgt := 42) hC dX2_typeAt_14 rfl ?_
    exact j_sub [0, 1, 2] rfl (kh5 (nI 1) hvc)
theorem wk_X2_typeAt {l : Launch} {E : g_E} {a0 : Nat} {p0 : Int32} {p1 : Int32} {st : g_St} {mc ms : Nat} {Q : Int32 → g_St → Prop} (hvc : vc_X2_typeAt l E a0 p0 p1 st Q) : wp_X2_typeAt l E mc ms [va_rf (some a0), .int p0, .int p1] st Q :=
  g_enter (lv0 := [(0, va_rf (some a0)), (1, .int p0), (2, .int p1)]) (plainFor_of_name (by decide +kernel)) (by simp [lv_args, g_c1, g_ci, g_cL]) (by simp [lg_sl, g_c1, g_ci, g_cL]) (fun p e s m args below meth c hC => wb_X2_typeAt hC ⟨Nat.le_refl _, Nat.le_refl _⟩ (fun pc lv v st1 cb sb hd hn hq => j_ireturn hC rfl hn hd (g_iv hq)) hvc)
abbrev wp_X2_drop (l : Launch) (E : g_E) (mc ms : Nat) (av : List Value) (st : g_St) (Q : Int32 → g_St → Prop) : Prop := g_WPi l E yX2_drop cX2_drop 1 (some .int) 2 61 mc ms av st Q
def vc_X2_drop (l : Launch) (E : g_E) (a0 : Nat) (st : g_St) (Q : Int32 → g_St → Prop) : Prop :=
  ∃ x1 : Int32, g_gi st a0 16 8 x1 ∧ g_jn1 (fun (K3 : Int32 → Prop) => (¬ x1 = 0 → K3 (nI 0)) ∧ (x1 = 0 → K3 (nI 1))) (fun (x2 : Int32) => g_is st a0 16 ∧ wp_X2_fails l E 0 0 [va_rf (some a0), .int x2] st (fun x5 st6 => g_Ext st st6 → (x5 = 0 → ∃ x8 : Int32, g_gi st6 a0 16 8 x8 ∧ ∃ fs9 : List Value, st6.2.1 a0 = some (.inr (16, fs9)) ∧ ∀ st10 : g_St, st10 = g_put st6 a0 (.inr (16, fs9.set 8 (.int (x8 - (nI 1))))) → ∃ x11 : Int32, g_gi st10 a0 16 8 x11 ∧ Q x11 st10) ∧ (¬ x5 = 0 → Q (nI 0) st6)))
set_option maxHeartbeats 4000000 in
theorem wb_X2_drop {p : Program} {l : Launch} {e : Env} {R : Room} {s : State} {m : MethodId} {args : Array Value} {below : List Frame} {meth : Method} {c : Code} {E : g_E} {st0 : g_St} {Z : State → Prop} (hC : g_Cx p s m args meth c cX2_drop 1 "StemspanModel" (some .int) "drop" E st0) (hR : g_Rm 2 61 R) {a0 : Nat} {st : g_St} {cb sb : Nat} {Q : Int32 → g_St → Prop} (hret : ∀ (pc : Nat) (lv : List (Nat × Value)) (v : Int32) (st1 : g_St) (cb sb : Nat), decode cX2_drop pc = .ok (.ireturn, 1) → narrow .int (.int v) = .int v → Q v st1 → g_J p l e R s m args below meth c 1 E st0 Z pc lv [.int v] st1 cb sb) (hvc : vc_X2_drop l E a0 st Q) : g_J p l e R s m args below meth c 1 E st0 Z 0 [(0, va_rf (some a0))] [] st cb sb := by
  unfold vc_X2_drop at hvc
  refine j_aload_n hC dX2_drop_0 rfl 0 rfl ?_
  refine j_aload_n hC dX2_drop_1 rfl 0 rfl ?_
  obtain ⟨x1, ⟨fs, hr, hv⟩, hvc⟩ := hvc
  refine j_get hC fkX2_49_X2 dX2_drop_2 hr hv ?_
  clear hv hr fs
  replace hvc := g_jn1_o hvc
  obtain ⟨K3, hK13, hvc⟩ := hvc
  have kh4 : ∀ (x2 : Int32), K3 x2 → g_J p l e R s m args below meth c 1 E st0 Z 13 [(0, va_rf (some a0))] [.int x2, va_rf (some a0)] st cb sb := by
    clear hvc
    intro x2 hvc
    replace hvc := hK13 _ hvc
    obtain ⟨⟨fs, hr⟩, hvc⟩ := hvc
    refine j_callV (As := [.int x2]) (rest := []) (n := 1) (ci := 16) hC hvc (lw_V q2232 q2234 qs20 q60 q2235) (by decide +kernel) (g_rm hR rfl rfl) rfl hr rfl rfl (g_sum rfl) dX2_drop_13 (Nat.zero_le _) (Nat.zero_le _) (g_Ki fun x5 st6 hv2 hx => ?_)
    replace hvc := hv2 hx; clear hx hv2
    clear hr fs
    refine j_if_eq (tgt := 21) hC dX2_drop_16 rfl (fun c7 => ?_) (fun c7 => ?_)
    · replace hvc := hvc.1 c7
      refine j_aload_n hC dX2_drop_21 rfl 0 rfl ?_
      refine j_dup hC dX2_drop_22 g_c1 ?_
      obtain ⟨x8, ⟨fs, hr, hv⟩, hvc⟩ := hvc
      refine j_get hC fkX2_49_X2 dX2_drop_23 hr hv ?_
      clear hv hr fs
      refine j_iconst hC (nI 1) dX2_drop_26 rfl ?_
      refine j_isub hC dX2_drop_27 ?_
      obtain ⟨fs9, hm, hvc⟩ := hvc
      refine j_put hC fkX2_49_X2 dX2_drop_28 hm rfl rfl (fun st10 e1 => ?_)
      replace hvc := hvc st10 e1; clear hm e1
      refine j_aload_n hC dX2_drop_31 rfl 0 rfl ?_
      obtain ⟨x11, ⟨fs, hr, hv⟩, hvc⟩ := hvc
      refine j_get hC fkX2_49_X2 dX2_drop_32 hr hv ?_
      clear hv hr fs
      exact hret _ _ _ _ _ _ dX2_drop_35 rfl hvc
    · replace hvc := hvc.2 c7
      refine j_iconst hC (nI 0) dX2_drop_19 rfl ?_
      exact hret _ _ _ _ _ _ dX2_drop_20 rfl hvc
  refine j_if_ne (tgt := 12) hC dX2_drop_5 rfl (fun c12 => ?_) (fun c12 => ?_)
  · replace hvc := hvc.1 c12
    refine j_iconst hC (nI 0) dX2_drop_12 rfl ?_
    exact j_sub [0] rfl (kh4 (nI 0) hvc)
  · replace hvc := hvc.2 c12
    refine j_iconst hC (nI 1) dX2_drop_8 rfl ?_
    refine j_goto (tgt := 13) hC dX2_drop_9 rfl ?_
    exact j_sub [0] rfl (kh4 (nI 1) hvc)
theorem wk_X2_drop {l : Launch} {E : g_E} {a0 : Nat} {st : g_St} {mc ms : Nat} {Q : Int32 → g_St → Prop} (hvc : vc_X2_drop l E a0 st Q) : wp_X2_drop l E mc ms [va_rf (some a0)] st Q :=
  g_enter (lv0 := [(0, va_rf (some a0))]) (plainFor_of_name (by decide +kernel)) (by simp [lv_args, g_c1, g_ci, g_cL]) (by simp [lg_sl, g_c1, g_ci, g_cL]) (fun p e s m args below meth c hC => wb_X2_drop hC ⟨Nat.le_refl _, Nat.le_refl _⟩ (fun pc lv v st1 cb sb hd hn hq => j_ireturn hC rfl hn hd (g_iv hq)) hvc)
abbrev wp_X2_clip (l : Launch) (E : g_E) (mc ms : Nat) (av : List Value) (st : g_St) (Q : Int32 → g_St → Prop) : Prop := g_WPi l E yX2_clip cX2_clip 4 (some .int) 2 61 mc ms av st Q
def vc_X2_clip (l : Launch) (E : g_E) (a0 : Nat) (p0 : Int32) (p1 : Int32) (st : g_St) (Q : Int32 → g_St → Prop) : Prop :=
  g_jn1 (fun (K2 : Int32 → Prop) => g_jn0 (fun (K32 : Prop) => (p0 < 0 → K32) ∧ (¬ p0 < 0 → (p1 < p0 → K32) ∧ (¬ p1 < p0 → ∃ x36 : Int32, g_gi st a0 16 8 x36 ∧ (p1 ≤ x36 → K2 (nI 0)) ∧ (¬ p1 ≤ x36 → K32)))) (K2 (nI 1))) (fun (x1 : Int32) => g_is st a0 16 ∧ wp_X2_fails l E 0 0 [va_rf (some a0), .int x1] st (fun x4 st5 => g_Ext st st5 → (x4 = 0 → g_lp2 (fun (K9 : Int32 → g_St → Prop) (x7 : Int32) (st8 : g_St) => ∃ x12 : Int32, g_gi st8 a0 16 8 x12 ∧ (x12 ≤ x7 → ∃ x14 : Int32, g_gi st8 a0 16 8 x14 ∧ ∃ fs15 : List Value, st8.2.1 a0 = some (.inr (16, fs15)) ∧ ∀ st16 : g_St, st16 = g_put st8 a0 (.inr (16, fs15.set 8 (.int (x14 - (p1 - p0))))) → ∃ x17 : Int32, g_gi st16 a0 16 8 x17 ∧ Q x17 st16) ∧ (¬ x12 ≤ x7 → ∃ o18 : Option Nat, g_gr st8 a0 16 1 o18 ∧ ∃ o19 : Option Nat, g_gr st8 a0 16 1 o19 ∧ ∃ a20 : Nat, o19 = some a20 ∧ ∃ (n21 : Nat) (f22 : Nat → Int32) (j23 : Nat), g_ai st8 a20 2 n21 f22 ∧ x7 = nI j23 ∧ j23 < n21 ∧ j23 < 2 ^ 31 ∧ ∃ a24 : Nat, o18 = some a24 ∧ ∃ (n25 : Nat) (f26 : Nat → Int32) (j27 : Nat), st8.2.1 a24 = some (.inl (2, n25, .inl (f26))) ∧ ((p0 + x7) - p1) = nI j27 ∧ j27 < n25 ∧ j27 < 2 ^ 31 ∧ ∀ st28 : g_St, st28 = g_put st8 a24 (.inl (2, n25, .inl (va_up f26 j27 (vp_nar .char (f22 j23))))) → K9 (x7 + (nI 1)) st28)) p1 st5) ∧ (¬ x4 = 0 → Q (nI 0) st5)))
set_option maxHeartbeats 4000000 in
theorem wb_X2_clip {p : Program} {l : Launch} {e : Env} {R : Room} {s : State} {m : MethodId} {args : Array Value} {below : List Frame} {meth : Method} {c : Code} {E : g_E} {st0 : g_St} {Z : State → Prop} (hC : g_Cx p s m args meth c cX2_clip 4 "StemspanModel" (some .int) "clip" E st0) (hR : g_Rm 2 61 R) {a0 : Nat} {p0 : Int32} {p1 : Int32} {st : g_St} {cb sb : Nat} {Q : Int32 → g_St → Prop} (hret : ∀ (pc : Nat) (lv : List (Nat × Value)) (v : Int32) (st1 : g_St) (cb sb : Nat), decode cX2_clip pc = .ok (.ireturn, 1) → narrow .int (.int v) = .int v → Q v st1 → g_J p l e R s m args below meth c 4 E st0 Z pc lv [.int v] st1 cb sb) (hvc : vc_X2_clip l E a0 p0 p1 st Q) : g_J p l e R s m args below meth c 4 E st0 Z 0 [(0, va_rf (some a0)), (1, .int p0), (2, .int p1)] [] st cb sb := by
  unfold vc_X2_clip at hvc
  refine j_aload_n hC dX2_clip_0 rfl 0 rfl ?_
  refine j_iload_n hC dX2_clip_1 rfl 1 rfl ?_
  replace hvc := g_jn1_o hvc
  obtain ⟨K2, hK39, hvc⟩ := hvc
  have kh3 : ∀ (x1 : Int32), K2 x1 → g_J p l e R s m args below meth c 4 E st0 Z 23 [(0, va_rf (some a0)), (1, .int p0), (2, .int p1)] [.int x1, va_rf (some a0)] st cb sb := by
    clear hvc
    intro x1 hvc
    replace hvc := hK39 _ hvc
    obtain ⟨⟨fs, hr⟩, hvc⟩ := hvc
    refine j_callV (As := [.int x1]) (rest := []) (n := 1) (ci := 16) hC hvc (lw_V q2232 q2234 qs20 q60 q2235) (by decide +kernel) (g_rm hR rfl rfl) rfl hr rfl rfl (g_sum rfl) dX2_clip_23 (Nat.zero_le _) (Nat.zero_le _) (g_Ki fun x4 st5 hv2 hx => ?_)
    replace hvc := hv2 hx; clear hx hv2
    clear hr fs
    refine j_if_eq (tgt := 31) hC dX2_clip_26 rfl (fun c6 => ?_) (fun c6 => ?_)
    · replace hvc := hvc.1 c6
      refine j_iload_n hC dX2_clip_31 rfl 2 rfl ?_
      refine j_istore_n (lv0 := [(2, .int p1), (0, va_rf (some a0)), (1, .int p0)]) hC dX2_clip_32 rfl rfl [2, 0, 1] rfl (g_okS.h rfl rfl rfl) ?_
      replace hvc := g_lp2_o hvc
      obtain ⟨K9, hz29, hs30, n31, hvc⟩ := hvc
      have kh10 : ∀ (n : Nat) (x7 : Int32) (st8 : g_St), K9 n x7 st8 → g_J p l e R s m args below meth c 4 E st0 Z 33 [(0, va_rf (some a0)), (1, .int p0), (2, .int p1), (3, .int x7)] [] st8 cb sb := by
        clear hvc
        intro n
        induction n with
        | zero => intro x7 st8 hvc; exact absurd hvc (hz29 _ _)
        | succ n ih11 =>
          intro x7 st8 hvc
          replace hvc := hs30 n _ _ hvc
          refine j_iload_n hC dX2_clip_33 rfl 3 rfl ?_
          refine j_aload_n hC dX2_clip_34 rfl 0 rfl ?_
          obtain ⟨x12, ⟨fs, hr, hv⟩, hvc⟩ := hvc
          refine j_get hC fkX2_49_X2 dX2_clip_35 hr hv ?_
          clear hv hr fs
          refine j_icmp_ge (tgt := 63) hC dX2_clip_38 rfl (fun c13 => ?_) (fun c13 => ?_)
          · replace hvc := hvc.1 c13
            refine j_aload_n hC dX2_clip_63 rfl 0 rfl ?_
            refine j_dup hC dX2_clip_64 g_c1 ?_
            obtain ⟨x14, ⟨fs, hr, hv⟩, hvc⟩ := hvc
            refine j_get hC fkX2_49_X2 dX2_clip_65 hr hv ?_
            clear hv hr fs
            refine j_iload_n hC dX2_clip_68 rfl 2 rfl ?_
            refine j_iload_n hC dX2_clip_69 rfl 1 rfl ?_
            refine j_isub hC dX2_clip_70 ?_
            refine j_isub hC dX2_clip_71 ?_
            obtain ⟨fs15, hm, hvc⟩ := hvc
            refine j_put hC fkX2_49_X2 dX2_clip_72 hm rfl rfl (fun st16 e1 => ?_)
            replace hvc := hvc st16 e1; clear hm e1
            refine j_aload_n hC dX2_clip_75 rfl 0 rfl ?_
            obtain ⟨x17, ⟨fs, hr, hv⟩, hvc⟩ := hvc
            refine j_get hC fkX2_49_X2 dX2_clip_76 hr hv ?_
            clear hv hr fs
            exact hret _ _ _ _ _ _ dX2_clip_79 rfl hvc
          · replace hvc := hvc.2 c13
            refine j_aload_n hC dX2_clip_41 rfl 0 rfl ?_
            obtain ⟨o18, ⟨fs, hr, hv⟩, hvc⟩ := hvc
            refine j_get hC fkX2_13_X2 dX2_clip_42 hr hv ?_
            clear hv hr fs
            refine j_iload_n hC dX2_clip_45 rfl 1 rfl ?_
            refine j_iload_n hC dX2_clip_46 rfl 3 rfl ?_
            refine j_iadd hC dX2_clip_47 ?_
            refine j_iload_n hC dX2_clip_48 rfl 2 rfl ?_
            refine j_isub hC dX2_clip_49 ?_
            refine j_aload_n hC dX2_clip_50 rfl 0 rfl ?_
            obtain ⟨o19, ⟨fs, hr, hv⟩, hvc⟩ := hvc
            refine j_get hC fkX2_13_X2 dX2_clip_51 hr hv ?_
            clear hv hr fs
            refine j_iload_n hC dX2_clip_54 rfl 3 rfl ?_
            obtain ⟨a20, rfl, hvc⟩ := hvc
            obtain ⟨n21, f22, j23, hr, hi, hj, hJ, hvc⟩ := hvc
            refine j_ix hi ?_
            refine j_cald hC hr hj hJ dX2_clip_55 ?_
            clear hr hi hj hJ
            obtain ⟨a24, rfl, hvc⟩ := hvc
            obtain ⟨n25, f26, j27, hm, hi, hj, hJ, hvc⟩ := hvc
            refine j_ix1 hi ?_
            refine j_stc hC hm hj hJ dX2_clip_56 (fun st28 e1 => ?_)
            replace hvc := hvc st28 e1; clear hm hi hj hJ e1
            refine j_iinc (lv0 := [(2, .int p1), (0, va_rf (some a0)), (1, .int p0)]) hC (nI 1) dX2_clip_57 3 rfl rfl rfl [2, 0, 1] rfl (g_okS.h rfl rfl rfl) ?_
            refine j_goto (tgt := 33) hC dX2_clip_60 rfl ?_
            exact j_sub [2, 3, 1, 0] rfl (ih11 (x7 + (nI 1)) st28 hvc)
      exact j_sub [2, 3, 1, 0] rfl (kh10 n31 p1 st5 hvc)
    · replace hvc := hvc.2 c6
      refine j_iconst hC (nI 0) dX2_clip_29 rfl ?_
      exact hret _ _ _ _ _ _ dX2_clip_30 rfl hvc
  replace hvc := g_jn0_o hvc
  obtain ⟨K32, hK38, hvc⟩ := hvc
  have kh33 : K32 → g_J p l e R s m args below meth c 4 E st0 Z 18 [(0, va_rf (some a0)), (1, .int p0), (2, .int p1)] [va_rf (some a0)] st cb sb := by
    clear hvc
    intro hvc
    replace hvc := hK38 hvc
    refine j_iconst hC (nI 1) dX2_clip_18 rfl ?_
    refine j_goto (tgt := 23) hC dX2_clip_19 rfl ?_
    exact j_sub [0, 1, 2] rfl (kh3 (nI 1) hvc)
  refine j_if_lt (tgt := 18) hC dX2_clip_2 rfl (fun c34 => ?_) (fun c34 => ?_)
  · replace hvc := hvc.1 c34
    exact j_sub [0, 1, 2] rfl (kh33 hvc)
  · replace hvc := hvc.2 c34
    refine j_iload_n hC dX2_clip_5 rfl 2 rfl ?_
    refine j_iload_n hC dX2_clip_6 rfl 1 rfl ?_
    refine j_icmp_lt (tgt := 18) hC dX2_clip_7 rfl (fun c35 => ?_) (fun c35 => ?_)
    · replace hvc := hvc.1 c35
      exact j_sub [0, 1, 2] rfl (kh33 hvc)
    · replace hvc := hvc.2 c35
      refine j_iload_n hC dX2_clip_10 rfl 2 rfl ?_
      refine j_aload_n hC dX2_clip_11 rfl 0 rfl ?_
      obtain ⟨x36, ⟨fs, hr, hv⟩, hvc⟩ := hvc
      refine j_get hC fkX2_49_X2 dX2_clip_12 hr hv ?_
      clear hv hr fs
      refine j_icmp_le (tgt := 22) hC dX2_clip_15 rfl (fun c37 => ?_) (fun c37 => ?_)
      · replace hvc := hvc.1 c37
        refine j_iconst hC (nI 0) dX2_clip_22 rfl ?_
        exact j_sub [0, 1, 2] rfl (kh3 (nI 0) hvc)
      · replace hvc := hvc.2 c37
        exact j_sub [0, 1, 2] rfl (kh33 hvc)
theorem wk_X2_clip {l : Launch} {E : g_E} {a0 : Nat} {p0 : Int32} {p1 : Int32} {st : g_St} {mc ms : Nat} {Q : Int32 → g_St → Prop} (hvc : vc_X2_clip l E a0 p0 p1 st Q) : wp_X2_clip l E mc ms [va_rf (some a0), .int p0, .int p1] st Q :=
  g_enter (lv0 := [(0, va_rf (some a0)), (1, .int p0), (2, .int p1)]) (plainFor_of_name (by decide +kernel)) (by simp [lv_args, g_c1, g_ci, g_cL]) (by simp [lg_sl, g_c1, g_ci, g_cL]) (fun p e s m args below meth c hC => wb_X2_clip hC ⟨Nat.le_refl _, Nat.le_refl _⟩ (fun pc lv v st1 cb sb hd hn hq => j_ireturn hC rfl hn hd (g_iv hq)) hvc)
abbrev wp_X2_wipe (l : Launch) (E : g_E) (mc ms : Nat) (av : List Value) (st : g_St) (Q : Int32 → g_St → Prop) : Prop := g_WPi l E yX2_wipe cX2_wipe 2 (some .int) 1 40 mc ms av st Q
def vc_X2_wipe (l : Launch) (E : g_E) (a0 : Nat) (st : g_St) (Q : Int32 → g_St → Prop) : Prop :=
  ∃ fs1 : List Value, st.2.1 a0 = some (.inr (16, fs1)) ∧ ∀ st2 : g_St, st2 = g_put st a0 (.inr (16, fs1.set 0 (.int (nI 0)))) → ∃ x3 : Int32, g_gi st2 a0 16 8 x3 ∧ ∃ fs4 : List Value, st2.2.1 a0 = some (.inr (16, fs4)) ∧ ∀ st5 : g_St, st5 = g_put st2 a0 (.inr (16, fs4.set 8 (.int (nI 0)))) → Q x3 st5
set_option maxHeartbeats 4000000 in
theorem wb_X2_wipe {p : Program} {l : Launch} {e : Env} {R : Room} {s : State} {m : MethodId} {args : Array Value} {below : List Frame} {meth : Method} {c : Code} {E : g_E} {st0 : g_St} {Z : State → Prop} (hC : g_Cx p s m args meth c cX2_wipe 2 "StemspanModel" (some .int) "wipe" E st0) (hR : g_Rm 1 40 R) {a0 : Nat} {st : g_St} {cb sb : Nat} {Q : Int32 → g_St → Prop} (hret : ∀ (pc : Nat) (lv : List (Nat × Value)) (v : Int32) (st1 : g_St) (cb sb : Nat), decode cX2_wipe pc = .ok (.ireturn, 1) → narrow .int (.int v) = .int v → Q v st1 → g_J p l e R s m args below meth c 2 E st0 Z pc lv [.int v] st1 cb sb) (hvc : vc_X2_wipe l E a0 st Q) : g_J p l e R s m args below meth c 2 E st0 Z 0 [(0, va_rf (some a0))] [] st cb sb := by
  unfold vc_X2_wipe at hvc
  refine j_aload_n hC dX2_wipe_0 rfl 0 rfl ?_
  refine j_iconst hC (nI 0) dX2_wipe_1 rfl ?_
  obtain ⟨fs1, hm, hvc⟩ := hvc
  refine j_put hC fkX2_1_X2 dX2_wipe_2 hm rfl rfl (fun st2 e1 => ?_)
  replace hvc := hvc st2 e1; clear hm e1
  refine j_aload_n hC dX2_wipe_5 rfl 0 rfl ?_
  obtain ⟨x3, ⟨fs, hr, hv⟩, hvc⟩ := hvc
  refine j_get hC fkX2_49_X2 dX2_wipe_6 hr hv ?_
  clear hv hr fs
  refine j_istore_n (lv0 := [(0, va_rf (some a0))]) hC dX2_wipe_9 rfl rfl [0] rfl (g_okS.h rfl g_c1 rfl) ?_
  refine j_aload_n hC dX2_wipe_10 rfl 1 rfl ?_
  refine j_iconst hC (nI 0) dX2_wipe_11 rfl ?_
  obtain ⟨fs4, hm, hvc⟩ := hvc
  refine j_put hC fkX2_49_X2 dX2_wipe_12 hm rfl rfl (fun st5 e1 => ?_)
  replace hvc := hvc st5 e1; clear hm e1
  refine j_iload_n hC dX2_wipe_15 rfl 0 rfl ?_
  exact hret _ _ _ _ _ _ dX2_wipe_16 rfl hvc
theorem wk_X2_wipe {l : Launch} {E : g_E} {a0 : Nat} {st : g_St} {mc ms : Nat} {Q : Int32 → g_St → Prop} (hvc : vc_X2_wipe l E a0 st Q) : wp_X2_wipe l E mc ms [va_rf (some a0)] st Q :=
  g_enter (lv0 := [(0, va_rf (some a0))]) (plainFor_of_name (by decide +kernel)) (by simp [lv_args, g_c1, g_ci, g_cL]) (by simp [lg_sl, g_c1, g_ci, g_cL]) (fun p e s m args below meth c hC => wb_X2_wipe hC ⟨Nat.le_refl _, Nat.le_refl _⟩ (fun pc lv v st1 cb sb hd hn hq => j_ireturn hC rfl hn hd (g_iv hq)) hvc)
abbrev wp_X2_turn (l : Launch) (E : g_E) (mc ms : Nat) (av : List Value) (st : g_St) (Q : Int32 → g_St → Prop) : Prop := g_WPi l E yX2_turn cX2_turn 3 (some .boolean) 1 40 mc ms av st Q
def vc_X2_turn (l : Launch) (E : g_E) (a0 : Nat) (st : g_St) (Q : Int32 → g_St → Prop) : Prop :=
  ∃ fs1 : List Value, st.2.1 a0 = some (.inr (16, fs1)) ∧ ∀ st2 : g_St, st2 = g_put st a0 (.inr (16, fs1.set 0 (.int (nI 0)))) → g_lp2 (fun (K5 : Int32 → g_St → Prop) (x3 : Int32) (st4 : g_St) => ∃ x8 : Int32, g_gi st4 a0 16 8 x8 ∧ (x8 ≤ x3 → g_lp3 (fun (K13 : Int32 → Int32 → g_St → Prop) (x10 : Int32) (x11 : Int32) (st12 : g_St) => ∃ x16 : Int32, g_gi st12 a0 16 8 x16 ∧ (x16 ≤ x11 → narrow .boolean (.int x10) = .int x10 ∧ Q x10 st12) ∧ (¬ x16 ≤ x11 → ∃ o18 : Option Nat, g_gr st12 a0 16 4 o18 ∧ ∃ a19 : Nat, o18 = some a19 ∧ ∃ (n20 : Nat) (f21 : Nat → Int32) (j22 : Nat), g_ai st12 a19 2 n20 f21 ∧ x11 = nI j22 ∧ j22 < n20 ∧ j22 < 2 ^ 31 ∧ ∃ o23 : Option Nat, g_gr st12 a0 16 1 o23 ∧ ∃ a24 : Nat, o23 = some a24 ∧ ∃ (n25 : Nat) (f26 : Nat → Int32) (j27 : Nat), g_ai st12 a24 2 n25 f26 ∧ x11 = nI j27 ∧ j27 < n25 ∧ j27 < 2 ^ 31 ∧ g_jn1 (fun (K29 : Int32 → Prop) => (¬ (f21 j22) = (f26 j27) → K29 (nI 0)) ∧ ((f21 j22) = (f26 j27) → K29 (nI 1))) (fun (x28 : Int32) => ∃ o31 : Option Nat, g_gr st12 a0 16 1 o31 ∧ ∃ o32 : Option Nat, g_gr st12 a0 16 4 o32 ∧ ∃ a33 : Nat, o32 = some a33 ∧ ∃ (n34 : Nat) (f35 : Nat → Int32) (j36 : Nat), g_ai st12 a33 2 n34 f35 ∧ x11 = nI j36 ∧ j36 < n34 ∧ j36 < 2 ^ 31 ∧ ∃ a37 : Nat, o31 = some a37 ∧ ∃ (n38 : Nat) (f39 : Nat → Int32) (j40 : Nat), st12.2.1 a37 = some (.inl (2, n38, .inl (f39))) ∧ x11 = nI j40 ∧ j40 < n38 ∧ j40 < 2 ^ 31 ∧ ∀ st41 : g_St, st41 = g_put st12 a37 (.inl (2, n38, .inl (va_up f39 j40 (vp_nar .char (f35 j36))))) → K13 (x10 &&& x28) (x11 + (nI 1)) st41))) (nI 1) (nI 0) st4) ∧ (¬ x8 ≤ x3 → ∃ o47 : Option Nat, g_gr st4 a0 16 4 o47 ∧ ∃ o48 : Option Nat, g_gr st4 a0 16 1 o48 ∧ ∃ x49 : Int32, g_gi st4 a0 16 8 x49 ∧ ∃ a50 : Nat, o48 = some a50 ∧ ∃ (n51 : Nat) (f52 : Nat → Int32) (j53 : Nat), g_ai st4 a50 2 n51 f52 ∧ ((x49 - (nI 1)) - x3) = nI j53 ∧ j53 < n51 ∧ j53 < 2 ^ 31 ∧ ∃ a54 : Nat, o47 = some a54 ∧ ∃ (n55 : Nat) (f56 : Nat → Int32) (j57 : Nat), st4.2.1 a54 = some (.inl (2, n55, .inl (f56))) ∧ x3 = nI j57 ∧ j57 < n55 ∧ j57 < 2 ^ 31 ∧ ∀ st58 : g_St, st58 = g_put st4 a54 (.inl (2, n55, .inl (va_up f56 j57 (vp_nar .char (f52 j53))))) → K5 (x3 + (nI 1)) st58)) (nI 0) st2
set_option maxHeartbeats 4000000 in
theorem wb_X2_turn {p : Program} {l : Launch} {e : Env} {R : Room} {s : State} {m : MethodId} {args : Array Value} {below : List Frame} {meth : Method} {c : Code} {E : g_E} {st0 : g_St} {Z : State → Prop} (hC : g_Cx p s m args meth c cX2_turn 3 "StemspanModel" (some .boolean) "turn" E st0) (hR : g_Rm 1 40 R) {a0 : Nat} {st : g_St} {cb sb : Nat} {Q : Int32 → g_St → Prop} (hret : ∀ (pc : Nat) (lv : List (Nat × Value)) (v : Int32) (st1 : g_St) (cb sb : Nat), decode cX2_turn pc = .ok (.ireturn, 1) → narrow .boolean (.int v) = .int v → Q v st1 → g_J p l e R s m args below meth c 3 E st0 Z pc lv [.int v] st1 cb sb) (hvc : vc_X2_turn l E a0 st Q) : g_J p l e R s m args below meth c 3 E st0 Z 0 [(0, va_rf (some a0))] [] st cb sb := by
  unfold vc_X2_turn at hvc
  refine j_aload_n hC dX2_turn_0 rfl 0 rfl ?_
  refine j_iconst hC (nI 0) dX2_turn_1 rfl ?_
  obtain ⟨fs1, hm, hvc⟩ := hvc
  refine j_put hC fkX2_1_X2 dX2_turn_2 hm rfl rfl (fun st2 e1 => ?_)
  replace hvc := hvc st2 e1; clear hm e1
  refine j_iconst hC (nI 1) dX2_turn_5 rfl ?_
  refine j_istore_n (lv0 := [(0, va_rf (some a0))]) hC dX2_turn_6 rfl rfl [0] rfl (g_okS.h rfl g_c1 rfl) ?_
  refine j_iconst hC (nI 0) dX2_turn_7 rfl ?_
  refine j_istore_n (lv0 := [(1, .int (nI 1)), (0, va_rf (some a0))]) hC dX2_turn_8 rfl rfl [0, 1] rfl (g_okS.h rfl rfl rfl) ?_
  replace hvc := g_lp2_o hvc
  obtain ⟨K5, hz59, hs60, n61, hvc⟩ := hvc
  have kh6 : ∀ (n : Nat) (x3 : Int32) (st4 : g_St), K5 n x3 st4 → g_J p l e R s m args below meth c 3 E st0 Z 9 [(0, va_rf (some a0)), (1, .int (nI 1)), (2, .int x3)] [] st4 cb sb := by
    clear hvc
    intro n
    induction n with
    | zero => intro x3 st4 hvc; exact absurd hvc (hz59 _ _)
    | succ n ih7 =>
      intro x3 st4 hvc
      replace hvc := hs60 n _ _ hvc
      refine j_iload_n hC dX2_turn_9 rfl 2 rfl ?_
      refine j_aload_n hC dX2_turn_10 rfl 0 rfl ?_
      obtain ⟨x8, ⟨fs, hr, hv⟩, hvc⟩ := hvc
      refine j_get hC fkX2_49_X2 dX2_turn_11 hr hv ?_
      clear hv hr fs
      refine j_icmp_ge (tgt := 42) hC dX2_turn_14 rfl (fun c9 => ?_) (fun c9 => ?_)
      · replace hvc := hvc.1 c9
        refine j_iconst hC (nI 0) dX2_turn_42 rfl ?_
        refine j_istore_n (lv0 := [(1, .int (nI 1)), (0, va_rf (some a0))]) hC dX2_turn_43 rfl rfl [1, 0] rfl (g_okS.h rfl rfl rfl) ?_
        replace hvc := g_lp3_o hvc
        obtain ⟨K13, hz44, hs45, n46, hvc⟩ := hvc
        have kh14 : ∀ (n : Nat) (x10 : Int32) (x11 : Int32) (st12 : g_St), K13 n x10 x11 st12 → g_J p l e R s m args below meth c 3 E st0 Z 44 [(0, va_rf (some a0)), (1, .int x10), (2, .int x11)] [] st12 cb sb := by
          clear hvc
          intro n
          induction n with
          | zero => intro x10 x11 st12 hvc; exact absurd hvc (hz44 _ _ _)
          | succ n ih15 =>
            intro x10 x11 st12 hvc
            replace hvc := hs45 n _ _ _ hvc
            refine j_iload_n hC dX2_turn_44 rfl 2 rfl ?_
            refine j_aload_n hC dX2_turn_45 rfl 0 rfl ?_
            obtain ⟨x16, ⟨fs, hr, hv⟩, hvc⟩ := hvc
            refine j_get hC fkX2_49_X2 dX2_turn_46 hr hv ?_
            clear hv hr fs
            refine j_icmp_ge (tgt := 93) hC dX2_turn_49 rfl (fun c17 => ?_) (fun c17 => ?_)
            · replace hvc := hvc.1 c17
              refine j_iload_n hC dX2_turn_93 rfl 1 rfl ?_
              exact hret _ _ _ _ _ _ dX2_turn_94 hvc.1 hvc.2
            · replace hvc := hvc.2 c17
              refine j_iload_n hC dX2_turn_52 rfl 1 rfl ?_
              refine j_aload_n hC dX2_turn_53 rfl 0 rfl ?_
              obtain ⟨o18, ⟨fs, hr, hv⟩, hvc⟩ := hvc
              refine j_get hC fkX2_23_X2 dX2_turn_54 hr hv ?_
              clear hv hr fs
              refine j_iload_n hC dX2_turn_57 rfl 2 rfl ?_
              obtain ⟨a19, rfl, hvc⟩ := hvc
              obtain ⟨n20, f21, j22, hr, hi, hj, hJ, hvc⟩ := hvc
              refine j_ix hi ?_
              refine j_cald hC hr hj hJ dX2_turn_58 ?_
              clear hr hi hj hJ
              refine j_aload_n hC dX2_turn_59 rfl 0 rfl ?_
              obtain ⟨o23, ⟨fs, hr, hv⟩, hvc⟩ := hvc
              refine j_get hC fkX2_13_X2 dX2_turn_60 hr hv ?_
              clear hv hr fs
              refine j_iload_n hC dX2_turn_63 rfl 2 rfl ?_
              obtain ⟨a24, rfl, hvc⟩ := hvc
              obtain ⟨n25, f26, j27, hr, hi, hj, hJ, hvc⟩ := hvc
              refine j_ix hi ?_
              refine j_cald hC hr hj hJ dX2_turn_64 ?_
              clear hr hi hj hJ
              replace hvc := g_jn1_o hvc
              obtain ⟨K29, hK43, hvc⟩ := hvc
              have kh30 : ∀ (x28 : Int32), K29 x28 → g_J p l e R s m args below meth c 3 E st0 Z 73 [(0, va_rf (some a0)), (2, .int x11)] [.int x28, .int x10] st12 cb sb := by
                clear hvc
                intro x28 hvc
                replace hvc := hK43 _ hvc
                refine j_iand hC dX2_turn_73 ?_
                refine j_istore_n (lv0 := [(0, va_rf (some a0)), (2, .int x11)]) hC dX2_turn_74 rfl rfl [0, 1] rfl (g_okS.h rfl g_c1 rfl) ?_
                refine j_aload_n hC dX2_turn_75 rfl 1 rfl ?_
                obtain ⟨o31, ⟨fs, hr, hv⟩, hvc⟩ := hvc
                refine j_get hC fkX2_13_X2 dX2_turn_76 hr hv ?_
                clear hv hr fs
                refine j_iload_n hC dX2_turn_79 rfl 2 rfl ?_
                refine j_aload_n hC dX2_turn_80 rfl 1 rfl ?_
                obtain ⟨o32, ⟨fs, hr, hv⟩, hvc⟩ := hvc
                refine j_get hC fkX2_23_X2 dX2_turn_81 hr hv ?_
                clear hv hr fs
                refine j_iload_n hC dX2_turn_84 rfl 2 rfl ?_
                obtain ⟨a33, rfl, hvc⟩ := hvc
                obtain ⟨n34, f35, j36, hr, hi, hj, hJ, hvc⟩ := hvc
                refine j_ix hi ?_
                refine j_cald hC hr hj hJ dX2_turn_85 ?_
                clear hr hi hj hJ
                obtain ⟨a37, rfl, hvc⟩ := hvc
                obtain ⟨n38, f39, j40, hm, hi, hj, hJ, hvc⟩ := hvc
                refine j_ix1 hi ?_
                refine j_stc hC hm hj hJ dX2_turn_86 (fun st41 e1 => ?_)
                replace hvc := hvc st41 e1; clear hm hi hj hJ e1
                refine j_iinc (lv0 := [(1, .int (x10 &&& x28)), (0, va_rf (some a0))]) hC (nI 1) dX2_turn_87 2 rfl rfl rfl [0, 1] rfl (g_okS.h rfl rfl rfl) ?_
                refine j_goto (tgt := 44) hC dX2_turn_90 rfl ?_
                exact j_sub [2, 1, 0] rfl (ih15 (x10 &&& x28) (x11 + (nI 1)) st41 hvc)
              refine j_icmp_ne (tgt := 72) hC dX2_turn_65 rfl (fun c42 => ?_) (fun c42 => ?_)
              · replace hvc := hvc.1 c42
                refine j_iconst hC (nI 0) dX2_turn_72 rfl ?_
                exact j_sub [0, 2] rfl (kh30 (nI 0) hvc)
              · replace hvc := hvc.2 c42
                refine j_iconst hC (nI 1) dX2_turn_68 rfl ?_
                refine j_goto (tgt := 73) hC dX2_turn_69 rfl ?_
                exact j_sub [0, 2] rfl (kh30 (nI 1) hvc)
        exact j_sub [2, 1, 0] rfl (kh14 n46 (nI 1) (nI 0) st4 hvc)
      · replace hvc := hvc.2 c9
        refine j_aload_n hC dX2_turn_17 rfl 0 rfl ?_
        obtain ⟨o47, ⟨fs, hr, hv⟩, hvc⟩ := hvc
        refine j_get hC fkX2_23_X2 dX2_turn_18 hr hv ?_
        clear hv hr fs
        refine j_iload_n hC dX2_turn_21 rfl 2 rfl ?_
        refine j_aload_n hC dX2_turn_22 rfl 0 rfl ?_
        obtain ⟨o48, ⟨fs, hr, hv⟩, hvc⟩ := hvc
        refine j_get hC fkX2_13_X2 dX2_turn_23 hr hv ?_
        clear hv hr fs
        refine j_aload_n hC dX2_turn_26 rfl 0 rfl ?_
        obtain ⟨x49, ⟨fs, hr, hv⟩, hvc⟩ := hvc
        refine j_get hC fkX2_49_X2 dX2_turn_27 hr hv ?_
        clear hv hr fs
        refine j_iconst hC (nI 1) dX2_turn_30 rfl ?_
        refine j_isub hC dX2_turn_31 ?_
        refine j_iload_n hC dX2_turn_32 rfl 2 rfl ?_
        refine j_isub hC dX2_turn_33 ?_
        obtain ⟨a50, rfl, hvc⟩ := hvc
        obtain ⟨n51, f52, j53, hr, hi, hj, hJ, hvc⟩ := hvc
        refine j_ix hi ?_
        refine j_cald hC hr hj hJ dX2_turn_34 ?_
        clear hr hi hj hJ
        obtain ⟨a54, rfl, hvc⟩ := hvc
        obtain ⟨n55, f56, j57, hm, hi, hj, hJ, hvc⟩ := hvc
        refine j_ix1 hi ?_
        refine j_stc hC hm hj hJ dX2_turn_35 (fun st58 e1 => ?_)
        replace hvc := hvc st58 e1; clear hm hi hj hJ e1
        refine j_iinc (lv0 := [(1, .int (nI 1)), (0, va_rf (some a0))]) hC (nI 1) dX2_turn_36 2 rfl rfl rfl [1, 0] rfl (g_okS.h rfl rfl rfl) ?_
        refine j_goto (tgt := 9) hC dX2_turn_39 rfl ?_
        exact j_sub [2, 1, 0] rfl (ih7 (x3 + (nI 1)) st58 hvc)
  exact j_sub [2, 1, 0] rfl (kh6 n61 (nI 0) st2 hvc)
theorem wk_X2_turn {l : Launch} {E : g_E} {a0 : Nat} {st : g_St} {mc ms : Nat} {Q : Int32 → g_St → Prop} (hvc : vc_X2_turn l E a0 st Q) : wp_X2_turn l E mc ms [va_rf (some a0)] st Q :=
  g_enter (lv0 := [(0, va_rf (some a0))]) (plainFor_of_name (by decide +kernel)) (by simp [lv_args, g_c1, g_ci, g_cL]) (by simp [lg_sl, g_c1, g_ci, g_cL]) (fun p e s m args below meth c hC => wb_X2_turn hC ⟨Nat.le_refl _, Nat.le_refl _⟩ (fun pc lv v st1 cb sb hd hn hq => j_ireturn hC rfl hn hd (g_iv hq)) hvc)
abbrev wp_X2_signAt (l : Launch) (E : g_E) (mc ms : Nat) (av : List Value) (st : g_St) (Q : Int32 → g_St → Prop) : Prop := g_WPi l E yX2_signAt cX2_signAt 2 (some .char) 2 62 mc ms av st Q
def vc_X2_signAt (l : Launch) (E : g_E) (a0 : Nat) (p0 : Int32) (st : g_St) (Q : Int32 → g_St → Prop) : Prop :=
  ∃ x1 : Int32, g_gi st a0 16 8 x1 ∧ wp_X2_in l E 0 0 [.int p0, .int (nI 0), .int (x1 - (nI 1))] st (fun x2 stx => stx = st ∧ g_jn1 (fun (K4 : Int32 → Prop) => (x2 = 0 → K4 (nI 1)) ∧ (¬ x2 = 0 → K4 (nI 0))) (fun (x3 : Int32) => g_is st a0 16 ∧ wp_X2_fails l E 0 0 [va_rf (some a0), .int x3] st (fun x6 st7 => g_Ext st st7 → g_jn1 (fun (K9 : Int32 → Prop) => (x6 = 0 → ∃ o12 : Option Nat, g_gr st7 a0 16 1 o12 ∧ ∃ a13 : Nat, o12 = some a13 ∧ ∃ (n14 : Nat) (f15 : Nat → Int32) (j16 : Nat), g_ai st7 a13 2 n14 f15 ∧ p0 = nI j16 ∧ j16 < n14 ∧ j16 < 2 ^ 31 ∧ K9 (f15 j16)) ∧ (¬ x6 = 0 → K9 (nI 32))) (fun (x8 : Int32) => narrow .char (.int x8) = .int x8 ∧ Q x8 st7))))
set_option maxHeartbeats 4000000 in
theorem wb_X2_signAt {p : Program} {l : Launch} {e : Env} {R : Room} {s : State} {m : MethodId} {args : Array Value} {below : List Frame} {meth : Method} {c : Code} {E : g_E} {st0 : g_St} {Z : State → Prop} (hC : g_Cx p s m args meth c cX2_signAt 2 "StemspanModel" (some .char) "signAt" E st0) (hR : g_Rm 2 62 R) {a0 : Nat} {p0 : Int32} {st : g_St} {cb sb : Nat} {Q : Int32 → g_St → Prop} (hret : ∀ (pc : Nat) (lv : List (Nat × Value)) (v : Int32) (st1 : g_St) (cb sb : Nat), decode cX2_signAt pc = .ok (.ireturn, 1) → narrow .char (.int v) = .int v → Q v st1 → g_J p l e R s m args below meth c 2 E st0 Z pc lv [.int v] st1 cb sb) (hvc : vc_X2_signAt l E a0 p0 st Q) : g_J p l e R s m args below meth c 2 E st0 Z 0 [(0, va_rf (some a0)), (1, .int p0)] [] st cb sb := by
  unfold vc_X2_signAt at hvc
  refine j_aload_n hC dX2_signAt_0 rfl 0 rfl ?_
  refine j_iload_n hC dX2_signAt_1 rfl 1 rfl ?_
  refine j_iconst hC (nI 0) dX2_signAt_2 rfl ?_
  refine j_aload_n hC dX2_signAt_3 rfl 0 rfl ?_
  obtain ⟨x1, ⟨fs, hr, hv⟩, hvc⟩ := hvc
  refine j_get hC fkX2_49_X2 dX2_signAt_4 hr hv ?_
  clear hv hr fs
  refine j_iconst hC (nI 1) dX2_signAt_7 rfl ?_
  refine j_isub hC dX2_signAt_8 ?_
  refine j_callS (As := [.int p0, .int (nI 0), .int (x1 - (nI 1))]) (rest := [va_rf (some a0)]) (n := 3) hC hvc (lw_S q2240 q2241 q60 q2242) (by decide +kernel) (g_rm hR rfl rfl) rfl rfl (g_sum rfl) dX2_signAt_9 (Nat.zero_le _) (Nat.zero_le _) (g_Kip fun x2 hv2 => ?_)
  replace hvc := hv2; clear hv2
  replace hvc := g_jn1_o hvc
  obtain ⟨K4, hK19, hvc⟩ := hvc
  have kh5 : ∀ (x3 : Int32), K4 x3 → g_J p l e R s m args below meth c 2 E st0 Z 20 [(0, va_rf (some a0)), (1, .int p0)] [.int x3, va_rf (some a0)] st cb sb := by
    clear hvc
    intro x3 hvc
    replace hvc := hK19 _ hvc
    obtain ⟨⟨fs, hr⟩, hvc⟩ := hvc
    refine j_callV (As := [.int x3]) (rest := []) (n := 1) (ci := 16) hC hvc (lw_V q2232 q2234 qs20 q60 q2235) (by decide +kernel) (g_rm hR rfl rfl) rfl hr rfl rfl (g_sum rfl) dX2_signAt_20 (Nat.zero_le _) (Nat.zero_le _) (g_Ki fun x6 st7 hv2 hx => ?_)
    replace hvc := hv2 hx; clear hx hv2
    clear hr fs
    replace hvc := g_jn1_o hvc
    obtain ⟨K9, hK17, hvc⟩ := hvc
    have kh10 : ∀ (x8 : Int32), K9 x8 → g_J p l e R s m args below meth c 2 E st0 Z 37 [] [.int x8] st7 cb sb := by
      clear hvc
      intro x8 hvc
      replace hvc := hK17 _ hvc
      exact hret _ _ _ _ _ _ dX2_signAt_37 hvc.1 hvc.2
    refine j_if_eq (tgt := 31) hC dX2_signAt_23 rfl (fun c11 => ?_) (fun c11 => ?_)
    · replace hvc := hvc.1 c11
      refine j_aload_n hC dX2_signAt_31 rfl 0 rfl ?_
      obtain ⟨o12, ⟨fs, hr, hv⟩, hvc⟩ := hvc
      refine j_get hC fkX2_13_X2 dX2_signAt_32 hr hv ?_
      clear hv hr fs
      refine j_iload_n hC dX2_signAt_35 rfl 1 rfl ?_
      obtain ⟨a13, rfl, hvc⟩ := hvc
      obtain ⟨n14, f15, j16, hr, hi, hj, hJ, hvc⟩ := hvc
      refine j_ix hi ?_
      refine j_cald hC hr hj hJ dX2_signAt_36 ?_
      clear hr hi hj hJ
      exact j_sub [] rfl (kh10 (f15 j16) hvc)
    · replace hvc := hvc.2 c11
      refine j_bipush hC (nI 32) dX2_signAt_26 rfl ?_
      refine j_goto (tgt := 37) hC dX2_signAt_28 rfl ?_
      exact j_sub [] rfl (kh10 (nI 32) hvc)
  refine j_if_eq (tgt := 19) hC dX2_signAt_12 rfl (fun c18 => ?_) (fun c18 => ?_)
  · replace hvc := hvc.1 c18
    refine j_iconst hC (nI 1) dX2_signAt_19 rfl ?_
    exact j_sub [0, 1] rfl (kh5 (nI 1) hvc)
  · replace hvc := hvc.2 c18
    refine j_iconst hC (nI 0) dX2_signAt_15 rfl ?_
    refine j_goto (tgt := 20) hC dX2_signAt_16 rfl ?_
    exact j_sub [0, 1] rfl (kh5 (nI 0) hvc)
theorem wk_X2_signAt {l : Launch} {E : g_E} {a0 : Nat} {p0 : Int32} {st : g_St} {mc ms : Nat} {Q : Int32 → g_St → Prop} (hvc : vc_X2_signAt l E a0 p0 st Q) : wp_X2_signAt l E mc ms [va_rf (some a0), .int p0] st Q :=
  g_enter (lv0 := [(0, va_rf (some a0)), (1, .int p0)]) (plainFor_of_name (by decide +kernel)) (by simp [lv_args, g_c1, g_ci, g_cL]) (by simp [lg_sl, g_c1, g_ci, g_cL]) (fun p e s m args below meth c hC => wb_X2_signAt hC ⟨Nat.le_refl _, Nat.le_refl _⟩ (fun pc lv v st1 cb sb hd hn hq => j_ireturn hC rfl hn hd (g_iv hq)) hvc)
abbrev wp_X2_like (l : Launch) (E : g_E) (mc ms : Nat) (av : List Value) (st : g_St) (Q : Int32 → g_St → Prop) : Prop := g_WPi l E yX2_like cX2_like 4 (some .int) 1 40 mc ms av st Q
def vc_X2_like (l : Launch) (E : g_E) (a0 : Nat) (p0 : Int32) (p1 : Int32) (st : g_St) (Q : Int32 → g_St → Prop) : Prop :=
  g_lp1 (fun (K2 : Int32 → Prop) (x1 : Int32) => ∃ o5 : Option Nat, g_gr st a0 16 5 o5 ∧ ∃ a6 : Nat, o5 = some a6 ∧ ∃ (n7 : Nat) (f8 : Nat → Int32) (j9 : Nat), g_ai st a6 0 n7 f8 ∧ p0 = nI j9 ∧ j9 < n7 ∧ j9 < 2 ^ 31 ∧ g_jn0 (fun (K10 : Prop) => ((f8 j9) ≤ x1 → K10) ∧ (¬ (f8 j9) ≤ x1 → ∃ x13 : Int32, g_gi st a0 16 8 x13 ∧ (x13 ≤ (p1 + x1) → K10) ∧ (¬ x13 ≤ (p1 + x1) → ∃ o15 : Option Nat, g_gr st a0 16 2 o15 ∧ ∃ a16 : Nat, o15 = some a16 ∧ ∃ (n17 : Nat) (f18 : Nat → Int32) (j19 : Nat), g_ai st a16 2 n17 f18 ∧ (((nI 10) * p0) + x1) = nI j19 ∧ j19 < n17 ∧ j19 < 2 ^ 31 ∧ ∃ o20 : Option Nat, g_gr st a0 16 1 o20 ∧ ∃ a21 : Nat, o20 = some a21 ∧ ∃ (n22 : Nat) (f23 : Nat → Int32) (j24 : Nat), g_ai st a21 2 n22 f23 ∧ (p1 + x1) = nI j24 ∧ j24 < n22 ∧ j24 < 2 ^ 31 ∧ (¬ (f18 j19) = (f23 j24) → K10) ∧ ((f18 j19) = (f23 j24) → K2 (x1 + (nI 1)))))) (Q x1 st)) (nI 0)
set_option maxHeartbeats 4000000 in
theorem wb_X2_like {p : Program} {l : Launch} {e : Env} {R : Room} {s : State} {m : MethodId} {args : Array Value} {below : List Frame} {meth : Method} {c : Code} {E : g_E} {st0 : g_St} {Z : State → Prop} (hC : g_Cx p s m args meth c cX2_like 4 "StemspanModel" (some .int) "like" E st0) (hR : g_Rm 1 40 R) {a0 : Nat} {p0 : Int32} {p1 : Int32} {st : g_St} {cb sb : Nat} {Q : Int32 → g_St → Prop} (hret : ∀ (pc : Nat) (lv : List (Nat × Value)) (v : Int32) (st1 : g_St) (cb sb : Nat), decode cX2_like pc = .ok (.ireturn, 1) → narrow .int (.int v) = .int v → Q v st1 → g_J p l e R s m args below meth c 4 E st0 Z pc lv [.int v] st1 cb sb) (hvc : vc_X2_like l E a0 p0 p1 st Q) : g_J p l e R s m args below meth c 4 E st0 Z 0 [(0, va_rf (some a0)), (1, .int p0), (2, .int p1)] [] st cb sb := by
  unfold vc_X2_like at hvc
  refine j_iconst hC (nI 0) dX2_like_0 rfl ?_
  refine j_istore_n (lv0 := [(2, .int p1), (0, va_rf (some a0)), (1, .int p0)]) hC dX2_like_1 rfl rfl [2, 0, 1] rfl (g_okS.h rfl rfl rfl) ?_
  replace hvc := g_lp1_o hvc
  obtain ⟨K2, hz27, hs28, n29, hvc⟩ := hvc
  have kh3 : ∀ (n : Nat) (x1 : Int32), K2 n x1 → g_J p l e R s m args below meth c 4 E st0 Z 2 [(0, va_rf (some a0)), (1, .int p0), (2, .int p1), (3, .int x1)] [] st cb sb := by
    clear hvc
    intro n
    induction n with
    | zero => intro x1 hvc; exact absurd hvc (hz27 _)
    | succ n ih4 =>
      intro x1 hvc
      replace hvc := hs28 n _ hvc
      refine j_iload_n hC dX2_like_2 rfl 3 rfl ?_
      refine j_aload_n hC dX2_like_3 rfl 0 rfl ?_
      obtain ⟨o5, ⟨fs, hr, hv⟩, hvc⟩ := hvc
      refine j_get hC fkX2_26_X2 dX2_like_4 hr hv ?_
      clear hv hr fs
      refine j_iload_n hC dX2_like_7 rfl 1 rfl ?_
      obtain ⟨a6, rfl, hvc⟩ := hvc
      obtain ⟨n7, f8, j9, hr, hi, hj, hJ, hvc⟩ := hvc
      refine j_ix hi ?_
      refine j_iald hC hr hj hJ dX2_like_8 ?_
      clear hr hi hj hJ
      replace hvc := g_jn0_o hvc
      obtain ⟨K10, hK26, hvc⟩ := hvc
      have kh11 : K10 → g_J p l e R s m args below meth c 4 E st0 Z 50 [(3, .int x1)] [] st cb sb := by
        clear hvc
        intro hvc
        replace hvc := hK26 hvc
        refine j_iload_n hC dX2_like_50 rfl 0 rfl ?_
        exact hret _ _ _ _ _ _ dX2_like_51 rfl hvc
      refine j_icmp_ge (tgt := 50) hC dX2_like_9 rfl (fun c12 => ?_) (fun c12 => ?_)
      · replace hvc := hvc.1 c12
        exact j_sub [3] rfl (kh11 hvc)
      · replace hvc := hvc.2 c12
        refine j_iload_n hC dX2_like_12 rfl 2 rfl ?_
        refine j_iload_n hC dX2_like_13 rfl 3 rfl ?_
        refine j_iadd hC dX2_like_14 ?_
        refine j_aload_n hC dX2_like_15 rfl 0 rfl ?_
        obtain ⟨x13, ⟨fs, hr, hv⟩, hvc⟩ := hvc
        refine j_get hC fkX2_49_X2 dX2_like_16 hr hv ?_
        clear hv hr fs
        refine j_icmp_ge (tgt := 50) hC dX2_like_19 rfl (fun c14 => ?_) (fun c14 => ?_)
        · replace hvc := hvc.1 c14
          exact j_sub [3] rfl (kh11 hvc)
        · replace hvc := hvc.2 c14
          refine j_aload_n hC dX2_like_22 rfl 0 rfl ?_
          obtain ⟨o15, ⟨fs, hr, hv⟩, hvc⟩ := hvc
          refine j_get hC fkX2_17_X2 dX2_like_23 hr hv ?_
          clear hv hr fs
          refine j_bipush hC (nI 10) dX2_like_26 rfl ?_
          refine j_iload_n hC dX2_like_28 rfl 1 rfl ?_
          refine j_imul hC dX2_like_29 ?_
          refine j_iload_n hC dX2_like_30 rfl 3 rfl ?_
          refine j_iadd hC dX2_like_31 ?_
          obtain ⟨a16, rfl, hvc⟩ := hvc
          obtain ⟨n17, f18, j19, hr, hi, hj, hJ, hvc⟩ := hvc
          refine j_ix hi ?_
          refine j_cald hC hr hj hJ dX2_like_32 ?_
          clear hr hi hj hJ
          refine j_aload_n hC dX2_like_33 rfl 0 rfl ?_
          obtain ⟨o20, ⟨fs, hr, hv⟩, hvc⟩ := hvc
          refine j_get hC fkX2_13_X2 dX2_like_34 hr hv ?_
          clear hv hr fs
          refine j_iload_n hC dX2_like_37 rfl 2 rfl ?_
          refine j_iload_n hC dX2_like_38 rfl 3 rfl ?_
          refine j_iadd hC dX2_like_39 ?_
          obtain ⟨a21, rfl, hvc⟩ := hvc
          obtain ⟨n22, f23, j24, hr, hi, hj, hJ, hvc⟩ := hvc
          refine j_ix hi ?_
          refine j_cald hC hr hj hJ dX2_like_40 ?_
          clear hr hi hj hJ
          refine j_icmp_ne (tgt := 50) hC dX2_like_41 rfl (fun c25 => ?_) (fun c25 => ?_)
          · replace hvc := hvc.1 c25
            exact j_sub [3] rfl (kh11 hvc)
          · replace hvc := hvc.2 c25
            refine j_iinc (lv0 := [(2, .int p1), (0, va_rf (some a0)), (1, .int p0)]) hC (nI 1) dX2_like_44 3 rfl rfl rfl [2, 0, 1] rfl (g_okS.h rfl rfl rfl) ?_
            refine j_goto (tgt := 2) hC dX2_like_47 rfl ?_
            exact j_sub [2, 3, 1, 0] rfl (ih4 (x1 + (nI 1)) hvc)
  exact j_sub [2, 3, 1, 0] rfl (kh3 n29 (nI 0) hvc)
theorem wk_X2_like {l : Launch} {E : g_E} {a0 : Nat} {p0 : Int32} {p1 : Int32} {st : g_St} {mc ms : Nat} {Q : Int32 → g_St → Prop} (hvc : vc_X2_like l E a0 p0 p1 st Q) : wp_X2_like l E mc ms [va_rf (some a0), .int p0, .int p1] st Q :=
  g_enter (lv0 := [(0, va_rf (some a0)), (1, .int p0), (2, .int p1)]) (plainFor_of_name (by decide +kernel)) (by simp [lv_args, g_c1, g_ci, g_cL]) (by simp [lg_sl, g_c1, g_ci, g_cL]) (fun p e s m args below meth c hC => wb_X2_like hC ⟨Nat.le_refl _, Nat.le_refl _⟩ (fun pc lv v st1 cb sb hd hn hq => j_ireturn hC rfl hn hd (g_iv hq)) hvc)
abbrev wp_X2_beside (l : Launch) (E : g_E) (mc ms : Nat) (av : List Value) (st : g_St) (Q : Int32 → g_St → Prop) : Prop := g_WPi l E yX2_beside cX2_beside 3 (some .int) 2 63 mc ms av st Q
def vc_X2_beside (l : Launch) (E : g_E) (a0 : Nat) (p0 : Int32) (st : g_St) (Q : Int32 → g_St → Prop) : Prop :=
  g_is st a0 16 ∧ wp_X2_like l E 0 0 [va_rf (some a0), .int p0, .int (nI 0)] st (fun x1 stx => stx = st ∧ ∃ o2 : Option Nat, g_gr st a0 16 5 o2 ∧ ∃ a3 : Nat, o2 = some a3 ∧ ∃ (n4 : Nat) (f5 : Nat → Int32) (j6 : Nat), g_ai st a3 0 n4 f5 ∧ p0 = nI j6 ∧ j6 < n4 ∧ j6 < 2 ^ 31 ∧ (¬ x1 = (f5 j6) → ∃ x8 : Int32, g_gi st a0 16 8 x8 ∧ g_jn1 (fun (K10 : Int32 → Prop) => (¬ x1 = x8 → ∃ o13 : Option Nat, g_gr st a0 16 2 o13 ∧ ∃ a14 : Nat, o13 = some a14 ∧ ∃ (n15 : Nat) (f16 : Nat → Int32) (j17 : Nat), g_ai st a14 2 n15 f16 ∧ (((nI 10) * p0) + x1) = nI j17 ∧ j17 < n15 ∧ j17 < 2 ^ 31 ∧ ∃ o18 : Option Nat, g_gr st a0 16 1 o18 ∧ ∃ a19 : Nat, o18 = some a19 ∧ ∃ (n20 : Nat) (f21 : Nat → Int32) (j22 : Nat), g_ai st a19 2 n20 f21 ∧ x1 = nI j22 ∧ j22 < n20 ∧ j22 < 2 ^ 31 ∧ K10 ((f16 j17) - (f21 j22))) ∧ (x1 = x8 → K10 (nI 1))) (fun (x9 : Int32) => Q x9 st)) ∧ (x1 = (f5 j6) → ∃ x24 : Int32, g_gi st a0 16 8 x24 ∧ g_jn1 (fun (K26 : Int32 → Prop) => (¬ x1 = x24 → K26 (-1)) ∧ (x1 = x24 → K26 (nI 0))) (fun (x25 : Int32) => Q x25 st)))
set_option maxHeartbeats 4000000 in
theorem wb_X2_beside {p : Program} {l : Launch} {e : Env} {R : Room} {s : State} {m : MethodId} {args : Array Value} {below : List Frame} {meth : Method} {c : Code} {E : g_E} {st0 : g_St} {Z : State → Prop} (hC : g_Cx p s m args meth c cX2_beside 3 "StemspanModel" (some .int) "beside" E st0) (hR : g_Rm 2 63 R) {a0 : Nat} {p0 : Int32} {st : g_St} {cb sb : Nat} {Q : Int32 → g_St → Prop} (hret : ∀ (pc : Nat) (lv : List (Nat × Value)) (v : Int32) (st1 : g_St) (cb sb : Nat), decode cX2_beside pc = .ok (.ireturn, 1) → narrow .int (.int v) = .int v → Q v st1 → g_J p l e R s m args below meth c 3 E st0 Z pc lv [.int v] st1 cb sb) (hvc : vc_X2_beside l E a0 p0 st Q) : g_J p l e R s m args below meth c 3 E st0 Z 0 [(0, va_rf (some a0)), (1, .int p0)] [] st cb sb := by
  unfold vc_X2_beside at hvc
  refine j_aload_n hC dX2_beside_0 rfl 0 rfl ?_
  refine j_iload_n hC dX2_beside_1 rfl 1 rfl ?_
  refine j_iconst hC (nI 0) dX2_beside_2 rfl ?_
  obtain ⟨⟨fs, hr⟩, hvc⟩ := hvc
  refine j_callV (As := [.int p0, .int (nI 0)]) (rest := []) (n := 2) (ci := 16) hC hvc (lw_V q2280 q2282 qs23 q60 q2283) (by decide +kernel) (g_rm hR rfl rfl) rfl hr rfl rfl (g_sum rfl) dX2_beside_3 (Nat.zero_le _) (Nat.zero_le _) (g_Kip fun x1 hv2 => ?_)
  replace hvc := hv2; clear hv2
  clear hr fs
  refine j_istore_n (lv0 := [(1, .int p0), (0, va_rf (some a0))]) hC dX2_beside_6 rfl rfl [1, 0] rfl (g_okS.h rfl rfl rfl) ?_
  refine j_iload_n hC dX2_beside_7 rfl 0 rfl ?_
  refine j_aload_n hC dX2_beside_8 rfl 2 rfl ?_
  obtain ⟨o2, ⟨fs, hr, hv⟩, hvc⟩ := hvc
  refine j_get hC fkX2_26_X2 dX2_beside_9 hr hv ?_
  clear hv hr fs
  refine j_iload_n hC dX2_beside_12 rfl 1 rfl ?_
  obtain ⟨a3, rfl, hvc⟩ := hvc
  obtain ⟨n4, f5, j6, hr, hi, hj, hJ, hvc⟩ := hvc
  refine j_ix hi ?_
  refine j_iald hC hr hj hJ dX2_beside_13 ?_
  clear hr hi hj hJ
  refine j_icmp_ne (tgt := 31) hC dX2_beside_14 rfl (fun c7 => ?_) (fun c7 => ?_)
  · replace hvc := hvc.1 c7
    refine j_iload_n hC dX2_beside_31 rfl 0 rfl ?_
    refine j_aload_n hC dX2_beside_32 rfl 2 rfl ?_
    obtain ⟨x8, ⟨fs, hr, hv⟩, hvc⟩ := hvc
    refine j_get hC fkX2_49_X2 dX2_beside_33 hr hv ?_
    clear hv hr fs
    replace hvc := g_jn1_o hvc
    obtain ⟨K10, hK23, hvc⟩ := hvc
    have kh11 : ∀ (x9 : Int32), K10 x9 → g_J p l e R s m args below meth c 3 E st0 Z 61 [] [.int x9] st cb sb := by
      clear hvc
      intro x9 hvc
      replace hvc := hK23 _ hvc
      exact hret _ _ _ _ _ _ dX2_beside_61 rfl hvc
    refine j_icmp_ne (tgt := 43) hC dX2_beside_36 rfl (fun c12 => ?_) (fun c12 => ?_)
    · replace hvc := hvc.1 c12
      refine j_aload_n hC dX2_beside_43 rfl 2 rfl ?_
      obtain ⟨o13, ⟨fs, hr, hv⟩, hvc⟩ := hvc
      refine j_get hC fkX2_17_X2 dX2_beside_44 hr hv ?_
      clear hv hr fs
      refine j_bipush hC (nI 10) dX2_beside_47 rfl ?_
      refine j_iload_n hC dX2_beside_49 rfl 1 rfl ?_
      refine j_imul hC dX2_beside_50 ?_
      refine j_iload_n hC dX2_beside_51 rfl 0 rfl ?_
      refine j_iadd hC dX2_beside_52 ?_
      obtain ⟨a14, rfl, hvc⟩ := hvc
      obtain ⟨n15, f16, j17, hr, hi, hj, hJ, hvc⟩ := hvc
      refine j_ix hi ?_
      refine j_cald hC hr hj hJ dX2_beside_53 ?_
      clear hr hi hj hJ
      refine j_aload_n hC dX2_beside_54 rfl 2 rfl ?_
      obtain ⟨o18, ⟨fs, hr, hv⟩, hvc⟩ := hvc
      refine j_get hC fkX2_13_X2 dX2_beside_55 hr hv ?_
      clear hv hr fs
      refine j_iload_n hC dX2_beside_58 rfl 0 rfl ?_
      obtain ⟨a19, rfl, hvc⟩ := hvc
      obtain ⟨n20, f21, j22, hr, hi, hj, hJ, hvc⟩ := hvc
      refine j_ix hi ?_
      refine j_cald hC hr hj hJ dX2_beside_59 ?_
      clear hr hi hj hJ
      refine j_isub hC dX2_beside_60 ?_
      exact j_sub [] rfl (kh11 ((f16 j17) - (f21 j22)) hvc)
    · replace hvc := hvc.2 c12
      refine j_iconst hC (nI 1) dX2_beside_39 rfl ?_
      refine j_goto (tgt := 61) hC dX2_beside_40 rfl ?_
      exact j_sub [] rfl (kh11 (nI 1) hvc)
  · replace hvc := hvc.2 c7
    refine j_iload_n hC dX2_beside_17 rfl 0 rfl ?_
    refine j_aload_n hC dX2_beside_18 rfl 2 rfl ?_
    obtain ⟨x24, ⟨fs, hr, hv⟩, hvc⟩ := hvc
    refine j_get hC fkX2_49_X2 dX2_beside_19 hr hv ?_
    clear hv hr fs
    replace hvc := g_jn1_o hvc
    obtain ⟨K26, hK29, hvc⟩ := hvc
    have kh27 : ∀ (x25 : Int32), K26 x25 → g_J p l e R s m args below meth c 3 E st0 Z 30 [] [.int x25] st cb sb := by
      clear hvc
      intro x25 hvc
      replace hvc := hK29 _ hvc
      exact hret _ _ _ _ _ _ dX2_beside_30 rfl hvc
    refine j_icmp_ne (tgt := 29) hC dX2_beside_22 rfl (fun c28 => ?_) (fun c28 => ?_)
    · replace hvc := hvc.1 c28
      refine j_iconst hC (-1) dX2_beside_29 rfl ?_
      exact j_sub [] rfl (kh27 (-1) hvc)
    · replace hvc := hvc.2 c28
      refine j_iconst hC (nI 0) dX2_beside_25 rfl ?_
      refine j_goto (tgt := 30) hC dX2_beside_26 rfl ?_
      exact j_sub [] rfl (kh27 (nI 0) hvc)
theorem wk_X2_beside {l : Launch} {E : g_E} {a0 : Nat} {p0 : Int32} {st : g_St} {mc ms : Nat} {Q : Int32 → g_St → Prop} (hvc : vc_X2_beside l E a0 p0 st Q) : wp_X2_beside l E mc ms [va_rf (some a0), .int p0] st Q :=
  g_enter (lv0 := [(0, va_rf (some a0)), (1, .int p0)]) (plainFor_of_name (by decide +kernel)) (by simp [lv_args, g_c1, g_ci, g_cL]) (by simp [lg_sl, g_c1, g_ci, g_cL]) (fun p e s m args below meth c hC => wb_X2_beside hC ⟨Nat.le_refl _, Nat.le_refl _⟩ (fun pc lv v st1 cb sb hd hn hq => j_ireturn hC rfl hn hd (g_iv hq)) hvc)
abbrev wp_X2_own (l : Launch) (E : g_E) (mc ms : Nat) (av : List Value) (st : g_St) (Q : Int32 → g_St → Prop) : Prop := g_WPi l E yX2_own cX2_own 2 (some .int) 3 85 mc ms av st Q
def vc_X2_own (l : Launch) (E : g_E) (a0 : Nat) (st : g_St) (Q : Int32 → g_St → Prop) : Prop :=
  g_lp1 (fun (K2 : Int32 → Prop) (x1 : Int32) => ∃ x5 : Int32, g_gi st a0 16 9 x5 ∧ (x5 ≤ x1 → Q (-1) st) ∧ (¬ x5 ≤ x1 → g_is st a0 16 ∧ wp_X2_beside l E 0 0 [va_rf (some a0), .int x1] st (fun x7 stx => stx = st ∧ (¬ x7 = 0 → K2 (x1 + (nI 1))) ∧ (x7 = 0 → Q x1 st)))) (nI 0)
set_option maxHeartbeats 4000000 in
theorem wb_X2_own {p : Program} {l : Launch} {e : Env} {R : Room} {s : State} {m : MethodId} {args : Array Value} {below : List Frame} {meth : Method} {c : Code} {E : g_E} {st0 : g_St} {Z : State → Prop} (hC : g_Cx p s m args meth c cX2_own 2 "StemspanModel" (some .int) "own" E st0) (hR : g_Rm 3 85 R) {a0 : Nat} {st : g_St} {cb sb : Nat} {Q : Int32 → g_St → Prop} (hret : ∀ (pc : Nat) (lv : List (Nat × Value)) (v : Int32) (st1 : g_St) (cb sb : Nat), decode cX2_own pc = .ok (.ireturn, 1) → narrow .int (.int v) = .int v → Q v st1 → g_J p l e R s m args below meth c 2 E st0 Z pc lv [.int v] st1 cb sb) (hvc : vc_X2_own l E a0 st Q) : g_J p l e R s m args below meth c 2 E st0 Z 0 [(0, va_rf (some a0))] [] st cb sb := by
  unfold vc_X2_own at hvc
  refine j_iconst hC (nI 0) dX2_own_0 rfl ?_
  refine j_istore_n (lv0 := [(0, va_rf (some a0))]) hC dX2_own_1 rfl rfl [0] rfl (g_okS.h rfl g_c1 rfl) ?_
  replace hvc := g_lp1_o hvc
  obtain ⟨K2, hz9, hs10, n11, hvc⟩ := hvc
  have kh3 : ∀ (n : Nat) (x1 : Int32), K2 n x1 → g_J p l e R s m args below meth c 2 E st0 Z 2 [(0, va_rf (some a0)), (1, .int x1)] [] st cb sb := by
    clear hvc
    intro n
    induction n with
    | zero => intro x1 hvc; exact absurd hvc (hz9 _)
    | succ n ih4 =>
      intro x1 hvc
      replace hvc := hs10 n _ hvc
      refine j_iload_n hC dX2_own_2 rfl 1 rfl ?_
      refine j_aload_n hC dX2_own_3 rfl 0 rfl ?_
      obtain ⟨x5, ⟨fs, hr, hv⟩, hvc⟩ := hvc
      refine j_get hC fkX2_59_X2 dX2_own_4 hr hv ?_
      clear hv hr fs
      refine j_icmp_ge (tgt := 26) hC dX2_own_7 rfl (fun c6 => ?_) (fun c6 => ?_)
      · replace hvc := hvc.1 c6
        refine j_iconst hC (-1) dX2_own_26 rfl ?_
        exact hret _ _ _ _ _ _ dX2_own_27 rfl hvc
      · replace hvc := hvc.2 c6
        refine j_aload_n hC dX2_own_10 rfl 0 rfl ?_
        refine j_iload_n hC dX2_own_11 rfl 1 rfl ?_
        obtain ⟨⟨fs, hr⟩, hvc⟩ := hvc
        refine j_callV (As := [.int x1]) (rest := []) (n := 1) (ci := 16) hC hvc (lw_V q2276 q2278 qs22 q60 q2279) (by decide +kernel) (g_rm hR rfl rfl) rfl hr rfl rfl (g_sum rfl) dX2_own_12 (Nat.zero_le _) (Nat.zero_le _) (g_Kip fun x7 hv2 => ?_)
        replace hvc := hv2; clear hv2
        clear hr fs
        refine j_if_ne (tgt := 20) hC dX2_own_15 rfl (fun c8 => ?_) (fun c8 => ?_)
        · replace hvc := hvc.1 c8
          refine j_iinc (lv0 := [(0, va_rf (some a0))]) hC (nI 1) dX2_own_20 1 rfl rfl rfl [0] rfl (g_okS.h rfl g_c1 rfl) ?_
          refine j_goto (tgt := 2) hC dX2_own_23 rfl ?_
          exact j_sub [1, 0] rfl (ih4 (x1 + (nI 1)) hvc)
        · replace hvc := hvc.2 c8
          refine j_iload_n hC dX2_own_18 rfl 1 rfl ?_
          exact hret _ _ _ _ _ _ dX2_own_19 rfl hvc
  exact j_sub [1, 0] rfl (kh3 n11 (nI 0) hvc)
theorem wk_X2_own {l : Launch} {E : g_E} {a0 : Nat} {st : g_St} {mc ms : Nat} {Q : Int32 → g_St → Prop} (hvc : vc_X2_own l E a0 st Q) : wp_X2_own l E mc ms [va_rf (some a0)] st Q :=
  g_enter (lv0 := [(0, va_rf (some a0))]) (plainFor_of_name (by decide +kernel)) (by simp [lv_args, g_c1, g_ci, g_cL]) (by simp [lg_sl, g_c1, g_ci, g_cL]) (fun p e s m args below meth c hC => wb_X2_own hC ⟨Nat.le_refl _, Nat.le_refl _⟩ (fun pc lv v st1 cb sb hd hn hq => j_ireturn hC rfl hn hd (g_iv hq)) hvc)
abbrev wp_X2_put (l : Launch) (E : g_E) (mc ms : Nat) (av : List Value) (st : g_St) (Q : Int32 → g_St → Prop) : Prop := g_WPi l E yX2_put cX2_put 5 (some .int) 4 106 mc ms av st Q
def vc_X2_put (l : Launch) (E : g_E) (a0 : Nat) (p0 : Int32) (st : g_St) (Q : Int32 → g_St → Prop) : Prop :=
  g_is st a0 16 ∧ wp_X2_own l E 0 0 [va_rf (some a0)] st (fun x1 stx => stx = st ∧ wp_X2_in l E 0 0 [.int p0, .int (nI 0), .int (nI 999)] st (fun x2 stx => stx = st ∧ g_jn1 (fun (K4 : Int32 → Prop) => (¬ x2 = 0 → ∃ x64 : Int32, g_gi st a0 16 8 x64 ∧ wp_X2_in l E 0 0 [.int x64, .int (nI 1), .int (nI 10)] st (fun x65 stx => stx = st ∧ (¬ x65 = 0 → g_jn0 (fun (K67 : Prop) => (0 ≤ x1 → K67) ∧ (¬ 0 ≤ x1 → ∃ x70 : Int32, g_gi st a0 16 9 x70 ∧ (¬ x70 = (nI 24) → K67) ∧ (x70 = (nI 24) → K4 (nI 3)))) (K4 (nI 0))) ∧ (x65 = 0 → K4 (nI 2)))) ∧ (x2 = 0 → K4 (nI 1))) (fun (x3 : Int32) => g_is st a0 16 ∧ wp_X2_fails l E 0 0 [va_rf (some a0), .int x3] st (fun x6 st7 => g_Ext st st7 → (x6 = 0 → g_jn1 (fun (K10 : Int32 → Prop) => (0 ≤ x1 → ∃ o57 : Option Nat, g_gr st7 a0 16 6 o57 ∧ ∃ a58 : Nat, o57 = some a58 ∧ ∃ (n59 : Nat) (f60 : Nat → Int32) (j61 : Nat), g_ai st7 a58 0 n59 f60 ∧ x1 = nI j61 ∧ j61 < n59 ∧ j61 < 2 ^ 31 ∧ K10 (f60 j61)) ∧ (¬ 0 ≤ x1 → K10 (-1))) (fun (x9 : Int32) => g_jn2 (fun (K14 : Int32 → g_St → Prop) => (0 ≤ x1 → K14 x1 st7) ∧ (¬ 0 ≤ x1 → ∃ x23 : Int32, g_gi st7 a0 16 9 x23 ∧ ∃ x24 : Int32, g_gi st7 a0 16 9 x24 ∧ ∃ fs25 : List Value, st7.2.1 a0 = some (.inr (16, fs25)) ∧ ∀ st26 : g_St, st26 = g_put st7 a0 (.inr (16, fs25.set 9 (.int (x24 + (nI 1))))) → ∃ o27 : Option Nat, g_gr st26 a0 16 5 o27 ∧ ∃ x28 : Int32, g_gi st26 a0 16 8 x28 ∧ ∃ a29 : Nat, o27 = some a29 ∧ ∃ (n30 : Nat) (f31 : Nat → Int32) (j32 : Nat), st26.2.1 a29 = some (.inl (0, n30, .inl (f31))) ∧ x23 = nI j32 ∧ j32 < n30 ∧ j32 < 2 ^ 31 ∧ ∀ st33 : g_St, st33 = g_put st26 a29 (.inl (0, n30, .inl (va_up f31 j32 x28))) → g_lp2 (fun (K36 : Int32 → g_St → Prop) (x34 : Int32) (st35 : g_St) => ∃ x39 : Int32, g_gi st35 a0 16 8 x39 ∧ (x39 ≤ x34 → K14 x23 st35) ∧ (¬ x39 ≤ x34 → ∃ o41 : Option Nat, g_gr st35 a0 16 2 o41 ∧ ∃ o42 : Option Nat, g_gr st35 a0 16 1 o42 ∧ ∃ a43 : Nat, o42 = some a43 ∧ ∃ (n44 : Nat) (f45 : Nat → Int32) (j46 : Nat), g_ai st35 a43 2 n44 f45 ∧ x34 = nI j46 ∧ j46 < n44 ∧ j46 < 2 ^ 31 ∧ ∃ a47 : Nat, o41 = some a47 ∧ ∃ (n48 : Nat) (f49 : Nat → Int32) (j50 : Nat), st35.2.1 a47 = some (.inl (2, n48, .inl (f49))) ∧ (((nI 10) * x23) + x34) = nI j50 ∧ j50 < n48 ∧ j50 < 2 ^ 31 ∧ ∀ st51 : g_St, st51 = g_put st35 a47 (.inl (2, n48, .inl (va_up f49 j50 (vp_nar .char (f45 j46))))) → K36 (x34 + (nI 1)) st51)) (nI 0) st33)) (fun (x12 : Int32) (st13 : g_St) => ∃ o16 : Option Nat, g_gr st13 a0 16 6 o16 ∧ ∃ a17 : Nat, o16 = some a17 ∧ ∃ (n18 : Nat) (f19 : Nat → Int32) (j20 : Nat), st13.2.1 a17 = some (.inl (0, n18, .inl (f19))) ∧ x12 = nI j20 ∧ j20 < n18 ∧ j20 < 2 ^ 31 ∧ ∀ st21 : g_St, st21 = g_put st13 a17 (.inl (0, n18, .inl (va_up f19 j20 p0))) → Q x9 st21))) ∧ (¬ x6 = 0 → Q (nI 0) st7)))))
set_option maxHeartbeats 4000000 in
theorem wb_X2_put {p : Program} {l : Launch} {e : Env} {R : Room} {s : State} {m : MethodId} {args : Array Value} {below : List Frame} {meth : Method} {c : Code} {E : g_E} {st0 : g_St} {Z : State → Prop} (hC : g_Cx p s m args meth c cX2_put 5 "StemspanModel" (some .int) "put" E st0) (hR : g_Rm 4 106 R) {a0 : Nat} {p0 : Int32} {st : g_St} {cb sb : Nat} {Q : Int32 → g_St → Prop} (hret : ∀ (pc : Nat) (lv : List (Nat × Value)) (v : Int32) (st1 : g_St) (cb sb : Nat), decode cX2_put pc = .ok (.ireturn, 1) → narrow .int (.int v) = .int v → Q v st1 → g_J p l e R s m args below meth c 5 E st0 Z pc lv [.int v] st1 cb sb) (hvc : vc_X2_put l E a0 p0 st Q) : g_J p l e R s m args below meth c 5 E st0 Z 0 [(0, va_rf (some a0)), (1, .int p0)] [] st cb sb := by
  unfold vc_X2_put at hvc
  refine j_aload_n hC dX2_put_0 rfl 0 rfl ?_
  obtain ⟨⟨fs, hr⟩, hvc⟩ := hvc
  refine j_callV (As := []) (rest := []) (n := 0) (ci := 16) hC hvc (lw_V q2272 q2274 qs21 q60 q2275) (by decide +kernel) (g_rm hR rfl rfl) rfl hr rfl rfl (g_sum rfl) dX2_put_1 (Nat.zero_le _) (Nat.zero_le _) (g_Kip fun x1 hv2 => ?_)
  replace hvc := hv2; clear hv2
  clear hr fs
  refine j_istore_n (lv0 := [(1, .int p0), (0, va_rf (some a0))]) hC dX2_put_4 rfl rfl [1, 0] rfl (g_okS.h rfl rfl rfl) ?_
  refine j_aload_n hC dX2_put_5 rfl 2 rfl ?_
  refine j_iload_n hC dX2_put_6 rfl 1 rfl ?_
  refine j_iconst hC (nI 0) dX2_put_7 rfl ?_
  refine j_sipush hC (nI 999) dX2_put_8 rfl ?_
  refine j_callS (As := [.int p0, .int (nI 0), .int (nI 999)]) (rest := [va_rf (some a0)]) (n := 3) hC hvc (lw_S q2240 q2241 q60 q2242) (by decide +kernel) (g_rm hR rfl rfl) rfl rfl (g_sum rfl) dX2_put_11 (Nat.zero_le _) (Nat.zero_le _) (g_Kip fun x2 hv2 => ?_)
  replace hvc := hv2; clear hv2
  replace hvc := g_jn1_o hvc
  obtain ⟨K4, hK73, hvc⟩ := hvc
  have kh5 : ∀ (x3 : Int32), K4 x3 → g_J p l e R s m args below meth c 5 E st0 Z 56 [(0, va_rf (some a0)), (1, .int p0), (2, .int x1)] [.int x3, va_rf (some a0)] st cb sb := by
    clear hvc
    intro x3 hvc
    replace hvc := hK73 _ hvc
    obtain ⟨⟨fs, hr⟩, hvc⟩ := hvc
    refine j_callV (As := [.int x3]) (rest := []) (n := 1) (ci := 16) hC hvc (lw_V q2232 q2234 qs20 q60 q2235) (by decide +kernel) (g_rm hR rfl rfl) rfl hr rfl rfl (g_sum rfl) dX2_put_56 (Nat.zero_le _) (Nat.zero_le _) (g_Ki fun x6 st7 hv2 hx => ?_)
    replace hvc := hv2 hx; clear hx hv2
    clear hr fs
    refine j_if_eq (tgt := 64) hC dX2_put_59 rfl (fun c8 => ?_) (fun c8 => ?_)
    · replace hvc := hvc.1 c8
      refine j_iload_n hC dX2_put_64 rfl 2 rfl ?_
      replace hvc := g_jn1_o hvc
      obtain ⟨K10, hK62, hvc⟩ := hvc
      have kh11 : ∀ (x9 : Int32), K10 x9 → g_J p l e R s m args below meth c 5 E st0 Z 78 [(0, va_rf (some a0)), (1, .int p0), (2, .int x1)] [.int x9] st7 cb sb := by
        clear hvc
        intro x9 hvc
        replace hvc := hK62 _ hvc
        refine j_istore_n (lv0 := [(2, .int x1), (0, va_rf (some a0)), (1, .int p0)]) hC dX2_put_78 rfl rfl [2, 0, 1] rfl (g_okS.h rfl rfl rfl) ?_
        refine j_iload_n hC dX2_put_79 rfl 1 rfl ?_
        replace hvc := g_jn2_o hvc
        obtain ⟨K14, hK55, hvc⟩ := hvc
        have kh15 : ∀ (x12 : Int32) (st13 : g_St), K14 x12 st13 → g_J p l e R s m args below meth c 5 E st0 Z 145 [(0, va_rf (some a0)), (1, .int p0), (2, .int x12), (3, .int x9)] [] st13 cb sb := by
          clear hvc
          intro x12 st13 hvc
          replace hvc := hK55 _ _ hvc
          refine j_aload_n hC dX2_put_145 rfl 0 rfl ?_
          obtain ⟨o16, ⟨fs, hr, hv⟩, hvc⟩ := hvc
          refine j_get hC fkX2_30_X2 dX2_put_146 hr hv ?_
          clear hv hr fs
          refine j_iload_n hC dX2_put_149 rfl 2 rfl ?_
          refine j_iload_n hC dX2_put_150 rfl 1 rfl ?_
          obtain ⟨a17, rfl, hvc⟩ := hvc
          obtain ⟨n18, f19, j20, hm, hi, hj, hJ, hvc⟩ := hvc
          refine j_ix1 hi ?_
          refine j_sti hC hm hj hJ dX2_put_151 (fun st21 e1 => ?_)
          replace hvc := hvc st21 e1; clear hm hi hj hJ e1
          refine j_iload_n hC dX2_put_152 rfl 3 rfl ?_
          exact hret _ _ _ _ _ _ dX2_put_153 rfl hvc
        refine j_if_ge (tgt := 145) hC dX2_put_80 rfl (fun c22 => ?_) (fun c22 => ?_)
        · replace hvc := hvc.1 c22
          exact j_sub [2, 3, 1, 0] rfl (kh15 x1 st7 hvc)
        · replace hvc := hvc.2 c22
          refine j_aload_n hC dX2_put_83 rfl 2 rfl ?_
          obtain ⟨x23, ⟨fs, hr, hv⟩, hvc⟩ := hvc
          refine j_get hC fkX2_59_X2 dX2_put_84 hr hv ?_
          clear hv hr fs
          refine j_istore_n (lv0 := [(1, .int p0), (3, .int x9), (0, va_rf (some a0))]) hC dX2_put_87 rfl rfl [3, 0, 2] rfl (g_okS.h rfl rfl rfl) ?_
          refine j_aload_n hC dX2_put_88 rfl 3 rfl ?_
          refine j_dup hC dX2_put_89 g_c1 ?_
          obtain ⟨x24, ⟨fs, hr, hv⟩, hvc⟩ := hvc
          refine j_get hC fkX2_59_X2 dX2_put_90 hr hv ?_
          clear hv hr fs
          refine j_iconst hC (nI 1) dX2_put_93 rfl ?_
          refine j_iadd hC dX2_put_94 ?_
          obtain ⟨fs25, hm, hvc⟩ := hvc
          refine j_put hC fkX2_59_X2 dX2_put_95 hm rfl rfl (fun st26 e1 => ?_)
          replace hvc := hvc st26 e1; clear hm e1
          refine j_aload_n hC dX2_put_98 rfl 3 rfl ?_
          obtain ⟨o27, ⟨fs, hr, hv⟩, hvc⟩ := hvc
          refine j_get hC fkX2_26_X2 dX2_put_99 hr hv ?_
          clear hv hr fs
          refine j_iload_n hC dX2_put_102 rfl 0 rfl ?_
          refine j_aload_n hC dX2_put_103 rfl 3 rfl ?_
          obtain ⟨x28, ⟨fs, hr, hv⟩, hvc⟩ := hvc
          refine j_get hC fkX2_49_X2 dX2_put_104 hr hv ?_
          clear hv hr fs
          obtain ⟨a29, rfl, hvc⟩ := hvc
          obtain ⟨n30, f31, j32, hm, hi, hj, hJ, hvc⟩ := hvc
          refine j_ix1 hi ?_
          refine j_sti hC hm hj hJ dX2_put_107 (fun st33 e1 => ?_)
          replace hvc := hvc st33 e1; clear hm hi hj hJ e1
          refine j_iconst hC (nI 0) dX2_put_108 rfl ?_
          refine j_istore (lv0 := [(3, .int x9), (2, .int x23), (1, .int p0), (0, va_rf (some a0))]) hC dX2_put_109 rfl [2, 0, 1, 3] rfl (g_okS.h rfl rfl rfl) ?_
          replace hvc := g_lp2_o hvc
          obtain ⟨K36, hz52, hs53, n54, hvc⟩ := hvc
          have kh37 : ∀ (n : Nat) (x34 : Int32) (st35 : g_St), K36 n x34 st35 → g_J p l e R s m args below meth c 5 E st0 Z 111 [(0, va_rf (some a0)), (1, .int p0), (2, .int x23), (3, .int x9), (4, .int x34)] [] st35 cb sb := by
            clear hvc
            intro n
            induction n with
            | zero => intro x34 st35 hvc; exact absurd hvc (hz52 _ _)
            | succ n ih38 =>
              intro x34 st35 hvc
              replace hvc := hs53 n _ _ hvc
              refine j_iload hC dX2_put_111 4 rfl ?_
              refine j_aload_n hC dX2_put_113 rfl 0 rfl ?_
              obtain ⟨x39, ⟨fs, hr, hv⟩, hvc⟩ := hvc
              refine j_get hC fkX2_49_X2 dX2_put_114 hr hv ?_
              clear hv hr fs
              refine j_icmp_ge (tgt := 145) hC dX2_put_117 rfl (fun c40 => ?_) (fun c40 => ?_)
              · replace hvc := hvc.1 c40
                exact j_sub [0, 1, 2, 3] rfl (kh15 x23 st35 hvc)
              · replace hvc := hvc.2 c40
                refine j_aload_n hC dX2_put_120 rfl 0 rfl ?_
                obtain ⟨o41, ⟨fs, hr, hv⟩, hvc⟩ := hvc
                refine j_get hC fkX2_17_X2 dX2_put_121 hr hv ?_
                clear hv hr fs
                refine j_bipush hC (nI 10) dX2_put_124 rfl ?_
                refine j_iload_n hC dX2_put_126 rfl 2 rfl ?_
                refine j_imul hC dX2_put_127 ?_
                refine j_iload hC dX2_put_128 4 rfl ?_
                refine j_iadd hC dX2_put_130 ?_
                refine j_aload_n hC dX2_put_131 rfl 0 rfl ?_
                obtain ⟨o42, ⟨fs, hr, hv⟩, hvc⟩ := hvc
                refine j_get hC fkX2_13_X2 dX2_put_132 hr hv ?_
                clear hv hr fs
                refine j_iload hC dX2_put_135 4 rfl ?_
                obtain ⟨a43, rfl, hvc⟩ := hvc
                obtain ⟨n44, f45, j46, hr, hi, hj, hJ, hvc⟩ := hvc
                refine j_ix hi ?_
                refine j_cald hC hr hj hJ dX2_put_137 ?_
                clear hr hi hj hJ
                obtain ⟨a47, rfl, hvc⟩ := hvc
                obtain ⟨n48, f49, j50, hm, hi, hj, hJ, hvc⟩ := hvc
                refine j_ix1 hi ?_
                refine j_stc hC hm hj hJ dX2_put_138 (fun st51 e1 => ?_)
                replace hvc := hvc st51 e1; clear hm hi hj hJ e1
                refine j_iinc (lv0 := [(3, .int x9), (0, va_rf (some a0)), (1, .int p0), (2, .int x23)]) hC (nI 1) dX2_put_139 4 rfl rfl rfl [3, 0, 1, 2] rfl (g_okS.h rfl rfl rfl) ?_
                refine j_goto (tgt := 111) hC dX2_put_142 rfl ?_
                exact j_sub [2, 3, 4, 1, 0] rfl (ih38 (x34 + (nI 1)) st51 hvc)
          exact j_sub [4, 3, 2, 1, 0] rfl (kh37 n54 (nI 0) st33 hvc)
      refine j_if_ge (tgt := 72) hC dX2_put_65 rfl (fun c56 => ?_) (fun c56 => ?_)
      · replace hvc := hvc.1 c56
        refine j_aload_n hC dX2_put_72 rfl 0 rfl ?_
        obtain ⟨o57, ⟨fs, hr, hv⟩, hvc⟩ := hvc
        refine j_get hC fkX2_30_X2 dX2_put_73 hr hv ?_
        clear hv hr fs
        refine j_iload_n hC dX2_put_76 rfl 2 rfl ?_
        obtain ⟨a58, rfl, hvc⟩ := hvc
        obtain ⟨n59, f60, j61, hr, hi, hj, hJ, hvc⟩ := hvc
        refine j_ix hi ?_
        refine j_iald hC hr hj hJ dX2_put_77 ?_
        clear hr hi hj hJ
        exact j_sub [0, 1, 2] rfl (kh11 (f60 j61) hvc)
      · replace hvc := hvc.2 c56
        refine j_iconst hC (-1) dX2_put_68 rfl ?_
        refine j_goto (tgt := 78) hC dX2_put_69 rfl ?_
        exact j_sub [0, 1, 2] rfl (kh11 (-1) hvc)
    · replace hvc := hvc.2 c8
      refine j_iconst hC (nI 0) dX2_put_62 rfl ?_
      exact hret _ _ _ _ _ _ dX2_put_63 rfl hvc
  refine j_if_ne (tgt := 21) hC dX2_put_14 rfl (fun c63 => ?_) (fun c63 => ?_)
  · replace hvc := hvc.1 c63
    refine j_aload_n hC dX2_put_21 rfl 2 rfl ?_
    obtain ⟨x64, ⟨fs, hr, hv⟩, hvc⟩ := hvc
    refine j_get hC fkX2_49_X2 dX2_put_22 hr hv ?_
    clear hv hr fs
    refine j_iconst hC (nI 1) dX2_put_25 rfl ?_
    refine j_bipush hC (nI 10) dX2_put_26 rfl ?_
    refine j_callS (As := [.int x64, .int (nI 1), .int (nI 10)]) (rest := [va_rf (some a0)]) (n := 3) hC hvc (lw_S q2240 q2241 q60 q2242) (by decide +kernel) (g_rm hR rfl rfl) rfl rfl (g_sum rfl) dX2_put_28 (Nat.zero_le _) (Nat.zero_le _) (g_Kip fun x65 hv2 => ?_)
    replace hvc := hv2; clear hv2
    refine j_if_ne (tgt := 38) hC dX2_put_31 rfl (fun c66 => ?_) (fun c66 => ?_)
    · replace hvc := hvc.1 c66
      refine j_iload_n hC dX2_put_38 rfl 0 rfl ?_
      replace hvc := g_jn0_o hvc
      obtain ⟨K67, hK72, hvc⟩ := hvc
      have kh68 : K67 → g_J p l e R s m args below meth c 5 E st0 Z 55 [(0, va_rf (some a0)), (1, .int p0), (2, .int x1)] [va_rf (some a0)] st cb sb := by
        clear hvc
        intro hvc
        replace hvc := hK72 hvc
        refine j_iconst hC (nI 0) dX2_put_55 rfl ?_
        exact j_sub [0, 1, 2] rfl (kh5 (nI 0) hvc)
      refine j_if_ge (tgt := 55) hC dX2_put_39 rfl (fun c69 => ?_) (fun c69 => ?_)
      · replace hvc := hvc.1 c69
        exact j_sub [2, 1, 0] rfl (kh68 hvc)
      · replace hvc := hvc.2 c69
        refine j_aload_n hC dX2_put_42 rfl 2 rfl ?_
        obtain ⟨x70, ⟨fs, hr, hv⟩, hvc⟩ := hvc
        refine j_get hC fkX2_59_X2 dX2_put_43 hr hv ?_
        clear hv hr fs
        refine j_bipush hC (nI 24) dX2_put_46 rfl ?_
        refine j_icmp_ne (tgt := 55) hC dX2_put_48 rfl (fun c71 => ?_) (fun c71 => ?_)
        · replace hvc := hvc.1 c71
          exact j_sub [2, 1, 0] rfl (kh68 hvc)
        · replace hvc := hvc.2 c71
          refine j_iconst hC (nI 3) dX2_put_51 rfl ?_
          refine j_goto (tgt := 56) hC dX2_put_52 rfl ?_
          exact j_sub [2, 1, 0] rfl (kh5 (nI 3) hvc)
    · replace hvc := hvc.2 c66
      refine j_iconst hC (nI 2) dX2_put_34 rfl ?_
      refine j_goto (tgt := 56) hC dX2_put_35 rfl ?_
      exact j_sub [2, 1, 0] rfl (kh5 (nI 2) hvc)
  · replace hvc := hvc.2 c63
    refine j_iconst hC (nI 1) dX2_put_17 rfl ?_
    refine j_goto (tgt := 56) hC dX2_put_18 rfl ?_
    exact j_sub [2, 1, 0] rfl (kh5 (nI 1) hvc)
theorem wk_X2_put {l : Launch} {E : g_E} {a0 : Nat} {p0 : Int32} {st : g_St} {mc ms : Nat} {Q : Int32 → g_St → Prop} (hvc : vc_X2_put l E a0 p0 st Q) : wp_X2_put l E mc ms [va_rf (some a0), .int p0] st Q :=
  g_enter (lv0 := [(0, va_rf (some a0)), (1, .int p0)]) (plainFor_of_name (by decide +kernel)) (by simp [lv_args, g_c1, g_ci, g_cL]) (by simp [lg_sl, g_c1, g_ci, g_cL]) (fun p e s m args below meth c hC => wb_X2_put hC ⟨Nat.le_refl _, Nat.le_refl _⟩ (fun pc lv v st1 cb sb hd hn hq => j_ireturn hC rfl hn hd (g_iv hq)) hvc)
abbrev wp_X2_goes (l : Launch) (E : g_E) (mc ms : Nat) (av : List Value) (st : g_St) (Q : g_St → Prop) : Prop := g_WPv l E yX2_goes cX2_goes 3 none 1 40 mc ms av st Q
def vc_X2_goes (l : Launch) (E : g_E) (a0 : Nat) (p0 : Int32) (st : g_St) (Q : g_St → Prop) : Prop :=
  ∃ x1 : Int32, g_gi st a0 16 9 x1 ∧ ∃ fs2 : List Value, st.2.1 a0 = some (.inr (16, fs2)) ∧ ∀ st3 : g_St, st3 = g_put st a0 (.inr (16, fs2.set 9 (.int (x1 - (nI 1))))) → ∃ o4 : Option Nat, g_gr st3 a0 16 5 o4 ∧ ∃ o5 : Option Nat, g_gr st3 a0 16 5 o5 ∧ ∃ x6 : Int32, g_gi st3 a0 16 9 x6 ∧ ∃ a7 : Nat, o5 = some a7 ∧ ∃ (n8 : Nat) (f9 : Nat → Int32) (j10 : Nat), g_ai st3 a7 0 n8 f9 ∧ x6 = nI j10 ∧ j10 < n8 ∧ j10 < 2 ^ 31 ∧ ∃ a11 : Nat, o4 = some a11 ∧ ∃ (n12 : Nat) (f13 : Nat → Int32) (j14 : Nat), st3.2.1 a11 = some (.inl (0, n12, .inl (f13))) ∧ p0 = nI j14 ∧ j14 < n12 ∧ j14 < 2 ^ 31 ∧ ∀ st15 : g_St, st15 = g_put st3 a11 (.inl (0, n12, .inl (va_up f13 j14 (f9 j10)))) → ∃ o16 : Option Nat, g_gr st15 a0 16 6 o16 ∧ ∃ o17 : Option Nat, g_gr st15 a0 16 6 o17 ∧ ∃ x18 : Int32, g_gi st15 a0 16 9 x18 ∧ ∃ a19 : Nat, o17 = some a19 ∧ ∃ (n20 : Nat) (f21 : Nat → Int32) (j22 : Nat), g_ai st15 a19 0 n20 f21 ∧ x18 = nI j22 ∧ j22 < n20 ∧ j22 < 2 ^ 31 ∧ ∃ a23 : Nat, o16 = some a23 ∧ ∃ (n24 : Nat) (f25 : Nat → Int32) (j26 : Nat), st15.2.1 a23 = some (.inl (0, n24, .inl (f25))) ∧ p0 = nI j26 ∧ j26 < n24 ∧ j26 < 2 ^ 31 ∧ ∀ st27 : g_St, st27 = g_put st15 a23 (.inl (0, n24, .inl (va_up f25 j26 (f21 j22)))) → g_lp2 (fun (K30 : Int32 → g_St → Prop) (x28 : Int32) (st29 : g_St) => ((nI 10) ≤ x28 → Q st29) ∧ (¬ (nI 10) ≤ x28 → ∃ o34 : Option Nat, g_gr st29 a0 16 2 o34 ∧ ∃ o35 : Option Nat, g_gr st29 a0 16 2 o35 ∧ ∃ x36 : Int32, g_gi st29 a0 16 9 x36 ∧ ∃ a37 : Nat, o35 = some a37 ∧ ∃ (n38 : Nat) (f39 : Nat → Int32) (j40 : Nat), g_ai st29 a37 2 n38 f39 ∧ (((nI 10) * x36) + x28) = nI j40 ∧ j40 < n38 ∧ j40 < 2 ^ 31 ∧ ∃ a41 : Nat, o34 = some a41 ∧ ∃ (n42 : Nat) (f43 : Nat → Int32) (j44 : Nat), st29.2.1 a41 = some (.inl (2, n42, .inl (f43))) ∧ (((nI 10) * p0) + x28) = nI j44 ∧ j44 < n42 ∧ j44 < 2 ^ 31 ∧ ∀ st45 : g_St, st45 = g_put st29 a41 (.inl (2, n42, .inl (va_up f43 j44 (vp_nar .char (f39 j40))))) → K30 (x28 + (nI 1)) st45)) (nI 0) st27
set_option maxHeartbeats 4000000 in
theorem wb_X2_goes {p : Program} {l : Launch} {e : Env} {R : Room} {s : State} {m : MethodId} {args : Array Value} {below : List Frame} {meth : Method} {c : Code} {E : g_E} {st0 : g_St} {Z : State → Prop} (hC : g_Cx p s m args meth c cX2_goes 3 "StemspanModel" none "goes" E st0) (hR : g_Rm 1 40 R) {a0 : Nat} {p0 : Int32} {st : g_St} {cb sb : Nat} {Q : g_St → Prop} (hret : ∀ (pc : Nat) (lv : List (Nat × Value)) (st1 : g_St) (cb sb : Nat), decode cX2_goes pc = .ok (.return_, 1) → Q st1 → g_J p l e R s m args below meth c 3 E st0 Z pc lv [] st1 cb sb) (hvc : vc_X2_goes l E a0 p0 st Q) : g_J p l e R s m args below meth c 3 E st0 Z 0 [(0, va_rf (some a0)), (1, .int p0)] [] st cb sb := by
  unfold vc_X2_goes at hvc
  refine j_aload_n hC dX2_goes_0 rfl 0 rfl ?_
  refine j_dup hC dX2_goes_1 g_c1 ?_
  obtain ⟨x1, ⟨fs, hr, hv⟩, hvc⟩ := hvc
  refine j_get hC fkX2_59_X2 dX2_goes_2 hr hv ?_
  clear hv hr fs
  refine j_iconst hC (nI 1) dX2_goes_5 rfl ?_
  refine j_isub hC dX2_goes_6 ?_
  obtain ⟨fs2, hm, hvc⟩ := hvc
  refine j_put hC fkX2_59_X2 dX2_goes_7 hm rfl rfl (fun st3 e1 => ?_)
  replace hvc := hvc st3 e1; clear hm e1
  refine j_aload_n hC dX2_goes_10 rfl 0 rfl ?_
  obtain ⟨o4, ⟨fs, hr, hv⟩, hvc⟩ := hvc
  refine j_get hC fkX2_26_X2 dX2_goes_11 hr hv ?_
  clear hv hr fs
  refine j_iload_n hC dX2_goes_14 rfl 1 rfl ?_
  refine j_aload_n hC dX2_goes_15 rfl 0 rfl ?_
  obtain ⟨o5, ⟨fs, hr, hv⟩, hvc⟩ := hvc
  refine j_get hC fkX2_26_X2 dX2_goes_16 hr hv ?_
  clear hv hr fs
  refine j_aload_n hC dX2_goes_19 rfl 0 rfl ?_
  obtain ⟨x6, ⟨fs, hr, hv⟩, hvc⟩ := hvc
  refine j_get hC fkX2_59_X2 dX2_goes_20 hr hv ?_
  clear hv hr fs
  obtain ⟨a7, rfl, hvc⟩ := hvc
  obtain ⟨n8, f9, j10, hr, hi, hj, hJ, hvc⟩ := hvc
  refine j_ix hi ?_
  refine j_iald hC hr hj hJ dX2_goes_23 ?_
  clear hr hi hj hJ
  obtain ⟨a11, rfl, hvc⟩ := hvc
  obtain ⟨n12, f13, j14, hm, hi, hj, hJ, hvc⟩ := hvc
  refine j_ix1 hi ?_
  refine j_sti hC hm hj hJ dX2_goes_24 (fun st15 e1 => ?_)
  replace hvc := hvc st15 e1; clear hm hi hj hJ e1
  refine j_aload_n hC dX2_goes_25 rfl 0 rfl ?_
  obtain ⟨o16, ⟨fs, hr, hv⟩, hvc⟩ := hvc
  refine j_get hC fkX2_30_X2 dX2_goes_26 hr hv ?_
  clear hv hr fs
  refine j_iload_n hC dX2_goes_29 rfl 1 rfl ?_
  refine j_aload_n hC dX2_goes_30 rfl 0 rfl ?_
  obtain ⟨o17, ⟨fs, hr, hv⟩, hvc⟩ := hvc
  refine j_get hC fkX2_30_X2 dX2_goes_31 hr hv ?_
  clear hv hr fs
  refine j_aload_n hC dX2_goes_34 rfl 0 rfl ?_
  obtain ⟨x18, ⟨fs, hr, hv⟩, hvc⟩ := hvc
  refine j_get hC fkX2_59_X2 dX2_goes_35 hr hv ?_
  clear hv hr fs
  obtain ⟨a19, rfl, hvc⟩ := hvc
  obtain ⟨n20, f21, j22, hr, hi, hj, hJ, hvc⟩ := hvc
  refine j_ix hi ?_
  refine j_iald hC hr hj hJ dX2_goes_38 ?_
  clear hr hi hj hJ
  obtain ⟨a23, rfl, hvc⟩ := hvc
  obtain ⟨n24, f25, j26, hm, hi, hj, hJ, hvc⟩ := hvc
  refine j_ix1 hi ?_
  refine j_sti hC hm hj hJ dX2_goes_39 (fun st27 e1 => ?_)
  replace hvc := hvc st27 e1; clear hm hi hj hJ e1
  refine j_iconst hC (nI 0) dX2_goes_40 rfl ?_
  refine j_istore_n (lv0 := [(1, .int p0), (0, va_rf (some a0))]) hC dX2_goes_41 rfl rfl [1, 0] rfl (g_okS.h rfl rfl rfl) ?_
  replace hvc := g_lp2_o hvc
  obtain ⟨K30, hz46, hs47, n48, hvc⟩ := hvc
  have kh31 : ∀ (n : Nat) (x28 : Int32) (st29 : g_St), K30 n x28 st29 → g_J p l e R s m args below meth c 3 E st0 Z 42 [(0, va_rf (some a0)), (1, .int p0), (2, .int x28)] [] st29 cb sb := by
    clear hvc
    intro n
    induction n with
    | zero => intro x28 st29 hvc; exact absurd hvc (hz46 _ _)
    | succ n ih32 =>
      intro x28 st29 hvc
      replace hvc := hs47 n _ _ hvc
      refine j_iload_n hC dX2_goes_42 rfl 2 rfl ?_
      refine j_bipush hC (nI 10) dX2_goes_43 rfl ?_
      refine j_icmp_ge (tgt := 79) hC dX2_goes_45 rfl (fun c33 => ?_) (fun c33 => ?_)
      · replace hvc := hvc.1 c33
        exact hret _ _ _ _ _ dX2_goes_79 hvc
      · replace hvc := hvc.2 c33
        refine j_aload_n hC dX2_goes_48 rfl 0 rfl ?_
        obtain ⟨o34, ⟨fs, hr, hv⟩, hvc⟩ := hvc
        refine j_get hC fkX2_17_X2 dX2_goes_49 hr hv ?_
        clear hv hr fs
        refine j_bipush hC (nI 10) dX2_goes_52 rfl ?_
        refine j_iload_n hC dX2_goes_54 rfl 1 rfl ?_
        refine j_imul hC dX2_goes_55 ?_
        refine j_iload_n hC dX2_goes_56 rfl 2 rfl ?_
        refine j_iadd hC dX2_goes_57 ?_
        refine j_aload_n hC dX2_goes_58 rfl 0 rfl ?_
        obtain ⟨o35, ⟨fs, hr, hv⟩, hvc⟩ := hvc
        refine j_get hC fkX2_17_X2 dX2_goes_59 hr hv ?_
        clear hv hr fs
        refine j_bipush hC (nI 10) dX2_goes_62 rfl ?_
        refine j_aload_n hC dX2_goes_64 rfl 0 rfl ?_
        obtain ⟨x36, ⟨fs, hr, hv⟩, hvc⟩ := hvc
        refine j_get hC fkX2_59_X2 dX2_goes_65 hr hv ?_
        clear hv hr fs
        refine j_imul hC dX2_goes_68 ?_
        refine j_iload_n hC dX2_goes_69 rfl 2 rfl ?_
        refine j_iadd hC dX2_goes_70 ?_
        obtain ⟨a37, rfl, hvc⟩ := hvc
        obtain ⟨n38, f39, j40, hr, hi, hj, hJ, hvc⟩ := hvc
        refine j_ix hi ?_
        refine j_cald hC hr hj hJ dX2_goes_71 ?_
        clear hr hi hj hJ
        obtain ⟨a41, rfl, hvc⟩ := hvc
        obtain ⟨n42, f43, j44, hm, hi, hj, hJ, hvc⟩ := hvc
        refine j_ix1 hi ?_
        refine j_stc hC hm hj hJ dX2_goes_72 (fun st45 e1 => ?_)
        replace hvc := hvc st45 e1; clear hm hi hj hJ e1
        refine j_iinc (lv0 := [(1, .int p0), (0, va_rf (some a0))]) hC (nI 1) dX2_goes_73 2 rfl rfl rfl [1, 0] rfl (g_okS.h rfl rfl rfl) ?_
        refine j_goto (tgt := 42) hC dX2_goes_76 rfl ?_
        exact j_sub [2, 1, 0] rfl (ih32 (x28 + (nI 1)) st45 hvc)
  exact j_sub [2, 1, 0] rfl (kh31 n48 (nI 0) st27 hvc)
theorem wk_X2_goes {l : Launch} {E : g_E} {a0 : Nat} {p0 : Int32} {st : g_St} {mc ms : Nat} {Q : g_St → Prop} (hvc : vc_X2_goes l E a0 p0 st Q) : wp_X2_goes l E mc ms [va_rf (some a0), .int p0] st Q :=
  g_enter (lv0 := [(0, va_rf (some a0)), (1, .int p0)]) (plainFor_of_name (by decide +kernel)) (by simp [lv_args, g_c1, g_ci, g_cL]) (by simp [lg_sl, g_c1, g_ci, g_cL]) (fun p e s m args below meth c hC => wb_X2_goes hC ⟨Nat.le_refl _, Nat.le_refl _⟩ (fun pc lv st1 cb sb hd hq => j_return hC rfl hd ⟨rfl, hq⟩) hvc)
abbrev wp_X2_take (l : Launch) (E : g_E) (mc ms : Nat) (av : List Value) (st : g_St) (Q : Int32 → g_St → Prop) : Prop := g_WPi l E yX2_take cX2_take 3 (some .int) 4 106 mc ms av st Q
def vc_X2_take (l : Launch) (E : g_E) (a0 : Nat) (st : g_St) (Q : Int32 → g_St → Prop) : Prop :=
  g_is st a0 16 ∧ wp_X2_own l E 0 0 [va_rf (some a0)] st (fun x1 stx => stx = st ∧ g_jn1 (fun (K3 : Int32 → Prop) => (0 ≤ x1 → K3 (nI 0)) ∧ (¬ 0 ≤ x1 → K3 (nI 1))) (fun (x2 : Int32) => g_is st a0 16 ∧ wp_X2_fails l E 0 0 [va_rf (some a0), .int x2] st (fun x5 st6 => g_Ext st st6 → (x5 = 0 → ∃ o8 : Option Nat, g_gr st6 a0 16 6 o8 ∧ ∃ a9 : Nat, o8 = some a9 ∧ ∃ (n10 : Nat) (f11 : Nat → Int32) (j12 : Nat), g_ai st6 a9 0 n10 f11 ∧ x1 = nI j12 ∧ j12 < n10 ∧ j12 < 2 ^ 31 ∧ g_is st6 a0 16 ∧ wp_X2_goes l E 0 0 [va_rf (some a0), .int x1] st6 (fun st13 => g_Ext st6 st13 → Q (f11 j12) st13)) ∧ (¬ x5 = 0 → Q (nI 0) st6))))
set_option maxHeartbeats 4000000 in
theorem wb_X2_take {p : Program} {l : Launch} {e : Env} {R : Room} {s : State} {m : MethodId} {args : Array Value} {below : List Frame} {meth : Method} {c : Code} {E : g_E} {st0 : g_St} {Z : State → Prop} (hC : g_Cx p s m args meth c cX2_take 3 "StemspanModel" (some .int) "take" E st0) (hR : g_Rm 4 106 R) {a0 : Nat} {st : g_St} {cb sb : Nat} {Q : Int32 → g_St → Prop} (hret : ∀ (pc : Nat) (lv : List (Nat × Value)) (v : Int32) (st1 : g_St) (cb sb : Nat), decode cX2_take pc = .ok (.ireturn, 1) → narrow .int (.int v) = .int v → Q v st1 → g_J p l e R s m args below meth c 3 E st0 Z pc lv [.int v] st1 cb sb) (hvc : vc_X2_take l E a0 st Q) : g_J p l e R s m args below meth c 3 E st0 Z 0 [(0, va_rf (some a0))] [] st cb sb := by
  unfold vc_X2_take at hvc
  refine j_aload_n hC dX2_take_0 rfl 0 rfl ?_
  obtain ⟨⟨fs, hr⟩, hvc⟩ := hvc
  refine j_callV (As := []) (rest := []) (n := 0) (ci := 16) hC hvc (lw_V q2272 q2274 qs21 q60 q2275) (by decide +kernel) (g_rm hR rfl rfl) rfl hr rfl rfl (g_sum rfl) dX2_take_1 (Nat.zero_le _) (Nat.zero_le _) (g_Kip fun x1 hv2 => ?_)
  replace hvc := hv2; clear hv2
  clear hr fs
  refine j_istore_n (lv0 := [(0, va_rf (some a0))]) hC dX2_take_4 rfl rfl [0] rfl (g_okS.h rfl g_c1 rfl) ?_
  refine j_aload_n hC dX2_take_5 rfl 1 rfl ?_
  refine j_iload_n hC dX2_take_6 rfl 0 rfl ?_
  replace hvc := g_jn1_o hvc
  obtain ⟨K3, hK15, hvc⟩ := hvc
  have kh4 : ∀ (x2 : Int32), K3 x2 → g_J p l e R s m args below meth c 3 E st0 Z 15 [(0, va_rf (some a0)), (1, .int x1)] [.int x2, va_rf (some a0)] st cb sb := by
    clear hvc
    intro x2 hvc
    replace hvc := hK15 _ hvc
    obtain ⟨⟨fs, hr⟩, hvc⟩ := hvc
    refine j_callV (As := [.int x2]) (rest := []) (n := 1) (ci := 16) hC hvc (lw_V q2232 q2234 qs20 q60 q2235) (by decide +kernel) (g_rm hR rfl rfl) rfl hr rfl rfl (g_sum rfl) dX2_take_15 (Nat.zero_le _) (Nat.zero_le _) (g_Ki fun x5 st6 hv2 hx => ?_)
    replace hvc := hv2 hx; clear hx hv2
    clear hr fs
    refine j_if_eq (tgt := 23) hC dX2_take_18 rfl (fun c7 => ?_) (fun c7 => ?_)
    · replace hvc := hvc.1 c7
      refine j_aload_n hC dX2_take_23 rfl 0 rfl ?_
      obtain ⟨o8, ⟨fs, hr, hv⟩, hvc⟩ := hvc
      refine j_get hC fkX2_30_X2 dX2_take_24 hr hv ?_
      clear hv hr fs
      refine j_iload_n hC dX2_take_27 rfl 1 rfl ?_
      obtain ⟨a9, rfl, hvc⟩ := hvc
      obtain ⟨n10, f11, j12, hr, hi, hj, hJ, hvc⟩ := hvc
      refine j_ix hi ?_
      refine j_iald hC hr hj hJ dX2_take_28 ?_
      clear hr hi hj hJ
      refine j_istore_n (lv0 := [(1, .int x1), (0, va_rf (some a0))]) hC dX2_take_29 rfl rfl [1, 0] rfl (g_okS.h rfl rfl rfl) ?_
      refine j_aload_n hC dX2_take_30 rfl 2 rfl ?_
      refine j_iload_n hC dX2_take_31 rfl 1 rfl ?_
      obtain ⟨⟨fs, hr⟩, hvc⟩ := hvc
      refine j_callV (As := [.int x1]) (rest := []) (n := 1) (ci := 16) hC hvc (lw_V q2288 q2290 qs24 q60 q2291) (by decide +kernel) (g_rm hR rfl rfl) rfl hr rfl rfl (g_sum rfl) dX2_take_32 (Nat.zero_le _) (Nat.zero_le _) (g_Kv fun st13 hv2 hx => ?_)
      replace hvc := hv2 hx; clear hx hv2
      clear hr fs
      refine j_iload_n hC dX2_take_35 rfl 0 rfl ?_
      exact hret _ _ _ _ _ _ dX2_take_36 rfl hvc
    · replace hvc := hvc.2 c7
      refine j_iconst hC (nI 0) dX2_take_21 rfl ?_
      exact hret _ _ _ _ _ _ dX2_take_22 rfl hvc
  refine j_if_ge (tgt := 14) hC dX2_take_7 rfl (fun c14 => ?_) (fun c14 => ?_)
  · replace hvc := hvc.1 c14
    refine j_iconst hC (nI 0) dX2_take_14 rfl ?_
    exact j_sub [1, 0] rfl (kh4 (nI 0) hvc)
  · replace hvc := hvc.2 c14
    refine j_iconst hC (nI 1) dX2_take_10 rfl ?_
    refine j_goto (tgt := 15) hC dX2_take_11 rfl ?_
    exact j_sub [1, 0] rfl (kh4 (nI 1) hvc)
theorem wk_X2_take {l : Launch} {E : g_E} {a0 : Nat} {st : g_St} {mc ms : Nat} {Q : Int32 → g_St → Prop} (hvc : vc_X2_take l E a0 st Q) : wp_X2_take l E mc ms [va_rf (some a0)] st Q :=
  g_enter (lv0 := [(0, va_rf (some a0))]) (plainFor_of_name (by decide +kernel)) (by simp [lv_args, g_c1, g_ci, g_cL]) (by simp [lg_sl, g_c1, g_ci, g_cL]) (fun p e s m args below meth c hC => wb_X2_take hC ⟨Nat.le_refl _, Nat.le_refl _⟩ (fun pc lv v st1 cb sb hd hn hq => j_ireturn hC rfl hn hd (g_iv hq)) hvc)
abbrev wp_X2_number (l : Launch) (E : g_E) (mc ms : Nat) (av : List Value) (st : g_St) (Q : Int32 → g_St → Prop) : Prop := g_WPi l E yX2_number cX2_number 2 (some .int) 4 106 mc ms av st Q
def vc_X2_number (l : Launch) (E : g_E) (a0 : Nat) (st : g_St) (Q : Int32 → g_St → Prop) : Prop :=
  g_is st a0 16 ∧ wp_X2_own l E 0 0 [va_rf (some a0)] st (fun x1 stx => stx = st ∧ g_jn1 (fun (K3 : Int32 → Prop) => (0 ≤ x1 → K3 (nI 0)) ∧ (¬ 0 ≤ x1 → K3 (nI 1))) (fun (x2 : Int32) => g_is st a0 16 ∧ wp_X2_fails l E 0 0 [va_rf (some a0), .int x2] st (fun x5 st6 => g_Ext st st6 → g_jn1 (fun (K8 : Int32 → Prop) => (x5 = 0 → ∃ o11 : Option Nat, g_gr st6 a0 16 6 o11 ∧ ∃ a12 : Nat, o11 = some a12 ∧ ∃ (n13 : Nat) (f14 : Nat → Int32) (j15 : Nat), g_ai st6 a12 0 n13 f14 ∧ x1 = nI j15 ∧ j15 < n13 ∧ j15 < 2 ^ 31 ∧ K8 (f14 j15)) ∧ (¬ x5 = 0 → K8 (nI 0))) (fun (x7 : Int32) => Q x7 st6))))
set_option maxHeartbeats 4000000 in
theorem wb_X2_number {p : Program} {l : Launch} {e : Env} {R : Room} {s : State} {m : MethodId} {args : Array Value} {below : List Frame} {meth : Method} {c : Code} {E : g_E} {st0 : g_St} {Z : State → Prop} (hC : g_Cx p s m args meth c cX2_number 2 "StemspanModel" (some .int) "number" E st0) (hR : g_Rm 4 106 R) {a0 : Nat} {st : g_St} {cb sb : Nat} {Q : Int32 → g_St → Prop} (hret : ∀ (pc : Nat) (lv : List (Nat × Value)) (v : Int32) (st1 : g_St) (cb sb : Nat), decode cX2_number pc = .ok (.ireturn, 1) → narrow .int (.int v) = .int v → Q v st1 → g_J p l e R s m args below meth c 2 E st0 Z pc lv [.int v] st1 cb sb) (hvc : vc_X2_number l E a0 st Q) : g_J p l e R s m args below meth c 2 E st0 Z 0 [(0, va_rf (some a0))] [] st cb sb := by
  unfold vc_X2_number at hvc
  refine j_aload_n hC dX2_number_0 rfl 0 rfl ?_
  obtain ⟨⟨fs, hr⟩, hvc⟩ := hvc
  refine j_callV (As := []) (rest := []) (n := 0) (ci := 16) hC hvc (lw_V q2272 q2274 qs21 q60 q2275) (by decide +kernel) (g_rm hR rfl rfl) rfl hr rfl rfl (g_sum rfl) dX2_number_1 (Nat.zero_le _) (Nat.zero_le _) (g_Kip fun x1 hv2 => ?_)
  replace hvc := hv2; clear hv2
  clear hr fs
  refine j_istore_n (lv0 := [(0, va_rf (some a0))]) hC dX2_number_4 rfl rfl [0] rfl (g_okS.h rfl g_c1 rfl) ?_
  refine j_aload_n hC dX2_number_5 rfl 1 rfl ?_
  refine j_iload_n hC dX2_number_6 rfl 0 rfl ?_
  replace hvc := g_jn1_o hvc
  obtain ⟨K3, hK18, hvc⟩ := hvc
  have kh4 : ∀ (x2 : Int32), K3 x2 → g_J p l e R s m args below meth c 2 E st0 Z 15 [(0, va_rf (some a0)), (1, .int x1)] [.int x2, va_rf (some a0)] st cb sb := by
    clear hvc
    intro x2 hvc
    replace hvc := hK18 _ hvc
    obtain ⟨⟨fs, hr⟩, hvc⟩ := hvc
    refine j_callV (As := [.int x2]) (rest := []) (n := 1) (ci := 16) hC hvc (lw_V q2232 q2234 qs20 q60 q2235) (by decide +kernel) (g_rm hR rfl rfl) rfl hr rfl rfl (g_sum rfl) dX2_number_15 (Nat.zero_le _) (Nat.zero_le _) (g_Ki fun x5 st6 hv2 hx => ?_)
    replace hvc := hv2 hx; clear hx hv2
    clear hr fs
    replace hvc := g_jn1_o hvc
    obtain ⟨K8, hK16, hvc⟩ := hvc
    have kh9 : ∀ (x7 : Int32), K8 x7 → g_J p l e R s m args below meth c 2 E st0 Z 31 [] [.int x7] st6 cb sb := by
      clear hvc
      intro x7 hvc
      replace hvc := hK16 _ hvc
      exact hret _ _ _ _ _ _ dX2_number_31 rfl hvc
    refine j_if_eq (tgt := 25) hC dX2_number_18 rfl (fun c10 => ?_) (fun c10 => ?_)
    · replace hvc := hvc.1 c10
      refine j_aload_n hC dX2_number_25 rfl 0 rfl ?_
      obtain ⟨o11, ⟨fs, hr, hv⟩, hvc⟩ := hvc
      refine j_get hC fkX2_30_X2 dX2_number_26 hr hv ?_
      clear hv hr fs
      refine j_iload_n hC dX2_number_29 rfl 1 rfl ?_
      obtain ⟨a12, rfl, hvc⟩ := hvc
      obtain ⟨n13, f14, j15, hr, hi, hj, hJ, hvc⟩ := hvc
      refine j_ix hi ?_
      refine j_iald hC hr hj hJ dX2_number_30 ?_
      clear hr hi hj hJ
      exact j_sub [] rfl (kh9 (f14 j15) hvc)
    · replace hvc := hvc.2 c10
      refine j_iconst hC (nI 0) dX2_number_21 rfl ?_
      refine j_goto (tgt := 31) hC dX2_number_22 rfl ?_
      exact j_sub [] rfl (kh9 (nI 0) hvc)
  refine j_if_ge (tgt := 14) hC dX2_number_7 rfl (fun c17 => ?_) (fun c17 => ?_)
  · replace hvc := hvc.1 c17
    refine j_iconst hC (nI 0) dX2_number_14 rfl ?_
    exact j_sub [1, 0] rfl (kh4 (nI 0) hvc)
  · replace hvc := hvc.2 c17
    refine j_iconst hC (nI 1) dX2_number_10 rfl ?_
    refine j_goto (tgt := 15) hC dX2_number_11 rfl ?_
    exact j_sub [1, 0] rfl (kh4 (nI 1) hvc)
theorem wk_X2_number {l : Launch} {E : g_E} {a0 : Nat} {st : g_St} {mc ms : Nat} {Q : Int32 → g_St → Prop} (hvc : vc_X2_number l E a0 st Q) : wp_X2_number l E mc ms [va_rf (some a0)] st Q :=
  g_enter (lv0 := [(0, va_rf (some a0))]) (plainFor_of_name (by decide +kernel)) (by simp [lv_args, g_c1, g_ci, g_cL]) (by simp [lg_sl, g_c1, g_ci, g_cL]) (fun p e s m args below meth c hC => wb_X2_number hC ⟨Nat.le_refl _, Nat.le_refl _⟩ (fun pc lv v st1 cb sb hd hn hq => j_ireturn hC rfl hn hd (g_iv hq)) hvc)
abbrev wp_X2_words (l : Launch) (E : g_E) (mc ms : Nat) (av : List Value) (st : g_St) (Q : Int32 → g_St → Prop) : Prop := g_WPi l E yX2_words cX2_words 1 (some .int) 1 40 mc ms av st Q
def vc_X2_words (l : Launch) (E : g_E) (a0 : Nat) (st : g_St) (Q : Int32 → g_St → Prop) : Prop :=
  ∃ fs1 : List Value, st.2.1 a0 = some (.inr (16, fs1)) ∧ ∀ st2 : g_St, st2 = g_put st a0 (.inr (16, fs1.set 0 (.int (nI 0)))) → ∃ x3 : Int32, g_gi st2 a0 16 9 x3 ∧ Q x3 st2
set_option maxHeartbeats 4000000 in
theorem wb_X2_words {p : Program} {l : Launch} {e : Env} {R : Room} {s : State} {m : MethodId} {args : Array Value} {below : List Frame} {meth : Method} {c : Code} {E : g_E} {st0 : g_St} {Z : State → Prop} (hC : g_Cx p s m args meth c cX2_words 1 "StemspanModel" (some .int) "words" E st0) (hR : g_Rm 1 40 R) {a0 : Nat} {st : g_St} {cb sb : Nat} {Q : Int32 → g_St → Prop} (hret : ∀ (pc : Nat) (lv : List (Nat × Value)) (v : Int32) (st1 : g_St) (cb sb : Nat), decode cX2_words pc = .ok (.ireturn, 1) → narrow .int (.int v) = .int v → Q v st1 → g_J p l e R s m args below meth c 1 E st0 Z pc lv [.int v] st1 cb sb) (hvc : vc_X2_words l E a0 st Q) : g_J p l e R s m args below meth c 1 E st0 Z 0 [(0, va_rf (some a0))] [] st cb sb := by
  unfold vc_X2_words at hvc
  refine j_aload_n hC dX2_words_0 rfl 0 rfl ?_
  refine j_iconst hC (nI 0) dX2_words_1 rfl ?_
  obtain ⟨fs1, hm, hvc⟩ := hvc
  refine j_put hC fkX2_1_X2 dX2_words_2 hm rfl rfl (fun st2 e1 => ?_)
  replace hvc := hvc st2 e1; clear hm e1
  refine j_aload_n hC dX2_words_5 rfl 0 rfl ?_
  obtain ⟨x3, ⟨fs, hr, hv⟩, hvc⟩ := hvc
  refine j_get hC fkX2_59_X2 dX2_words_6 hr hv ?_
  clear hv hr fs
  exact hret _ _ _ _ _ _ dX2_words_9 rfl hvc
theorem wk_X2_words {l : Launch} {E : g_E} {a0 : Nat} {st : g_St} {mc ms : Nat} {Q : Int32 → g_St → Prop} (hvc : vc_X2_words l E a0 st Q) : wp_X2_words l E mc ms [va_rf (some a0)] st Q :=
  g_enter (lv0 := [(0, va_rf (some a0))]) (plainFor_of_name (by decide +kernel)) (by simp [lv_args, g_c1, g_ci, g_cL]) (by simp [lg_sl, g_c1, g_ci, g_cL]) (fun p e s m args below meth c hC => wb_X2_words hC ⟨Nat.le_refl _, Nat.le_refl _⟩ (fun pc lv v st1 cb sb hd hn hq => j_ireturn hC rfl hn hd (g_iv hq)) hvc)
abbrev wp_X2_rank (l : Launch) (E : g_E) (mc ms : Nat) (av : List Value) (st : g_St) (Q : Int32 → g_St → Prop) : Prop := g_WPi l E yX2_rank cX2_rank 3 (some .int) 3 85 mc ms av st Q
def vc_X2_rank (l : Launch) (E : g_E) (a0 : Nat) (st : g_St) (Q : Int32 → g_St → Prop) : Prop :=
  ∃ fs1 : List Value, st.2.1 a0 = some (.inr (16, fs1)) ∧ ∀ st2 : g_St, st2 = g_put st a0 (.inr (16, fs1.set 0 (.int (nI 0)))) → g_lp2 (fun (K5 : Int32 → Int32 → Prop) (x3 : Int32) (x4 : Int32) => ∃ x8 : Int32, g_gi st2 a0 16 9 x8 ∧ (x8 ≤ x4 → Q x3 st2) ∧ (¬ x8 ≤ x4 → g_is st2 a0 16 ∧ wp_X2_beside l E 0 0 [va_rf (some a0), .int x4] st2 (fun x10 stx => stx = st2 ∧ g_jn1 (fun (K12 : Int32 → Prop) => (0 ≤ x10 → K12 x3) ∧ (¬ 0 ≤ x10 → K12 (x3 + (nI 1)))) (fun (x11 : Int32) => K5 x11 (x4 + (nI 1)))))) (nI 0) (nI 0)
set_option maxHeartbeats 4000000 in
theorem wb_X2_rank {p : Program} {l : Launch} {e : Env} {R : Room} {s : State} {m : MethodId} {args : Array Value} {below : List Frame} {meth : Method} {c : Code} {E : g_E} {st0 : g_St} {Z : State → Prop} (hC : g_Cx p s m args meth c cX2_rank 3 "StemspanModel" (some .int) "rank" E st0) (hR : g_Rm 3 85 R) {a0 : Nat} {st : g_St} {cb sb : Nat} {Q : Int32 → g_St → Prop} (hret : ∀ (pc : Nat) (lv : List (Nat × Value)) (v : Int32) (st1 : g_St) (cb sb : Nat), decode cX2_rank pc = .ok (.ireturn, 1) → narrow .int (.int v) = .int v → Q v st1 → g_J p l e R s m args below meth c 3 E st0 Z pc lv [.int v] st1 cb sb) (hvc : vc_X2_rank l E a0 st Q) : g_J p l e R s m args below meth c 3 E st0 Z 0 [(0, va_rf (some a0))] [] st cb sb := by
  unfold vc_X2_rank at hvc
  refine j_aload_n hC dX2_rank_0 rfl 0 rfl ?_
  refine j_iconst hC (nI 0) dX2_rank_1 rfl ?_
  obtain ⟨fs1, hm, hvc⟩ := hvc
  refine j_put hC fkX2_1_X2 dX2_rank_2 hm rfl rfl (fun st2 e1 => ?_)
  replace hvc := hvc st2 e1; clear hm e1
  refine j_iconst hC (nI 0) dX2_rank_5 rfl ?_
  refine j_istore_n (lv0 := [(0, va_rf (some a0))]) hC dX2_rank_6 rfl rfl [0] rfl (g_okS.h rfl g_c1 rfl) ?_
  refine j_iconst hC (nI 0) dX2_rank_7 rfl ?_
  refine j_istore_n (lv0 := [(1, .int (nI 0)), (0, va_rf (some a0))]) hC dX2_rank_8 rfl rfl [0, 1] rfl (g_okS.h rfl rfl rfl) ?_
  replace hvc := g_lp2_o hvc
  obtain ⟨K5, hz16, hs17, n18, hvc⟩ := hvc
  have kh6 : ∀ (n : Nat) (x3 : Int32) (x4 : Int32), K5 n x3 x4 → g_J p l e R s m args below meth c 3 E st0 Z 9 [(0, va_rf (some a0)), (1, .int x3), (2, .int x4)] [] st2 cb sb := by
    clear hvc
    intro n
    induction n with
    | zero => intro x3 x4 hvc; exact absurd hvc (hz16 _ _)
    | succ n ih7 =>
      intro x3 x4 hvc
      replace hvc := hs17 n _ _ hvc
      refine j_iload_n hC dX2_rank_9 rfl 2 rfl ?_
      refine j_aload_n hC dX2_rank_10 rfl 0 rfl ?_
      obtain ⟨x8, ⟨fs, hr, hv⟩, hvc⟩ := hvc
      refine j_get hC fkX2_59_X2 dX2_rank_11 hr hv ?_
      clear hv hr fs
      refine j_icmp_ge (tgt := 34) hC dX2_rank_14 rfl (fun c9 => ?_) (fun c9 => ?_)
      · replace hvc := hvc.1 c9
        refine j_iload_n hC dX2_rank_34 rfl 1 rfl ?_
        exact hret _ _ _ _ _ _ dX2_rank_35 rfl hvc
      · replace hvc := hvc.2 c9
        refine j_aload_n hC dX2_rank_17 rfl 0 rfl ?_
        refine j_iload_n hC dX2_rank_18 rfl 2 rfl ?_
        obtain ⟨⟨fs, hr⟩, hvc⟩ := hvc
        refine j_callV (As := [.int x4]) (rest := []) (n := 1) (ci := 16) hC hvc (lw_V q2276 q2278 qs22 q60 q2279) (by decide +kernel) (g_rm hR rfl rfl) rfl hr rfl rfl (g_sum rfl) dX2_rank_19 (Nat.zero_le _) (Nat.zero_le _) (g_Kip fun x10 hv2 => ?_)
        replace hvc := hv2; clear hv2
        clear hr fs
        replace hvc := g_jn1_o hvc
        obtain ⟨K12, hK15, hvc⟩ := hvc
        have kh13 : ∀ (x11 : Int32), K12 x11 → g_J p l e R s m args below meth c 3 E st0 Z 28 [(0, va_rf (some a0)), (1, .int x11), (2, .int x4)] [] st2 cb sb := by
          clear hvc
          intro x11 hvc
          replace hvc := hK15 _ hvc
          refine j_iinc (lv0 := [(1, .int x11), (0, va_rf (some a0))]) hC (nI 1) dX2_rank_28 2 rfl rfl rfl [1, 0] rfl (g_okS.h rfl rfl rfl) ?_
          refine j_goto (tgt := 9) hC dX2_rank_31 rfl ?_
          exact j_sub [2, 1, 0] rfl (ih7 x11 (x4 + (nI 1)) hvc)
        refine j_if_ge (tgt := 28) hC dX2_rank_22 rfl (fun c14 => ?_) (fun c14 => ?_)
        · replace hvc := hvc.1 c14
          exact j_sub [0, 1, 2] rfl (kh13 x3 hvc)
        · replace hvc := hvc.2 c14
          refine j_iinc (lv0 := [(0, va_rf (some a0)), (2, .int x4)]) hC (nI 1) dX2_rank_25 1 rfl rfl rfl [0, 2] rfl (g_okS.h rfl g_c1 rfl) ?_
          exact j_sub [1, 0, 2] rfl (kh13 (x3 + (nI 1)) hvc)
  exact j_sub [2, 1, 0] rfl (kh6 n18 (nI 0) (nI 0) hvc)
theorem wk_X2_rank {l : Launch} {E : g_E} {a0 : Nat} {st : g_St} {mc ms : Nat} {Q : Int32 → g_St → Prop} (hvc : vc_X2_rank l E a0 st Q) : wp_X2_rank l E mc ms [va_rf (some a0)] st Q :=
  g_enter (lv0 := [(0, va_rf (some a0))]) (plainFor_of_name (by decide +kernel)) (by simp [lv_args, g_c1, g_ci, g_cL]) (by simp [lg_sl, g_c1, g_ci, g_cL]) (fun p e s m args below meth c hC => wb_X2_rank hC ⟨Nat.le_refl _, Nat.le_refl _⟩ (fun pc lv v st1 cb sb hd hn hq => j_ireturn hC rfl hn hd (g_iv hq)) hvc)
abbrev wp_X2_likeWords (l : Launch) (E : g_E) (mc ms : Nat) (av : List Value) (st : g_St) (Q : Int32 → g_St → Prop) : Prop := g_WPi l E yX2_likeWords cX2_likeWords 4 (some .int) 1 40 mc ms av st Q
def vc_X2_likeWords (l : Launch) (E : g_E) (a0 : Nat) (p0 : Int32) (p1 : Int32) (st : g_St) (Q : Int32 → g_St → Prop) : Prop :=
  g_lp1 (fun (K2 : Int32 → Prop) (x1 : Int32) => ∃ o5 : Option Nat, g_gr st a0 16 5 o5 ∧ ∃ a6 : Nat, o5 = some a6 ∧ ∃ (n7 : Nat) (f8 : Nat → Int32) (j9 : Nat), g_ai st a6 0 n7 f8 ∧ p0 = nI j9 ∧ j9 < n7 ∧ j9 < 2 ^ 31 ∧ g_jn0 (fun (K10 : Prop) => ((f8 j9) ≤ x1 → K10) ∧ (¬ (f8 j9) ≤ x1 → ∃ o13 : Option Nat, g_gr st a0 16 5 o13 ∧ ∃ a14 : Nat, o13 = some a14 ∧ ∃ (n15 : Nat) (f16 : Nat → Int32) (j17 : Nat), g_ai st a14 0 n15 f16 ∧ p1 = nI j17 ∧ j17 < n15 ∧ j17 < 2 ^ 31 ∧ ((f16 j17) ≤ x1 → K10) ∧ (¬ (f16 j17) ≤ x1 → ∃ o19 : Option Nat, g_gr st a0 16 2 o19 ∧ ∃ a20 : Nat, o19 = some a20 ∧ ∃ (n21 : Nat) (f22 : Nat → Int32) (j23 : Nat), g_ai st a20 2 n21 f22 ∧ (((nI 10) * p0) + x1) = nI j23 ∧ j23 < n21 ∧ j23 < 2 ^ 31 ∧ ∃ o24 : Option Nat, g_gr st a0 16 2 o24 ∧ ∃ a25 : Nat, o24 = some a25 ∧ ∃ (n26 : Nat) (f27 : Nat → Int32) (j28 : Nat), g_ai st a25 2 n26 f27 ∧ (((nI 10) * p1) + x1) = nI j28 ∧ j28 < n26 ∧ j28 < 2 ^ 31 ∧ (¬ (f22 j23) = (f27 j28) → K10) ∧ ((f22 j23) = (f27 j28) → K2 (x1 + (nI 1)))))) (Q x1 st)) (nI 0)
set_option maxHeartbeats 4000000 in
theorem wb_X2_likeWords {p : Program} {l : Launch} {e : Env} {R : Room} {s : State} {m : MethodId} {args : Array Value} {below : List Frame} {meth : Method} {c : Code} {E : g_E} {st0 : g_St} {Z : State → Prop} (hC : g_Cx p s m args meth c cX2_likeWords 4 "StemspanModel" (some .int) "likeWords" E st0) (hR : g_Rm 1 40 R) {a0 : Nat} {p0 : Int32} {p1 : Int32} {st : g_St} {cb sb : Nat} {Q : Int32 → g_St → Prop} (hret : ∀ (pc : Nat) (lv : List (Nat × Value)) (v : Int32) (st1 : g_St) (cb sb : Nat), decode cX2_likeWords pc = .ok (.ireturn, 1) → narrow .int (.int v) = .int v → Q v st1 → g_J p l e R s m args below meth c 4 E st0 Z pc lv [.int v] st1 cb sb) (hvc : vc_X2_likeWords l E a0 p0 p1 st Q) : g_J p l e R s m args below meth c 4 E st0 Z 0 [(0, va_rf (some a0)), (1, .int p0), (2, .int p1)] [] st cb sb := by
  unfold vc_X2_likeWords at hvc
  refine j_iconst hC (nI 0) dX2_likeWords_0 rfl ?_
  refine j_istore_n (lv0 := [(2, .int p1), (0, va_rf (some a0)), (1, .int p0)]) hC dX2_likeWords_1 rfl rfl [2, 0, 1] rfl (g_okS.h rfl rfl rfl) ?_
  replace hvc := g_lp1_o hvc
  obtain ⟨K2, hz31, hs32, n33, hvc⟩ := hvc
  have kh3 : ∀ (n : Nat) (x1 : Int32), K2 n x1 → g_J p l e R s m args below meth c 4 E st0 Z 2 [(0, va_rf (some a0)), (1, .int p0), (2, .int p1), (3, .int x1)] [] st cb sb := by
    clear hvc
    intro n
    induction n with
    | zero => intro x1 hvc; exact absurd hvc (hz31 _)
    | succ n ih4 =>
      intro x1 hvc
      replace hvc := hs32 n _ hvc
      refine j_iload_n hC dX2_likeWords_2 rfl 3 rfl ?_
      refine j_aload_n hC dX2_likeWords_3 rfl 0 rfl ?_
      obtain ⟨o5, ⟨fs, hr, hv⟩, hvc⟩ := hvc
      refine j_get hC fkX2_26_X2 dX2_likeWords_4 hr hv ?_
      clear hv hr fs
      refine j_iload_n hC dX2_likeWords_7 rfl 1 rfl ?_
      obtain ⟨a6, rfl, hvc⟩ := hvc
      obtain ⟨n7, f8, j9, hr, hi, hj, hJ, hvc⟩ := hvc
      refine j_ix hi ?_
      refine j_iald hC hr hj hJ dX2_likeWords_8 ?_
      clear hr hi hj hJ
      replace hvc := g_jn0_o hvc
      obtain ⟨K10, hK30, hvc⟩ := hvc
      have kh11 : K10 → g_J p l e R s m args below meth c 4 E st0 Z 53 [(3, .int x1)] [] st cb sb := by
        clear hvc
        intro hvc
        replace hvc := hK30 hvc
        refine j_iload_n hC dX2_likeWords_53 rfl 0 rfl ?_
        exact hret _ _ _ _ _ _ dX2_likeWords_54 rfl hvc
      refine j_icmp_ge (tgt := 53) hC dX2_likeWords_9 rfl (fun c12 => ?_) (fun c12 => ?_)
      · replace hvc := hvc.1 c12
        exact j_sub [3] rfl (kh11 hvc)
      · replace hvc := hvc.2 c12
        refine j_iload_n hC dX2_likeWords_12 rfl 3 rfl ?_
        refine j_aload_n hC dX2_likeWords_13 rfl 0 rfl ?_
        obtain ⟨o13, ⟨fs, hr, hv⟩, hvc⟩ := hvc
        refine j_get hC fkX2_26_X2 dX2_likeWords_14 hr hv ?_
        clear hv hr fs
        refine j_iload_n hC dX2_likeWords_17 rfl 2 rfl ?_
        obtain ⟨a14, rfl, hvc⟩ := hvc
        obtain ⟨n15, f16, j17, hr, hi, hj, hJ, hvc⟩ := hvc
        refine j_ix hi ?_
        refine j_iald hC hr hj hJ dX2_likeWords_18 ?_
        clear hr hi hj hJ
        refine j_icmp_ge (tgt := 53) hC dX2_likeWords_19 rfl (fun c18 => ?_) (fun c18 => ?_)
        · replace hvc := hvc.1 c18
          exact j_sub [3] rfl (kh11 hvc)
        · replace hvc := hvc.2 c18
          refine j_aload_n hC dX2_likeWords_22 rfl 0 rfl ?_
          obtain ⟨o19, ⟨fs, hr, hv⟩, hvc⟩ := hvc
          refine j_get hC fkX2_17_X2 dX2_likeWords_23 hr hv ?_
          clear hv hr fs
          refine j_bipush hC (nI 10) dX2_likeWords_26 rfl ?_
          refine j_iload_n hC dX2_likeWords_28 rfl 1 rfl ?_
          refine j_imul hC dX2_likeWords_29 ?_
          refine j_iload_n hC dX2_likeWords_30 rfl 3 rfl ?_
          refine j_iadd hC dX2_likeWords_31 ?_
          obtain ⟨a20, rfl, hvc⟩ := hvc
          obtain ⟨n21, f22, j23, hr, hi, hj, hJ, hvc⟩ := hvc
          refine j_ix hi ?_
          refine j_cald hC hr hj hJ dX2_likeWords_32 ?_
          clear hr hi hj hJ
          refine j_aload_n hC dX2_likeWords_33 rfl 0 rfl ?_
          obtain ⟨o24, ⟨fs, hr, hv⟩, hvc⟩ := hvc
          refine j_get hC fkX2_17_X2 dX2_likeWords_34 hr hv ?_
          clear hv hr fs
          refine j_bipush hC (nI 10) dX2_likeWords_37 rfl ?_
          refine j_iload_n hC dX2_likeWords_39 rfl 2 rfl ?_
          refine j_imul hC dX2_likeWords_40 ?_
          refine j_iload_n hC dX2_likeWords_41 rfl 3 rfl ?_
          refine j_iadd hC dX2_likeWords_42 ?_
          obtain ⟨a25, rfl, hvc⟩ := hvc
          obtain ⟨n26, f27, j28, hr, hi, hj, hJ, hvc⟩ := hvc
          refine j_ix hi ?_
          refine j_cald hC hr hj hJ dX2_likeWords_43 ?_
          clear hr hi hj hJ
          refine j_icmp_ne (tgt := 53) hC dX2_likeWords_44 rfl (fun c29 => ?_) (fun c29 => ?_)
          · replace hvc := hvc.1 c29
            exact j_sub [3] rfl (kh11 hvc)
          · replace hvc := hvc.2 c29
            refine j_iinc (lv0 := [(2, .int p1), (0, va_rf (some a0)), (1, .int p0)]) hC (nI 1) dX2_likeWords_47 3 rfl rfl rfl [2, 0, 1] rfl (g_okS.h rfl rfl rfl) ?_
            refine j_goto (tgt := 2) hC dX2_likeWords_50 rfl ?_
            exact j_sub [2, 3, 1, 0] rfl (ih4 (x1 + (nI 1)) hvc)
  exact j_sub [2, 3, 1, 0] rfl (kh3 n33 (nI 0) hvc)
theorem wk_X2_likeWords {l : Launch} {E : g_E} {a0 : Nat} {p0 : Int32} {p1 : Int32} {st : g_St} {mc ms : Nat} {Q : Int32 → g_St → Prop} (hvc : vc_X2_likeWords l E a0 p0 p1 st Q) : wp_X2_likeWords l E mc ms [va_rf (some a0), .int p0, .int p1] st Q :=
  g_enter (lv0 := [(0, va_rf (some a0)), (1, .int p0), (2, .int p1)]) (plainFor_of_name (by decide +kernel)) (by simp [lv_args, g_c1, g_ci, g_cL]) (by simp [lg_sl, g_c1, g_ci, g_cL]) (fun p e s m args below meth c hC => wb_X2_likeWords hC ⟨Nat.le_refl _, Nat.le_refl _⟩ (fun pc lv v st1 cb sb hd hn hq => j_ireturn hC rfl hn hd (g_iv hq)) hvc)
abbrev wp_X2_isLess (l : Launch) (E : g_E) (mc ms : Nat) (av : List Value) (st : g_St) (Q : Int32 → g_St → Prop) : Prop := g_WPi l E yX2_isLess cX2_isLess 4 (some .boolean) 2 63 mc ms av st Q
def vc_X2_isLess (l : Launch) (E : g_E) (a0 : Nat) (p0 : Int32) (p1 : Int32) (st : g_St) (Q : Int32 → g_St → Prop) : Prop :=
  g_is st a0 16 ∧ wp_X2_likeWords l E 0 0 [va_rf (some a0), .int p0, .int p1] st (fun x1 stx => stx = st ∧ ∃ o2 : Option Nat, g_gr st a0 16 5 o2 ∧ ∃ a3 : Nat, o2 = some a3 ∧ ∃ (n4 : Nat) (f5 : Nat → Int32) (j6 : Nat), g_ai st a3 0 n4 f5 ∧ p1 = nI j6 ∧ j6 < n4 ∧ j6 < 2 ^ 31 ∧ (¬ x1 = (f5 j6) → ∃ o8 : Option Nat, g_gr st a0 16 5 o8 ∧ ∃ a9 : Nat, o8 = some a9 ∧ ∃ (n10 : Nat) (f11 : Nat → Int32) (j12 : Nat), g_ai st a9 0 n10 f11 ∧ p0 = nI j12 ∧ j12 < n10 ∧ j12 < 2 ^ 31 ∧ g_jn1 (fun (K14 : Int32 → Prop) => g_jn0 (fun (K16 : Prop) => (x1 = (f11 j12) → K16) ∧ (¬ x1 = (f11 j12) → ∃ o19 : Option Nat, g_gr st a0 16 2 o19 ∧ ∃ a20 : Nat, o19 = some a20 ∧ ∃ (n21 : Nat) (f22 : Nat → Int32) (j23 : Nat), g_ai st a20 2 n21 f22 ∧ (((nI 10) * p0) + x1) = nI j23 ∧ j23 < n21 ∧ j23 < 2 ^ 31 ∧ ∃ o24 : Option Nat, g_gr st a0 16 2 o24 ∧ ∃ a25 : Nat, o24 = some a25 ∧ ∃ (n26 : Nat) (f27 : Nat → Int32) (j28 : Nat), g_ai st a25 2 n26 f27 ∧ (((nI 10) * p1) + x1) = nI j28 ∧ j28 < n26 ∧ j28 < 2 ^ 31 ∧ ((f27 j28) ≤ (f22 j23) → K14 (nI 0)) ∧ (¬ (f27 j28) ≤ (f22 j23) → K16))) (K14 (nI 1))) (fun (x13 : Int32) => narrow .boolean (.int x13) = .int x13 ∧ Q x13 st)) ∧ (x1 = (f5 j6) → Q (nI 0) st))
set_option maxHeartbeats 4000000 in
theorem wb_X2_isLess {p : Program} {l : Launch} {e : Env} {R : Room} {s : State} {m : MethodId} {args : Array Value} {below : List Frame} {meth : Method} {c : Code} {E : g_E} {st0 : g_St} {Z : State → Prop} (hC : g_Cx p s m args meth c cX2_isLess 4 "StemspanModel" (some .boolean) "isLess" E st0) (hR : g_Rm 2 63 R) {a0 : Nat} {p0 : Int32} {p1 : Int32} {st : g_St} {cb sb : Nat} {Q : Int32 → g_St → Prop} (hret : ∀ (pc : Nat) (lv : List (Nat × Value)) (v : Int32) (st1 : g_St) (cb sb : Nat), decode cX2_isLess pc = .ok (.ireturn, 1) → narrow .boolean (.int v) = .int v → Q v st1 → g_J p l e R s m args below meth c 4 E st0 Z pc lv [.int v] st1 cb sb) (hvc : vc_X2_isLess l E a0 p0 p1 st Q) : g_J p l e R s m args below meth c 4 E st0 Z 0 [(0, va_rf (some a0)), (1, .int p0), (2, .int p1)] [] st cb sb := by
  unfold vc_X2_isLess at hvc
  refine j_aload_n hC dX2_isLess_0 rfl 0 rfl ?_
  refine j_iload_n hC dX2_isLess_1 rfl 1 rfl ?_
  refine j_iload_n hC dX2_isLess_2 rfl 2 rfl ?_
  obtain ⟨⟨fs, hr⟩, hvc⟩ := hvc
  refine j_callV (As := [.int p0, .int p1]) (rest := []) (n := 2) (ci := 16) hC hvc (lw_V q2320 q2322 qs28 q60 q2323) (by decide +kernel) (g_rm hR rfl rfl) rfl hr rfl rfl (g_sum rfl) dX2_isLess_3 (Nat.zero_le _) (Nat.zero_le _) (g_Kip fun x1 hv2 => ?_)
  replace hvc := hv2; clear hv2
  clear hr fs
  refine j_istore_n (lv0 := [(2, .int p1), (0, va_rf (some a0)), (1, .int p0)]) hC dX2_isLess_6 rfl rfl [2, 0, 1] rfl (g_okS.h rfl rfl rfl) ?_
  refine j_iload_n hC dX2_isLess_7 rfl 0 rfl ?_
  refine j_aload_n hC dX2_isLess_8 rfl 2 rfl ?_
  obtain ⟨o2, ⟨fs, hr, hv⟩, hvc⟩ := hvc
  refine j_get hC fkX2_26_X2 dX2_isLess_9 hr hv ?_
  clear hv hr fs
  refine j_iload_n hC dX2_isLess_12 rfl 1 rfl ?_
  obtain ⟨a3, rfl, hvc⟩ := hvc
  obtain ⟨n4, f5, j6, hr, hi, hj, hJ, hvc⟩ := hvc
  refine j_ix hi ?_
  refine j_iald hC hr hj hJ dX2_isLess_13 ?_
  clear hr hi hj hJ
  refine j_icmp_ne (tgt := 19) hC dX2_isLess_14 rfl (fun c7 => ?_) (fun c7 => ?_)
  · replace hvc := hvc.1 c7
    refine j_iload_n hC dX2_isLess_19 rfl 0 rfl ?_
    refine j_aload_n hC dX2_isLess_20 rfl 2 rfl ?_
    obtain ⟨o8, ⟨fs, hr, hv⟩, hvc⟩ := hvc
    refine j_get hC fkX2_26_X2 dX2_isLess_21 hr hv ?_
    clear hv hr fs
    refine j_iload_n hC dX2_isLess_24 rfl 3 rfl ?_
    obtain ⟨a9, rfl, hvc⟩ := hvc
    obtain ⟨n10, f11, j12, hr, hi, hj, hJ, hvc⟩ := hvc
    refine j_ix hi ?_
    refine j_iald hC hr hj hJ dX2_isLess_25 ?_
    clear hr hi hj hJ
    replace hvc := g_jn1_o hvc
    obtain ⟨K14, hK31, hvc⟩ := hvc
    have kh15 : ∀ (x13 : Int32), K14 x13 → g_J p l e R s m args below meth c 4 E st0 Z 59 [] [.int x13] st cb sb := by
      clear hvc
      intro x13 hvc
      replace hvc := hK31 _ hvc
      exact hret _ _ _ _ _ _ dX2_isLess_59 hvc.1 hvc.2
    replace hvc := g_jn0_o hvc
    obtain ⟨K16, hK30, hvc⟩ := hvc
    have kh17 : K16 → g_J p l e R s m args below meth c 4 E st0 Z 54 [] [] st cb sb := by
      clear hvc
      intro hvc
      replace hvc := hK30 hvc
      refine j_iconst hC (nI 1) dX2_isLess_54 rfl ?_
      refine j_goto (tgt := 59) hC dX2_isLess_55 rfl ?_
      exact j_sub [] rfl (kh15 (nI 1) hvc)
    refine j_icmp_eq (tgt := 54) hC dX2_isLess_26 rfl (fun c18 => ?_) (fun c18 => ?_)
    · replace hvc := hvc.1 c18
      exact j_sub [] rfl (kh17 hvc)
    · replace hvc := hvc.2 c18
      refine j_aload_n hC dX2_isLess_29 rfl 2 rfl ?_
      obtain ⟨o19, ⟨fs, hr, hv⟩, hvc⟩ := hvc
      refine j_get hC fkX2_17_X2 dX2_isLess_30 hr hv ?_
      clear hv hr fs
      refine j_bipush hC (nI 10) dX2_isLess_33 rfl ?_
      refine j_iload_n hC dX2_isLess_35 rfl 3 rfl ?_
      refine j_imul hC dX2_isLess_36 ?_
      refine j_iload_n hC dX2_isLess_37 rfl 0 rfl ?_
      refine j_iadd hC dX2_isLess_38 ?_
      obtain ⟨a20, rfl, hvc⟩ := hvc
      obtain ⟨n21, f22, j23, hr, hi, hj, hJ, hvc⟩ := hvc
      refine j_ix hi ?_
      refine j_cald hC hr hj hJ dX2_isLess_39 ?_
      clear hr hi hj hJ
      refine j_aload_n hC dX2_isLess_40 rfl 2 rfl ?_
      obtain ⟨o24, ⟨fs, hr, hv⟩, hvc⟩ := hvc
      refine j_get hC fkX2_17_X2 dX2_isLess_41 hr hv ?_
      clear hv hr fs
      refine j_bipush hC (nI 10) dX2_isLess_44 rfl ?_
      refine j_iload_n hC dX2_isLess_46 rfl 1 rfl ?_
      refine j_imul hC dX2_isLess_47 ?_
      refine j_iload_n hC dX2_isLess_48 rfl 0 rfl ?_
      refine j_iadd hC dX2_isLess_49 ?_
      obtain ⟨a25, rfl, hvc⟩ := hvc
      obtain ⟨n26, f27, j28, hr, hi, hj, hJ, hvc⟩ := hvc
      refine j_ix hi ?_
      refine j_cald hC hr hj hJ dX2_isLess_50 ?_
      clear hr hi hj hJ
      refine j_icmp_ge (tgt := 58) hC dX2_isLess_51 rfl (fun c29 => ?_) (fun c29 => ?_)
      · replace hvc := hvc.1 c29
        refine j_iconst hC (nI 0) dX2_isLess_58 rfl ?_
        exact j_sub [] rfl (kh15 (nI 0) hvc)
      · replace hvc := hvc.2 c29
        exact j_sub [] rfl (kh17 hvc)
  · replace hvc := hvc.2 c7
    refine j_iconst hC (nI 0) dX2_isLess_17 rfl ?_
    exact hret _ _ _ _ _ _ dX2_isLess_18 rfl hvc
theorem wk_X2_isLess {l : Launch} {E : g_E} {a0 : Nat} {p0 : Int32} {p1 : Int32} {st : g_St} {mc ms : Nat} {Q : Int32 → g_St → Prop} (hvc : vc_X2_isLess l E a0 p0 p1 st Q) : wp_X2_isLess l E mc ms [va_rf (some a0), .int p0, .int p1] st Q :=
  g_enter (lv0 := [(0, va_rf (some a0)), (1, .int p0), (2, .int p1)]) (plainFor_of_name (by decide +kernel)) (by simp [lv_args, g_c1, g_ci, g_cL]) (by simp [lg_sl, g_c1, g_ci, g_cL]) (fun p e s m args below meth c hC => wb_X2_isLess hC ⟨Nat.le_refl _, Nat.le_refl _⟩ (fun pc lv v st1 cb sb hd hn hq => j_ireturn hC rfl hn hd (g_iv hq)) hvc)
abbrev wp_X2_rankOf (l : Launch) (E : g_E) (mc ms : Nat) (av : List Value) (st : g_St) (Q : Int32 → g_St → Prop) : Prop := g_WPi l E yX2_rankOf cX2_rankOf 4 (some .int) 3 86 mc ms av st Q
def vc_X2_rankOf (l : Launch) (E : g_E) (a0 : Nat) (p0 : Int32) (st : g_St) (Q : Int32 → g_St → Prop) : Prop :=
  g_lp2 (fun (K3 : Int32 → Int32 → Prop) (x1 : Int32) (x2 : Int32) => ∃ x6 : Int32, g_gi st a0 16 9 x6 ∧ (x6 ≤ x2 → Q x1 st) ∧ (¬ x6 ≤ x2 → g_is st a0 16 ∧ wp_X2_isLess l E 0 0 [va_rf (some a0), .int x2, .int p0] st (fun x8 stx => stx = st ∧ g_jn1 (fun (K10 : Int32 → Prop) => (x8 = 0 → K10 x1) ∧ (¬ x8 = 0 → K10 (x1 + (nI 1)))) (fun (x9 : Int32) => K3 x9 (x2 + (nI 1)))))) (nI 0) (nI 0)
set_option maxHeartbeats 4000000 in
theorem wb_X2_rankOf {p : Program} {l : Launch} {e : Env} {R : Room} {s : State} {m : MethodId} {args : Array Value} {below : List Frame} {meth : Method} {c : Code} {E : g_E} {st0 : g_St} {Z : State → Prop} (hC : g_Cx p s m args meth c cX2_rankOf 4 "StemspanModel" (some .int) "rankOf" E st0) (hR : g_Rm 3 86 R) {a0 : Nat} {p0 : Int32} {st : g_St} {cb sb : Nat} {Q : Int32 → g_St → Prop} (hret : ∀ (pc : Nat) (lv : List (Nat × Value)) (v : Int32) (st1 : g_St) (cb sb : Nat), decode cX2_rankOf pc = .ok (.ireturn, 1) → narrow .int (.int v) = .int v → Q v st1 → g_J p l e R s m args below meth c 4 E st0 Z pc lv [.int v] st1 cb sb) (hvc : vc_X2_rankOf l E a0 p0 st Q) : g_J p l e R s m args below meth c 4 E st0 Z 0 [(0, va_rf (some a0)), (1, .int p0)] [] st cb sb := by
  unfold vc_X2_rankOf at hvc
  refine j_iconst hC (nI 0) dX2_rankOf_0 rfl ?_
  refine j_istore_n (lv0 := [(1, .int p0), (0, va_rf (some a0))]) hC dX2_rankOf_1 rfl rfl [1, 0] rfl (g_okS.h rfl rfl rfl) ?_
  refine j_iconst hC (nI 0) dX2_rankOf_2 rfl ?_
  refine j_istore_n (lv0 := [(2, .int (nI 0)), (1, .int p0), (0, va_rf (some a0))]) hC dX2_rankOf_3 rfl rfl [0, 1, 2] rfl (g_okS.h rfl rfl rfl) ?_
  replace hvc := g_lp2_o hvc
  obtain ⟨K3, hz14, hs15, n16, hvc⟩ := hvc
  have kh4 : ∀ (n : Nat) (x1 : Int32) (x2 : Int32), K3 n x1 x2 → g_J p l e R s m args below meth c 4 E st0 Z 4 [(0, va_rf (some a0)), (1, .int p0), (2, .int x1), (3, .int x2)] [] st cb sb := by
    clear hvc
    intro n
    induction n with
    | zero => intro x1 x2 hvc; exact absurd hvc (hz14 _ _)
    | succ n ih5 =>
      intro x1 x2 hvc
      replace hvc := hs15 n _ _ hvc
      refine j_iload_n hC dX2_rankOf_4 rfl 3 rfl ?_
      refine j_aload_n hC dX2_rankOf_5 rfl 0 rfl ?_
      obtain ⟨x6, ⟨fs, hr, hv⟩, hvc⟩ := hvc
      refine j_get hC fkX2_59_X2 dX2_rankOf_6 hr hv ?_
      clear hv hr fs
      refine j_icmp_ge (tgt := 30) hC dX2_rankOf_9 rfl (fun c7 => ?_) (fun c7 => ?_)
      · replace hvc := hvc.1 c7
        refine j_iload_n hC dX2_rankOf_30 rfl 2 rfl ?_
        exact hret _ _ _ _ _ _ dX2_rankOf_31 rfl hvc
      · replace hvc := hvc.2 c7
        refine j_aload_n hC dX2_rankOf_12 rfl 0 rfl ?_
        refine j_iload_n hC dX2_rankOf_13 rfl 3 rfl ?_
        refine j_iload_n hC dX2_rankOf_14 rfl 1 rfl ?_
        obtain ⟨⟨fs, hr⟩, hvc⟩ := hvc
        refine j_callV (As := [.int x2, .int p0]) (rest := []) (n := 2) (ci := 16) hC hvc (lw_V q2316 q2318 qs27 q60 q2319) (by decide +kernel) (g_rm hR rfl rfl) rfl hr rfl rfl (g_sum rfl) dX2_rankOf_15 (Nat.zero_le _) (Nat.zero_le _) (g_Kip fun x8 hv2 => ?_)
        replace hvc := hv2; clear hv2
        clear hr fs
        replace hvc := g_jn1_o hvc
        obtain ⟨K10, hK13, hvc⟩ := hvc
        have kh11 : ∀ (x9 : Int32), K10 x9 → g_J p l e R s m args below meth c 4 E st0 Z 24 [(0, va_rf (some a0)), (1, .int p0), (2, .int x9), (3, .int x2)] [] st cb sb := by
          clear hvc
          intro x9 hvc
          replace hvc := hK13 _ hvc
          refine j_iinc (lv0 := [(2, .int x9), (0, va_rf (some a0)), (1, .int p0)]) hC (nI 1) dX2_rankOf_24 3 rfl rfl rfl [2, 0, 1] rfl (g_okS.h rfl rfl rfl) ?_
          refine j_goto (tgt := 4) hC dX2_rankOf_27 rfl ?_
          exact j_sub [2, 3, 1, 0] rfl (ih5 x9 (x2 + (nI 1)) hvc)
        refine j_if_eq (tgt := 24) hC dX2_rankOf_18 rfl (fun c12 => ?_) (fun c12 => ?_)
        · replace hvc := hvc.1 c12
          exact j_sub [0, 1, 2, 3] rfl (kh11 x1 hvc)
        · replace hvc := hvc.2 c12
          refine j_iinc (lv0 := [(1, .int p0), (0, va_rf (some a0)), (3, .int x2)]) hC (nI 1) dX2_rankOf_21 2 rfl rfl rfl [1, 0, 3] rfl (g_okS.h rfl rfl rfl) ?_
          exact j_sub [2, 1, 0, 3] rfl (kh11 (x1 + (nI 1)) hvc)
  exact j_sub [3, 2, 1, 0] rfl (kh4 n16 (nI 0) (nI 0) hvc)
theorem wk_X2_rankOf {l : Launch} {E : g_E} {a0 : Nat} {p0 : Int32} {st : g_St} {mc ms : Nat} {Q : Int32 → g_St → Prop} (hvc : vc_X2_rankOf l E a0 p0 st Q) : wp_X2_rankOf l E mc ms [va_rf (some a0), .int p0] st Q :=
  g_enter (lv0 := [(0, va_rf (some a0)), (1, .int p0)]) (plainFor_of_name (by decide +kernel)) (by simp [lv_args, g_c1, g_ci, g_cL]) (by simp [lg_sl, g_c1, g_ci, g_cL]) (fun p e s m args below meth c hC => wb_X2_rankOf hC ⟨Nat.le_refl _, Nat.le_refl _⟩ (fun pc lv v st1 cb sb hd hn hq => j_ireturn hC rfl hn hd (g_iv hq)) hvc)
abbrev wp_X2_orders (l : Launch) (E : g_E) (mc ms : Nat) (av : List Value) (st : g_St) (Q : g_St → Prop) : Prop := g_WPv l E yX2_orders cX2_orders 2 none 4 109 mc ms av st Q
def vc_X2_orders (l : Launch) (E : g_E) (a0 : Nat) (st : g_St) (Q : g_St → Prop) : Prop :=
  g_lp2 (fun (K3 : Int32 → g_St → Prop) (x1 : Int32) (st2 : g_St) => ∃ x6 : Int32, g_gi st2 a0 16 9 x6 ∧ (x6 ≤ x1 → Q st2) ∧ (¬ x6 ≤ x1 → ∃ o8 : Option Nat, g_gr st2 a0 16 11 o8 ∧ g_is st2 a0 16 ∧ wp_X2_rankOf l E 0 0 [va_rf (some a0), .int x1] st2 (fun x9 stx => stx = st2 ∧ ∃ a10 : Nat, o8 = some a10 ∧ ∃ (n11 : Nat) (f12 : Nat → Int32) (j13 : Nat), st2.2.1 a10 = some (.inl (0, n11, .inl (f12))) ∧ x1 = nI j13 ∧ j13 < n11 ∧ j13 < 2 ^ 31 ∧ ∀ st14 : g_St, st14 = g_put st2 a10 (.inl (0, n11, .inl (va_up f12 j13 x9))) → ∃ o15 : Option Nat, g_gr st14 a0 16 10 o15 ∧ ∃ o16 : Option Nat, g_gr st14 a0 16 11 o16 ∧ ∃ a17 : Nat, o16 = some a17 ∧ ∃ (n18 : Nat) (f19 : Nat → Int32) (j20 : Nat), g_ai st14 a17 0 n18 f19 ∧ x1 = nI j20 ∧ j20 < n18 ∧ j20 < 2 ^ 31 ∧ ∃ a21 : Nat, o15 = some a21 ∧ ∃ (n22 : Nat) (f23 : Nat → Int32) (j24 : Nat), st14.2.1 a21 = some (.inl (0, n22, .inl (f23))) ∧ (f19 j20) = nI j24 ∧ j24 < n22 ∧ j24 < 2 ^ 31 ∧ ∀ st25 : g_St, st25 = g_put st14 a21 (.inl (0, n22, .inl (va_up f23 j24 x1))) → K3 (x1 + (nI 1)) st25))) (nI 0) st
set_option maxHeartbeats 4000000 in
theorem wb_X2_orders {p : Program} {l : Launch} {e : Env} {R : Room} {s : State} {m : MethodId} {args : Array Value} {below : List Frame} {meth : Method} {c : Code} {E : g_E} {st0 : g_St} {Z : State → Prop} (hC : g_Cx p s m args meth c cX2_orders 2 "StemspanModel" none "orders" E st0) (hR : g_Rm 4 109 R) {a0 : Nat} {st : g_St} {cb sb : Nat} {Q : g_St → Prop} (hret : ∀ (pc : Nat) (lv : List (Nat × Value)) (st1 : g_St) (cb sb : Nat), decode cX2_orders pc = .ok (.return_, 1) → Q st1 → g_J p l e R s m args below meth c 2 E st0 Z pc lv [] st1 cb sb) (hvc : vc_X2_orders l E a0 st Q) : g_J p l e R s m args below meth c 2 E st0 Z 0 [(0, va_rf (some a0))] [] st cb sb := by
  unfold vc_X2_orders at hvc
  refine j_iconst hC (nI 0) dX2_orders_0 rfl ?_
  refine j_istore_n (lv0 := [(0, va_rf (some a0))]) hC dX2_orders_1 rfl rfl [0] rfl (g_okS.h rfl g_c1 rfl) ?_
  replace hvc := g_lp2_o hvc
  obtain ⟨K3, hz26, hs27, n28, hvc⟩ := hvc
  have kh4 : ∀ (n : Nat) (x1 : Int32) (st2 : g_St), K3 n x1 st2 → g_J p l e R s m args below meth c 2 E st0 Z 2 [(0, va_rf (some a0)), (1, .int x1)] [] st2 cb sb := by
    clear hvc
    intro n
    induction n with
    | zero => intro x1 st2 hvc; exact absurd hvc (hz26 _ _)
    | succ n ih5 =>
      intro x1 st2 hvc
      replace hvc := hs27 n _ _ hvc
      refine j_iload_n hC dX2_orders_2 rfl 1 rfl ?_
      refine j_aload_n hC dX2_orders_3 rfl 0 rfl ?_
      obtain ⟨x6, ⟨fs, hr, hv⟩, hvc⟩ := hvc
      refine j_get hC fkX2_59_X2 dX2_orders_4 hr hv ?_
      clear hv hr fs
      refine j_icmp_ge (tgt := 39) hC dX2_orders_7 rfl (fun c7 => ?_) (fun c7 => ?_)
      · replace hvc := hvc.1 c7
        exact hret _ _ _ _ _ dX2_orders_39 hvc
      · replace hvc := hvc.2 c7
        refine j_aload_n hC dX2_orders_10 rfl 0 rfl ?_
        obtain ⟨o8, ⟨fs, hr, hv⟩, hvc⟩ := hvc
        refine j_get hC fkX2_39_X2 dX2_orders_11 hr hv ?_
        clear hv hr fs
        refine j_iload_n hC dX2_orders_14 rfl 1 rfl ?_
        refine j_aload_n hC dX2_orders_15 rfl 0 rfl ?_
        refine j_iload_n hC dX2_orders_16 rfl 1 rfl ?_
        obtain ⟨⟨fs, hr⟩, hvc⟩ := hvc
        refine j_callV (As := [.int x1]) (rest := [.int x1, va_rf o8]) (n := 1) (ci := 16) hC hvc (lw_V q2312 q2314 qs26 q60 q2315) (by decide +kernel) (g_rm hR rfl rfl) rfl hr rfl rfl (g_sum rfl) dX2_orders_17 (Nat.zero_le _) (Nat.zero_le _) (g_Kip fun x9 hv2 => ?_)
        replace hvc := hv2; clear hv2
        clear hr fs
        obtain ⟨a10, rfl, hvc⟩ := hvc
        obtain ⟨n11, f12, j13, hm, hi, hj, hJ, hvc⟩ := hvc
        refine j_ix1 hi ?_
        refine j_sti hC hm hj hJ dX2_orders_20 (fun st14 e1 => ?_)
        replace hvc := hvc st14 e1; clear hm hi hj hJ e1
        refine j_aload_n hC dX2_orders_21 rfl 0 rfl ?_
        obtain ⟨o15, ⟨fs, hr, hv⟩, hvc⟩ := hvc
        refine j_get hC fkX2_36_X2 dX2_orders_22 hr hv ?_
        clear hv hr fs
        refine j_aload_n hC dX2_orders_25 rfl 0 rfl ?_
        obtain ⟨o16, ⟨fs, hr, hv⟩, hvc⟩ := hvc
        refine j_get hC fkX2_39_X2 dX2_orders_26 hr hv ?_
        clear hv hr fs
        refine j_iload_n hC dX2_orders_29 rfl 1 rfl ?_
        obtain ⟨a17, rfl, hvc⟩ := hvc
        obtain ⟨n18, f19, j20, hr, hi, hj, hJ, hvc⟩ := hvc
        refine j_ix hi ?_
        refine j_iald hC hr hj hJ dX2_orders_30 ?_
        clear hr hi hj hJ
        refine j_iload_n hC dX2_orders_31 rfl 1 rfl ?_
        obtain ⟨a21, rfl, hvc⟩ := hvc
        obtain ⟨n22, f23, j24, hm, hi, hj, hJ, hvc⟩ := hvc
        refine j_ix1 hi ?_
        refine j_sti hC hm hj hJ dX2_orders_32 (fun st25 e1 => ?_)
        replace hvc := hvc st25 e1; clear hm hi hj hJ e1
        refine j_iinc (lv0 := [(0, va_rf (some a0))]) hC (nI 1) dX2_orders_33 1 rfl rfl rfl [0] rfl (g_okS.h rfl g_c1 rfl) ?_
        refine j_goto (tgt := 2) hC dX2_orders_36 rfl ?_
        exact j_sub [1, 0] rfl (ih5 (x1 + (nI 1)) st25 hvc)
  exact j_sub [1, 0] rfl (kh4 n28 (nI 0) st hvc)
theorem wk_X2_orders {l : Launch} {E : g_E} {a0 : Nat} {st : g_St} {mc ms : Nat} {Q : g_St → Prop} (hvc : vc_X2_orders l E a0 st Q) : wp_X2_orders l E mc ms [va_rf (some a0)] st Q :=
  g_enter (lv0 := [(0, va_rf (some a0))]) (plainFor_of_name (by decide +kernel)) (by simp [lv_args, g_c1, g_ci, g_cL]) (by simp [lg_sl, g_c1, g_ci, g_cL]) (fun p e s m args below meth c hC => wb_X2_orders hC ⟨Nat.le_refl _, Nat.le_refl _⟩ (fun pc lv st1 cb sb hd hq => j_return hC rfl hd ⟨rfl, hq⟩) hvc)
abbrev wp_X2_becomes (l : Launch) (E : g_E) (mc ms : Nat) (av : List Value) (st : g_St) (Q : g_St → Prop) : Prop := g_WPv l E yX2_becomes cX2_becomes 3 none 1 40 mc ms av st Q
def vc_X2_becomes (l : Launch) (E : g_E) (a0 : Nat) (p0 : Int32) (st : g_St) (Q : g_St → Prop) : Prop :=
  ∃ o1 : Option Nat, g_gr st a0 16 5 o1 ∧ ∃ a2 : Nat, o1 = some a2 ∧ ∃ (n3 : Nat) (f4 : Nat → Int32) (j5 : Nat), g_ai st a2 0 n3 f4 ∧ p0 = nI j5 ∧ j5 < n3 ∧ j5 < 2 ^ 31 ∧ ∃ fs6 : List Value, st.2.1 a0 = some (.inr (16, fs6)) ∧ ∀ st7 : g_St, st7 = g_put st a0 (.inr (16, fs6.set 8 (.int (f4 j5)))) → g_lp2 (fun (K10 : Int32 → g_St → Prop) (x8 : Int32) (st9 : g_St) => ∃ x13 : Int32, g_gi st9 a0 16 8 x13 ∧ (x13 ≤ x8 → Q st9) ∧ (¬ x13 ≤ x8 → ∃ o15 : Option Nat, g_gr st9 a0 16 1 o15 ∧ ∃ o16 : Option Nat, g_gr st9 a0 16 2 o16 ∧ ∃ a17 : Nat, o16 = some a17 ∧ ∃ (n18 : Nat) (f19 : Nat → Int32) (j20 : Nat), g_ai st9 a17 2 n18 f19 ∧ (((nI 10) * p0) + x8) = nI j20 ∧ j20 < n18 ∧ j20 < 2 ^ 31 ∧ ∃ a21 : Nat, o15 = some a21 ∧ ∃ (n22 : Nat) (f23 : Nat → Int32) (j24 : Nat), st9.2.1 a21 = some (.inl (2, n22, .inl (f23))) ∧ x8 = nI j24 ∧ j24 < n22 ∧ j24 < 2 ^ 31 ∧ ∀ st25 : g_St, st25 = g_put st9 a21 (.inl (2, n22, .inl (va_up f23 j24 (vp_nar .char (f19 j20))))) → K10 (x8 + (nI 1)) st25)) (nI 0) st7
set_option maxHeartbeats 4000000 in
theorem wb_X2_becomes {p : Program} {l : Launch} {e : Env} {R : Room} {s : State} {m : MethodId} {args : Array Value} {below : List Frame} {meth : Method} {c : Code} {E : g_E} {st0 : g_St} {Z : State → Prop} (hC : g_Cx p s m args meth c cX2_becomes 3 "StemspanModel" none "becomes" E st0) (hR : g_Rm 1 40 R) {a0 : Nat} {p0 : Int32} {st : g_St} {cb sb : Nat} {Q : g_St → Prop} (hret : ∀ (pc : Nat) (lv : List (Nat × Value)) (st1 : g_St) (cb sb : Nat), decode cX2_becomes pc = .ok (.return_, 1) → Q st1 → g_J p l e R s m args below meth c 3 E st0 Z pc lv [] st1 cb sb) (hvc : vc_X2_becomes l E a0 p0 st Q) : g_J p l e R s m args below meth c 3 E st0 Z 0 [(0, va_rf (some a0)), (1, .int p0)] [] st cb sb := by
  unfold vc_X2_becomes at hvc
  refine j_aload_n hC dX2_becomes_0 rfl 0 rfl ?_
  refine j_aload_n hC dX2_becomes_1 rfl 0 rfl ?_
  obtain ⟨o1, ⟨fs, hr, hv⟩, hvc⟩ := hvc
  refine j_get hC fkX2_26_X2 dX2_becomes_2 hr hv ?_
  clear hv hr fs
  refine j_iload_n hC dX2_becomes_5 rfl 1 rfl ?_
  obtain ⟨a2, rfl, hvc⟩ := hvc
  obtain ⟨n3, f4, j5, hr, hi, hj, hJ, hvc⟩ := hvc
  refine j_ix hi ?_
  refine j_iald hC hr hj hJ dX2_becomes_6 ?_
  clear hr hi hj hJ
  obtain ⟨fs6, hm, hvc⟩ := hvc
  refine j_put hC fkX2_49_X2 dX2_becomes_7 hm rfl rfl (fun st7 e1 => ?_)
  replace hvc := hvc st7 e1; clear hm e1
  refine j_iconst hC (nI 0) dX2_becomes_10 rfl ?_
  refine j_istore_n (lv0 := [(1, .int p0), (0, va_rf (some a0))]) hC dX2_becomes_11 rfl rfl [1, 0] rfl (g_okS.h rfl rfl rfl) ?_
  replace hvc := g_lp2_o hvc
  obtain ⟨K10, hz26, hs27, n28, hvc⟩ := hvc
  have kh11 : ∀ (n : Nat) (x8 : Int32) (st9 : g_St), K10 n x8 st9 → g_J p l e R s m args below meth c 3 E st0 Z 12 [(0, va_rf (some a0)), (1, .int p0), (2, .int x8)] [] st9 cb sb := by
    clear hvc
    intro n
    induction n with
    | zero => intro x8 st9 hvc; exact absurd hvc (hz26 _ _)
    | succ n ih12 =>
      intro x8 st9 hvc
      replace hvc := hs27 n _ _ hvc
      refine j_iload_n hC dX2_becomes_12 rfl 2 rfl ?_
      refine j_aload_n hC dX2_becomes_13 rfl 0 rfl ?_
      obtain ⟨x13, ⟨fs, hr, hv⟩, hvc⟩ := hvc
      refine j_get hC fkX2_49_X2 dX2_becomes_14 hr hv ?_
      clear hv hr fs
      refine j_icmp_ge (tgt := 43) hC dX2_becomes_17 rfl (fun c14 => ?_) (fun c14 => ?_)
      · replace hvc := hvc.1 c14
        exact hret _ _ _ _ _ dX2_becomes_43 hvc
      · replace hvc := hvc.2 c14
        refine j_aload_n hC dX2_becomes_20 rfl 0 rfl ?_
        obtain ⟨o15, ⟨fs, hr, hv⟩, hvc⟩ := hvc
        refine j_get hC fkX2_13_X2 dX2_becomes_21 hr hv ?_
        clear hv hr fs
        refine j_iload_n hC dX2_becomes_24 rfl 2 rfl ?_
        refine j_aload_n hC dX2_becomes_25 rfl 0 rfl ?_
        obtain ⟨o16, ⟨fs, hr, hv⟩, hvc⟩ := hvc
        refine j_get hC fkX2_17_X2 dX2_becomes_26 hr hv ?_
        clear hv hr fs
        refine j_bipush hC (nI 10) dX2_becomes_29 rfl ?_
        refine j_iload_n hC dX2_becomes_31 rfl 1 rfl ?_
        refine j_imul hC dX2_becomes_32 ?_
        refine j_iload_n hC dX2_becomes_33 rfl 2 rfl ?_
        refine j_iadd hC dX2_becomes_34 ?_
        obtain ⟨a17, rfl, hvc⟩ := hvc
        obtain ⟨n18, f19, j20, hr, hi, hj, hJ, hvc⟩ := hvc
        refine j_ix hi ?_
        refine j_cald hC hr hj hJ dX2_becomes_35 ?_
        clear hr hi hj hJ
        obtain ⟨a21, rfl, hvc⟩ := hvc
        obtain ⟨n22, f23, j24, hm, hi, hj, hJ, hvc⟩ := hvc
        refine j_ix1 hi ?_
        refine j_stc hC hm hj hJ dX2_becomes_36 (fun st25 e1 => ?_)
        replace hvc := hvc st25 e1; clear hm hi hj hJ e1
        refine j_iinc (lv0 := [(1, .int p0), (0, va_rf (some a0))]) hC (nI 1) dX2_becomes_37 2 rfl rfl rfl [1, 0] rfl (g_okS.h rfl rfl rfl) ?_
        refine j_goto (tgt := 12) hC dX2_becomes_40 rfl ?_
        exact j_sub [2, 1, 0] rfl (ih12 (x8 + (nI 1)) st25 hvc)
  exact j_sub [2, 1, 0] rfl (kh11 n28 (nI 0) st7 hvc)
theorem wk_X2_becomes {l : Launch} {E : g_E} {a0 : Nat} {p0 : Int32} {st : g_St} {mc ms : Nat} {Q : g_St → Prop} (hvc : vc_X2_becomes l E a0 p0 st Q) : wp_X2_becomes l E mc ms [va_rf (some a0), .int p0] st Q :=
  g_enter (lv0 := [(0, va_rf (some a0)), (1, .int p0)]) (plainFor_of_name (by decide +kernel)) (by simp [lv_args, g_c1, g_ci, g_cL]) (by simp [lg_sl, g_c1, g_ci, g_cL]) (fun p e s m args below meth c hC => wb_X2_becomes hC ⟨Nat.le_refl _, Nat.le_refl _⟩ (fun pc lv st1 cb sb hd hq => j_return hC rfl hd ⟨rfl, hq⟩) hvc)
abbrev wp_X2_word (l : Launch) (E : g_E) (mc ms : Nat) (av : List Value) (st : g_St) (Q : Int32 → g_St → Prop) : Prop := g_WPi l E yX2_word cX2_word 2 (some .int) 5 130 mc ms av st Q
def vc_X2_word (l : Launch) (E : g_E) (a0 : Nat) (p0 : Int32) (st : g_St) (Q : Int32 → g_St → Prop) : Prop :=
  ∃ x1 : Int32, g_gi st a0 16 9 x1 ∧ wp_X2_in l E 0 0 [.int p0, .int (nI 0), .int (x1 - (nI 1))] st (fun x2 stx => stx = st ∧ g_jn1 (fun (K4 : Int32 → Prop) => (x2 = 0 → K4 (nI 1)) ∧ (¬ x2 = 0 → K4 (nI 0))) (fun (x3 : Int32) => g_is st a0 16 ∧ wp_X2_fails l E 0 0 [va_rf (some a0), .int x3] st (fun x6 st7 => g_Ext st st7 → (x6 = 0 → g_is st7 a0 16 ∧ wp_X2_orders l E 0 0 [va_rf (some a0)] st7 (fun st9 => g_Ext st7 st9 → ∃ o10 : Option Nat, g_gr st9 a0 16 10 o10 ∧ ∃ a11 : Nat, o10 = some a11 ∧ ∃ (n12 : Nat) (f13 : Nat → Int32) (j14 : Nat), g_ai st9 a11 0 n12 f13 ∧ p0 = nI j14 ∧ j14 < n12 ∧ j14 < 2 ^ 31 ∧ g_is st9 a0 16 ∧ wp_X2_becomes l E 0 0 [va_rf (some a0), .int (f13 j14)] st9 (fun st15 => g_Ext st9 st15 → ∃ x16 : Int32, g_gi st15 a0 16 8 x16 ∧ Q x16 st15))) ∧ (¬ x6 = 0 → Q (nI 0) st7))))
set_option maxHeartbeats 4000000 in
theorem wb_X2_word {p : Program} {l : Launch} {e : Env} {R : Room} {s : State} {m : MethodId} {args : Array Value} {below : List Frame} {meth : Method} {c : Code} {E : g_E} {st0 : g_St} {Z : State → Prop} (hC : g_Cx p s m args meth c cX2_word 2 "StemspanModel" (some .int) "word" E st0) (hR : g_Rm 5 130 R) {a0 : Nat} {p0 : Int32} {st : g_St} {cb sb : Nat} {Q : Int32 → g_St → Prop} (hret : ∀ (pc : Nat) (lv : List (Nat × Value)) (v : Int32) (st1 : g_St) (cb sb : Nat), decode cX2_word pc = .ok (.ireturn, 1) → narrow .int (.int v) = .int v → Q v st1 → g_J p l e R s m args below meth c 2 E st0 Z pc lv [.int v] st1 cb sb) (hvc : vc_X2_word l E a0 p0 st Q) : g_J p l e R s m args below meth c 2 E st0 Z 0 [(0, va_rf (some a0)), (1, .int p0)] [] st cb sb := by
  unfold vc_X2_word at hvc
  refine j_aload_n hC dX2_word_0 rfl 0 rfl ?_
  refine j_iload_n hC dX2_word_1 rfl 1 rfl ?_
  refine j_iconst hC (nI 0) dX2_word_2 rfl ?_
  refine j_aload_n hC dX2_word_3 rfl 0 rfl ?_
  obtain ⟨x1, ⟨fs, hr, hv⟩, hvc⟩ := hvc
  refine j_get hC fkX2_59_X2 dX2_word_4 hr hv ?_
  clear hv hr fs
  refine j_iconst hC (nI 1) dX2_word_7 rfl ?_
  refine j_isub hC dX2_word_8 ?_
  refine j_callS (As := [.int p0, .int (nI 0), .int (x1 - (nI 1))]) (rest := [va_rf (some a0)]) (n := 3) hC hvc (lw_S q2240 q2241 q60 q2242) (by decide +kernel) (g_rm hR rfl rfl) rfl rfl (g_sum rfl) dX2_word_9 (Nat.zero_le _) (Nat.zero_le _) (g_Kip fun x2 hv2 => ?_)
  replace hvc := hv2; clear hv2
  replace hvc := g_jn1_o hvc
  obtain ⟨K4, hK18, hvc⟩ := hvc
  have kh5 : ∀ (x3 : Int32), K4 x3 → g_J p l e R s m args below meth c 2 E st0 Z 20 [(0, va_rf (some a0)), (1, .int p0)] [.int x3, va_rf (some a0)] st cb sb := by
    clear hvc
    intro x3 hvc
    replace hvc := hK18 _ hvc
    obtain ⟨⟨fs, hr⟩, hvc⟩ := hvc
    refine j_callV (As := [.int x3]) (rest := []) (n := 1) (ci := 16) hC hvc (lw_V q2232 q2234 qs20 q60 q2235) (by decide +kernel) (g_rm hR rfl rfl) rfl hr rfl rfl (g_sum rfl) dX2_word_20 (Nat.zero_le _) (Nat.zero_le _) (g_Ki fun x6 st7 hv2 hx => ?_)
    replace hvc := hv2 hx; clear hx hv2
    clear hr fs
    refine j_if_eq (tgt := 28) hC dX2_word_23 rfl (fun c8 => ?_) (fun c8 => ?_)
    · replace hvc := hvc.1 c8
      refine j_aload_n hC dX2_word_28 rfl 0 rfl ?_
      obtain ⟨⟨fs, hr⟩, hvc⟩ := hvc
      refine j_callV (As := []) (rest := []) (n := 0) (ci := 16) hC hvc (lw_V q2308 q2310 qs25 q60 q2311) (by decide +kernel) (g_rm hR rfl rfl) rfl hr rfl rfl (g_sum rfl) dX2_word_29 (Nat.zero_le _) (Nat.zero_le _) (g_Kv fun st9 hv2 hx => ?_)
      replace hvc := hv2 hx; clear hx hv2
      clear hr fs
      refine j_aload_n hC dX2_word_32 rfl 0 rfl ?_
      refine j_aload_n hC dX2_word_33 rfl 0 rfl ?_
      obtain ⟨o10, ⟨fs, hr, hv⟩, hvc⟩ := hvc
      refine j_get hC fkX2_36_X2 dX2_word_34 hr hv ?_
      clear hv hr fs
      refine j_iload_n hC dX2_word_37 rfl 1 rfl ?_
      obtain ⟨a11, rfl, hvc⟩ := hvc
      obtain ⟨n12, f13, j14, hr, hi, hj, hJ, hvc⟩ := hvc
      refine j_ix hi ?_
      refine j_iald hC hr hj hJ dX2_word_38 ?_
      clear hr hi hj hJ
      obtain ⟨⟨fs, hr⟩, hvc⟩ := hvc
      refine j_callV (As := [.int (f13 j14)]) (rest := []) (n := 1) (ci := 16) hC hvc (lw_V q2324 q2326 qs29 q60 q2327) (by decide +kernel) (g_rm hR rfl rfl) rfl hr rfl rfl (g_sum rfl) dX2_word_39 (Nat.zero_le _) (Nat.zero_le _) (g_Kv fun st15 hv2 hx => ?_)
      replace hvc := hv2 hx; clear hx hv2
      clear hr fs
      refine j_aload_n hC dX2_word_42 rfl 0 rfl ?_
      obtain ⟨x16, ⟨fs, hr, hv⟩, hvc⟩ := hvc
      refine j_get hC fkX2_49_X2 dX2_word_43 hr hv ?_
      clear hv hr fs
      exact hret _ _ _ _ _ _ dX2_word_46 rfl hvc
    · replace hvc := hvc.2 c8
      refine j_iconst hC (nI 0) dX2_word_26 rfl ?_
      exact hret _ _ _ _ _ _ dX2_word_27 rfl hvc
  refine j_if_eq (tgt := 19) hC dX2_word_12 rfl (fun c17 => ?_) (fun c17 => ?_)
  · replace hvc := hvc.1 c17
    refine j_iconst hC (nI 1) dX2_word_19 rfl ?_
    exact j_sub [0, 1] rfl (kh5 (nI 1) hvc)
  · replace hvc := hvc.2 c17
    refine j_iconst hC (nI 0) dX2_word_15 rfl ?_
    refine j_goto (tgt := 20) hC dX2_word_16 rfl ?_
    exact j_sub [0, 1] rfl (kh5 (nI 0) hvc)
theorem wk_X2_word {l : Launch} {E : g_E} {a0 : Nat} {p0 : Int32} {st : g_St} {mc ms : Nat} {Q : Int32 → g_St → Prop} (hvc : vc_X2_word l E a0 p0 st Q) : wp_X2_word l E mc ms [va_rf (some a0), .int p0] st Q :=
  g_enter (lv0 := [(0, va_rf (some a0)), (1, .int p0)]) (plainFor_of_name (by decide +kernel)) (by simp [lv_args, g_c1, g_ci, g_cL]) (by simp [lg_sl, g_c1, g_ci, g_cL]) (fun p e s m args below meth c hC => wb_X2_word hC ⟨Nat.le_refl _, Nat.le_refl _⟩ (fun pc lv v st1 cb sb hd hn hq => j_ireturn hC rfl hn hd (g_iv hq)) hvc)
abbrev wp_X2_near (l : Launch) (E : g_E) (mc ms : Nat) (av : List Value) (st : g_St) (Q : Int32 → g_St → Prop) : Prop := g_WPi l E yX2_near cX2_near 7 (some .int) 3 86 mc ms av st Q
def vc_X2_near (l : Launch) (E : g_E) (a0 : Nat) (p0 : Int32) (st : g_St) (Q : Int32 → g_St → Prop) : Prop :=
  g_lp2 (fun (K3 : Int32 → Int32 → Prop) (x1 : Int32) (x2 : Int32) => ∃ x6 : Int32, g_gi st a0 16 9 x6 ∧ (x6 ≤ x2 → g_jn1 (fun (K9 : Int32 → Prop) => g_jn0 (fun (K20 : Prop) => (p0 = (nI 102) → K20) ∧ (¬ p0 = (nI 102) → (p0 = (nI 99) → K20) ∧ (¬ p0 = (nI 99) → (p0 = (nI 108) → K20) ∧ (¬ p0 = (nI 108) → (p0 = (nI 104) → K20) ∧ (¬ p0 = (nI 104) → K9 (nI 1)))))) ((0 ≤ x1 → K9 (nI 0)) ∧ (¬ 0 ≤ x1 → K9 (nI 2)))) (fun (x8 : Int32) => g_is st a0 16 ∧ wp_X2_fails l E 0 0 [va_rf (some a0), .int x8] st (fun x11 st12 => g_Ext st st12 → (x11 = 0 → g_is st12 a0 16 ∧ wp_X2_becomes l E 0 0 [va_rf (some a0), .int x1] st12 (fun st14 => g_Ext st12 st14 → ∃ o15 : Option Nat, g_gr st14 a0 16 6 o15 ∧ ∃ a16 : Nat, o15 = some a16 ∧ ∃ (n17 : Nat) (f18 : Nat → Int32) (j19 : Nat), g_ai st14 a16 0 n17 f18 ∧ x1 = nI j19 ∧ j19 < n17 ∧ j19 < 2 ^ 31 ∧ Q (f18 j19) st14)) ∧ (¬ x11 = 0 → Q (nI 0) st12)))) ∧ (¬ x6 ≤ x2 → g_is st a0 16 ∧ wp_X2_beside l E 0 0 [va_rf (some a0), .int x2] st (fun x29 stx => stx = st ∧ g_jn1 (fun (K31 : Int32 → Prop) => (¬ p0 = (nI 102) → (¬ p0 = (nI 99) → (¬ p0 = (nI 108) → (x29 ≤ 0 → K31 (nI 0)) ∧ (¬ x29 ≤ 0 → K31 (nI 1))) ∧ (p0 = (nI 108) → (0 ≤ x29 → K31 (nI 0)) ∧ (¬ 0 ≤ x29 → K31 (nI 1)))) ∧ (p0 = (nI 99) → (x29 < 0 → K31 (nI 0)) ∧ (¬ x29 < 0 → K31 (nI 1)))) ∧ (p0 = (nI 102) → (0 < x29 → K31 (nI 0)) ∧ (¬ 0 < x29 → K31 (nI 1)))) (fun (x30 : Int32) => g_jn1 (fun (K34 : Int32 → Prop) => g_jn0 (fun (K50 : Prop) => (p0 = (nI 102) → K50) ∧ (¬ p0 = (nI 102) → (¬ p0 = (nI 108) → K34 (nI 0)) ∧ (p0 = (nI 108) → K50))) (K34 (nI 1))) (fun (x33 : Int32) => g_jn1 (fun (K37 : Int32 → Prop) => (x30 = 0 → K37 x1) ∧ (¬ x30 = 0 → g_jn0 (fun (K40 : Prop) => (x1 < 0 → K40) ∧ (¬ x1 < 0 → (x33 = 0 → g_is st a0 16 ∧ wp_X2_isLess l E 0 0 [va_rf (some a0), .int x2, .int x1] st (fun x44 stx => stx = st ∧ (x44 = 0 → K37 x1) ∧ (¬ x44 = 0 → K40))) ∧ (¬ x33 = 0 → g_is st a0 16 ∧ wp_X2_isLess l E 0 0 [va_rf (some a0), .int x1, .int x2] st (fun x46 stx => stx = st ∧ (x46 = 0 → K37 x1) ∧ (¬ x46 = 0 → K40))))) (K37 x2))) (fun (x36 : Int32) => K3 x36 (x2 + (nI 1)))))))) (-1) (nI 0)
set_option maxHeartbeats 4000000 in
theorem wb_X2_near {p : Program} {l : Launch} {e : Env} {R : Room} {s : State} {m : MethodId} {args : Array Value} {below : List Frame} {meth : Method} {c : Code} {E : g_E} {st0 : g_St} {Z : State → Prop} (hC : g_Cx p s m args meth c cX2_near 7 "StemspanModel" (some .int) "near" E st0) (hR : g_Rm 3 86 R) {a0 : Nat} {p0 : Int32} {st : g_St} {cb sb : Nat} {Q : Int32 → g_St → Prop} (hret : ∀ (pc : Nat) (lv : List (Nat × Value)) (v : Int32) (st1 : g_St) (cb sb : Nat), decode cX2_near pc = .ok (.ireturn, 1) → narrow .int (.int v) = .int v → Q v st1 → g_J p l e R s m args below meth c 7 E st0 Z pc lv [.int v] st1 cb sb) (hvc : vc_X2_near l E a0 p0 st Q) : g_J p l e R s m args below meth c 7 E st0 Z 0 [(0, va_rf (some a0)), (1, .int p0)] [] st cb sb := by
  unfold vc_X2_near at hvc
  refine j_iconst hC (-1) dX2_near_0 rfl ?_
  refine j_istore_n (lv0 := [(1, .int p0), (0, va_rf (some a0))]) hC dX2_near_1 rfl rfl [1, 0] rfl (g_okS.h rfl rfl rfl) ?_
  refine j_iconst hC (nI 0) dX2_near_2 rfl ?_
  refine j_istore_n (lv0 := [(2, .int (-1)), (1, .int p0), (0, va_rf (some a0))]) hC dX2_near_3 rfl rfl [0, 1, 2] rfl (g_okS.h rfl rfl rfl) ?_
  replace hvc := g_lp2_o hvc
  obtain ⟨K3, hz64, hs65, n66, hvc⟩ := hvc
  have kh4 : ∀ (n : Nat) (x1 : Int32) (x2 : Int32), K3 n x1 x2 → g_J p l e R s m args below meth c 7 E st0 Z 4 [(0, va_rf (some a0)), (1, .int p0), (2, .int x1), (3, .int x2)] [] st cb sb := by
    clear hvc
    intro n
    induction n with
    | zero => intro x1 x2 hvc; exact absurd hvc (hz64 _ _)
    | succ n ih5 =>
      intro x1 x2 hvc
      replace hvc := hs65 n _ _ hvc
      refine j_iload_n hC dX2_near_4 rfl 3 rfl ?_
      refine j_aload_n hC dX2_near_5 rfl 0 rfl ?_
      obtain ⟨x6, ⟨fs, hr, hv⟩, hvc⟩ := hvc
      refine j_get hC fkX2_59_X2 dX2_near_6 hr hv ?_
      clear hv hr fs
      refine j_icmp_ge (tgt := 150) hC dX2_near_9 rfl (fun c7 => ?_) (fun c7 => ?_)
      · replace hvc := hvc.1 c7
        refine j_aload_n hC dX2_near_150 rfl 0 rfl ?_
        refine j_iload_n hC dX2_near_151 rfl 1 rfl ?_
        refine j_bipush hC (nI 102) dX2_near_152 rfl ?_
        replace hvc := g_jn1_o hvc
        obtain ⟨K9, hK28, hvc⟩ := hvc
        have kh10 : ∀ (x8 : Int32), K9 x8 → g_J p l e R s m args below meth c 7 E st0 Z 188 [(0, va_rf (some a0)), (2, .int x1)] [.int x8, va_rf (some a0)] st cb sb := by
          clear hvc
          intro x8 hvc
          replace hvc := hK28 _ hvc
          obtain ⟨⟨fs, hr⟩, hvc⟩ := hvc
          refine j_callV (As := [.int x8]) (rest := []) (n := 1) (ci := 16) hC hvc (lw_V q2232 q2234 qs20 q60 q2235) (by decide +kernel) (g_rm hR rfl rfl) rfl hr rfl rfl (g_sum rfl) dX2_near_188 (Nat.zero_le _) (Nat.zero_le _) (g_Ki fun x11 st12 hv2 hx => ?_)
          replace hvc := hv2 hx; clear hx hv2
          clear hr fs
          refine j_if_eq (tgt := 196) hC dX2_near_191 rfl (fun c13 => ?_) (fun c13 => ?_)
          · replace hvc := hvc.1 c13
            refine j_aload_n hC dX2_near_196 rfl 0 rfl ?_
            refine j_iload_n hC dX2_near_197 rfl 1 rfl ?_
            obtain ⟨⟨fs, hr⟩, hvc⟩ := hvc
            refine j_callV (As := [.int x1]) (rest := []) (n := 1) (ci := 16) hC hvc (lw_V q2324 q2326 qs29 q60 q2327) (by decide +kernel) (g_rm hR rfl rfl) rfl hr rfl rfl (g_sum rfl) dX2_near_198 (Nat.zero_le _) (Nat.zero_le _) (g_Kv fun st14 hv2 hx => ?_)
            replace hvc := hv2 hx; clear hx hv2
            clear hr fs
            refine j_aload_n hC dX2_near_201 rfl 0 rfl ?_
            obtain ⟨o15, ⟨fs, hr, hv⟩, hvc⟩ := hvc
            refine j_get hC fkX2_30_X2 dX2_near_202 hr hv ?_
            clear hv hr fs
            refine j_iload_n hC dX2_near_205 rfl 1 rfl ?_
            obtain ⟨a16, rfl, hvc⟩ := hvc
            obtain ⟨n17, f18, j19, hr, hi, hj, hJ, hvc⟩ := hvc
            refine j_ix hi ?_
            refine j_iald hC hr hj hJ dX2_near_206 ?_
            clear hr hi hj hJ
            exact hret _ _ _ _ _ _ dX2_near_207 rfl hvc
          · replace hvc := hvc.2 c13
            refine j_iconst hC (nI 0) dX2_near_194 rfl ?_
            exact hret _ _ _ _ _ _ dX2_near_195 rfl hvc
        replace hvc := g_jn0_o hvc
        obtain ⟨K20, hK27, hvc⟩ := hvc
        have kh21 : K20 → g_J p l e R s m args below meth c 7 E st0 Z 179 [(0, va_rf (some a0)), (2, .int x1)] [va_rf (some a0)] st cb sb := by
          clear hvc
          intro hvc
          replace hvc := hK27 hvc
          refine j_iload_n hC dX2_near_179 rfl 1 rfl ?_
          refine j_if_ge (tgt := 187) hC dX2_near_180 rfl (fun c22 => ?_) (fun c22 => ?_)
          · replace hvc := hvc.1 c22
            refine j_iconst hC (nI 0) dX2_near_187 rfl ?_
            exact j_sub [0, 1] rfl (kh10 (nI 0) hvc)
          · replace hvc := hvc.2 c22
            refine j_iconst hC (nI 2) dX2_near_183 rfl ?_
            refine j_goto (tgt := 188) hC dX2_near_184 rfl ?_
            exact j_sub [0, 1] rfl (kh10 (nI 2) hvc)
        refine j_icmp_eq (tgt := 179) hC dX2_near_154 rfl (fun c23 => ?_) (fun c23 => ?_)
        · replace hvc := hvc.1 c23
          exact j_sub [0, 2] rfl (kh21 hvc)
        · replace hvc := hvc.2 c23
          refine j_iload_n hC dX2_near_157 rfl 1 rfl ?_
          refine j_bipush hC (nI 99) dX2_near_158 rfl ?_
          refine j_icmp_eq (tgt := 179) hC dX2_near_160 rfl (fun c24 => ?_) (fun c24 => ?_)
          · replace hvc := hvc.1 c24
            exact j_sub [0, 2] rfl (kh21 hvc)
          · replace hvc := hvc.2 c24
            refine j_iload_n hC dX2_near_163 rfl 1 rfl ?_
            refine j_bipush hC (nI 108) dX2_near_164 rfl ?_
            refine j_icmp_eq (tgt := 179) hC dX2_near_166 rfl (fun c25 => ?_) (fun c25 => ?_)
            · replace hvc := hvc.1 c25
              exact j_sub [0, 2] rfl (kh21 hvc)
            · replace hvc := hvc.2 c25
              refine j_iload_n hC dX2_near_169 rfl 1 rfl ?_
              refine j_bipush hC (nI 104) dX2_near_170 rfl ?_
              refine j_icmp_eq (tgt := 179) hC dX2_near_172 rfl (fun c26 => ?_) (fun c26 => ?_)
              · replace hvc := hvc.1 c26
                exact j_sub [0, 2] rfl (kh21 hvc)
              · replace hvc := hvc.2 c26
                refine j_iconst hC (nI 1) dX2_near_175 rfl ?_
                refine j_goto (tgt := 188) hC dX2_near_176 rfl ?_
                exact j_sub [0, 2] rfl (kh10 (nI 1) hvc)
      · replace hvc := hvc.2 c7
        refine j_aload_n hC dX2_near_12 rfl 0 rfl ?_
        refine j_iload_n hC dX2_near_13 rfl 3 rfl ?_
        obtain ⟨⟨fs, hr⟩, hvc⟩ := hvc
        refine j_callV (As := [.int x2]) (rest := []) (n := 1) (ci := 16) hC hvc (lw_V q2276 q2278 qs22 q60 q2279) (by decide +kernel) (g_rm hR rfl rfl) rfl hr rfl rfl (g_sum rfl) dX2_near_14 (Nat.zero_le _) (Nat.zero_le _) (g_Kip fun x29 hv2 => ?_)
        replace hvc := hv2; clear hv2
        clear hr fs
        refine j_istore (lv0 := [(3, .int x2), (0, va_rf (some a0)), (1, .int p0), (2, .int x1)]) hC dX2_near_17 rfl [3, 0, 1, 2] rfl (g_okS.h rfl rfl rfl) ?_
        refine j_iload_n hC dX2_near_19 rfl 3 rfl ?_
        refine j_bipush hC (nI 102) dX2_near_20 rfl ?_
        replace hvc := g_jn1_o hvc
        obtain ⟨K31, hK63, hvc⟩ := hvc
        have kh32 : ∀ (x30 : Int32), K31 x30 → g_J p l e R s m args below meth c 7 E st0 Z 86 [(0, va_rf (some a0)), (1, .int p0), (2, .int x1), (3, .int x2)] [.int x30] st cb sb := by
          clear hvc
          intro x30 hvc
          replace hvc := hK63 _ hvc
          refine j_istore (lv0 := [(0, va_rf (some a0)), (1, .int p0), (2, .int x1), (3, .int x2)]) hC dX2_near_86 rfl [0, 1, 2, 3] rfl (g_okS.n rfl) ?_
          refine j_iload_n hC dX2_near_88 rfl 2 rfl ?_
          refine j_bipush hC (nI 102) dX2_near_89 rfl ?_
          replace hvc := g_jn1_o hvc
          obtain ⟨K34, hK55, hvc⟩ := hvc
          have kh35 : ∀ (x33 : Int32), K34 x33 → g_J p l e R s m args below meth c 7 E st0 Z 105 [(0, va_rf (some a0)), (1, .int p0), (2, .int x1), (3, .int x2), (5, .int x30)] [.int x33] st cb sb := by
            clear hvc
            intro x33 hvc
            replace hvc := hK55 _ hvc
            refine j_istore (lv0 := [(5, .int x30), (0, va_rf (some a0)), (1, .int p0), (2, .int x1), (3, .int x2)]) hC dX2_near_105 rfl [4, 0, 1, 2, 3] rfl (g_okS.h rfl rfl rfl) ?_
            refine j_iload hC dX2_near_107 1 rfl ?_
            replace hvc := g_jn1_o hvc
            obtain ⟨K37, hK49, hvc⟩ := hvc
            have kh38 : ∀ (x36 : Int32), K37 x36 → g_J p l e R s m args below meth c 7 E st0 Z 144 [(0, va_rf (some a0)), (1, .int p0), (2, .int x36), (3, .int x2)] [] st cb sb := by
              clear hvc
              intro x36 hvc
              replace hvc := hK49 _ hvc
              refine j_iinc (lv0 := [(2, .int x36), (0, va_rf (some a0)), (1, .int p0)]) hC (nI 1) dX2_near_144 3 rfl rfl rfl [2, 0, 1] rfl (g_okS.h rfl rfl rfl) ?_
              refine j_goto (tgt := 4) hC dX2_near_147 rfl ?_
              exact j_sub [2, 3, 1, 0] rfl (ih5 x36 (x2 + (nI 1)) hvc)
            refine j_if_eq (tgt := 144) hC dX2_near_109 rfl (fun c39 => ?_) (fun c39 => ?_)
            · replace hvc := hvc.1 c39
              exact j_sub [2, 3, 4, 5] rfl (kh38 x1 hvc)
            · replace hvc := hvc.2 c39
              refine j_iload_n hC dX2_near_112 rfl 4 rfl ?_
              replace hvc := g_jn0_o hvc
              obtain ⟨K40, hK48, hvc⟩ := hvc
              have kh41 : K40 → g_J p l e R s m args below meth c 7 E st0 Z 142 [(0, va_rf (some a0)), (1, .int p0), (3, .int x2)] [] st cb sb := by
                clear hvc
                intro hvc
                replace hvc := hK48 hvc
                refine j_iload_n hC dX2_near_142 rfl 2 rfl ?_
                refine j_istore_n (lv0 := [(1, .int p0), (0, va_rf (some a0)), (3, .int x2)]) hC dX2_near_143 rfl rfl [1, 0, 2] rfl (g_okS.h rfl rfl rfl) ?_
                exact j_sub [2, 1, 0, 3] rfl (kh38 x2 hvc)
              refine j_if_lt (tgt := 142) hC dX2_near_113 rfl (fun c42 => ?_) (fun c42 => ?_)
              · replace hvc := hvc.1 c42
                exact j_sub [2, 3, 5] rfl (kh41 hvc)
              · replace hvc := hvc.2 c42
                refine j_iload hC dX2_near_116 0 rfl ?_
                refine j_if_eq (tgt := 133) hC dX2_near_118 rfl (fun c43 => ?_) (fun c43 => ?_)
                · replace hvc := hvc.1 c43
                  refine j_aload_n hC dX2_near_133 rfl 2 rfl ?_
                  refine j_iload_n hC dX2_near_134 rfl 5 rfl ?_
                  refine j_iload_n hC dX2_near_135 rfl 4 rfl ?_
                  obtain ⟨⟨fs, hr⟩, hvc⟩ := hvc
                  refine j_callV (As := [.int x2, .int x1]) (rest := []) (n := 2) (ci := 16) hC hvc (lw_V q2316 q2318 qs27 q60 q2319) (by decide +kernel) (g_rm hR rfl rfl) rfl hr rfl rfl (g_sum rfl) dX2_near_136 (Nat.zero_le _) (Nat.zero_le _) (g_Kip fun x44 hv2 => ?_)
                  replace hvc := hv2; clear hv2
                  clear hr fs
                  refine j_if_eq (tgt := 144) hC dX2_near_139 rfl (fun c45 => ?_) (fun c45 => ?_)
                  · replace hvc := hvc.1 c45
                    exact j_sub [2, 3, 4, 5] rfl (kh38 x1 hvc)
                  · replace hvc := hvc.2 c45
                    exact j_sub [2, 3, 5] rfl (kh41 hvc)
                · replace hvc := hvc.2 c43
                  refine j_aload_n hC dX2_near_121 rfl 2 rfl ?_
                  refine j_iload_n hC dX2_near_122 rfl 4 rfl ?_
                  refine j_iload_n hC dX2_near_123 rfl 5 rfl ?_
                  obtain ⟨⟨fs, hr⟩, hvc⟩ := hvc
                  refine j_callV (As := [.int x1, .int x2]) (rest := []) (n := 2) (ci := 16) hC hvc (lw_V q2316 q2318 qs27 q60 q2319) (by decide +kernel) (g_rm hR rfl rfl) rfl hr rfl rfl (g_sum rfl) dX2_near_124 (Nat.zero_le _) (Nat.zero_le _) (g_Kip fun x46 hv2 => ?_)
                  replace hvc := hv2; clear hv2
                  clear hr fs
                  refine j_if_eq (tgt := 144) hC dX2_near_127 rfl (fun c47 => ?_) (fun c47 => ?_)
                  · replace hvc := hvc.1 c47
                    exact j_sub [2, 3, 4, 5] rfl (kh38 x1 hvc)
                  · replace hvc := hvc.2 c47
                    refine j_goto (tgt := 142) hC dX2_near_130 rfl ?_
                    exact j_sub [2, 3, 5] rfl (kh41 hvc)
          replace hvc := g_jn0_o hvc
          obtain ⟨K50, hK54, hvc⟩ := hvc
          have kh51 : K50 → g_J p l e R s m args below meth c 7 E st0 Z 100 [(0, va_rf (some a0)), (1, .int p0), (2, .int x1), (3, .int x2), (5, .int x30)] [] st cb sb := by
            clear hvc
            intro hvc
            replace hvc := hK54 hvc
            refine j_iconst hC (nI 1) dX2_near_100 rfl ?_
            refine j_goto (tgt := 105) hC dX2_near_101 rfl ?_
            exact j_sub [0, 1, 2, 3, 4] rfl (kh35 (nI 1) hvc)
          refine j_icmp_eq (tgt := 100) hC dX2_near_91 rfl (fun c52 => ?_) (fun c52 => ?_)
          · replace hvc := hvc.1 c52
            exact j_sub [1, 2, 3, 4, 0] rfl (kh51 hvc)
          · replace hvc := hvc.2 c52
            refine j_iload_n hC dX2_near_94 rfl 2 rfl ?_
            refine j_bipush hC (nI 108) dX2_near_95 rfl ?_
            refine j_icmp_ne (tgt := 104) hC dX2_near_97 rfl (fun c53 => ?_) (fun c53 => ?_)
            · replace hvc := hvc.1 c53
              refine j_iconst hC (nI 0) dX2_near_104 rfl ?_
              exact j_sub [1, 2, 3, 4, 0] rfl (kh35 (nI 0) hvc)
            · replace hvc := hvc.2 c53
              exact j_sub [1, 2, 3, 4, 0] rfl (kh51 hvc)
        refine j_icmp_ne (tgt := 38) hC dX2_near_22 rfl (fun c56 => ?_) (fun c56 => ?_)
        · replace hvc := hvc.1 c56
          refine j_iload_n hC dX2_near_38 rfl 3 rfl ?_
          refine j_bipush hC (nI 99) dX2_near_39 rfl ?_
          refine j_icmp_ne (tgt := 57) hC dX2_near_41 rfl (fun c57 => ?_) (fun c57 => ?_)
          · replace hvc := hvc.1 c57
            refine j_iload_n hC dX2_near_57 rfl 3 rfl ?_
            refine j_bipush hC (nI 108) dX2_near_58 rfl ?_
            refine j_icmp_ne (tgt := 76) hC dX2_near_60 rfl (fun c58 => ?_) (fun c58 => ?_)
            · replace hvc := hvc.1 c58
              refine j_iload hC dX2_near_76 0 rfl ?_
              refine j_if_le (tgt := 85) hC dX2_near_78 rfl (fun c59 => ?_) (fun c59 => ?_)
              · replace hvc := hvc.1 c59
                refine j_iconst hC (nI 0) dX2_near_85 rfl ?_
                exact j_sub [2, 3, 4, 1] rfl (kh32 (nI 0) hvc)
              · replace hvc := hvc.2 c59
                refine j_iconst hC (nI 1) dX2_near_81 rfl ?_
                refine j_goto (tgt := 86) hC dX2_near_82 rfl ?_
                exact j_sub [2, 3, 4, 1] rfl (kh32 (nI 1) hvc)
            · replace hvc := hvc.2 c58
              refine j_iload hC dX2_near_63 0 rfl ?_
              refine j_if_ge (tgt := 72) hC dX2_near_65 rfl (fun c60 => ?_) (fun c60 => ?_)
              · replace hvc := hvc.1 c60
                refine j_iconst hC (nI 0) dX2_near_72 rfl ?_
                refine j_goto (tgt := 86) hC dX2_near_73 rfl ?_
                exact j_sub [2, 3, 4, 1] rfl (kh32 (nI 0) hvc)
              · replace hvc := hvc.2 c60
                refine j_iconst hC (nI 1) dX2_near_68 rfl ?_
                refine j_goto (tgt := 86) hC dX2_near_69 rfl ?_
                exact j_sub [2, 3, 4, 1] rfl (kh32 (nI 1) hvc)
          · replace hvc := hvc.2 c57
            refine j_iload hC dX2_near_44 0 rfl ?_
            refine j_if_lt (tgt := 53) hC dX2_near_46 rfl (fun c61 => ?_) (fun c61 => ?_)
            · replace hvc := hvc.1 c61
              refine j_iconst hC (nI 0) dX2_near_53 rfl ?_
              refine j_goto (tgt := 86) hC dX2_near_54 rfl ?_
              exact j_sub [2, 3, 4, 1] rfl (kh32 (nI 0) hvc)
            · replace hvc := hvc.2 c61
              refine j_iconst hC (nI 1) dX2_near_49 rfl ?_
              refine j_goto (tgt := 86) hC dX2_near_50 rfl ?_
              exact j_sub [2, 3, 4, 1] rfl (kh32 (nI 1) hvc)
        · replace hvc := hvc.2 c56
          refine j_iload hC dX2_near_25 0 rfl ?_
          refine j_if_gt (tgt := 34) hC dX2_near_27 rfl (fun c62 => ?_) (fun c62 => ?_)
          · replace hvc := hvc.1 c62
            refine j_iconst hC (nI 0) dX2_near_34 rfl ?_
            refine j_goto (tgt := 86) hC dX2_near_35 rfl ?_
            exact j_sub [2, 3, 4, 1] rfl (kh32 (nI 0) hvc)
          · replace hvc := hvc.2 c62
            refine j_iconst hC (nI 1) dX2_near_30 rfl ?_
            refine j_goto (tgt := 86) hC dX2_near_31 rfl ?_
            exact j_sub [2, 3, 4, 1] rfl (kh32 (nI 1) hvc)
  exact j_sub [3, 2, 1, 0] rfl (kh4 n66 (-1) (nI 0) hvc)
theorem wk_X2_near {l : Launch} {E : g_E} {a0 : Nat} {p0 : Int32} {st : g_St} {mc ms : Nat} {Q : Int32 → g_St → Prop} (hvc : vc_X2_near l E a0 p0 st Q) : wp_X2_near l E mc ms [va_rf (some a0), .int p0] st Q :=
  g_enter (lv0 := [(0, va_rf (some a0)), (1, .int p0)]) (plainFor_of_name (by decide +kernel)) (by simp [lv_args, g_c1, g_ci, g_cL]) (by simp [lg_sl, g_c1, g_ci, g_cL]) (fun p e s m args below meth c hC => wb_X2_near hC ⟨Nat.le_refl _, Nat.le_refl _⟩ (fun pc lv v st1 cb sb hd hn hq => j_ireturn hC rfl hn hd (g_iv hq)) hvc)
abbrev wp_X2_isBegun (l : Launch) (E : g_E) (mc ms : Nat) (av : List Value) (st : g_St) (Q : Int32 → g_St → Prop) : Prop := g_WPi l E yX2_isBegun cX2_isBegun 2 (some .boolean) 2 63 mc ms av st Q
def vc_X2_isBegun (l : Launch) (E : g_E) (a0 : Nat) (p0 : Int32) (st : g_St) (Q : Int32 → g_St → Prop) : Prop :=
  g_is st a0 16 ∧ wp_X2_like l E 0 0 [va_rf (some a0), .int p0, .int (nI 0)] st (fun x1 stx => stx = st ∧ ∃ x2 : Int32, g_gi st a0 16 8 x2 ∧ g_jn1 (fun (K4 : Int32 → Prop) => (¬ x1 = x2 → K4 (nI 0)) ∧ (x1 = x2 → K4 (nI 1))) (fun (x3 : Int32) => narrow .boolean (.int x3) = .int x3 ∧ Q x3 st))
set_option maxHeartbeats 4000000 in
theorem wb_X2_isBegun {p : Program} {l : Launch} {e : Env} {R : Room} {s : State} {m : MethodId} {args : Array Value} {below : List Frame} {meth : Method} {c : Code} {E : g_E} {st0 : g_St} {Z : State → Prop} (hC : g_Cx p s m args meth c cX2_isBegun 2 "StemspanModel" (some .boolean) "isBegun" E st0) (hR : g_Rm 2 63 R) {a0 : Nat} {p0 : Int32} {st : g_St} {cb sb : Nat} {Q : Int32 → g_St → Prop} (hret : ∀ (pc : Nat) (lv : List (Nat × Value)) (v : Int32) (st1 : g_St) (cb sb : Nat), decode cX2_isBegun pc = .ok (.ireturn, 1) → narrow .boolean (.int v) = .int v → Q v st1 → g_J p l e R s m args below meth c 2 E st0 Z pc lv [.int v] st1 cb sb) (hvc : vc_X2_isBegun l E a0 p0 st Q) : g_J p l e R s m args below meth c 2 E st0 Z 0 [(0, va_rf (some a0)), (1, .int p0)] [] st cb sb := by
  unfold vc_X2_isBegun at hvc
  refine j_aload_n hC dX2_isBegun_0 rfl 0 rfl ?_
  refine j_iload_n hC dX2_isBegun_1 rfl 1 rfl ?_
  refine j_iconst hC (nI 0) dX2_isBegun_2 rfl ?_
  obtain ⟨⟨fs, hr⟩, hvc⟩ := hvc
  refine j_callV (As := [.int p0, .int (nI 0)]) (rest := []) (n := 2) (ci := 16) hC hvc (lw_V q2280 q2282 qs23 q60 q2283) (by decide +kernel) (g_rm hR rfl rfl) rfl hr rfl rfl (g_sum rfl) dX2_isBegun_3 (Nat.zero_le _) (Nat.zero_le _) (g_Kip fun x1 hv2 => ?_)
  replace hvc := hv2; clear hv2
  clear hr fs
  refine j_aload_n hC dX2_isBegun_6 rfl 0 rfl ?_
  obtain ⟨x2, ⟨fs, hr, hv⟩, hvc⟩ := hvc
  refine j_get hC fkX2_49_X2 dX2_isBegun_7 hr hv ?_
  clear hv hr fs
  replace hvc := g_jn1_o hvc
  obtain ⟨K4, hK7, hvc⟩ := hvc
  have kh5 : ∀ (x3 : Int32), K4 x3 → g_J p l e R s m args below meth c 2 E st0 Z 18 [] [.int x3] st cb sb := by
    clear hvc
    intro x3 hvc
    replace hvc := hK7 _ hvc
    exact hret _ _ _ _ _ _ dX2_isBegun_18 hvc.1 hvc.2
  refine j_icmp_ne (tgt := 17) hC dX2_isBegun_10 rfl (fun c6 => ?_) (fun c6 => ?_)
  · replace hvc := hvc.1 c6
    refine j_iconst hC (nI 0) dX2_isBegun_17 rfl ?_
    exact j_sub [] rfl (kh5 (nI 0) hvc)
  · replace hvc := hvc.2 c6
    refine j_iconst hC (nI 1) dX2_isBegun_13 rfl ?_
    refine j_goto (tgt := 18) hC dX2_isBegun_14 rfl ?_
    exact j_sub [] rfl (kh5 (nI 1) hvc)
theorem wk_X2_isBegun {l : Launch} {E : g_E} {a0 : Nat} {p0 : Int32} {st : g_St} {mc ms : Nat} {Q : Int32 → g_St → Prop} (hvc : vc_X2_isBegun l E a0 p0 st Q) : wp_X2_isBegun l E mc ms [va_rf (some a0), .int p0] st Q :=
  g_enter (lv0 := [(0, va_rf (some a0)), (1, .int p0)]) (plainFor_of_name (by decide +kernel)) (by simp [lv_args, g_c1, g_ci, g_cL]) (by simp [lg_sl, g_c1, g_ci, g_cL]) (fun p e s m args below meth c hC => wb_X2_isBegun hC ⟨Nat.le_refl _, Nat.le_refl _⟩ (fun pc lv v st1 cb sb hd hn hq => j_ireturn hC rfl hn hd (g_iv hq)) hvc)
abbrev wp_X2_begun (l : Launch) (E : g_E) (mc ms : Nat) (av : List Value) (st : g_St) (Q : Int32 → g_St → Prop) : Prop := g_WPi l E yX2_begun cX2_begun 3 (some .int) 3 84 mc ms av st Q
def vc_X2_begun (l : Launch) (E : g_E) (a0 : Nat) (st : g_St) (Q : Int32 → g_St → Prop) : Prop :=
  ∃ fs1 : List Value, st.2.1 a0 = some (.inr (16, fs1)) ∧ ∀ st2 : g_St, st2 = g_put st a0 (.inr (16, fs1.set 0 (.int (nI 0)))) → g_lp2 (fun (K5 : Int32 → Int32 → Prop) (x3 : Int32) (x4 : Int32) => ∃ x8 : Int32, g_gi st2 a0 16 9 x8 ∧ (x8 ≤ x4 → Q x3 st2) ∧ (¬ x8 ≤ x4 → g_is st2 a0 16 ∧ wp_X2_isBegun l E 0 0 [va_rf (some a0), .int x4] st2 (fun x10 stx => stx = st2 ∧ g_jn1 (fun (K12 : Int32 → Prop) => (x10 = 0 → K12 x3) ∧ (¬ x10 = 0 → K12 (x3 + (nI 1)))) (fun (x11 : Int32) => K5 x11 (x4 + (nI 1)))))) (nI 0) (nI 0)
set_option maxHeartbeats 4000000 in
theorem wb_X2_begun {p : Program} {l : Launch} {e : Env} {R : Room} {s : State} {m : MethodId} {args : Array Value} {below : List Frame} {meth : Method} {c : Code} {E : g_E} {st0 : g_St} {Z : State → Prop} (hC : g_Cx p s m args meth c cX2_begun 3 "StemspanModel" (some .int) "begun" E st0) (hR : g_Rm 3 84 R) {a0 : Nat} {st : g_St} {cb sb : Nat} {Q : Int32 → g_St → Prop} (hret : ∀ (pc : Nat) (lv : List (Nat × Value)) (v : Int32) (st1 : g_St) (cb sb : Nat), decode cX2_begun pc = .ok (.ireturn, 1) → narrow .int (.int v) = .int v → Q v st1 → g_J p l e R s m args below meth c 3 E st0 Z pc lv [.int v] st1 cb sb) (hvc : vc_X2_begun l E a0 st Q) : g_J p l e R s m args below meth c 3 E st0 Z 0 [(0, va_rf (some a0))] [] st cb sb := by
  unfold vc_X2_begun at hvc
  refine j_aload_n hC dX2_begun_0 rfl 0 rfl ?_
  refine j_iconst hC (nI 0) dX2_begun_1 rfl ?_
  obtain ⟨fs1, hm, hvc⟩ := hvc
  refine j_put hC fkX2_1_X2 dX2_begun_2 hm rfl rfl (fun st2 e1 => ?_)
  replace hvc := hvc st2 e1; clear hm e1
  refine j_iconst hC (nI 0) dX2_begun_5 rfl ?_
  refine j_istore_n (lv0 := [(0, va_rf (some a0))]) hC dX2_begun_6 rfl rfl [0] rfl (g_okS.h rfl g_c1 rfl) ?_
  refine j_iconst hC (nI 0) dX2_begun_7 rfl ?_
  refine j_istore_n (lv0 := [(1, .int (nI 0)), (0, va_rf (some a0))]) hC dX2_begun_8 rfl rfl [0, 1] rfl (g_okS.h rfl rfl rfl) ?_
  replace hvc := g_lp2_o hvc
  obtain ⟨K5, hz16, hs17, n18, hvc⟩ := hvc
  have kh6 : ∀ (n : Nat) (x3 : Int32) (x4 : Int32), K5 n x3 x4 → g_J p l e R s m args below meth c 3 E st0 Z 9 [(0, va_rf (some a0)), (1, .int x3), (2, .int x4)] [] st2 cb sb := by
    clear hvc
    intro n
    induction n with
    | zero => intro x3 x4 hvc; exact absurd hvc (hz16 _ _)
    | succ n ih7 =>
      intro x3 x4 hvc
      replace hvc := hs17 n _ _ hvc
      refine j_iload_n hC dX2_begun_9 rfl 2 rfl ?_
      refine j_aload_n hC dX2_begun_10 rfl 0 rfl ?_
      obtain ⟨x8, ⟨fs, hr, hv⟩, hvc⟩ := hvc
      refine j_get hC fkX2_59_X2 dX2_begun_11 hr hv ?_
      clear hv hr fs
      refine j_icmp_ge (tgt := 34) hC dX2_begun_14 rfl (fun c9 => ?_) (fun c9 => ?_)
      · replace hvc := hvc.1 c9
        refine j_iload_n hC dX2_begun_34 rfl 1 rfl ?_
        exact hret _ _ _ _ _ _ dX2_begun_35 rfl hvc
      · replace hvc := hvc.2 c9
        refine j_aload_n hC dX2_begun_17 rfl 0 rfl ?_
        refine j_iload_n hC dX2_begun_18 rfl 2 rfl ?_
        obtain ⟨⟨fs, hr⟩, hvc⟩ := hvc
        refine j_callV (As := [.int x4]) (rest := []) (n := 1) (ci := 16) hC hvc (lw_V q2336 q2338 qs30 q60 q2339) (by decide +kernel) (g_rm hR rfl rfl) rfl hr rfl rfl (g_sum rfl) dX2_begun_19 (Nat.zero_le _) (Nat.zero_le _) (g_Kip fun x10 hv2 => ?_)
        replace hvc := hv2; clear hv2
        clear hr fs
        replace hvc := g_jn1_o hvc
        obtain ⟨K12, hK15, hvc⟩ := hvc
        have kh13 : ∀ (x11 : Int32), K12 x11 → g_J p l e R s m args below meth c 3 E st0 Z 28 [(0, va_rf (some a0)), (1, .int x11), (2, .int x4)] [] st2 cb sb := by
          clear hvc
          intro x11 hvc
          replace hvc := hK15 _ hvc
          refine j_iinc (lv0 := [(1, .int x11), (0, va_rf (some a0))]) hC (nI 1) dX2_begun_28 2 rfl rfl rfl [1, 0] rfl (g_okS.h rfl rfl rfl) ?_
          refine j_goto (tgt := 9) hC dX2_begun_31 rfl ?_
          exact j_sub [2, 1, 0] rfl (ih7 x11 (x4 + (nI 1)) hvc)
        refine j_if_eq (tgt := 28) hC dX2_begun_22 rfl (fun c14 => ?_) (fun c14 => ?_)
        · replace hvc := hvc.1 c14
          exact j_sub [0, 1, 2] rfl (kh13 x3 hvc)
        · replace hvc := hvc.2 c14
          refine j_iinc (lv0 := [(0, va_rf (some a0)), (2, .int x4)]) hC (nI 1) dX2_begun_25 1 rfl rfl rfl [0, 2] rfl (g_okS.h rfl g_c1 rfl) ?_
          exact j_sub [1, 0, 2] rfl (kh13 (x3 + (nI 1)) hvc)
  exact j_sub [2, 1, 0] rfl (kh6 n18 (nI 0) (nI 0) hvc)
theorem wk_X2_begun {l : Launch} {E : g_E} {a0 : Nat} {st : g_St} {mc ms : Nat} {Q : Int32 → g_St → Prop} (hvc : vc_X2_begun l E a0 st Q) : wp_X2_begun l E mc ms [va_rf (some a0)] st Q :=
  g_enter (lv0 := [(0, va_rf (some a0))]) (plainFor_of_name (by decide +kernel)) (by simp [lv_args, g_c1, g_ci, g_cL]) (by simp [lg_sl, g_c1, g_ci, g_cL]) (fun p e s m args below meth c hC => wb_X2_begun hC ⟨Nat.le_refl _, Nat.le_refl _⟩ (fun pc lv v st1 cb sb hd hn hq => j_ireturn hC rfl hn hd (g_iv hq)) hvc)
abbrev wp_X2_begunAt (l : Launch) (E : g_E) (mc ms : Nat) (av : List Value) (st : g_St) (Q : Int32 → g_St → Prop) : Prop := g_WPi l E yX2_begunAt cX2_begunAt 6 (some .int) 3 86 mc ms av st Q
def vc_X2_begunAt (l : Launch) (E : g_E) (a0 : Nat) (p0 : Int32) (st : g_St) (Q : Int32 → g_St → Prop) : Prop :=
  g_lp2 (fun (K3 : Int32 → Int32 → Prop) (x1 : Int32) (x2 : Int32) => ∃ x6 : Int32, g_gi st a0 16 9 x6 ∧ (x6 ≤ x2 → g_jn1 (fun (K9 : Int32 → Prop) => (0 ≤ x1 → K9 (nI 0)) ∧ (¬ 0 ≤ x1 → K9 (nI 1))) (fun (x8 : Int32) => g_is st a0 16 ∧ wp_X2_fails l E 0 0 [va_rf (some a0), .int x8] st (fun x11 st12 => g_Ext st st12 → (x11 = 0 → g_is st12 a0 16 ∧ wp_X2_becomes l E 0 0 [va_rf (some a0), .int x1] st12 (fun st14 => g_Ext st12 st14 → ∃ o15 : Option Nat, g_gr st14 a0 16 6 o15 ∧ ∃ a16 : Nat, o15 = some a16 ∧ ∃ (n17 : Nat) (f18 : Nat → Int32) (j19 : Nat), g_ai st14 a16 0 n17 f18 ∧ x1 = nI j19 ∧ j19 < n17 ∧ j19 < 2 ^ 31 ∧ Q (f18 j19) st14)) ∧ (¬ x11 = 0 → Q (nI 0) st12)))) ∧ (¬ x6 ≤ x2 → g_lp2 (fun (K24 : Int32 → Int32 → Prop) (x22 : Int32) (x23 : Int32) => ∃ x27 : Int32, g_gi st a0 16 9 x27 ∧ (x27 ≤ x23 → g_is st a0 16 ∧ wp_X2_isBegun l E 0 0 [va_rf (some a0), .int x2] st (fun x29 stx => stx = st ∧ g_jn1 (fun (K31 : Int32 → Prop) => (x29 = 0 → K31 x1) ∧ (¬ x29 = 0 → (¬ x22 = p0 → K31 x1) ∧ (x22 = p0 → K31 x2))) (fun (x30 : Int32) => K3 x30 (x2 + (nI 1))))) ∧ (¬ x27 ≤ x23 → g_is st a0 16 ∧ wp_X2_isBegun l E 0 0 [va_rf (some a0), .int x23] st (fun x36 stx => stx = st ∧ g_jn1 (fun (K38 : Int32 → Prop) => (x36 = 0 → K38 x22) ∧ (¬ x36 = 0 → g_is st a0 16 ∧ wp_X2_isLess l E 0 0 [va_rf (some a0), .int x23, .int x2] st (fun x41 stx => stx = st ∧ (x41 = 0 → K38 x22) ∧ (¬ x41 = 0 → K38 (x22 + (nI 1)))))) (fun (x37 : Int32) => K24 x37 (x23 + (nI 1)))))) (nI 0) (nI 0))) (-1) (nI 0)
set_option maxHeartbeats 4000000 in
theorem wb_X2_begunAt {p : Program} {l : Launch} {e : Env} {R : Room} {s : State} {m : MethodId} {args : Array Value} {below : List Frame} {meth : Method} {c : Code} {E : g_E} {st0 : g_St} {Z : State → Prop} (hC : g_Cx p s m args meth c cX2_begunAt 6 "StemspanModel" (some .int) "begunAt" E st0) (hR : g_Rm 3 86 R) {a0 : Nat} {p0 : Int32} {st : g_St} {cb sb : Nat} {Q : Int32 → g_St → Prop} (hret : ∀ (pc : Nat) (lv : List (Nat × Value)) (v : Int32) (st1 : g_St) (cb sb : Nat), decode cX2_begunAt pc = .ok (.ireturn, 1) → narrow .int (.int v) = .int v → Q v st1 → g_J p l e R s m args below meth c 6 E st0 Z pc lv [.int v] st1 cb sb) (hvc : vc_X2_begunAt l E a0 p0 st Q) : g_J p l e R s m args below meth c 6 E st0 Z 0 [(0, va_rf (some a0)), (1, .int p0)] [] st cb sb := by
  unfold vc_X2_begunAt at hvc
  refine j_iconst hC (-1) dX2_begunAt_0 rfl ?_
  refine j_istore_n (lv0 := [(1, .int p0), (0, va_rf (some a0))]) hC dX2_begunAt_1 rfl rfl [1, 0] rfl (g_okS.h rfl rfl rfl) ?_
  refine j_iconst hC (nI 0) dX2_begunAt_2 rfl ?_
  refine j_istore_n (lv0 := [(2, .int (-1)), (1, .int p0), (0, va_rf (some a0))]) hC dX2_begunAt_3 rfl rfl [0, 1, 2] rfl (g_okS.h rfl rfl rfl) ?_
  replace hvc := g_lp2_o hvc
  obtain ⟨K3, hz47, hs48, n49, hvc⟩ := hvc
  have kh4 : ∀ (n : Nat) (x1 : Int32) (x2 : Int32), K3 n x1 x2 → g_J p l e R s m args below meth c 6 E st0 Z 4 [(0, va_rf (some a0)), (1, .int p0), (2, .int x1), (3, .int x2)] [] st cb sb := by
    clear hvc
    intro n
    induction n with
    | zero => intro x1 x2 hvc; exact absurd hvc (hz47 _ _)
    | succ n ih5 =>
      intro x1 x2 hvc
      replace hvc := hs48 n _ _ hvc
      refine j_iload_n hC dX2_begunAt_4 rfl 3 rfl ?_
      refine j_aload_n hC dX2_begunAt_5 rfl 0 rfl ?_
      obtain ⟨x6, ⟨fs, hr, hv⟩, hvc⟩ := hvc
      refine j_get hC fkX2_59_X2 dX2_begunAt_6 hr hv ?_
      clear hv hr fs
      refine j_icmp_ge (tgt := 77) hC dX2_begunAt_9 rfl (fun c7 => ?_) (fun c7 => ?_)
      · replace hvc := hvc.1 c7
        refine j_aload_n hC dX2_begunAt_77 rfl 0 rfl ?_
        refine j_iload_n hC dX2_begunAt_78 rfl 2 rfl ?_
        replace hvc := g_jn1_o hvc
        obtain ⟨K9, hK21, hvc⟩ := hvc
        have kh10 : ∀ (x8 : Int32), K9 x8 → g_J p l e R s m args below meth c 6 E st0 Z 87 [(0, va_rf (some a0)), (2, .int x1)] [.int x8, va_rf (some a0)] st cb sb := by
          clear hvc
          intro x8 hvc
          replace hvc := hK21 _ hvc
          obtain ⟨⟨fs, hr⟩, hvc⟩ := hvc
          refine j_callV (As := [.int x8]) (rest := []) (n := 1) (ci := 16) hC hvc (lw_V q2232 q2234 qs20 q60 q2235) (by decide +kernel) (g_rm hR rfl rfl) rfl hr rfl rfl (g_sum rfl) dX2_begunAt_87 (Nat.zero_le _) (Nat.zero_le _) (g_Ki fun x11 st12 hv2 hx => ?_)
          replace hvc := hv2 hx; clear hx hv2
          clear hr fs
          refine j_if_eq (tgt := 95) hC dX2_begunAt_90 rfl (fun c13 => ?_) (fun c13 => ?_)
          · replace hvc := hvc.1 c13
            refine j_aload_n hC dX2_begunAt_95 rfl 0 rfl ?_
            refine j_iload_n hC dX2_begunAt_96 rfl 1 rfl ?_
            obtain ⟨⟨fs, hr⟩, hvc⟩ := hvc
            refine j_callV (As := [.int x1]) (rest := []) (n := 1) (ci := 16) hC hvc (lw_V q2324 q2326 qs29 q60 q2327) (by decide +kernel) (g_rm hR rfl rfl) rfl hr rfl rfl (g_sum rfl) dX2_begunAt_97 (Nat.zero_le _) (Nat.zero_le _) (g_Kv fun st14 hv2 hx => ?_)
            replace hvc := hv2 hx; clear hx hv2
            clear hr fs
            refine j_aload_n hC dX2_begunAt_100 rfl 0 rfl ?_
            obtain ⟨o15, ⟨fs, hr, hv⟩, hvc⟩ := hvc
            refine j_get hC fkX2_30_X2 dX2_begunAt_101 hr hv ?_
            clear hv hr fs
            refine j_iload_n hC dX2_begunAt_104 rfl 1 rfl ?_
            obtain ⟨a16, rfl, hvc⟩ := hvc
            obtain ⟨n17, f18, j19, hr, hi, hj, hJ, hvc⟩ := hvc
            refine j_ix hi ?_
            refine j_iald hC hr hj hJ dX2_begunAt_105 ?_
            clear hr hi hj hJ
            exact hret _ _ _ _ _ _ dX2_begunAt_106 rfl hvc
          · replace hvc := hvc.2 c13
            refine j_iconst hC (nI 0) dX2_begunAt_93 rfl ?_
            exact hret _ _ _ _ _ _ dX2_begunAt_94 rfl hvc
        refine j_if_ge (tgt := 86) hC dX2_begunAt_79 rfl (fun c20 => ?_) (fun c20 => ?_)
        · replace hvc := hvc.1 c20
          refine j_iconst hC (nI 0) dX2_begunAt_86 rfl ?_
          exact j_sub [0, 2] rfl (kh10 (nI 0) hvc)
        · replace hvc := hvc.2 c20
          refine j_iconst hC (nI 1) dX2_begunAt_82 rfl ?_
          refine j_goto (tgt := 87) hC dX2_begunAt_83 rfl ?_
          exact j_sub [0, 2] rfl (kh10 (nI 1) hvc)
      · replace hvc := hvc.2 c7
        refine j_iconst hC (nI 0) dX2_begunAt_12 rfl ?_
        refine j_istore (lv0 := [(3, .int x2), (0, va_rf (some a0)), (1, .int p0), (2, .int x1)]) hC dX2_begunAt_13 rfl [3, 0, 1, 2] rfl (g_okS.h rfl rfl rfl) ?_
        refine j_iconst hC (nI 0) dX2_begunAt_15 rfl ?_
        refine j_istore (lv0 := [(4, .int (nI 0)), (3, .int x2), (0, va_rf (some a0)), (1, .int p0), (2, .int x1)]) hC dX2_begunAt_16 rfl [0, 1, 2, 3, 4] rfl (g_okS.h rfl rfl rfl) ?_
        replace hvc := g_lp2_o hvc
        obtain ⟨K24, hz44, hs45, n46, hvc⟩ := hvc
        have kh25 : ∀ (n : Nat) (x22 : Int32) (x23 : Int32), K24 n x22 x23 → g_J p l e R s m args below meth c 6 E st0 Z 18 [(0, va_rf (some a0)), (1, .int p0), (2, .int x1), (3, .int x2), (4, .int x22), (5, .int x23)] [] st cb sb := by
          clear hvc
          intro n
          induction n with
          | zero => intro x22 x23 hvc; exact absurd hvc (hz44 _ _)
          | succ n ih26 =>
            intro x22 x23 hvc
            replace hvc := hs45 n _ _ hvc
            refine j_iload hC dX2_begunAt_18 5 rfl ?_
            refine j_aload_n hC dX2_begunAt_20 rfl 0 rfl ?_
            obtain ⟨x27, ⟨fs, hr, hv⟩, hvc⟩ := hvc
            refine j_get hC fkX2_59_X2 dX2_begunAt_21 hr hv ?_
            clear hv hr fs
            refine j_icmp_ge (tgt := 55) hC dX2_begunAt_24 rfl (fun c28 => ?_) (fun c28 => ?_)
            · replace hvc := hvc.1 c28
              refine j_aload_n hC dX2_begunAt_55 rfl 0 rfl ?_
              refine j_iload_n hC dX2_begunAt_56 rfl 3 rfl ?_
              obtain ⟨⟨fs, hr⟩, hvc⟩ := hvc
              refine j_callV (As := [.int x2]) (rest := []) (n := 1) (ci := 16) hC hvc (lw_V q2336 q2338 qs30 q60 q2339) (by decide +kernel) (g_rm hR rfl rfl) rfl hr rfl rfl (g_sum rfl) dX2_begunAt_57 (Nat.zero_le _) (Nat.zero_le _) (g_Kip fun x29 hv2 => ?_)
              replace hvc := hv2; clear hv2
              clear hr fs
              replace hvc := g_jn1_o hvc
              obtain ⟨K31, hK35, hvc⟩ := hvc
              have kh32 : ∀ (x30 : Int32), K31 x30 → g_J p l e R s m args below meth c 6 E st0 Z 71 [(0, va_rf (some a0)), (1, .int p0), (2, .int x30), (3, .int x2)] [] st cb sb := by
                clear hvc
                intro x30 hvc
                replace hvc := hK35 _ hvc
                refine j_iinc (lv0 := [(2, .int x30), (0, va_rf (some a0)), (1, .int p0)]) hC (nI 1) dX2_begunAt_71 3 rfl rfl rfl [2, 0, 1] rfl (g_okS.h rfl rfl rfl) ?_
                refine j_goto (tgt := 4) hC dX2_begunAt_74 rfl ?_
                exact j_sub [2, 3, 1, 0] rfl (ih5 x30 (x2 + (nI 1)) hvc)
              refine j_if_eq (tgt := 71) hC dX2_begunAt_60 rfl (fun c33 => ?_) (fun c33 => ?_)
              · replace hvc := hvc.1 c33
                exact j_sub [0, 1, 2, 3] rfl (kh32 x1 hvc)
              · replace hvc := hvc.2 c33
                refine j_iload hC dX2_begunAt_63 4 rfl ?_
                refine j_iload_n hC dX2_begunAt_65 rfl 1 rfl ?_
                refine j_icmp_ne (tgt := 71) hC dX2_begunAt_66 rfl (fun c34 => ?_) (fun c34 => ?_)
                · replace hvc := hvc.1 c34
                  exact j_sub [0, 1, 2, 3] rfl (kh32 x1 hvc)
                · replace hvc := hvc.2 c34
                  refine j_iload_n hC dX2_begunAt_69 rfl 3 rfl ?_
                  refine j_istore_n (lv0 := [(1, .int p0), (0, va_rf (some a0)), (3, .int x2), (4, .int x22), (5, .int x23)]) hC dX2_begunAt_70 rfl rfl [1, 0, 3, 4, 5] rfl (g_okS.h rfl rfl rfl) ?_
                  exact j_sub [2, 1, 0, 3] rfl (kh32 x2 hvc)
            · replace hvc := hvc.2 c28
              refine j_aload_n hC dX2_begunAt_27 rfl 0 rfl ?_
              refine j_iload hC dX2_begunAt_28 5 rfl ?_
              obtain ⟨⟨fs, hr⟩, hvc⟩ := hvc
              refine j_callV (As := [.int x23]) (rest := []) (n := 1) (ci := 16) hC hvc (lw_V q2336 q2338 qs30 q60 q2339) (by decide +kernel) (g_rm hR rfl rfl) rfl hr rfl rfl (g_sum rfl) dX2_begunAt_30 (Nat.zero_le _) (Nat.zero_le _) (g_Kip fun x36 hv2 => ?_)
              replace hvc := hv2; clear hv2
              clear hr fs
              replace hvc := g_jn1_o hvc
              obtain ⟨K38, hK43, hvc⟩ := hvc
              have kh39 : ∀ (x37 : Int32), K38 x37 → g_J p l e R s m args below meth c 6 E st0 Z 49 [(0, va_rf (some a0)), (1, .int p0), (2, .int x1), (3, .int x2), (4, .int x37), (5, .int x23)] [] st cb sb := by
                clear hvc
                intro x37 hvc
                replace hvc := hK43 _ hvc
                refine j_iinc (lv0 := [(4, .int x37), (0, va_rf (some a0)), (1, .int p0), (2, .int x1), (3, .int x2)]) hC (nI 1) dX2_begunAt_49 5 rfl rfl rfl [4, 0, 1, 2, 3] rfl (g_okS.h rfl rfl rfl) ?_
                refine j_goto (tgt := 18) hC dX2_begunAt_52 rfl ?_
                exact j_sub [2, 3, 4, 5, 1, 0] rfl (ih26 x37 (x23 + (nI 1)) hvc)
              refine j_if_eq (tgt := 49) hC dX2_begunAt_33 rfl (fun c40 => ?_) (fun c40 => ?_)
              · replace hvc := hvc.1 c40
                exact j_sub [0, 1, 2, 3, 4, 5] rfl (kh39 x22 hvc)
              · replace hvc := hvc.2 c40
                refine j_aload_n hC dX2_begunAt_36 rfl 0 rfl ?_
                refine j_iload hC dX2_begunAt_37 5 rfl ?_
                refine j_iload_n hC dX2_begunAt_39 rfl 3 rfl ?_
                obtain ⟨⟨fs, hr⟩, hvc⟩ := hvc
                refine j_callV (As := [.int x23, .int x2]) (rest := []) (n := 2) (ci := 16) hC hvc (lw_V q2316 q2318 qs27 q60 q2319) (by decide +kernel) (g_rm hR rfl rfl) rfl hr rfl rfl (g_sum rfl) dX2_begunAt_40 (Nat.zero_le _) (Nat.zero_le _) (g_Kip fun x41 hv2 => ?_)
                replace hvc := hv2; clear hv2
                clear hr fs
                refine j_if_eq (tgt := 49) hC dX2_begunAt_43 rfl (fun c42 => ?_) (fun c42 => ?_)
                · replace hvc := hvc.1 c42
                  exact j_sub [0, 1, 2, 3, 4, 5] rfl (kh39 x22 hvc)
                · replace hvc := hvc.2 c42
                  refine j_iinc (lv0 := [(3, .int x2), (0, va_rf (some a0)), (1, .int p0), (2, .int x1), (5, .int x23)]) hC (nI 1) dX2_begunAt_46 4 rfl rfl rfl [3, 0, 1, 2, 5] rfl (g_okS.h rfl rfl rfl) ?_
                  exact j_sub [2, 3, 4, 1, 0, 5] rfl (kh39 (x22 + (nI 1)) hvc)
        exact j_sub [3, 4, 5, 2, 1, 0] rfl (kh25 n46 (nI 0) (nI 0) hvc)
  exact j_sub [3, 2, 1, 0] rfl (kh4 n49 (-1) (nI 0) hvc)
theorem wk_X2_begunAt {l : Launch} {E : g_E} {a0 : Nat} {p0 : Int32} {st : g_St} {mc ms : Nat} {Q : Int32 → g_St → Prop} (hvc : vc_X2_begunAt l E a0 p0 st Q) : wp_X2_begunAt l E mc ms [va_rf (some a0), .int p0] st Q :=
  g_enter (lv0 := [(0, va_rf (some a0)), (1, .int p0)]) (plainFor_of_name (by decide +kernel)) (by simp [lv_args, g_c1, g_ci, g_cL]) (by simp [lg_sl, g_c1, g_ci, g_cL]) (fun p e s m args below meth c hC => wb_X2_begunAt hC ⟨Nat.le_refl _, Nat.le_refl _⟩ (fun pc lv v st1 cb sb hd hn hq => j_ireturn hC rfl hn hd (g_iv hq)) hvc)
abbrev wp_X2_sum (l : Launch) (E : g_E) (mc ms : Nat) (av : List Value) (st : g_St) (Q : Int32 → g_St → Prop) : Prop := g_WPi l E yX2_sum cX2_sum 3 (some .int) 3 84 mc ms av st Q
def vc_X2_sum (l : Launch) (E : g_E) (a0 : Nat) (st : g_St) (Q : Int32 → g_St → Prop) : Prop :=
  ∃ fs1 : List Value, st.2.1 a0 = some (.inr (16, fs1)) ∧ ∀ st2 : g_St, st2 = g_put st a0 (.inr (16, fs1.set 0 (.int (nI 0)))) → g_lp2 (fun (K5 : Int32 → Int32 → Prop) (x3 : Int32) (x4 : Int32) => ∃ x8 : Int32, g_gi st2 a0 16 9 x8 ∧ (x8 ≤ x4 → Q x3 st2) ∧ (¬ x8 ≤ x4 → g_is st2 a0 16 ∧ wp_X2_isBegun l E 0 0 [va_rf (some a0), .int x4] st2 (fun x10 stx => stx = st2 ∧ g_jn1 (fun (K12 : Int32 → Prop) => (x10 = 0 → K12 x3) ∧ (¬ x10 = 0 → ∃ o15 : Option Nat, g_gr st2 a0 16 6 o15 ∧ ∃ a16 : Nat, o15 = some a16 ∧ ∃ (n17 : Nat) (f18 : Nat → Int32) (j19 : Nat), g_ai st2 a16 0 n17 f18 ∧ x4 = nI j19 ∧ j19 < n17 ∧ j19 < 2 ^ 31 ∧ K12 (x3 + (f18 j19)))) (fun (x11 : Int32) => K5 x11 (x4 + (nI 1)))))) (nI 0) (nI 0)
set_option maxHeartbeats 4000000 in
theorem wb_X2_sum {p : Program} {l : Launch} {e : Env} {R : Room} {s : State} {m : MethodId} {args : Array Value} {below : List Frame} {meth : Method} {c : Code} {E : g_E} {st0 : g_St} {Z : State → Prop} (hC : g_Cx p s m args meth c cX2_sum 3 "StemspanModel" (some .int) "sum" E st0) (hR : g_Rm 3 84 R) {a0 : Nat} {st : g_St} {cb sb : Nat} {Q : Int32 → g_St → Prop} (hret : ∀ (pc : Nat) (lv : List (Nat × Value)) (v : Int32) (st1 : g_St) (cb sb : Nat), decode cX2_sum pc = .ok (.ireturn, 1) → narrow .int (.int v) = .int v → Q v st1 → g_J p l e R s m args below meth c 3 E st0 Z pc lv [.int v] st1 cb sb) (hvc : vc_X2_sum l E a0 st Q) : g_J p l e R s m args below meth c 3 E st0 Z 0 [(0, va_rf (some a0))] [] st cb sb := by
  unfold vc_X2_sum at hvc
  refine j_aload_n hC dX2_sum_0 rfl 0 rfl ?_
  refine j_iconst hC (nI 0) dX2_sum_1 rfl ?_
  obtain ⟨fs1, hm, hvc⟩ := hvc
  refine j_put hC fkX2_1_X2 dX2_sum_2 hm rfl rfl (fun st2 e1 => ?_)
  replace hvc := hvc st2 e1; clear hm e1
  refine j_iconst hC (nI 0) dX2_sum_5 rfl ?_
  refine j_istore_n (lv0 := [(0, va_rf (some a0))]) hC dX2_sum_6 rfl rfl [0] rfl (g_okS.h rfl g_c1 rfl) ?_
  refine j_iconst hC (nI 0) dX2_sum_7 rfl ?_
  refine j_istore_n (lv0 := [(1, .int (nI 0)), (0, va_rf (some a0))]) hC dX2_sum_8 rfl rfl [0, 1] rfl (g_okS.h rfl rfl rfl) ?_
  replace hvc := g_lp2_o hvc
  obtain ⟨K5, hz21, hs22, n23, hvc⟩ := hvc
  have kh6 : ∀ (n : Nat) (x3 : Int32) (x4 : Int32), K5 n x3 x4 → g_J p l e R s m args below meth c 3 E st0 Z 9 [(0, va_rf (some a0)), (1, .int x3), (2, .int x4)] [] st2 cb sb := by
    clear hvc
    intro n
    induction n with
    | zero => intro x3 x4 hvc; exact absurd hvc (hz21 _ _)
    | succ n ih7 =>
      intro x3 x4 hvc
      replace hvc := hs22 n _ _ hvc
      refine j_iload_n hC dX2_sum_9 rfl 2 rfl ?_
      refine j_aload_n hC dX2_sum_10 rfl 0 rfl ?_
      obtain ⟨x8, ⟨fs, hr, hv⟩, hvc⟩ := hvc
      refine j_get hC fkX2_59_X2 dX2_sum_11 hr hv ?_
      clear hv hr fs
      refine j_icmp_ge (tgt := 40) hC dX2_sum_14 rfl (fun c9 => ?_) (fun c9 => ?_)
      · replace hvc := hvc.1 c9
        refine j_iload_n hC dX2_sum_40 rfl 1 rfl ?_
        exact hret _ _ _ _ _ _ dX2_sum_41 rfl hvc
      · replace hvc := hvc.2 c9
        refine j_aload_n hC dX2_sum_17 rfl 0 rfl ?_
        refine j_iload_n hC dX2_sum_18 rfl 2 rfl ?_
        obtain ⟨⟨fs, hr⟩, hvc⟩ := hvc
        refine j_callV (As := [.int x4]) (rest := []) (n := 1) (ci := 16) hC hvc (lw_V q2336 q2338 qs30 q60 q2339) (by decide +kernel) (g_rm hR rfl rfl) rfl hr rfl rfl (g_sum rfl) dX2_sum_19 (Nat.zero_le _) (Nat.zero_le _) (g_Kip fun x10 hv2 => ?_)
        replace hvc := hv2; clear hv2
        clear hr fs
        replace hvc := g_jn1_o hvc
        obtain ⟨K12, hK20, hvc⟩ := hvc
        have kh13 : ∀ (x11 : Int32), K12 x11 → g_J p l e R s m args below meth c 3 E st0 Z 34 [(0, va_rf (some a0)), (1, .int x11), (2, .int x4)] [] st2 cb sb := by
          clear hvc
          intro x11 hvc
          replace hvc := hK20 _ hvc
          refine j_iinc (lv0 := [(1, .int x11), (0, va_rf (some a0))]) hC (nI 1) dX2_sum_34 2 rfl rfl rfl [1, 0] rfl (g_okS.h rfl rfl rfl) ?_
          refine j_goto (tgt := 9) hC dX2_sum_37 rfl ?_
          exact j_sub [2, 1, 0] rfl (ih7 x11 (x4 + (nI 1)) hvc)
        refine j_if_eq (tgt := 34) hC dX2_sum_22 rfl (fun c14 => ?_) (fun c14 => ?_)
        · replace hvc := hvc.1 c14
          exact j_sub [0, 1, 2] rfl (kh13 x3 hvc)
        · replace hvc := hvc.2 c14
          refine j_iload_n hC dX2_sum_25 rfl 1 rfl ?_
          refine j_aload_n hC dX2_sum_26 rfl 0 rfl ?_
          obtain ⟨o15, ⟨fs, hr, hv⟩, hvc⟩ := hvc
          refine j_get hC fkX2_30_X2 dX2_sum_27 hr hv ?_
          clear hv hr fs
          refine j_iload_n hC dX2_sum_30 rfl 2 rfl ?_
          obtain ⟨a16, rfl, hvc⟩ := hvc
          obtain ⟨n17, f18, j19, hr, hi, hj, hJ, hvc⟩ := hvc
          refine j_ix hi ?_
          refine j_iald hC hr hj hJ dX2_sum_31 ?_
          clear hr hi hj hJ
          refine j_iadd hC dX2_sum_32 ?_
          refine j_istore_n (lv0 := [(0, va_rf (some a0)), (2, .int x4)]) hC dX2_sum_33 rfl rfl [0, 2] rfl (g_okS.h rfl g_c1 rfl) ?_
          exact j_sub [1, 0, 2] rfl (kh13 (x3 + (f18 j19)) hvc)
  exact j_sub [2, 1, 0] rfl (kh6 n23 (nI 0) (nI 0) hvc)
theorem wk_X2_sum {l : Launch} {E : g_E} {a0 : Nat} {st : g_St} {mc ms : Nat} {Q : Int32 → g_St → Prop} (hvc : vc_X2_sum l E a0 st Q) : wp_X2_sum l E mc ms [va_rf (some a0)] st Q :=
  g_enter (lv0 := [(0, va_rf (some a0))]) (plainFor_of_name (by decide +kernel)) (by simp [lv_args, g_c1, g_ci, g_cL]) (by simp [lg_sl, g_c1, g_ci, g_cL]) (fun p e s m args below meth c hC => wb_X2_sum hC ⟨Nat.le_refl _, Nat.le_refl _⟩ (fun pc lv v st1 cb sb hd hn hq => j_ireturn hC rfl hn hd (g_iv hq)) hvc)
abbrev wp_X2_gone (l : Launch) (E : g_E) (mc ms : Nat) (av : List Value) (st : g_St) (Q : Int32 → g_St → Prop) : Prop := g_WPi l E yX2_gone cX2_gone 3 (some .int) 3 84 mc ms av st Q
def vc_X2_gone (l : Launch) (E : g_E) (a0 : Nat) (st : g_St) (Q : Int32 → g_St → Prop) : Prop :=
  ∃ fs1 : List Value, st.2.1 a0 = some (.inr (16, fs1)) ∧ ∀ st2 : g_St, st2 = g_put st a0 (.inr (16, fs1.set 0 (.int (nI 0)))) → ∃ x3 : Int32, g_gi st2 a0 16 9 x3 ∧ g_lp3 (fun (K7 : Int32 → Int32 → g_St → Prop) (x4 : Int32) (x5 : Int32) (st6 : g_St) => (x5 < 0 → Q x4 st6) ∧ (¬ x5 < 0 → g_is st6 a0 16 ∧ wp_X2_isBegun l E 0 0 [va_rf (some a0), .int x5] st6 (fun x11 stx => stx = st6 ∧ g_jn2 (fun (K14 : Int32 → g_St → Prop) => (¬ x11 = 0 → g_is st6 a0 16 ∧ wp_X2_goes l E 0 0 [va_rf (some a0), .int x5] st6 (fun st17 => g_Ext st6 st17 → K14 (x4 + (nI 1)) st17)) ∧ (x11 = 0 → K14 x4 st6)) (fun (x12 : Int32) (st13 : g_St) => K7 x12 (x5 + (-1)) st13)))) (nI 0) (x3 - (nI 1)) st2
set_option maxHeartbeats 4000000 in
theorem wb_X2_gone {p : Program} {l : Launch} {e : Env} {R : Room} {s : State} {m : MethodId} {args : Array Value} {below : List Frame} {meth : Method} {c : Code} {E : g_E} {st0 : g_St} {Z : State → Prop} (hC : g_Cx p s m args meth c cX2_gone 3 "StemspanModel" (some .int) "gone" E st0) (hR : g_Rm 3 84 R) {a0 : Nat} {st : g_St} {cb sb : Nat} {Q : Int32 → g_St → Prop} (hret : ∀ (pc : Nat) (lv : List (Nat × Value)) (v : Int32) (st1 : g_St) (cb sb : Nat), decode cX2_gone pc = .ok (.ireturn, 1) → narrow .int (.int v) = .int v → Q v st1 → g_J p l e R s m args below meth c 3 E st0 Z pc lv [.int v] st1 cb sb) (hvc : vc_X2_gone l E a0 st Q) : g_J p l e R s m args below meth c 3 E st0 Z 0 [(0, va_rf (some a0))] [] st cb sb := by
  unfold vc_X2_gone at hvc
  refine j_aload_n hC dX2_gone_0 rfl 0 rfl ?_
  refine j_iconst hC (nI 0) dX2_gone_1 rfl ?_
  obtain ⟨fs1, hm, hvc⟩ := hvc
  refine j_put hC fkX2_1_X2 dX2_gone_2 hm rfl rfl (fun st2 e1 => ?_)
  replace hvc := hvc st2 e1; clear hm e1
  refine j_iconst hC (nI 0) dX2_gone_5 rfl ?_
  refine j_istore_n (lv0 := [(0, va_rf (some a0))]) hC dX2_gone_6 rfl rfl [0] rfl (g_okS.h rfl g_c1 rfl) ?_
  refine j_aload_n hC dX2_gone_7 rfl 1 rfl ?_
  obtain ⟨x3, ⟨fs, hr, hv⟩, hvc⟩ := hvc
  refine j_get hC fkX2_59_X2 dX2_gone_8 hr hv ?_
  clear hv hr fs
  refine j_iconst hC (nI 1) dX2_gone_11 rfl ?_
  refine j_isub hC dX2_gone_12 ?_
  refine j_istore_n (lv0 := [(1, .int (nI 0)), (0, va_rf (some a0))]) hC dX2_gone_13 rfl rfl [0, 1] rfl (g_okS.h rfl rfl rfl) ?_
  replace hvc := g_lp3_o hvc
  obtain ⟨K7, hz19, hs20, n21, hvc⟩ := hvc
  have kh8 : ∀ (n : Nat) (x4 : Int32) (x5 : Int32) (st6 : g_St), K7 n x4 x5 st6 → g_J p l e R s m args below meth c 3 E st0 Z 14 [(0, va_rf (some a0)), (1, .int x4), (2, .int x5)] [] st6 cb sb := by
    clear hvc
    intro n
    induction n with
    | zero => intro x4 x5 st6 hvc; exact absurd hvc (hz19 _ _ _)
    | succ n ih9 =>
      intro x4 x5 st6 hvc
      replace hvc := hs20 n _ _ _ hvc
      refine j_iload_n hC dX2_gone_14 rfl 2 rfl ?_
      refine j_if_lt (tgt := 43) hC dX2_gone_15 rfl (fun c10 => ?_) (fun c10 => ?_)
      · replace hvc := hvc.1 c10
        refine j_iload_n hC dX2_gone_43 rfl 1 rfl ?_
        exact hret _ _ _ _ _ _ dX2_gone_44 rfl hvc
      · replace hvc := hvc.2 c10
        refine j_aload_n hC dX2_gone_18 rfl 0 rfl ?_
        refine j_iload_n hC dX2_gone_19 rfl 2 rfl ?_
        obtain ⟨⟨fs, hr⟩, hvc⟩ := hvc
        refine j_callV (As := [.int x5]) (rest := []) (n := 1) (ci := 16) hC hvc (lw_V q2336 q2338 qs30 q60 q2339) (by decide +kernel) (g_rm hR rfl rfl) rfl hr rfl rfl (g_sum rfl) dX2_gone_20 (Nat.zero_le _) (Nat.zero_le _) (g_Kip fun x11 hv2 => ?_)
        replace hvc := hv2; clear hv2
        clear hr fs
        replace hvc := g_jn2_o hvc
        obtain ⟨K14, hK18, hvc⟩ := hvc
        have kh15 : ∀ (x12 : Int32) (st13 : g_St), K14 x12 st13 → g_J p l e R s m args below meth c 3 E st0 Z 37 [(0, va_rf (some a0)), (1, .int x12), (2, .int x5)] [] st13 cb sb := by
          clear hvc
          intro x12 st13 hvc
          replace hvc := hK18 _ _ hvc
          refine j_iinc (lv0 := [(1, .int x12), (0, va_rf (some a0))]) hC (-1) dX2_gone_37 2 rfl rfl rfl [1, 0] rfl (g_okS.h rfl rfl rfl) ?_
          refine j_goto (tgt := 14) hC dX2_gone_40 rfl ?_
          exact j_sub [2, 1, 0] rfl (ih9 x12 (x5 + (-1)) st13 hvc)
        refine j_if_ne (tgt := 29) hC dX2_gone_23 rfl (fun c16 => ?_) (fun c16 => ?_)
        · replace hvc := hvc.1 c16
          refine j_aload_n hC dX2_gone_29 rfl 0 rfl ?_
          refine j_iload_n hC dX2_gone_30 rfl 2 rfl ?_
          obtain ⟨⟨fs, hr⟩, hvc⟩ := hvc
          refine j_callV (As := [.int x5]) (rest := []) (n := 1) (ci := 16) hC hvc (lw_V q2288 q2290 qs24 q60 q2291) (by decide +kernel) (g_rm hR rfl rfl) rfl hr rfl rfl (g_sum rfl) dX2_gone_31 (Nat.zero_le _) (Nat.zero_le _) (g_Kv fun st17 hv2 hx => ?_)
          replace hvc := hv2 hx; clear hx hv2
          clear hr fs
          refine j_iinc (lv0 := [(0, va_rf (some a0)), (2, .int x5)]) hC (nI 1) dX2_gone_34 1 rfl rfl rfl [0, 2] rfl (g_okS.h rfl g_c1 rfl) ?_
          exact j_sub [1, 0, 2] rfl (kh15 (x4 + (nI 1)) st17 hvc)
        · replace hvc := hvc.2 c16
          refine j_goto (tgt := 37) hC dX2_gone_26 rfl ?_
          exact j_sub [0, 1, 2] rfl (kh15 x4 st6 hvc)
  exact j_sub [2, 1, 0] rfl (kh8 n21 (nI 0) (x3 - (nI 1)) st2 hvc)
theorem wk_X2_gone {l : Launch} {E : g_E} {a0 : Nat} {st : g_St} {mc ms : Nat} {Q : Int32 → g_St → Prop} (hvc : vc_X2_gone l E a0 st Q) : wp_X2_gone l E mc ms [va_rf (some a0)] st Q :=
  g_enter (lv0 := [(0, va_rf (some a0))]) (plainFor_of_name (by decide +kernel)) (by simp [lv_args, g_c1, g_ci, g_cL]) (by simp [lg_sl, g_c1, g_ci, g_cL]) (fun p e s m args below meth c hC => wb_X2_gone hC ⟨Nat.le_refl _, Nat.le_refl _⟩ (fun pc lv v st1 cb sb hd hn hq => j_ireturn hC rfl hn hd (g_iv hq)) hvc)
abbrev wp_X2_longestAt (l : Launch) (E : g_E) (mc ms : Nat) (av : List Value) (st : g_St) (Q : Int32 → g_St → Prop) : Prop := g_WPi l E yX2_longestAt cX2_longestAt 4 (some .int) 2 63 mc ms av st Q
def vc_X2_longestAt (l : Launch) (E : g_E) (a0 : Nat) (p0 : Int32) (st : g_St) (Q : Int32 → g_St → Prop) : Prop :=
  g_lp2 (fun (K3 : Int32 → Int32 → Prop) (x1 : Int32) (x2 : Int32) => ∃ x6 : Int32, g_gi st a0 16 9 x6 ∧ (x6 ≤ x2 → Q x1 st) ∧ (¬ x6 ≤ x2 → g_is st a0 16 ∧ wp_X2_like l E 0 0 [va_rf (some a0), .int x2, .int p0] st (fun x8 stx => stx = st ∧ ∃ o9 : Option Nat, g_gr st a0 16 5 o9 ∧ ∃ a10 : Nat, o9 = some a10 ∧ ∃ (n11 : Nat) (f12 : Nat → Int32) (j13 : Nat), g_ai st a10 0 n11 f12 ∧ x2 = nI j13 ∧ j13 < n11 ∧ j13 < 2 ^ 31 ∧ g_jn1 (fun (K15 : Int32 → Prop) => (¬ x8 = (f12 j13) → K15 x1) ∧ (x8 = (f12 j13) → ∃ o18 : Option Nat, g_gr st a0 16 5 o18 ∧ ∃ a19 : Nat, o18 = some a19 ∧ ∃ (n20 : Nat) (f21 : Nat → Int32) (j22 : Nat), g_ai st a19 0 n20 f21 ∧ x2 = nI j22 ∧ j22 < n20 ∧ j22 < 2 ^ 31 ∧ ((f21 j22) ≤ x1 → K15 x1) ∧ (¬ (f21 j22) ≤ x1 → ∃ o24 : Option Nat, g_gr st a0 16 5 o24 ∧ ∃ a25 : Nat, o24 = some a25 ∧ ∃ (n26 : Nat) (f27 : Nat → Int32) (j28 : Nat), g_ai st a25 0 n26 f27 ∧ x2 = nI j28 ∧ j28 < n26 ∧ j28 < 2 ^ 31 ∧ K15 (f27 j28)))) (fun (x14 : Int32) => K3 x14 (x2 + (nI 1)))))) (nI 0) (nI 0)
set_option maxHeartbeats 4000000 in
theorem wb_X2_longestAt {p : Program} {l : Launch} {e : Env} {R : Room} {s : State} {m : MethodId} {args : Array Value} {below : List Frame} {meth : Method} {c : Code} {E : g_E} {st0 : g_St} {Z : State → Prop} (hC : g_Cx p s m args meth c cX2_longestAt 4 "StemspanModel" (some .int) "longestAt" E st0) (hR : g_Rm 2 63 R) {a0 : Nat} {p0 : Int32} {st : g_St} {cb sb : Nat} {Q : Int32 → g_St → Prop} (hret : ∀ (pc : Nat) (lv : List (Nat × Value)) (v : Int32) (st1 : g_St) (cb sb : Nat), decode cX2_longestAt pc = .ok (.ireturn, 1) → narrow .int (.int v) = .int v → Q v st1 → g_J p l e R s m args below meth c 4 E st0 Z pc lv [.int v] st1 cb sb) (hvc : vc_X2_longestAt l E a0 p0 st Q) : g_J p l e R s m args below meth c 4 E st0 Z 0 [(0, va_rf (some a0)), (1, .int p0)] [] st cb sb := by
  unfold vc_X2_longestAt at hvc
  refine j_iconst hC (nI 0) dX2_longestAt_0 rfl ?_
  refine j_istore_n (lv0 := [(1, .int p0), (0, va_rf (some a0))]) hC dX2_longestAt_1 rfl rfl [1, 0] rfl (g_okS.h rfl rfl rfl) ?_
  refine j_iconst hC (nI 0) dX2_longestAt_2 rfl ?_
  refine j_istore_n (lv0 := [(2, .int (nI 0)), (1, .int p0), (0, va_rf (some a0))]) hC dX2_longestAt_3 rfl rfl [0, 1, 2] rfl (g_okS.h rfl rfl rfl) ?_
  replace hvc := g_lp2_o hvc
  obtain ⟨K3, hz30, hs31, n32, hvc⟩ := hvc
  have kh4 : ∀ (n : Nat) (x1 : Int32) (x2 : Int32), K3 n x1 x2 → g_J p l e R s m args below meth c 4 E st0 Z 4 [(0, va_rf (some a0)), (1, .int p0), (2, .int x1), (3, .int x2)] [] st cb sb := by
    clear hvc
    intro n
    induction n with
    | zero => intro x1 x2 hvc; exact absurd hvc (hz30 _ _)
    | succ n ih5 =>
      intro x1 x2 hvc
      replace hvc := hs31 n _ _ hvc
      refine j_iload_n hC dX2_longestAt_4 rfl 3 rfl ?_
      refine j_aload_n hC dX2_longestAt_5 rfl 0 rfl ?_
      obtain ⟨x6, ⟨fs, hr, hv⟩, hvc⟩ := hvc
      refine j_get hC fkX2_59_X2 dX2_longestAt_6 hr hv ?_
      clear hv hr fs
      refine j_icmp_ge (tgt := 50) hC dX2_longestAt_9 rfl (fun c7 => ?_) (fun c7 => ?_)
      · replace hvc := hvc.1 c7
        refine j_iload_n hC dX2_longestAt_50 rfl 2 rfl ?_
        exact hret _ _ _ _ _ _ dX2_longestAt_51 rfl hvc
      · replace hvc := hvc.2 c7
        refine j_aload_n hC dX2_longestAt_12 rfl 0 rfl ?_
        refine j_iload_n hC dX2_longestAt_13 rfl 3 rfl ?_
        refine j_iload_n hC dX2_longestAt_14 rfl 1 rfl ?_
        obtain ⟨⟨fs, hr⟩, hvc⟩ := hvc
        refine j_callV (As := [.int x2, .int p0]) (rest := []) (n := 2) (ci := 16) hC hvc (lw_V q2280 q2282 qs23 q60 q2283) (by decide +kernel) (g_rm hR rfl rfl) rfl hr rfl rfl (g_sum rfl) dX2_longestAt_15 (Nat.zero_le _) (Nat.zero_le _) (g_Kip fun x8 hv2 => ?_)
        replace hvc := hv2; clear hv2
        clear hr fs
        refine j_aload_n hC dX2_longestAt_18 rfl 0 rfl ?_
        obtain ⟨o9, ⟨fs, hr, hv⟩, hvc⟩ := hvc
        refine j_get hC fkX2_26_X2 dX2_longestAt_19 hr hv ?_
        clear hv hr fs
        refine j_iload_n hC dX2_longestAt_22 rfl 3 rfl ?_
        obtain ⟨a10, rfl, hvc⟩ := hvc
        obtain ⟨n11, f12, j13, hr, hi, hj, hJ, hvc⟩ := hvc
        refine j_ix hi ?_
        refine j_iald hC hr hj hJ dX2_longestAt_23 ?_
        clear hr hi hj hJ
        replace hvc := g_jn1_o hvc
        obtain ⟨K15, hK29, hvc⟩ := hvc
        have kh16 : ∀ (x14 : Int32), K15 x14 → g_J p l e R s m args below meth c 4 E st0 Z 44 [(0, va_rf (some a0)), (1, .int p0), (2, .int x14), (3, .int x2)] [] st cb sb := by
          clear hvc
          intro x14 hvc
          replace hvc := hK29 _ hvc
          refine j_iinc (lv0 := [(2, .int x14), (0, va_rf (some a0)), (1, .int p0)]) hC (nI 1) dX2_longestAt_44 3 rfl rfl rfl [2, 0, 1] rfl (g_okS.h rfl rfl rfl) ?_
          refine j_goto (tgt := 4) hC dX2_longestAt_47 rfl ?_
          exact j_sub [2, 3, 1, 0] rfl (ih5 x14 (x2 + (nI 1)) hvc)
        refine j_icmp_ne (tgt := 44) hC dX2_longestAt_24 rfl (fun c17 => ?_) (fun c17 => ?_)
        · replace hvc := hvc.1 c17
          exact j_sub [0, 1, 2, 3] rfl (kh16 x1 hvc)
        · replace hvc := hvc.2 c17
          refine j_aload_n hC dX2_longestAt_27 rfl 0 rfl ?_
          obtain ⟨o18, ⟨fs, hr, hv⟩, hvc⟩ := hvc
          refine j_get hC fkX2_26_X2 dX2_longestAt_28 hr hv ?_
          clear hv hr fs
          refine j_iload_n hC dX2_longestAt_31 rfl 3 rfl ?_
          obtain ⟨a19, rfl, hvc⟩ := hvc
          obtain ⟨n20, f21, j22, hr, hi, hj, hJ, hvc⟩ := hvc
          refine j_ix hi ?_
          refine j_iald hC hr hj hJ dX2_longestAt_32 ?_
          clear hr hi hj hJ
          refine j_iload_n hC dX2_longestAt_33 rfl 2 rfl ?_
          refine j_icmp_le (tgt := 44) hC dX2_longestAt_34 rfl (fun c23 => ?_) (fun c23 => ?_)
          · replace hvc := hvc.1 c23
            exact j_sub [0, 1, 2, 3] rfl (kh16 x1 hvc)
          · replace hvc := hvc.2 c23
            refine j_aload_n hC dX2_longestAt_37 rfl 0 rfl ?_
            obtain ⟨o24, ⟨fs, hr, hv⟩, hvc⟩ := hvc
            refine j_get hC fkX2_26_X2 dX2_longestAt_38 hr hv ?_
            clear hv hr fs
            refine j_iload_n hC dX2_longestAt_41 rfl 3 rfl ?_
            obtain ⟨a25, rfl, hvc⟩ := hvc
            obtain ⟨n26, f27, j28, hr, hi, hj, hJ, hvc⟩ := hvc
            refine j_ix hi ?_
            refine j_iald hC hr hj hJ dX2_longestAt_42 ?_
            clear hr hi hj hJ
            refine j_istore_n (lv0 := [(1, .int p0), (0, va_rf (some a0)), (3, .int x2)]) hC dX2_longestAt_43 rfl rfl [1, 0, 3] rfl (g_okS.h rfl rfl rfl) ?_
            exact j_sub [2, 1, 0, 3] rfl (kh16 (f27 j28) hvc)
  exact j_sub [3, 2, 1, 0] rfl (kh4 n32 (nI 0) (nI 0) hvc)
theorem wk_X2_longestAt {l : Launch} {E : g_E} {a0 : Nat} {p0 : Int32} {st : g_St} {mc ms : Nat} {Q : Int32 → g_St → Prop} (hvc : vc_X2_longestAt l E a0 p0 st Q) : wp_X2_longestAt l E mc ms [va_rf (some a0), .int p0] st Q :=
  g_enter (lv0 := [(0, va_rf (some a0)), (1, .int p0)]) (plainFor_of_name (by decide +kernel)) (by simp [lv_args, g_c1, g_ci, g_cL]) (by simp [lg_sl, g_c1, g_ci, g_cL]) (fun p e s m args below meth c hC => wb_X2_longestAt hC ⟨Nat.le_refl _, Nat.le_refl _⟩ (fun pc lv v st1 cb sb hd hn hq => j_ireturn hC rfl hn hd (g_iv hq)) hvc)
abbrev wp_X2_longest (l : Launch) (E : g_E) (mc ms : Nat) (av : List Value) (st : g_St) (Q : Int32 → g_St → Prop) : Prop := g_WPi l E yX2_longest cX2_longest 2 (some .int) 3 86 mc ms av st Q
def vc_X2_longest (l : Launch) (E : g_E) (a0 : Nat) (p0 : Int32) (st : g_St) (Q : Int32 → g_St → Prop) : Prop :=
  ∃ x1 : Int32, g_gi st a0 16 8 x1 ∧ wp_X2_in l E 0 0 [.int p0, .int (nI 0), .int x1] st (fun x2 stx => stx = st ∧ g_jn1 (fun (K4 : Int32 → Prop) => (x2 = 0 → K4 (nI 1)) ∧ (¬ x2 = 0 → K4 (nI 0))) (fun (x3 : Int32) => g_is st a0 16 ∧ wp_X2_fails l E 0 0 [va_rf (some a0), .int x3] st (fun x6 st7 => g_Ext st st7 → g_jn1 (fun (K9 : Int32 → Prop) => (x6 = 0 → g_is st7 a0 16 ∧ wp_X2_longestAt l E 0 0 [va_rf (some a0), .int p0] st7 (fun x12 stx => stx = st7 ∧ K9 x12)) ∧ (¬ x6 = 0 → K9 (nI 0))) (fun (x8 : Int32) => Q x8 st7))))
set_option maxHeartbeats 4000000 in
theorem wb_X2_longest {p : Program} {l : Launch} {e : Env} {R : Room} {s : State} {m : MethodId} {args : Array Value} {below : List Frame} {meth : Method} {c : Code} {E : g_E} {st0 : g_St} {Z : State → Prop} (hC : g_Cx p s m args meth c cX2_longest 2 "StemspanModel" (some .int) "longest" E st0) (hR : g_Rm 3 86 R) {a0 : Nat} {p0 : Int32} {st : g_St} {cb sb : Nat} {Q : Int32 → g_St → Prop} (hret : ∀ (pc : Nat) (lv : List (Nat × Value)) (v : Int32) (st1 : g_St) (cb sb : Nat), decode cX2_longest pc = .ok (.ireturn, 1) → narrow .int (.int v) = .int v → Q v st1 → g_J p l e R s m args below meth c 2 E st0 Z pc lv [.int v] st1 cb sb) (hvc : vc_X2_longest l E a0 p0 st Q) : g_J p l e R s m args below meth c 2 E st0 Z 0 [(0, va_rf (some a0)), (1, .int p0)] [] st cb sb := by
  unfold vc_X2_longest at hvc
  refine j_aload_n hC dX2_longest_0 rfl 0 rfl ?_
  refine j_iload_n hC dX2_longest_1 rfl 1 rfl ?_
  refine j_iconst hC (nI 0) dX2_longest_2 rfl ?_
  refine j_aload_n hC dX2_longest_3 rfl 0 rfl ?_
  obtain ⟨x1, ⟨fs, hr, hv⟩, hvc⟩ := hvc
  refine j_get hC fkX2_49_X2 dX2_longest_4 hr hv ?_
  clear hv hr fs
  refine j_callS (As := [.int p0, .int (nI 0), .int x1]) (rest := [va_rf (some a0)]) (n := 3) hC hvc (lw_S q2240 q2241 q60 q2242) (by decide +kernel) (g_rm hR rfl rfl) rfl rfl (g_sum rfl) dX2_longest_7 (Nat.zero_le _) (Nat.zero_le _) (g_Kip fun x2 hv2 => ?_)
  replace hvc := hv2; clear hv2
  replace hvc := g_jn1_o hvc
  obtain ⟨K4, hK15, hvc⟩ := hvc
  have kh5 : ∀ (x3 : Int32), K4 x3 → g_J p l e R s m args below meth c 2 E st0 Z 18 [(0, va_rf (some a0)), (1, .int p0)] [.int x3, va_rf (some a0)] st cb sb := by
    clear hvc
    intro x3 hvc
    replace hvc := hK15 _ hvc
    obtain ⟨⟨fs, hr⟩, hvc⟩ := hvc
    refine j_callV (As := [.int x3]) (rest := []) (n := 1) (ci := 16) hC hvc (lw_V q2232 q2234 qs20 q60 q2235) (by decide +kernel) (g_rm hR rfl rfl) rfl hr rfl rfl (g_sum rfl) dX2_longest_18 (Nat.zero_le _) (Nat.zero_le _) (g_Ki fun x6 st7 hv2 hx => ?_)
    replace hvc := hv2 hx; clear hx hv2
    clear hr fs
    replace hvc := g_jn1_o hvc
    obtain ⟨K9, hK13, hvc⟩ := hvc
    have kh10 : ∀ (x8 : Int32), K9 x8 → g_J p l e R s m args below meth c 2 E st0 Z 33 [] [.int x8] st7 cb sb := by
      clear hvc
      intro x8 hvc
      replace hvc := hK13 _ hvc
      exact hret _ _ _ _ _ _ dX2_longest_33 rfl hvc
    refine j_if_eq (tgt := 28) hC dX2_longest_21 rfl (fun c11 => ?_) (fun c11 => ?_)
    · replace hvc := hvc.1 c11
      refine j_aload_n hC dX2_longest_28 rfl 0 rfl ?_
      refine j_iload_n hC dX2_longest_29 rfl 1 rfl ?_
      obtain ⟨⟨fs, hr⟩, hvc⟩ := hvc
      refine j_callV (As := [.int p0]) (rest := []) (n := 1) (ci := 16) hC hvc (lw_V q2356 q2358 qs31 q60 q2359) (by decide +kernel) (g_rm hR rfl rfl) rfl hr rfl rfl (g_sum rfl) dX2_longest_30 (Nat.zero_le _) (Nat.zero_le _) (g_Kip fun x12 hv2 => ?_)
      replace hvc := hv2; clear hv2
      clear hr fs
      exact j_sub [] rfl (kh10 x12 hvc)
    · replace hvc := hvc.2 c11
      refine j_iconst hC (nI 0) dX2_longest_24 rfl ?_
      refine j_goto (tgt := 33) hC dX2_longest_25 rfl ?_
      exact j_sub [] rfl (kh10 (nI 0) hvc)
  refine j_if_eq (tgt := 17) hC dX2_longest_10 rfl (fun c14 => ?_) (fun c14 => ?_)
  · replace hvc := hvc.1 c14
    refine j_iconst hC (nI 1) dX2_longest_17 rfl ?_
    exact j_sub [0, 1] rfl (kh5 (nI 1) hvc)
  · replace hvc := hvc.2 c14
    refine j_iconst hC (nI 0) dX2_longest_13 rfl ?_
    refine j_goto (tgt := 18) hC dX2_longest_14 rfl ?_
    exact j_sub [0, 1] rfl (kh5 (nI 0) hvc)
theorem wk_X2_longest {l : Launch} {E : g_E} {a0 : Nat} {p0 : Int32} {st : g_St} {mc ms : Nat} {Q : Int32 → g_St → Prop} (hvc : vc_X2_longest l E a0 p0 st Q) : wp_X2_longest l E mc ms [va_rf (some a0), .int p0] st Q :=
  g_enter (lv0 := [(0, va_rf (some a0)), (1, .int p0)]) (plainFor_of_name (by decide +kernel)) (by simp [lv_args, g_c1, g_ci, g_cL]) (by simp [lg_sl, g_c1, g_ci, g_cL]) (fun p e s m args below meth c hC => wb_X2_longest hC ⟨Nat.le_refl _, Nat.le_refl _⟩ (fun pc lv v st1 cb sb hd hn hq => j_ireturn hC rfl hn hd (g_iv hq)) hvc)
abbrev wp_X2_shared (l : Launch) (E : g_E) (mc ms : Nat) (av : List Value) (st : g_St) (Q : Int32 → g_St → Prop) : Prop := g_WPi l E yX2_shared cX2_shared 3 (some .int) 2 63 mc ms av st Q
def vc_X2_shared (l : Launch) (E : g_E) (a0 : Nat) (st : g_St) (Q : Int32 → g_St → Prop) : Prop :=
  ∃ fs1 : List Value, st.2.1 a0 = some (.inr (16, fs1)) ∧ ∀ st2 : g_St, st2 = g_put st a0 (.inr (16, fs1.set 0 (.int (nI 0)))) → g_lp2 (fun (K5 : Int32 → Int32 → Prop) (x3 : Int32) (x4 : Int32) => ∃ x8 : Int32, g_gi st2 a0 16 9 x8 ∧ (x8 ≤ x4 → Q x3 st2) ∧ (¬ x8 ≤ x4 → g_is st2 a0 16 ∧ wp_X2_like l E 0 0 [va_rf (some a0), .int x4, .int (nI 0)] st2 (fun x10 stx => stx = st2 ∧ g_jn1 (fun (K12 : Int32 → Prop) => (x10 ≤ x3 → K12 x3) ∧ (¬ x10 ≤ x3 → g_is st2 a0 16 ∧ wp_X2_like l E 0 0 [va_rf (some a0), .int x4, .int (nI 0)] st2 (fun x15 stx => stx = st2 ∧ K12 x15))) (fun (x11 : Int32) => K5 x11 (x4 + (nI 1)))))) (nI 0) (nI 0)
set_option maxHeartbeats 4000000 in
theorem wb_X2_shared {p : Program} {l : Launch} {e : Env} {R : Room} {s : State} {m : MethodId} {args : Array Value} {below : List Frame} {meth : Method} {c : Code} {E : g_E} {st0 : g_St} {Z : State → Prop} (hC : g_Cx p s m args meth c cX2_shared 3 "StemspanModel" (some .int) "shared" E st0) (hR : g_Rm 2 63 R) {a0 : Nat} {st : g_St} {cb sb : Nat} {Q : Int32 → g_St → Prop} (hret : ∀ (pc : Nat) (lv : List (Nat × Value)) (v : Int32) (st1 : g_St) (cb sb : Nat), decode cX2_shared pc = .ok (.ireturn, 1) → narrow .int (.int v) = .int v → Q v st1 → g_J p l e R s m args below meth c 3 E st0 Z pc lv [.int v] st1 cb sb) (hvc : vc_X2_shared l E a0 st Q) : g_J p l e R s m args below meth c 3 E st0 Z 0 [(0, va_rf (some a0))] [] st cb sb := by
  unfold vc_X2_shared at hvc
  refine j_aload_n hC dX2_shared_0 rfl 0 rfl ?_
  refine j_iconst hC (nI 0) dX2_shared_1 rfl ?_
  obtain ⟨fs1, hm, hvc⟩ := hvc
  refine j_put hC fkX2_1_X2 dX2_shared_2 hm rfl rfl (fun st2 e1 => ?_)
  replace hvc := hvc st2 e1; clear hm e1
  refine j_iconst hC (nI 0) dX2_shared_5 rfl ?_
  refine j_istore_n (lv0 := [(0, va_rf (some a0))]) hC dX2_shared_6 rfl rfl [0] rfl (g_okS.h rfl g_c1 rfl) ?_
  refine j_iconst hC (nI 0) dX2_shared_7 rfl ?_
  refine j_istore_n (lv0 := [(1, .int (nI 0)), (0, va_rf (some a0))]) hC dX2_shared_8 rfl rfl [0, 1] rfl (g_okS.h rfl rfl rfl) ?_
  replace hvc := g_lp2_o hvc
  obtain ⟨K5, hz17, hs18, n19, hvc⟩ := hvc
  have kh6 : ∀ (n : Nat) (x3 : Int32) (x4 : Int32), K5 n x3 x4 → g_J p l e R s m args below meth c 3 E st0 Z 9 [(0, va_rf (some a0)), (1, .int x3), (2, .int x4)] [] st2 cb sb := by
    clear hvc
    intro n
    induction n with
    | zero => intro x3 x4 hvc; exact absurd hvc (hz17 _ _)
    | succ n ih7 =>
      intro x3 x4 hvc
      replace hvc := hs18 n _ _ hvc
      refine j_iload_n hC dX2_shared_9 rfl 2 rfl ?_
      refine j_aload_n hC dX2_shared_10 rfl 0 rfl ?_
      obtain ⟨x8, ⟨fs, hr, hv⟩, hvc⟩ := hvc
      refine j_get hC fkX2_59_X2 dX2_shared_11 hr hv ?_
      clear hv hr fs
      refine j_icmp_ge (tgt := 40) hC dX2_shared_14 rfl (fun c9 => ?_) (fun c9 => ?_)
      · replace hvc := hvc.1 c9
        refine j_iload_n hC dX2_shared_40 rfl 1 rfl ?_
        exact hret _ _ _ _ _ _ dX2_shared_41 rfl hvc
      · replace hvc := hvc.2 c9
        refine j_aload_n hC dX2_shared_17 rfl 0 rfl ?_
        refine j_iload_n hC dX2_shared_18 rfl 2 rfl ?_
        refine j_iconst hC (nI 0) dX2_shared_19 rfl ?_
        obtain ⟨⟨fs, hr⟩, hvc⟩ := hvc
        refine j_callV (As := [.int x4, .int (nI 0)]) (rest := []) (n := 2) (ci := 16) hC hvc (lw_V q2280 q2282 qs23 q60 q2283) (by decide +kernel) (g_rm hR rfl rfl) rfl hr rfl rfl (g_sum rfl) dX2_shared_20 (Nat.zero_le _) (Nat.zero_le _) (g_Kip fun x10 hv2 => ?_)
        replace hvc := hv2; clear hv2
        clear hr fs
        refine j_iload_n hC dX2_shared_23 rfl 1 rfl ?_
        replace hvc := g_jn1_o hvc
        obtain ⟨K12, hK16, hvc⟩ := hvc
        have kh13 : ∀ (x11 : Int32), K12 x11 → g_J p l e R s m args below meth c 3 E st0 Z 34 [(0, va_rf (some a0)), (1, .int x11), (2, .int x4)] [] st2 cb sb := by
          clear hvc
          intro x11 hvc
          replace hvc := hK16 _ hvc
          refine j_iinc (lv0 := [(1, .int x11), (0, va_rf (some a0))]) hC (nI 1) dX2_shared_34 2 rfl rfl rfl [1, 0] rfl (g_okS.h rfl rfl rfl) ?_
          refine j_goto (tgt := 9) hC dX2_shared_37 rfl ?_
          exact j_sub [2, 1, 0] rfl (ih7 x11 (x4 + (nI 1)) hvc)
        refine j_icmp_le (tgt := 34) hC dX2_shared_24 rfl (fun c14 => ?_) (fun c14 => ?_)
        · replace hvc := hvc.1 c14
          exact j_sub [0, 1, 2] rfl (kh13 x3 hvc)
        · replace hvc := hvc.2 c14
          refine j_aload_n hC dX2_shared_27 rfl 0 rfl ?_
          refine j_iload_n hC dX2_shared_28 rfl 2 rfl ?_
          refine j_iconst hC (nI 0) dX2_shared_29 rfl ?_
          obtain ⟨⟨fs, hr⟩, hvc⟩ := hvc
          refine j_callV (As := [.int x4, .int (nI 0)]) (rest := []) (n := 2) (ci := 16) hC hvc (lw_V q2280 q2282 qs23 q60 q2283) (by decide +kernel) (g_rm hR rfl rfl) rfl hr rfl rfl (g_sum rfl) dX2_shared_30 (Nat.zero_le _) (Nat.zero_le _) (g_Kip fun x15 hv2 => ?_)
          replace hvc := hv2; clear hv2
          clear hr fs
          refine j_istore_n (lv0 := [(0, va_rf (some a0)), (2, .int x4)]) hC dX2_shared_33 rfl rfl [0, 2] rfl (g_okS.h rfl g_c1 rfl) ?_
          exact j_sub [1, 0, 2] rfl (kh13 x15 hvc)
  exact j_sub [2, 1, 0] rfl (kh6 n19 (nI 0) (nI 0) hvc)
theorem wk_X2_shared {l : Launch} {E : g_E} {a0 : Nat} {st : g_St} {mc ms : Nat} {Q : Int32 → g_St → Prop} (hvc : vc_X2_shared l E a0 st Q) : wp_X2_shared l E mc ms [va_rf (some a0)] st Q :=
  g_enter (lv0 := [(0, va_rf (some a0))]) (plainFor_of_name (by decide +kernel)) (by simp [lv_args, g_c1, g_ci, g_cL]) (by simp [lg_sl, g_c1, g_ci, g_cL]) (fun p e s m args below meth c hC => wb_X2_shared hC ⟨Nat.le_refl _, Nat.le_refl _⟩ (fun pc lv v st1 cb sb hd hn hq => j_ireturn hC rfl hn hd (g_iv hq)) hvc)
abbrev wp_X2_twin (l : Launch) (E : g_E) (mc ms : Nat) (av : List Value) (st : g_St) (Q : Int32 → g_St → Prop) : Prop := g_WPi l E yX2_twin cX2_twin 4 (some .int) 2 63 mc ms av st Q
def vc_X2_twin (l : Launch) (E : g_E) (a0 : Nat) (st : g_St) (Q : Int32 → g_St → Prop) : Prop :=
  ∃ x1 : Int32, g_gi st a0 16 9 x1 ∧ g_jn1 (fun (K3 : Int32 → Prop) => ((nI 2) ≤ x1 → K3 (nI 0)) ∧ (¬ (nI 2) ≤ x1 → K3 (nI 1))) (fun (x2 : Int32) => g_is st a0 16 ∧ wp_X2_fails l E 0 0 [va_rf (some a0), .int x2] st (fun x5 st6 => g_Ext st st6 → (x5 = 0 → g_lp2 (fun (K10 : Int32 → Int32 → Prop) (x8 : Int32) (x9 : Int32) => ∃ x13 : Int32, g_gi st6 a0 16 9 x13 ∧ (x13 ≤ x9 → Q x8 st6) ∧ (¬ x13 ≤ x9 → g_lp2 (fun (K17 : Int32 → Int32 → Prop) (x15 : Int32) (x16 : Int32) => (x9 ≤ x16 → K10 x15 (x9 + (nI 1))) ∧ (¬ x9 ≤ x16 → g_is st6 a0 16 ∧ wp_X2_likeWords l E 0 0 [va_rf (some a0), .int x16, .int x9] st6 (fun x21 stx => stx = st6 ∧ g_jn1 (fun (K23 : Int32 → Prop) => (x21 ≤ x15 → K23 x15) ∧ (¬ x21 ≤ x15 → g_is st6 a0 16 ∧ wp_X2_likeWords l E 0 0 [va_rf (some a0), .int x16, .int x9] st6 (fun x26 stx => stx = st6 ∧ K23 x26))) (fun (x22 : Int32) => K17 x22 (x16 + (nI 1)))))) x8 (nI 0))) (nI 0) (nI 0)) ∧ (¬ x5 = 0 → Q (nI 0) st6)))
set_option maxHeartbeats 4000000 in
theorem wb_X2_twin {p : Program} {l : Launch} {e : Env} {R : Room} {s : State} {m : MethodId} {args : Array Value} {below : List Frame} {meth : Method} {c : Code} {E : g_E} {st0 : g_St} {Z : State → Prop} (hC : g_Cx p s m args meth c cX2_twin 4 "StemspanModel" (some .int) "twin" E st0) (hR : g_Rm 2 63 R) {a0 : Nat} {st : g_St} {cb sb : Nat} {Q : Int32 → g_St → Prop} (hret : ∀ (pc : Nat) (lv : List (Nat × Value)) (v : Int32) (st1 : g_St) (cb sb : Nat), decode cX2_twin pc = .ok (.ireturn, 1) → narrow .int (.int v) = .int v → Q v st1 → g_J p l e R s m args below meth c 4 E st0 Z pc lv [.int v] st1 cb sb) (hvc : vc_X2_twin l E a0 st Q) : g_J p l e R s m args below meth c 4 E st0 Z 0 [(0, va_rf (some a0))] [] st cb sb := by
  unfold vc_X2_twin at hvc
  refine j_aload_n hC dX2_twin_0 rfl 0 rfl ?_
  refine j_aload_n hC dX2_twin_1 rfl 0 rfl ?_
  obtain ⟨x1, ⟨fs, hr, hv⟩, hvc⟩ := hvc
  refine j_get hC fkX2_59_X2 dX2_twin_2 hr hv ?_
  clear hv hr fs
  refine j_iconst hC (nI 2) dX2_twin_5 rfl ?_
  replace hvc := g_jn1_o hvc
  obtain ⟨K3, hK35, hvc⟩ := hvc
  have kh4 : ∀ (x2 : Int32), K3 x2 → g_J p l e R s m args below meth c 4 E st0 Z 14 [(0, va_rf (some a0))] [.int x2, va_rf (some a0)] st cb sb := by
    clear hvc
    intro x2 hvc
    replace hvc := hK35 _ hvc
    obtain ⟨⟨fs, hr⟩, hvc⟩ := hvc
    refine j_callV (As := [.int x2]) (rest := []) (n := 1) (ci := 16) hC hvc (lw_V q2232 q2234 qs20 q60 q2235) (by decide +kernel) (g_rm hR rfl rfl) rfl hr rfl rfl (g_sum rfl) dX2_twin_14 (Nat.zero_le _) (Nat.zero_le _) (g_Ki fun x5 st6 hv2 hx => ?_)
    replace hvc := hv2 hx; clear hx hv2
    clear hr fs
    refine j_if_eq (tgt := 22) hC dX2_twin_17 rfl (fun c7 => ?_) (fun c7 => ?_)
    · replace hvc := hvc.1 c7
      refine j_iconst hC (nI 0) dX2_twin_22 rfl ?_
      refine j_istore_n (lv0 := [(0, va_rf (some a0))]) hC dX2_twin_23 rfl rfl [0] rfl (g_okS.h rfl g_c1 rfl) ?_
      refine j_iconst hC (nI 0) dX2_twin_24 rfl ?_
      refine j_istore_n (lv0 := [(1, .int (nI 0)), (0, va_rf (some a0))]) hC dX2_twin_25 rfl rfl [0, 1] rfl (g_okS.h rfl rfl rfl) ?_
      replace hvc := g_lp2_o hvc
      obtain ⟨K10, hz31, hs32, n33, hvc⟩ := hvc
      have kh11 : ∀ (n : Nat) (x8 : Int32) (x9 : Int32), K10 n x8 x9 → g_J p l e R s m args below meth c 4 E st0 Z 26 [(0, va_rf (some a0)), (1, .int x8), (2, .int x9)] [] st6 cb sb := by
        clear hvc
        intro n
        induction n with
        | zero => intro x8 x9 hvc; exact absurd hvc (hz31 _ _)
        | succ n ih12 =>
          intro x8 x9 hvc
          replace hvc := hs32 n _ _ hvc
          refine j_iload_n hC dX2_twin_26 rfl 2 rfl ?_
          refine j_aload_n hC dX2_twin_27 rfl 0 rfl ?_
          obtain ⟨x13, ⟨fs, hr, hv⟩, hvc⟩ := hvc
          refine j_get hC fkX2_59_X2 dX2_twin_28 hr hv ?_
          clear hv hr fs
          refine j_icmp_ge (tgt := 70) hC dX2_twin_31 rfl (fun c14 => ?_) (fun c14 => ?_)
          · replace hvc := hvc.1 c14
            refine j_iload_n hC dX2_twin_70 rfl 1 rfl ?_
            exact hret _ _ _ _ _ _ dX2_twin_71 rfl hvc
          · replace hvc := hvc.2 c14
            refine j_iconst hC (nI 0) dX2_twin_34 rfl ?_
            refine j_istore_n (lv0 := [(2, .int x9), (0, va_rf (some a0)), (1, .int x8)]) hC dX2_twin_35 rfl rfl [2, 0, 1] rfl (g_okS.h rfl rfl rfl) ?_
            replace hvc := g_lp2_o hvc
            obtain ⟨K17, hz28, hs29, n30, hvc⟩ := hvc
            have kh18 : ∀ (n : Nat) (x15 : Int32) (x16 : Int32), K17 n x15 x16 → g_J p l e R s m args below meth c 4 E st0 Z 36 [(0, va_rf (some a0)), (1, .int x15), (2, .int x9), (3, .int x16)] [] st6 cb sb := by
              clear hvc
              intro n
              induction n with
              | zero => intro x15 x16 hvc; exact absurd hvc (hz28 _ _)
              | succ n ih19 =>
                intro x15 x16 hvc
                replace hvc := hs29 n _ _ hvc
                refine j_iload_n hC dX2_twin_36 rfl 3 rfl ?_
                refine j_iload_n hC dX2_twin_37 rfl 2 rfl ?_
                refine j_icmp_ge (tgt := 64) hC dX2_twin_38 rfl (fun c20 => ?_) (fun c20 => ?_)
                · replace hvc := hvc.1 c20
                  refine j_iinc (lv0 := [(1, .int x15), (0, va_rf (some a0)), (3, .int x16)]) hC (nI 1) dX2_twin_64 2 rfl rfl rfl [1, 0, 3] rfl (g_okS.h rfl rfl rfl) ?_
                  refine j_goto (tgt := 26) hC dX2_twin_67 rfl ?_
                  exact j_sub [2, 1, 0] rfl (ih12 x15 (x9 + (nI 1)) hvc)
                · replace hvc := hvc.2 c20
                  refine j_aload_n hC dX2_twin_41 rfl 0 rfl ?_
                  refine j_iload_n hC dX2_twin_42 rfl 3 rfl ?_
                  refine j_iload_n hC dX2_twin_43 rfl 2 rfl ?_
                  obtain ⟨⟨fs, hr⟩, hvc⟩ := hvc
                  refine j_callV (As := [.int x16, .int x9]) (rest := []) (n := 2) (ci := 16) hC hvc (lw_V q2320 q2322 qs28 q60 q2323) (by decide +kernel) (g_rm hR rfl rfl) rfl hr rfl rfl (g_sum rfl) dX2_twin_44 (Nat.zero_le _) (Nat.zero_le _) (g_Kip fun x21 hv2 => ?_)
                  replace hvc := hv2; clear hv2
                  clear hr fs
                  refine j_iload_n hC dX2_twin_47 rfl 1 rfl ?_
                  replace hvc := g_jn1_o hvc
                  obtain ⟨K23, hK27, hvc⟩ := hvc
                  have kh24 : ∀ (x22 : Int32), K23 x22 → g_J p l e R s m args below meth c 4 E st0 Z 58 [(0, va_rf (some a0)), (1, .int x22), (2, .int x9), (3, .int x16)] [] st6 cb sb := by
                    clear hvc
                    intro x22 hvc
                    replace hvc := hK27 _ hvc
                    refine j_iinc (lv0 := [(2, .int x9), (0, va_rf (some a0)), (1, .int x22)]) hC (nI 1) dX2_twin_58 3 rfl rfl rfl [2, 0, 1] rfl (g_okS.h rfl rfl rfl) ?_
                    refine j_goto (tgt := 36) hC dX2_twin_61 rfl ?_
                    exact j_sub [2, 3, 1, 0] rfl (ih19 x22 (x16 + (nI 1)) hvc)
                  refine j_icmp_le (tgt := 58) hC dX2_twin_48 rfl (fun c25 => ?_) (fun c25 => ?_)
                  · replace hvc := hvc.1 c25
                    exact j_sub [0, 1, 2, 3] rfl (kh24 x15 hvc)
                  · replace hvc := hvc.2 c25
                    refine j_aload_n hC dX2_twin_51 rfl 0 rfl ?_
                    refine j_iload_n hC dX2_twin_52 rfl 3 rfl ?_
                    refine j_iload_n hC dX2_twin_53 rfl 2 rfl ?_
                    obtain ⟨⟨fs, hr⟩, hvc⟩ := hvc
                    refine j_callV (As := [.int x16, .int x9]) (rest := []) (n := 2) (ci := 16) hC hvc (lw_V q2320 q2322 qs28 q60 q2323) (by decide +kernel) (g_rm hR rfl rfl) rfl hr rfl rfl (g_sum rfl) dX2_twin_54 (Nat.zero_le _) (Nat.zero_le _) (g_Kip fun x26 hv2 => ?_)
                    replace hvc := hv2; clear hv2
                    clear hr fs
                    refine j_istore_n (lv0 := [(0, va_rf (some a0)), (2, .int x9), (3, .int x16)]) hC dX2_twin_57 rfl rfl [0, 2, 3] rfl (g_okS.h rfl g_c1 rfl) ?_
                    exact j_sub [1, 0, 2, 3] rfl (kh24 x26 hvc)
            exact j_sub [2, 3, 1, 0] rfl (kh18 n30 x8 (nI 0) hvc)
      exact j_sub [2, 1, 0] rfl (kh11 n33 (nI 0) (nI 0) hvc)
    · replace hvc := hvc.2 c7
      refine j_iconst hC (nI 0) dX2_twin_20 rfl ?_
      exact hret _ _ _ _ _ _ dX2_twin_21 rfl hvc
  refine j_icmp_ge (tgt := 13) hC dX2_twin_6 rfl (fun c34 => ?_) (fun c34 => ?_)
  · replace hvc := hvc.1 c34
    refine j_iconst hC (nI 0) dX2_twin_13 rfl ?_
    exact j_sub [0] rfl (kh4 (nI 0) hvc)
  · replace hvc := hvc.2 c34
    refine j_iconst hC (nI 1) dX2_twin_9 rfl ?_
    refine j_goto (tgt := 14) hC dX2_twin_10 rfl ?_
    exact j_sub [0] rfl (kh4 (nI 1) hvc)
theorem wk_X2_twin {l : Launch} {E : g_E} {a0 : Nat} {st : g_St} {mc ms : Nat} {Q : Int32 → g_St → Prop} (hvc : vc_X2_twin l E a0 st Q) : wp_X2_twin l E mc ms [va_rf (some a0)] st Q :=
  g_enter (lv0 := [(0, va_rf (some a0))]) (plainFor_of_name (by decide +kernel)) (by simp [lv_args, g_c1, g_ci, g_cL]) (by simp [lg_sl, g_c1, g_ci, g_cL]) (fun p e s m args below meth c hC => wb_X2_twin hC ⟨Nat.le_refl _, Nat.le_refl _⟩ (fun pc lv v st1 cb sb hd hn hq => j_ireturn hC rfl hn hd (g_iv hq)) hvc)
abbrev wp_X2_pieces (l : Launch) (E : g_E) (mc ms : Nat) (av : List Value) (st : g_St) (Q : Int32 → g_St → Prop) : Prop := g_WPi l E yX2_pieces cX2_pieces 3 (some .int) 3 86 mc ms av st Q
def vc_X2_pieces (l : Launch) (E : g_E) (a0 : Nat) (st : g_St) (Q : Int32 → g_St → Prop) : Prop :=
  ∃ fs1 : List Value, st.2.1 a0 = some (.inr (16, fs1)) ∧ ∀ st2 : g_St, st2 = g_put st a0 (.inr (16, fs1.set 0 (.int (nI 0)))) → g_lp2 (fun (K5 : Int32 → Int32 → Prop) (x3 : Int32) (x4 : Int32) => g_is st2 a0 16 ∧ wp_X2_longestAt l E 0 0 [va_rf (some a0), .int x3] st2 (fun x8 stx => stx = st2 ∧ (x8 ≤ 0 → ∃ x10 : Int32, g_gi st2 a0 16 8 x10 ∧ g_jn1 (fun (K12 : Int32 → Prop) => (¬ x3 = x10 → K12 ((-1) - x3)) ∧ (x3 = x10 → K12 x4)) (fun (x11 : Int32) => Q x11 st2)) ∧ (¬ x8 ≤ 0 → g_is st2 a0 16 ∧ wp_X2_longestAt l E 0 0 [va_rf (some a0), .int x3] st2 (fun x16 stx => stx = st2 ∧ K5 (x3 + x16) (x4 + (nI 1)))))) (nI 0) (nI 0)
set_option maxHeartbeats 4000000 in
theorem wb_X2_pieces {p : Program} {l : Launch} {e : Env} {R : Room} {s : State} {m : MethodId} {args : Array Value} {below : List Frame} {meth : Method} {c : Code} {E : g_E} {st0 : g_St} {Z : State → Prop} (hC : g_Cx p s m args meth c cX2_pieces 3 "StemspanModel" (some .int) "pieces" E st0) (hR : g_Rm 3 86 R) {a0 : Nat} {st : g_St} {cb sb : Nat} {Q : Int32 → g_St → Prop} (hret : ∀ (pc : Nat) (lv : List (Nat × Value)) (v : Int32) (st1 : g_St) (cb sb : Nat), decode cX2_pieces pc = .ok (.ireturn, 1) → narrow .int (.int v) = .int v → Q v st1 → g_J p l e R s m args below meth c 3 E st0 Z pc lv [.int v] st1 cb sb) (hvc : vc_X2_pieces l E a0 st Q) : g_J p l e R s m args below meth c 3 E st0 Z 0 [(0, va_rf (some a0))] [] st cb sb := by
  unfold vc_X2_pieces at hvc
  refine j_aload_n hC dX2_pieces_0 rfl 0 rfl ?_
  refine j_iconst hC (nI 0) dX2_pieces_1 rfl ?_
  obtain ⟨fs1, hm, hvc⟩ := hvc
  refine j_put hC fkX2_1_X2 dX2_pieces_2 hm rfl rfl (fun st2 e1 => ?_)
  replace hvc := hvc st2 e1; clear hm e1
  refine j_iconst hC (nI 0) dX2_pieces_5 rfl ?_
  refine j_istore_n (lv0 := [(0, va_rf (some a0))]) hC dX2_pieces_6 rfl rfl [0] rfl (g_okS.h rfl g_c1 rfl) ?_
  refine j_iconst hC (nI 0) dX2_pieces_7 rfl ?_
  refine j_istore_n (lv0 := [(1, .int (nI 0)), (0, va_rf (some a0))]) hC dX2_pieces_8 rfl rfl [0, 1] rfl (g_okS.h rfl rfl rfl) ?_
  replace hvc := g_lp2_o hvc
  obtain ⟨K5, hz17, hs18, n19, hvc⟩ := hvc
  have kh6 : ∀ (n : Nat) (x3 : Int32) (x4 : Int32), K5 n x3 x4 → g_J p l e R s m args below meth c 3 E st0 Z 9 [(0, va_rf (some a0)), (1, .int x3), (2, .int x4)] [] st2 cb sb := by
    clear hvc
    intro n
    induction n with
    | zero => intro x3 x4 hvc; exact absurd hvc (hz17 _ _)
    | succ n ih7 =>
      intro x3 x4 hvc
      replace hvc := hs18 n _ _ hvc
      refine j_aload_n hC dX2_pieces_9 rfl 0 rfl ?_
      refine j_iload_n hC dX2_pieces_10 rfl 1 rfl ?_
      obtain ⟨⟨fs, hr⟩, hvc⟩ := hvc
      refine j_callV (As := [.int x3]) (rest := []) (n := 1) (ci := 16) hC hvc (lw_V q2356 q2358 qs31 q60 q2359) (by decide +kernel) (g_rm hR rfl rfl) rfl hr rfl rfl (g_sum rfl) dX2_pieces_11 (Nat.zero_le _) (Nat.zero_le _) (g_Kip fun x8 hv2 => ?_)
      replace hvc := hv2; clear hv2
      clear hr fs
      refine j_if_le (tgt := 31) hC dX2_pieces_14 rfl (fun c9 => ?_) (fun c9 => ?_)
      · replace hvc := hvc.1 c9
        refine j_iload_n hC dX2_pieces_31 rfl 1 rfl ?_
        refine j_aload_n hC dX2_pieces_32 rfl 0 rfl ?_
        obtain ⟨x10, ⟨fs, hr, hv⟩, hvc⟩ := hvc
        refine j_get hC fkX2_49_X2 dX2_pieces_33 hr hv ?_
        clear hv hr fs
        replace hvc := g_jn1_o hvc
        obtain ⟨K12, hK15, hvc⟩ := hvc
        have kh13 : ∀ (x11 : Int32), K12 x11 → g_J p l e R s m args below meth c 3 E st0 Z 46 [] [.int x11] st2 cb sb := by
          clear hvc
          intro x11 hvc
          replace hvc := hK15 _ hvc
          exact hret _ _ _ _ _ _ dX2_pieces_46 rfl hvc
        refine j_icmp_ne (tgt := 43) hC dX2_pieces_36 rfl (fun c14 => ?_) (fun c14 => ?_)
        · replace hvc := hvc.1 c14
          refine j_iconst hC (-1) dX2_pieces_43 rfl ?_
          refine j_iload_n hC dX2_pieces_44 rfl 1 rfl ?_
          refine j_isub hC dX2_pieces_45 ?_
          exact j_sub [] rfl (kh13 ((-1) - x3) hvc)
        · replace hvc := hvc.2 c14
          refine j_iload_n hC dX2_pieces_39 rfl 2 rfl ?_
          refine j_goto (tgt := 46) hC dX2_pieces_40 rfl ?_
          exact j_sub [] rfl (kh13 x4 hvc)
      · replace hvc := hvc.2 c9
        refine j_iload_n hC dX2_pieces_17 rfl 1 rfl ?_
        refine j_aload_n hC dX2_pieces_18 rfl 0 rfl ?_
        refine j_iload_n hC dX2_pieces_19 rfl 1 rfl ?_
        obtain ⟨⟨fs, hr⟩, hvc⟩ := hvc
        refine j_callV (As := [.int x3]) (rest := [.int x3]) (n := 1) (ci := 16) hC hvc (lw_V q2356 q2358 qs31 q60 q2359) (by decide +kernel) (g_rm hR rfl rfl) rfl hr rfl rfl (g_sum rfl) dX2_pieces_20 (Nat.zero_le _) (Nat.zero_le _) (g_Kip fun x16 hv2 => ?_)
        replace hvc := hv2; clear hv2
        clear hr fs
        refine j_iadd hC dX2_pieces_23 ?_
        refine j_istore_n (lv0 := [(0, va_rf (some a0)), (2, .int x4)]) hC dX2_pieces_24 rfl rfl [0, 2] rfl (g_okS.h rfl g_c1 rfl) ?_
        refine j_iinc (lv0 := [(1, .int (x3 + x16)), (0, va_rf (some a0))]) hC (nI 1) dX2_pieces_25 2 rfl rfl rfl [0, 1] rfl (g_okS.h rfl rfl rfl) ?_
        refine j_goto (tgt := 9) hC dX2_pieces_28 rfl ?_
        exact j_sub [2, 1, 0] rfl (ih7 (x3 + x16) (x4 + (nI 1)) hvc)
  exact j_sub [2, 1, 0] rfl (kh6 n19 (nI 0) (nI 0) hvc)
theorem wk_X2_pieces {l : Launch} {E : g_E} {a0 : Nat} {st : g_St} {mc ms : Nat} {Q : Int32 → g_St → Prop} (hvc : vc_X2_pieces l E a0 st Q) : wp_X2_pieces l E mc ms [va_rf (some a0)] st Q :=
  g_enter (lv0 := [(0, va_rf (some a0))]) (plainFor_of_name (by decide +kernel)) (by simp [lv_args, g_c1, g_ci, g_cL]) (by simp [lg_sl, g_c1, g_ci, g_cL]) (fun p e s m args below meth c hC => wb_X2_pieces hC ⟨Nat.le_refl _, Nat.le_refl _⟩ (fun pc lv v st1 cb sb hd hn hq => j_ireturn hC rfl hn hd (g_iv hq)) hvc)
abbrev wp_X2_piece (l : Launch) (E : g_E) (mc ms : Nat) (av : List Value) (st : g_St) (Q : Int32 → g_St → Prop) : Prop := g_WPi l E yX2_piece cX2_piece 4 (some .int) 3 86 mc ms av st Q
def vc_X2_piece (l : Launch) (E : g_E) (a0 : Nat) (p0 : Int32) (st : g_St) (Q : Int32 → g_St → Prop) : Prop :=
  g_lp2 (fun (K3 : Int32 → Int32 → Prop) (x1 : Int32) (x2 : Int32) => g_jn0 (fun (K6 : Prop) => (x2 ≤ 0 → K6) ∧ (¬ x2 ≤ 0 → g_is st a0 16 ∧ wp_X2_longestAt l E 0 0 [va_rf (some a0), .int x1] st (fun x27 stx => stx = st ∧ (x27 ≤ 0 → K6) ∧ (¬ x27 ≤ 0 → g_is st a0 16 ∧ wp_X2_longestAt l E 0 0 [va_rf (some a0), .int x1] st (fun x29 stx => stx = st ∧ K3 (x1 + x29) (x2 + (-1))))))) (g_jn1 (fun (K9 : Int32 → Prop) => g_jn0 (fun (K19 : Prop) => (¬ x2 = 0 → K19) ∧ (x2 = 0 → g_is st a0 16 ∧ wp_X2_longestAt l E 0 0 [va_rf (some a0), .int x1] st (fun x22 stx => stx = st ∧ (¬ x22 = 0 → K9 (nI 0)) ∧ (x22 = 0 → K19)))) (K9 (nI 1))) (fun (x8 : Int32) => g_is st a0 16 ∧ wp_X2_fails l E 0 0 [va_rf (some a0), .int x8] st (fun x11 st12 => g_Ext st st12 → g_jn1 (fun (K14 : Int32 → Prop) => (x11 = 0 → g_is st12 a0 16 ∧ wp_X2_longestAt l E 0 0 [va_rf (some a0), .int x1] st12 (fun x17 stx => stx = st12 ∧ K14 x17)) ∧ (¬ x11 = 0 → K14 (nI 0))) (fun (x13 : Int32) => Q x13 st12))))) (nI 0) p0
set_option maxHeartbeats 4000000 in
theorem wb_X2_piece {p : Program} {l : Launch} {e : Env} {R : Room} {s : State} {m : MethodId} {args : Array Value} {below : List Frame} {meth : Method} {c : Code} {E : g_E} {st0 : g_St} {Z : State → Prop} (hC : g_Cx p s m args meth c cX2_piece 4 "StemspanModel" (some .int) "piece" E st0) (hR : g_Rm 3 86 R) {a0 : Nat} {p0 : Int32} {st : g_St} {cb sb : Nat} {Q : Int32 → g_St → Prop} (hret : ∀ (pc : Nat) (lv : List (Nat × Value)) (v : Int32) (st1 : g_St) (cb sb : Nat), decode cX2_piece pc = .ok (.ireturn, 1) → narrow .int (.int v) = .int v → Q v st1 → g_J p l e R s m args below meth c 4 E st0 Z pc lv [.int v] st1 cb sb) (hvc : vc_X2_piece l E a0 p0 st Q) : g_J p l e R s m args below meth c 4 E st0 Z 0 [(0, va_rf (some a0)), (1, .int p0)] [] st cb sb := by
  unfold vc_X2_piece at hvc
  refine j_iconst hC (nI 0) dX2_piece_0 rfl ?_
  refine j_istore_n (lv0 := [(1, .int p0), (0, va_rf (some a0))]) hC dX2_piece_1 rfl rfl [1, 0] rfl (g_okS.h rfl rfl rfl) ?_
  refine j_iload_n hC dX2_piece_2 rfl 1 rfl ?_
  refine j_istore_n (lv0 := [(2, .int (nI 0)), (1, .int p0), (0, va_rf (some a0))]) hC dX2_piece_3 rfl rfl [0, 1, 2] rfl (g_okS.h rfl rfl rfl) ?_
  replace hvc := g_lp2_o hvc
  obtain ⟨K3, hz31, hs32, n33, hvc⟩ := hvc
  have kh4 : ∀ (n : Nat) (x1 : Int32) (x2 : Int32), K3 n x1 x2 → g_J p l e R s m args below meth c 4 E st0 Z 4 [(0, va_rf (some a0)), (2, .int x1), (3, .int x2)] [] st cb sb := by
    clear hvc
    intro n
    induction n with
    | zero => intro x1 x2 hvc; exact absurd hvc (hz31 _ _)
    | succ n ih5 =>
      intro x1 x2 hvc
      replace hvc := hs32 n _ _ hvc
      refine j_iload_n hC dX2_piece_4 rfl 2 rfl ?_
      replace hvc := g_jn0_o hvc
      obtain ⟨K6, hK30, hvc⟩ := hvc
      have kh7 : K6 → g_J p l e R s m args below meth c 4 E st0 Z 30 [(0, va_rf (some a0)), (2, .int x1), (3, .int x2)] [] st cb sb := by
        clear hvc
        intro hvc
        replace hvc := hK30 hvc
        refine j_aload_n hC dX2_piece_30 rfl 0 rfl ?_
        refine j_iload_n hC dX2_piece_31 rfl 2 rfl ?_
        replace hvc := g_jn1_o hvc
        obtain ⟨K9, hK25, hvc⟩ := hvc
        have kh10 : ∀ (x8 : Int32), K9 x8 → g_J p l e R s m args below meth c 4 E st0 Z 48 [(0, va_rf (some a0)), (2, .int x1)] [.int x8, va_rf (some a0)] st cb sb := by
          clear hvc
          intro x8 hvc
          replace hvc := hK25 _ hvc
          obtain ⟨⟨fs, hr⟩, hvc⟩ := hvc
          refine j_callV (As := [.int x8]) (rest := []) (n := 1) (ci := 16) hC hvc (lw_V q2232 q2234 qs20 q60 q2235) (by decide +kernel) (g_rm hR rfl rfl) rfl hr rfl rfl (g_sum rfl) dX2_piece_48 (Nat.zero_le _) (Nat.zero_le _) (g_Ki fun x11 st12 hv2 hx => ?_)
          replace hvc := hv2 hx; clear hx hv2
          clear hr fs
          replace hvc := g_jn1_o hvc
          obtain ⟨K14, hK18, hvc⟩ := hvc
          have kh15 : ∀ (x13 : Int32), K14 x13 → g_J p l e R s m args below meth c 4 E st0 Z 63 [] [.int x13] st12 cb sb := by
            clear hvc
            intro x13 hvc
            replace hvc := hK18 _ hvc
            exact hret _ _ _ _ _ _ dX2_piece_63 rfl hvc
          refine j_if_eq (tgt := 58) hC dX2_piece_51 rfl (fun c16 => ?_) (fun c16 => ?_)
          · replace hvc := hvc.1 c16
            refine j_aload_n hC dX2_piece_58 rfl 0 rfl ?_
            refine j_iload_n hC dX2_piece_59 rfl 1 rfl ?_
            obtain ⟨⟨fs, hr⟩, hvc⟩ := hvc
            refine j_callV (As := [.int x1]) (rest := []) (n := 1) (ci := 16) hC hvc (lw_V q2356 q2358 qs31 q60 q2359) (by decide +kernel) (g_rm hR rfl rfl) rfl hr rfl rfl (g_sum rfl) dX2_piece_60 (Nat.zero_le _) (Nat.zero_le _) (g_Kip fun x17 hv2 => ?_)
            replace hvc := hv2; clear hv2
            clear hr fs
            exact j_sub [] rfl (kh15 x17 hvc)
          · replace hvc := hvc.2 c16
            refine j_iconst hC (nI 0) dX2_piece_54 rfl ?_
            refine j_goto (tgt := 63) hC dX2_piece_55 rfl ?_
            exact j_sub [] rfl (kh15 (nI 0) hvc)
        replace hvc := g_jn0_o hvc
        obtain ⟨K19, hK24, hvc⟩ := hvc
        have kh20 : K19 → g_J p l e R s m args below meth c 4 E st0 Z 43 [(0, va_rf (some a0)), (2, .int x1)] [va_rf (some a0)] st cb sb := by
          clear hvc
          intro hvc
          replace hvc := hK24 hvc
          refine j_iconst hC (nI 1) dX2_piece_43 rfl ?_
          refine j_goto (tgt := 48) hC dX2_piece_44 rfl ?_
          exact j_sub [0, 1] rfl (kh10 (nI 1) hvc)
        refine j_if_ne (tgt := 43) hC dX2_piece_32 rfl (fun c21 => ?_) (fun c21 => ?_)
        · replace hvc := hvc.1 c21
          exact j_sub [0, 1] rfl (kh20 hvc)
        · replace hvc := hvc.2 c21
          refine j_aload_n hC dX2_piece_35 rfl 0 rfl ?_
          refine j_iload_n hC dX2_piece_36 rfl 1 rfl ?_
          obtain ⟨⟨fs, hr⟩, hvc⟩ := hvc
          refine j_callV (As := [.int x1]) (rest := [va_rf (some a0)]) (n := 1) (ci := 16) hC hvc (lw_V q2356 q2358 qs31 q60 q2359) (by decide +kernel) (g_rm hR rfl rfl) rfl hr rfl rfl (g_sum rfl) dX2_piece_37 (Nat.zero_le _) (Nat.zero_le _) (g_Kip fun x22 hv2 => ?_)
          replace hvc := hv2; clear hv2
          clear hr fs
          refine j_if_ne (tgt := 47) hC dX2_piece_40 rfl (fun c23 => ?_) (fun c23 => ?_)
          · replace hvc := hvc.1 c23
            refine j_iconst hC (nI 0) dX2_piece_47 rfl ?_
            exact j_sub [0, 1] rfl (kh10 (nI 0) hvc)
          · replace hvc := hvc.2 c23
            exact j_sub [0, 1] rfl (kh20 hvc)
      refine j_if_le (tgt := 30) hC dX2_piece_5 rfl (fun c26 => ?_) (fun c26 => ?_)
      · replace hvc := hvc.1 c26
        exact j_sub [0, 1, 2] rfl (kh7 hvc)
      · replace hvc := hvc.2 c26
        refine j_aload_n hC dX2_piece_8 rfl 0 rfl ?_
        refine j_iload_n hC dX2_piece_9 rfl 1 rfl ?_
        obtain ⟨⟨fs, hr⟩, hvc⟩ := hvc
        refine j_callV (As := [.int x1]) (rest := []) (n := 1) (ci := 16) hC hvc (lw_V q2356 q2358 qs31 q60 q2359) (by decide +kernel) (g_rm hR rfl rfl) rfl hr rfl rfl (g_sum rfl) dX2_piece_10 (Nat.zero_le _) (Nat.zero_le _) (g_Kip fun x27 hv2 => ?_)
        replace hvc := hv2; clear hv2
        clear hr fs
        refine j_if_le (tgt := 30) hC dX2_piece_13 rfl (fun c28 => ?_) (fun c28 => ?_)
        · replace hvc := hvc.1 c28
          exact j_sub [0, 1, 2] rfl (kh7 hvc)
        · replace hvc := hvc.2 c28
          refine j_iload_n hC dX2_piece_16 rfl 1 rfl ?_
          refine j_aload_n hC dX2_piece_17 rfl 0 rfl ?_
          refine j_iload_n hC dX2_piece_18 rfl 1 rfl ?_
          obtain ⟨⟨fs, hr⟩, hvc⟩ := hvc
          refine j_callV (As := [.int x1]) (rest := [.int x1]) (n := 1) (ci := 16) hC hvc (lw_V q2356 q2358 qs31 q60 q2359) (by decide +kernel) (g_rm hR rfl rfl) rfl hr rfl rfl (g_sum rfl) dX2_piece_19 (Nat.zero_le _) (Nat.zero_le _) (g_Kip fun x29 hv2 => ?_)
          replace hvc := hv2; clear hv2
          clear hr fs
          refine j_iadd hC dX2_piece_22 ?_
          refine j_istore_n (lv0 := [(0, va_rf (some a0)), (3, .int x2)]) hC dX2_piece_23 rfl rfl [0, 2] rfl (g_okS.n rfl) ?_
          refine j_iinc (lv0 := [(2, .int (x1 + x29)), (0, va_rf (some a0))]) hC (-1) dX2_piece_24 2 rfl rfl rfl [0, 1] rfl (g_okS.h rfl rfl rfl) ?_
          refine j_goto (tgt := 4) hC dX2_piece_27 rfl ?_
          exact j_sub [2, 1, 0] rfl (ih5 (x1 + x29) (x2 + (-1)) hvc)
  exact j_sub [3, 1, 0] rfl (kh4 n33 (nI 0) p0 hvc)
theorem wk_X2_piece {l : Launch} {E : g_E} {a0 : Nat} {p0 : Int32} {st : g_St} {mc ms : Nat} {Q : Int32 → g_St → Prop} (hvc : vc_X2_piece l E a0 p0 st Q) : wp_X2_piece l E mc ms [va_rf (some a0), .int p0] st Q :=
  g_enter (lv0 := [(0, va_rf (some a0)), (1, .int p0)]) (plainFor_of_name (by decide +kernel)) (by simp [lv_args, g_c1, g_ci, g_cL]) (by simp [lg_sl, g_c1, g_ci, g_cL]) (fun p e s m args below meth c hC => wb_X2_piece hC ⟨Nat.le_refl _, Nat.le_refl _⟩ (fun pc lv v st1 cb sb hd hn hq => j_ireturn hC rfl hn hd (g_iv hq)) hvc)
abbrev wp_X2_cutsAll (l : Launch) (E : g_E) (mc ms : Nat) (av : List Value) (st : g_St) (Q : g_St → Prop) : Prop := g_WPv l E yX2_cutsAll cX2_cutsAll 5 none 2 63 mc ms av st Q
def vc_X2_cutsAll (l : Launch) (E : g_E) (a0 : Nat) (st : g_St) (Q : g_St → Prop) : Prop :=
  ∃ x1 : Int32, g_gi st a0 16 8 x1 ∧ g_lp2 (fun (K4 : Int32 → g_St → Prop) (x2 : Int32) (st3 : g_St) => (x2 < 0 → Q st3) ∧ (¬ x2 < 0 → ∃ o8 : Option Nat, g_gr st3 a0 16 12 o8 ∧ ∃ x9 : Int32, g_gi st3 a0 16 8 x9 ∧ g_jn1 (fun (K11 : Int64 → Prop) => (¬ x2 = x9 → K11 0) ∧ (x2 = x9 → K11 1)) (fun (y10 : Int64) => ∃ a13 : Nat, o8 = some a13 ∧ ∃ (n14 : Nat) (f15 : Nat → Int64) (j16 : Nat), st3.2.1 a13 = some (.inl (3, n14, .inr (.inl (f15)))) ∧ x2 = nI j16 ∧ j16 < n14 ∧ j16 < 2 ^ 31 ∧ ∀ st17 : g_St, st17 = g_put st3 a13 (.inl (3, n14, .inr (.inl (va_up f15 j16 y10)))) → ∃ o18 : Option Nat, g_gr st17 a0 16 13 o18 ∧ ∃ x19 : Int32, g_gi st17 a0 16 8 x19 ∧ g_jn1 (fun (K21 : Int32 → Prop) => (¬ x2 = x19 → K21 (-1)) ∧ (x2 = x19 → K21 (nI 0))) (fun (x20 : Int32) => ∃ a23 : Nat, o18 = some a23 ∧ ∃ (n24 : Nat) (f25 : Nat → Int32) (j26 : Nat), st17.2.1 a23 = some (.inl (0, n24, .inl (f25))) ∧ x2 = nI j26 ∧ j26 < n24 ∧ j26 < 2 ^ 31 ∧ ∀ st27 : g_St, st27 = g_put st17 a23 (.inl (0, n24, .inl (va_up f25 j26 x20))) → g_lp2 (fun (K30 : Int32 → g_St → Prop) (x28 : Int32) (st29 : g_St) => ∃ x33 : Int32, g_gi st29 a0 16 9 x33 ∧ (x33 ≤ x28 → K4 (x2 + (-1)) st29) ∧ (¬ x33 ≤ x28 → g_is st29 a0 16 ∧ wp_X2_like l E 0 0 [va_rf (some a0), .int x28, .int x2] st29 (fun x35 stx => stx = st29 ∧ ∃ o36 : Option Nat, g_gr st29 a0 16 5 o36 ∧ ∃ a37 : Nat, o36 = some a37 ∧ ∃ (n38 : Nat) (f39 : Nat → Int32) (j40 : Nat), g_ai st29 a37 0 n38 f39 ∧ x28 = nI j40 ∧ j40 < n38 ∧ j40 < 2 ^ 31 ∧ g_jn1 (fun (K42 : g_St → Prop) => ((f39 j40) ≤ x35 → ∃ o45 : Option Nat, g_gr st29 a0 16 5 o45 ∧ ∃ a46 : Nat, o45 = some a46 ∧ ∃ (n47 : Nat) (f48 : Nat → Int32) (j49 : Nat), g_ai st29 a46 0 n47 f48 ∧ x28 = nI j49 ∧ j49 < n47 ∧ j49 < 2 ^ 31 ∧ ∃ o50 : Option Nat, g_gr st29 a0 16 12 o50 ∧ ∃ a51 : Nat, o50 = some a51 ∧ ∃ (n52 : Nat) (f53 : Nat → Int64) (j54 : Nat), g_al st29 a51 3 n52 f53 ∧ x2 = nI j54 ∧ j54 < n52 ∧ j54 < 2 ^ 31 ∧ ∃ o55 : Option Nat, g_gr st29 a0 16 12 o55 ∧ ∃ a56 : Nat, o55 = some a56 ∧ ∃ (n57 : Nat) (f58 : Nat → Int64) (j59 : Nat), g_al st29 a56 3 n57 f58 ∧ (x2 + (f48 j49)) = nI j59 ∧ j59 < n57 ∧ j59 < 2 ^ 31 ∧ ∃ (n60 : Nat) (f61 : Nat → Int64) (j62 : Nat), st29.2.1 a51 = some (.inl (3, n60, .inr (.inl (f61)))) ∧ x2 = nI j62 ∧ j62 < n60 ∧ j62 < 2 ^ 31 ∧ ∀ st63 : g_St, st63 = g_put st29 a51 (.inl (3, n60, .inr (.inl (va_up f61 j62 ((f53 j54) + (f58 j59)))))) → ∃ o64 : Option Nat, g_gr st63 a0 16 13 o64 ∧ ∃ a65 : Nat, o64 = some a65 ∧ ∃ (n66 : Nat) (f67 : Nat → Int32) (j68 : Nat), g_ai st63 a65 0 n66 f67 ∧ (x2 + (f48 j49)) = nI j68 ∧ j68 < n66 ∧ j68 < 2 ^ 31 ∧ (((f67 j68) + (nI 1)) ≤ 0 → K42 st63) ∧ (¬ ((f67 j68) + (nI 1)) ≤ 0 → ∃ o70 : Option Nat, g_gr st63 a0 16 13 o70 ∧ ∃ a71 : Nat, o70 = some a71 ∧ ∃ (n72 : Nat) (f73 : Nat → Int32) (j74 : Nat), g_ai st63 a71 0 n72 f73 ∧ x2 = nI j74 ∧ j74 < n72 ∧ j74 < 2 ^ 31 ∧ g_jn0 (fun (K75 : Prop) => ((f73 j74) < 0 → K75) ∧ (¬ (f73 j74) < 0 → ∃ o84 : Option Nat, g_gr st63 a0 16 13 o84 ∧ ∃ a85 : Nat, o84 = some a85 ∧ ∃ (n86 : Nat) (f87 : Nat → Int32) (j88 : Nat), g_ai st63 a85 0 n86 f87 ∧ x2 = nI j88 ∧ j88 < n86 ∧ j88 < 2 ^ 31 ∧ ((f87 j88) ≤ ((f67 j68) + (nI 1)) → K42 st63) ∧ (¬ (f87 j88) ≤ ((f67 j68) + (nI 1)) → K75))) (∃ o77 : Option Nat, g_gr st63 a0 16 13 o77 ∧ ∃ a78 : Nat, o77 = some a78 ∧ ∃ (n79 : Nat) (f80 : Nat → Int32) (j81 : Nat), st63.2.1 a78 = some (.inl (0, n79, .inl (f80))) ∧ x2 = nI j81 ∧ j81 < n79 ∧ j81 < 2 ^ 31 ∧ ∀ st82 : g_St, st82 = g_put st63 a78 (.inl (0, n79, .inl (va_up f80 j81 ((f67 j68) + (nI 1))))) → K42 st82))) ∧ (¬ (f39 j40) ≤ x35 → K42 st29)) (fun (st41 : g_St) => K30 (x28 + (nI 1)) st41)))) (nI 0) st27)))) x1 st
set_option maxHeartbeats 4000000 in
theorem wb_X2_cutsAll {p : Program} {l : Launch} {e : Env} {R : Room} {s : State} {m : MethodId} {args : Array Value} {below : List Frame} {meth : Method} {c : Code} {E : g_E} {st0 : g_St} {Z : State → Prop} (hC : g_Cx p s m args meth c cX2_cutsAll 5 "StemspanModel" none "cutsAll" E st0) (hR : g_Rm 2 63 R) {a0 : Nat} {st : g_St} {cb sb : Nat} {Q : g_St → Prop} (hret : ∀ (pc : Nat) (lv : List (Nat × Value)) (st1 : g_St) (cb sb : Nat), decode cX2_cutsAll pc = .ok (.return_, 1) → Q st1 → g_J p l e R s m args below meth c 5 E st0 Z pc lv [] st1 cb sb) (hvc : vc_X2_cutsAll l E a0 st Q) : g_J p l e R s m args below meth c 5 E st0 Z 0 [(0, va_rf (some a0))] [] st cb sb := by
  unfold vc_X2_cutsAll at hvc
  refine j_aload_n hC dX2_cutsAll_0 rfl 0 rfl ?_
  obtain ⟨x1, ⟨fs, hr, hv⟩, hvc⟩ := hvc
  refine j_get hC fkX2_49_X2 dX2_cutsAll_1 hr hv ?_
  clear hv hr fs
  refine j_istore_n (lv0 := [(0, va_rf (some a0))]) hC dX2_cutsAll_4 rfl rfl [0] rfl (g_okS.h rfl g_c1 rfl) ?_
  replace hvc := g_lp2_o hvc
  obtain ⟨K4, hz99, hs100, n101, hvc⟩ := hvc
  have kh5 : ∀ (n : Nat) (x2 : Int32) (st3 : g_St), K4 n x2 st3 → g_J p l e R s m args below meth c 5 E st0 Z 5 [(0, va_rf (some a0)), (1, .int x2)] [] st3 cb sb := by
    clear hvc
    intro n
    induction n with
    | zero => intro x2 st3 hvc; exact absurd hvc (hz99 _ _)
    | succ n ih6 =>
      intro x2 st3 hvc
      replace hvc := hs100 n _ _ hvc
      refine j_iload_n hC dX2_cutsAll_5 rfl 1 rfl ?_
      refine j_if_lt (tgt := 154) hC dX2_cutsAll_6 rfl (fun c7 => ?_) (fun c7 => ?_)
      · replace hvc := hvc.1 c7
        exact hret _ _ _ _ _ dX2_cutsAll_154 hvc
      · replace hvc := hvc.2 c7
        refine j_aload_n hC dX2_cutsAll_9 rfl 0 rfl ?_
        obtain ⟨o8, ⟨fs, hr, hv⟩, hvc⟩ := hvc
        refine j_get hC fkX2_42_X2 dX2_cutsAll_10 hr hv ?_
        clear hv hr fs
        refine j_iload_n hC dX2_cutsAll_13 rfl 1 rfl ?_
        refine j_iload_n hC dX2_cutsAll_14 rfl 1 rfl ?_
        refine j_aload_n hC dX2_cutsAll_15 rfl 0 rfl ?_
        obtain ⟨x9, ⟨fs, hr, hv⟩, hvc⟩ := hvc
        refine j_get hC fkX2_49_X2 dX2_cutsAll_16 hr hv ?_
        clear hv hr fs
        replace hvc := g_jn1_o hvc
        obtain ⟨K11, hK98, hvc⟩ := hvc
        have kh12 : ∀ (y10 : Int64), K11 y10 → g_J p l e R s m args below meth c 5 E st0 Z 27 [(0, va_rf (some a0)), (1, .int x2)] [.long y10, .int x2, va_rf o8] st3 cb sb := by
          clear hvc
          intro y10 hvc
          replace hvc := hK98 _ hvc
          obtain ⟨a13, rfl, hvc⟩ := hvc
          obtain ⟨n14, f15, j16, hm, hi, hj, hJ, hvc⟩ := hvc
          refine j_ix1 hi ?_
          refine j_stl hC hm hj hJ dX2_cutsAll_27 (fun st17 e1 => ?_)
          replace hvc := hvc st17 e1; clear hm hi hj hJ e1
          refine j_aload_n hC dX2_cutsAll_28 rfl 0 rfl ?_
          obtain ⟨o18, ⟨fs, hr, hv⟩, hvc⟩ := hvc
          refine j_get hC fkX2_46_X2 dX2_cutsAll_29 hr hv ?_
          clear hv hr fs
          refine j_iload_n hC dX2_cutsAll_32 rfl 1 rfl ?_
          refine j_iload_n hC dX2_cutsAll_33 rfl 1 rfl ?_
          refine j_aload_n hC dX2_cutsAll_34 rfl 0 rfl ?_
          obtain ⟨x19, ⟨fs, hr, hv⟩, hvc⟩ := hvc
          refine j_get hC fkX2_49_X2 dX2_cutsAll_35 hr hv ?_
          clear hv hr fs
          replace hvc := g_jn1_o hvc
          obtain ⟨K21, hK96, hvc⟩ := hvc
          have kh22 : ∀ (x20 : Int32), K21 x20 → g_J p l e R s m args below meth c 5 E st0 Z 46 [(0, va_rf (some a0)), (1, .int x2)] [.int x20, .int x2, va_rf o18] st17 cb sb := by
            clear hvc
            intro x20 hvc
            replace hvc := hK96 _ hvc
            obtain ⟨a23, rfl, hvc⟩ := hvc
            obtain ⟨n24, f25, j26, hm, hi, hj, hJ, hvc⟩ := hvc
            refine j_ix1 hi ?_
            refine j_sti hC hm hj hJ dX2_cutsAll_46 (fun st27 e1 => ?_)
            replace hvc := hvc st27 e1; clear hm hi hj hJ e1
            refine j_iconst hC (nI 0) dX2_cutsAll_47 rfl ?_
            refine j_istore_n (lv0 := [(1, .int x2), (0, va_rf (some a0))]) hC dX2_cutsAll_48 rfl rfl [1, 0] rfl (g_okS.h rfl rfl rfl) ?_
            replace hvc := g_lp2_o hvc
            obtain ⟨K30, hz92, hs93, n94, hvc⟩ := hvc
            have kh31 : ∀ (n : Nat) (x28 : Int32) (st29 : g_St), K30 n x28 st29 → g_J p l e R s m args below meth c 5 E st0 Z 49 [(0, va_rf (some a0)), (1, .int x2), (2, .int x28)] [] st29 cb sb := by
              clear hvc
              intro n
              induction n with
              | zero => intro x28 st29 hvc; exact absurd hvc (hz92 _ _)
              | succ n ih32 =>
                intro x28 st29 hvc
                replace hvc := hs93 n _ _ hvc
                refine j_iload_n hC dX2_cutsAll_49 rfl 2 rfl ?_
                refine j_aload_n hC dX2_cutsAll_50 rfl 0 rfl ?_
                obtain ⟨x33, ⟨fs, hr, hv⟩, hvc⟩ := hvc
                refine j_get hC fkX2_59_X2 dX2_cutsAll_51 hr hv ?_
                clear hv hr fs
                refine j_icmp_ge (tgt := 148) hC dX2_cutsAll_54 rfl (fun c34 => ?_) (fun c34 => ?_)
                · replace hvc := hvc.1 c34
                  refine j_iinc (lv0 := [(0, va_rf (some a0)), (2, .int x28)]) hC (-1) dX2_cutsAll_148 1 rfl rfl rfl [0, 2] rfl (g_okS.h rfl g_c1 rfl) ?_
                  refine j_goto (tgt := 5) hC dX2_cutsAll_151 rfl ?_
                  exact j_sub [1, 0] rfl (ih6 (x2 + (-1)) st29 hvc)
                · replace hvc := hvc.2 c34
                  refine j_aload_n hC dX2_cutsAll_57 rfl 0 rfl ?_
                  refine j_iload_n hC dX2_cutsAll_58 rfl 2 rfl ?_
                  refine j_iload_n hC dX2_cutsAll_59 rfl 1 rfl ?_
                  obtain ⟨⟨fs, hr⟩, hvc⟩ := hvc
                  refine j_callV (As := [.int x28, .int x2]) (rest := []) (n := 2) (ci := 16) hC hvc (lw_V q2280 q2282 qs23 q60 q2283) (by decide +kernel) (g_rm hR rfl rfl) rfl hr rfl rfl (g_sum rfl) dX2_cutsAll_60 (Nat.zero_le _) (Nat.zero_le _) (g_Kip fun x35 hv2 => ?_)
                  replace hvc := hv2; clear hv2
                  clear hr fs
                  refine j_aload_n hC dX2_cutsAll_63 rfl 0 rfl ?_
                  obtain ⟨o36, ⟨fs, hr, hv⟩, hvc⟩ := hvc
                  refine j_get hC fkX2_26_X2 dX2_cutsAll_64 hr hv ?_
                  clear hv hr fs
                  refine j_iload_n hC dX2_cutsAll_67 rfl 2 rfl ?_
                  obtain ⟨a37, rfl, hvc⟩ := hvc
                  obtain ⟨n38, f39, j40, hr, hi, hj, hJ, hvc⟩ := hvc
                  refine j_ix hi ?_
                  refine j_iald hC hr hj hJ dX2_cutsAll_68 ?_
                  clear hr hi hj hJ
                  replace hvc := g_jn1_o hvc
                  obtain ⟨K42, hK91, hvc⟩ := hvc
                  have kh43 : ∀ (st41 : g_St), K42 st41 → g_J p l e R s m args below meth c 5 E st0 Z 142 [(0, va_rf (some a0)), (1, .int x2), (2, .int x28)] [] st41 cb sb := by
                    clear hvc
                    intro st41 hvc
                    replace hvc := hK91 _ hvc
                    refine j_iinc (lv0 := [(1, .int x2), (0, va_rf (some a0))]) hC (nI 1) dX2_cutsAll_142 2 rfl rfl rfl [1, 0] rfl (g_okS.h rfl rfl rfl) ?_
                    refine j_goto (tgt := 49) hC dX2_cutsAll_145 rfl ?_
                    exact j_sub [2, 1, 0] rfl (ih32 (x28 + (nI 1)) st41 hvc)
                  refine j_icmp_ge (tgt := 75) hC dX2_cutsAll_69 rfl (fun c44 => ?_) (fun c44 => ?_)
                  · replace hvc := hvc.1 c44
                    refine j_iload_n hC dX2_cutsAll_75 rfl 1 rfl ?_
                    refine j_aload_n hC dX2_cutsAll_76 rfl 0 rfl ?_
                    obtain ⟨o45, ⟨fs, hr, hv⟩, hvc⟩ := hvc
                    refine j_get hC fkX2_26_X2 dX2_cutsAll_77 hr hv ?_
                    clear hv hr fs
                    refine j_iload_n hC dX2_cutsAll_80 rfl 2 rfl ?_
                    obtain ⟨a46, rfl, hvc⟩ := hvc
                    obtain ⟨n47, f48, j49, hr, hi, hj, hJ, hvc⟩ := hvc
                    refine j_ix hi ?_
                    refine j_iald hC hr hj hJ dX2_cutsAll_81 ?_
                    clear hr hi hj hJ
                    refine j_iadd hC dX2_cutsAll_82 ?_
                    refine j_istore_n (lv0 := [(2, .int x28), (0, va_rf (some a0)), (1, .int x2)]) hC dX2_cutsAll_83 rfl rfl [2, 0, 1] rfl (g_okS.h rfl rfl rfl) ?_
                    refine j_aload_n hC dX2_cutsAll_84 rfl 2 rfl ?_
                    obtain ⟨o50, ⟨fs, hr, hv⟩, hvc⟩ := hvc
                    refine j_get hC fkX2_42_X2 dX2_cutsAll_85 hr hv ?_
                    clear hv hr fs
                    refine j_iload_n hC dX2_cutsAll_88 rfl 3 rfl ?_
                    refine j_dup2 hC dX2_cutsAll_89 rfl g_c1 ?_
                    obtain ⟨a51, rfl, hvc⟩ := hvc
                    obtain ⟨n52, f53, j54, hr, hi, hj, hJ, hvc⟩ := hvc
                    refine j_ix hi ?_
                    refine j_lald hC hr hj hJ dX2_cutsAll_90 ?_
                    clear hr hi hj hJ
                    refine j_aload_n hC dX2_cutsAll_91 rfl 2 rfl ?_
                    obtain ⟨o55, ⟨fs, hr, hv⟩, hvc⟩ := hvc
                    refine j_get hC fkX2_42_X2 dX2_cutsAll_92 hr hv ?_
                    clear hv hr fs
                    refine j_iload_n hC dX2_cutsAll_95 rfl 0 rfl ?_
                    obtain ⟨a56, rfl, hvc⟩ := hvc
                    obtain ⟨n57, f58, j59, hr, hi, hj, hJ, hvc⟩ := hvc
                    refine j_ix hi ?_
                    refine j_lald hC hr hj hJ dX2_cutsAll_96 ?_
                    clear hr hi hj hJ
                    refine j_ladd hC dX2_cutsAll_97 ?_
                    obtain ⟨n60, f61, j62, hm, hi, hj, hJ, hvc⟩ := hvc
                    refine j_ix1 hi ?_
                    refine j_stl hC hm hj hJ dX2_cutsAll_98 (fun st63 e1 => ?_)
                    replace hvc := hvc st63 e1; clear hm hi hj hJ e1
                    refine j_aload_n hC dX2_cutsAll_99 rfl 2 rfl ?_
                    obtain ⟨o64, ⟨fs, hr, hv⟩, hvc⟩ := hvc
                    refine j_get hC fkX2_46_X2 dX2_cutsAll_100 hr hv ?_
                    clear hv hr fs
                    refine j_iload_n hC dX2_cutsAll_103 rfl 0 rfl ?_
                    obtain ⟨a65, rfl, hvc⟩ := hvc
                    obtain ⟨n66, f67, j68, hr, hi, hj, hJ, hvc⟩ := hvc
                    refine j_ix hi ?_
                    refine j_iald hC hr hj hJ dX2_cutsAll_104 ?_
                    clear hr hi hj hJ
                    refine j_iconst hC (nI 1) dX2_cutsAll_105 rfl ?_
                    refine j_iadd hC dX2_cutsAll_106 ?_
                    refine j_istore (lv0 := [(3, .int (x2 + (f48 j49))), (2, .int x28), (0, va_rf (some a0)), (1, .int x2)]) hC dX2_cutsAll_107 rfl [0, 1, 2, 3] rfl (g_okS.h rfl rfl rfl) ?_
                    refine j_iload hC dX2_cutsAll_109 0 rfl ?_
                    refine j_if_le (tgt := 142) hC dX2_cutsAll_111 rfl (fun c69 => ?_) (fun c69 => ?_)
                    · replace hvc := hvc.1 c69
                      exact j_sub [3, 4, 2] rfl (kh43 st63 hvc)
                    · replace hvc := hvc.2 c69
                      refine j_aload_n hC dX2_cutsAll_114 rfl 3 rfl ?_
                      obtain ⟨o70, ⟨fs, hr, hv⟩, hvc⟩ := hvc
                      refine j_get hC fkX2_46_X2 dX2_cutsAll_115 hr hv ?_
                      clear hv hr fs
                      refine j_iload_n hC dX2_cutsAll_118 rfl 4 rfl ?_
                      obtain ⟨a71, rfl, hvc⟩ := hvc
                      obtain ⟨n72, f73, j74, hr, hi, hj, hJ, hvc⟩ := hvc
                      refine j_ix hi ?_
                      refine j_iald hC hr hj hJ dX2_cutsAll_119 ?_
                      clear hr hi hj hJ
                      replace hvc := g_jn0_o hvc
                      obtain ⟨K75, hK90, hvc⟩ := hvc
                      have kh76 : K75 → g_J p l e R s m args below meth c 5 E st0 Z 134 [(0, va_rf (some a0)), (1, .int x2), (2, .int x28), (4, .int ((f67 j68) + (nI 1)))] [] st63 cb sb := by
                        clear hvc
                        intro hvc
                        replace hvc := hK90 hvc
                        refine j_aload_n hC dX2_cutsAll_134 rfl 0 rfl ?_
                        obtain ⟨o77, ⟨fs, hr, hv⟩, hvc⟩ := hvc
                        refine j_get hC fkX2_46_X2 dX2_cutsAll_135 hr hv ?_
                        clear hv hr fs
                        refine j_iload_n hC dX2_cutsAll_138 rfl 1 rfl ?_
                        refine j_iload hC dX2_cutsAll_139 3 rfl ?_
                        obtain ⟨a78, rfl, hvc⟩ := hvc
                        obtain ⟨n79, f80, j81, hm, hi, hj, hJ, hvc⟩ := hvc
                        refine j_ix1 hi ?_
                        refine j_sti hC hm hj hJ dX2_cutsAll_141 (fun st82 e1 => ?_)
                        replace hvc := hvc st82 e1; clear hm hi hj hJ e1
                        exact j_sub [0, 1, 2] rfl (kh43 st82 hvc)
                      refine j_if_lt (tgt := 134) hC dX2_cutsAll_120 rfl (fun c83 => ?_) (fun c83 => ?_)
                      · replace hvc := hvc.1 c83
                        exact j_sub [3, 4, 2, 0] rfl (kh76 hvc)
                      · replace hvc := hvc.2 c83
                        refine j_iload hC dX2_cutsAll_123 0 rfl ?_
                        refine j_aload_n hC dX2_cutsAll_125 rfl 3 rfl ?_
                        obtain ⟨o84, ⟨fs, hr, hv⟩, hvc⟩ := hvc
                        refine j_get hC fkX2_46_X2 dX2_cutsAll_126 hr hv ?_
                        clear hv hr fs
                        refine j_iload_n hC dX2_cutsAll_129 rfl 4 rfl ?_
                        obtain ⟨a85, rfl, hvc⟩ := hvc
                        obtain ⟨n86, f87, j88, hr, hi, hj, hJ, hvc⟩ := hvc
                        refine j_ix hi ?_
                        refine j_iald hC hr hj hJ dX2_cutsAll_130 ?_
                        clear hr hi hj hJ
                        refine j_icmp_ge (tgt := 142) hC dX2_cutsAll_131 rfl (fun c89 => ?_) (fun c89 => ?_)
                        · replace hvc := hvc.1 c89
                          exact j_sub [3, 4, 2] rfl (kh43 st63 hvc)
                        · replace hvc := hvc.2 c89
                          exact j_sub [3, 4, 2, 0] rfl (kh76 hvc)
                  · replace hvc := hvc.2 c44
                    refine j_goto (tgt := 142) hC dX2_cutsAll_72 rfl ?_
                    exact j_sub [0, 1, 2] rfl (kh43 st29 hvc)
            exact j_sub [2, 1, 0] rfl (kh31 n94 (nI 0) st27 hvc)
          refine j_icmp_ne (tgt := 45) hC dX2_cutsAll_38 rfl (fun c95 => ?_) (fun c95 => ?_)
          · replace hvc := hvc.1 c95
            refine j_iconst hC (-1) dX2_cutsAll_45 rfl ?_
            exact j_sub [0, 1] rfl (kh22 (-1) hvc)
          · replace hvc := hvc.2 c95
            refine j_iconst hC (nI 0) dX2_cutsAll_41 rfl ?_
            refine j_goto (tgt := 46) hC dX2_cutsAll_42 rfl ?_
            exact j_sub [0, 1] rfl (kh22 (nI 0) hvc)
        refine j_icmp_ne (tgt := 26) hC dX2_cutsAll_19 rfl (fun c97 => ?_) (fun c97 => ?_)
        · replace hvc := hvc.1 c97
          refine j_lconst hC 0 dX2_cutsAll_26 rfl ?_
          exact j_sub [0, 1] rfl (kh12 0 hvc)
        · replace hvc := hvc.2 c97
          refine j_lconst hC 1 dX2_cutsAll_22 rfl ?_
          refine j_goto (tgt := 27) hC dX2_cutsAll_23 rfl ?_
          exact j_sub [0, 1] rfl (kh12 1 hvc)
  exact j_sub [1, 0] rfl (kh5 n101 x1 st hvc)
theorem wk_X2_cutsAll {l : Launch} {E : g_E} {a0 : Nat} {st : g_St} {mc ms : Nat} {Q : g_St → Prop} (hvc : vc_X2_cutsAll l E a0 st Q) : wp_X2_cutsAll l E mc ms [va_rf (some a0)] st Q :=
  g_enter (lv0 := [(0, va_rf (some a0))]) (plainFor_of_name (by decide +kernel)) (by simp [lv_args, g_c1, g_ci, g_cL]) (by simp [lg_sl, g_c1, g_ci, g_cL]) (fun p e s m args below meth c hC => wb_X2_cutsAll hC ⟨Nat.le_refl _, Nat.le_refl _⟩ (fun pc lv st1 cb sb hd hq => j_return hC rfl hd ⟨rfl, hq⟩) hvc)
abbrev wp_X2_cuts (l : Launch) (E : g_E) (mc ms : Nat) (av : List Value) (st : g_St) (Q : Int64 → g_St → Prop) : Prop := g_WPl l E yX2_cuts cX2_cuts 1 (some .long) 3 87 mc ms av st Q
def vc_X2_cuts (l : Launch) (E : g_E) (a0 : Nat) (st : g_St) (Q : Int64 → g_St → Prop) : Prop :=
  ∃ fs1 : List Value, st.2.1 a0 = some (.inr (16, fs1)) ∧ ∀ st2 : g_St, st2 = g_put st a0 (.inr (16, fs1.set 0 (.int (nI 0)))) → g_is st2 a0 16 ∧ wp_X2_cutsAll l E 0 0 [va_rf (some a0)] st2 (fun st3 => g_Ext st2 st3 → ∃ o4 : Option Nat, g_gr st3 a0 16 12 o4 ∧ ∃ a5 : Nat, o4 = some a5 ∧ ∃ (n6 : Nat) (f7 : Nat → Int64) (j8 : Nat), g_al st3 a5 3 n6 f7 ∧ (nI 0) = nI j8 ∧ j8 < n6 ∧ j8 < 2 ^ 31 ∧ Q (f7 j8) st3)
set_option maxHeartbeats 4000000 in
theorem wb_X2_cuts {p : Program} {l : Launch} {e : Env} {R : Room} {s : State} {m : MethodId} {args : Array Value} {below : List Frame} {meth : Method} {c : Code} {E : g_E} {st0 : g_St} {Z : State → Prop} (hC : g_Cx p s m args meth c cX2_cuts 1 "StemspanModel" (some .long) "cuts" E st0) (hR : g_Rm 3 87 R) {a0 : Nat} {st : g_St} {cb sb : Nat} {Q : Int64 → g_St → Prop} (hret : ∀ (pc : Nat) (lv : List (Nat × Value)) (v : Int64) (st1 : g_St) (cb sb : Nat), decode cX2_cuts pc = .ok (.lreturn, 1) → Q v st1 → g_J p l e R s m args below meth c 1 E st0 Z pc lv [.long v] st1 cb sb) (hvc : vc_X2_cuts l E a0 st Q) : g_J p l e R s m args below meth c 1 E st0 Z 0 [(0, va_rf (some a0))] [] st cb sb := by
  unfold vc_X2_cuts at hvc
  refine j_aload_n hC dX2_cuts_0 rfl 0 rfl ?_
  refine j_iconst hC (nI 0) dX2_cuts_1 rfl ?_
  obtain ⟨fs1, hm, hvc⟩ := hvc
  refine j_put hC fkX2_1_X2 dX2_cuts_2 hm rfl rfl (fun st2 e1 => ?_)
  replace hvc := hvc st2 e1; clear hm e1
  refine j_aload_n hC dX2_cuts_5 rfl 0 rfl ?_
  obtain ⟨⟨fs, hr⟩, hvc⟩ := hvc
  refine j_callV (As := []) (rest := []) (n := 0) (ci := 16) hC hvc (lw_V q2380 q2382 qs32 q60 q2383) (by decide +kernel) (g_rm hR rfl rfl) rfl hr rfl rfl (g_sum rfl) dX2_cuts_6 (Nat.zero_le _) (Nat.zero_le _) (g_Kv fun st3 hv2 hx => ?_)
  replace hvc := hv2 hx; clear hx hv2
  clear hr fs
  refine j_aload_n hC dX2_cuts_9 rfl 0 rfl ?_
  obtain ⟨o4, ⟨fs, hr, hv⟩, hvc⟩ := hvc
  refine j_get hC fkX2_42_X2 dX2_cuts_10 hr hv ?_
  clear hv hr fs
  refine j_iconst hC (nI 0) dX2_cuts_13 rfl ?_
  obtain ⟨a5, rfl, hvc⟩ := hvc
  obtain ⟨n6, f7, j8, hr, hi, hj, hJ, hvc⟩ := hvc
  refine j_ix hi ?_
  refine j_lald hC hr hj hJ dX2_cuts_14 ?_
  clear hr hi hj hJ
  exact hret _ _ _ _ _ _ dX2_cuts_15 hvc
theorem wk_X2_cuts {l : Launch} {E : g_E} {a0 : Nat} {st : g_St} {mc ms : Nat} {Q : Int64 → g_St → Prop} (hvc : vc_X2_cuts l E a0 st Q) : wp_X2_cuts l E mc ms [va_rf (some a0)] st Q :=
  g_enter (lv0 := [(0, va_rf (some a0))]) (plainFor_of_name (by decide +kernel)) (by simp [lv_args, g_c1, g_ci, g_cL]) (by simp [lg_sl, g_c1, g_ci, g_cL]) (fun p e s m args below meth c hC => wb_X2_cuts hC ⟨Nat.le_refl _, Nat.le_refl _⟩ (fun pc lv v st1 cb sb hd hq => j_lreturn hC rfl hd (g_lvv hq)) hvc)
abbrev wp_X2_fewest (l : Launch) (E : g_E) (mc ms : Nat) (av : List Value) (st : g_St) (Q : Int32 → g_St → Prop) : Prop := g_WPi l E yX2_fewest cX2_fewest 1 (some .int) 3 87 mc ms av st Q
def vc_X2_fewest (l : Launch) (E : g_E) (a0 : Nat) (st : g_St) (Q : Int32 → g_St → Prop) : Prop :=
  ∃ fs1 : List Value, st.2.1 a0 = some (.inr (16, fs1)) ∧ ∀ st2 : g_St, st2 = g_put st a0 (.inr (16, fs1.set 0 (.int (nI 0)))) → g_is st2 a0 16 ∧ wp_X2_cutsAll l E 0 0 [va_rf (some a0)] st2 (fun st3 => g_Ext st2 st3 → ∃ o4 : Option Nat, g_gr st3 a0 16 13 o4 ∧ ∃ a5 : Nat, o4 = some a5 ∧ ∃ (n6 : Nat) (f7 : Nat → Int32) (j8 : Nat), g_ai st3 a5 0 n6 f7 ∧ (nI 0) = nI j8 ∧ j8 < n6 ∧ j8 < 2 ^ 31 ∧ Q (f7 j8) st3)
set_option maxHeartbeats 4000000 in
theorem wb_X2_fewest {p : Program} {l : Launch} {e : Env} {R : Room} {s : State} {m : MethodId} {args : Array Value} {below : List Frame} {meth : Method} {c : Code} {E : g_E} {st0 : g_St} {Z : State → Prop} (hC : g_Cx p s m args meth c cX2_fewest 1 "StemspanModel" (some .int) "fewest" E st0) (hR : g_Rm 3 87 R) {a0 : Nat} {st : g_St} {cb sb : Nat} {Q : Int32 → g_St → Prop} (hret : ∀ (pc : Nat) (lv : List (Nat × Value)) (v : Int32) (st1 : g_St) (cb sb : Nat), decode cX2_fewest pc = .ok (.ireturn, 1) → narrow .int (.int v) = .int v → Q v st1 → g_J p l e R s m args below meth c 1 E st0 Z pc lv [.int v] st1 cb sb) (hvc : vc_X2_fewest l E a0 st Q) : g_J p l e R s m args below meth c 1 E st0 Z 0 [(0, va_rf (some a0))] [] st cb sb := by
  unfold vc_X2_fewest at hvc
  refine j_aload_n hC dX2_fewest_0 rfl 0 rfl ?_
  refine j_iconst hC (nI 0) dX2_fewest_1 rfl ?_
  obtain ⟨fs1, hm, hvc⟩ := hvc
  refine j_put hC fkX2_1_X2 dX2_fewest_2 hm rfl rfl (fun st2 e1 => ?_)
  replace hvc := hvc st2 e1; clear hm e1
  refine j_aload_n hC dX2_fewest_5 rfl 0 rfl ?_
  obtain ⟨⟨fs, hr⟩, hvc⟩ := hvc
  refine j_callV (As := []) (rest := []) (n := 0) (ci := 16) hC hvc (lw_V q2380 q2382 qs32 q60 q2383) (by decide +kernel) (g_rm hR rfl rfl) rfl hr rfl rfl (g_sum rfl) dX2_fewest_6 (Nat.zero_le _) (Nat.zero_le _) (g_Kv fun st3 hv2 hx => ?_)
  replace hvc := hv2 hx; clear hx hv2
  clear hr fs
  refine j_aload_n hC dX2_fewest_9 rfl 0 rfl ?_
  obtain ⟨o4, ⟨fs, hr, hv⟩, hvc⟩ := hvc
  refine j_get hC fkX2_46_X2 dX2_fewest_10 hr hv ?_
  clear hv hr fs
  refine j_iconst hC (nI 0) dX2_fewest_13 rfl ?_
  obtain ⟨a5, rfl, hvc⟩ := hvc
  obtain ⟨n6, f7, j8, hr, hi, hj, hJ, hvc⟩ := hvc
  refine j_ix hi ?_
  refine j_iald hC hr hj hJ dX2_fewest_14 ?_
  clear hr hi hj hJ
  exact hret _ _ _ _ _ _ dX2_fewest_15 rfl hvc
theorem wk_X2_fewest {l : Launch} {E : g_E} {a0 : Nat} {st : g_St} {mc ms : Nat} {Q : Int32 → g_St → Prop} (hvc : vc_X2_fewest l E a0 st Q) : wp_X2_fewest l E mc ms [va_rf (some a0)] st Q :=
  g_enter (lv0 := [(0, va_rf (some a0))]) (plainFor_of_name (by decide +kernel)) (by simp [lv_args, g_c1, g_ci, g_cL]) (by simp [lg_sl, g_c1, g_ci, g_cL]) (fun p e s m args below meth c hC => wb_X2_fewest hC ⟨Nat.le_refl _, Nat.le_refl _⟩ (fun pc lv v st1 cb sb hd hn hq => j_ireturn hC rfl hn hd (g_iv hq)) hvc)
abbrev wp_X2_code (l : Launch) (E : g_E) (mc ms : Nat) (av : List Value) (st : g_St) (Q : Int32 → g_St → Prop) : Prop := g_WPi l E yX2_code cX2_code 5 (some .int) 2 62 mc ms av st Q
def vc_X2_code (l : Launch) (E : g_E) (a0 : Nat) (p0 : Int32) (st : g_St) (Q : Int32 → g_St → Prop) : Prop :=
  wp_X2_isSign l E 0 0 [.int p0] st (fun x1 stx => stx = st ∧ g_jn1 (fun (K3 : Int32 → Prop) => (¬ x1 = 0 → ∃ x42 : Int32, g_gi st a0 16 8 x42 ∧ wp_X2_in l E 0 0 [.int x42, .int (nI 1), .int (nI 3)] st (fun x43 stx => stx = st ∧ (¬ x43 = 0 → K3 (nI 0)) ∧ (x43 = 0 → K3 (nI 2)))) ∧ (x1 = 0 → K3 (nI 1))) (fun (x2 : Int32) => g_is st a0 16 ∧ wp_X2_fails l E 0 0 [va_rf (some a0), .int x2] st (fun x5 st6 => g_Ext st st6 → (x5 = 0 → ∃ o8 : Option Nat, g_gr st6 a0 16 7 o8 ∧ ∃ a9 : Nat, o8 = some a9 ∧ ∃ (n10 : Nat) (f11 : Nat → Int32) (j12 : Nat), g_ai st6 a9 0 n10 f11 ∧ (p0 - (nI 97)) = nI j12 ∧ j12 < n10 ∧ j12 < 2 ^ 31 ∧ ∃ o13 : Option Nat, g_gr st6 a0 16 7 o13 ∧ ∃ x14 : Int32, g_gi st6 a0 16 8 x14 ∧ ∃ a15 : Nat, o13 = some a15 ∧ ∃ (n16 : Nat) (f17 : Nat → Int32) (j18 : Nat), st6.2.1 a15 = some (.inl (0, n16, .inl (f17))) ∧ (p0 - (nI 97)) = nI j18 ∧ j18 < n16 ∧ j18 < 2 ^ 31 ∧ ∀ st19 : g_St, st19 = g_put st6 a15 (.inl (0, n16, .inl (va_up f17 j18 x14))) → g_lp2 (fun (K22 : Int32 → g_St → Prop) (x20 : Int32) (st21 : g_St) => ∃ x25 : Int32, g_gi st21 a0 16 8 x25 ∧ (x25 ≤ x20 → Q (f11 j12) st21) ∧ (¬ x25 ≤ x20 → ∃ o27 : Option Nat, g_gr st21 a0 16 3 o27 ∧ ∃ o28 : Option Nat, g_gr st21 a0 16 1 o28 ∧ ∃ a29 : Nat, o28 = some a29 ∧ ∃ (n30 : Nat) (f31 : Nat → Int32) (j32 : Nat), g_ai st21 a29 2 n30 f31 ∧ x20 = nI j32 ∧ j32 < n30 ∧ j32 < 2 ^ 31 ∧ ∃ a33 : Nat, o27 = some a33 ∧ ∃ (n34 : Nat) (f35 : Nat → Int32) (j36 : Nat), st21.2.1 a33 = some (.inl (2, n34, .inl (f35))) ∧ (((nI 3) * (p0 - (nI 97))) + x20) = nI j36 ∧ j36 < n34 ∧ j36 < 2 ^ 31 ∧ ∀ st37 : g_St, st37 = g_put st21 a33 (.inl (2, n34, .inl (va_up f35 j36 (vp_nar .char (f31 j32))))) → K22 (x20 + (nI 1)) st37)) (nI 0) st19) ∧ (¬ x5 = 0 → Q (nI 0) st6))))
set_option maxHeartbeats 4000000 in
theorem wb_X2_code {p : Program} {l : Launch} {e : Env} {R : Room} {s : State} {m : MethodId} {args : Array Value} {below : List Frame} {meth : Method} {c : Code} {E : g_E} {st0 : g_St} {Z : State → Prop} (hC : g_Cx p s m args meth c cX2_code 5 "StemspanModel" (some .int) "code" E st0) (hR : g_Rm 2 62 R) {a0 : Nat} {p0 : Int32} {st : g_St} {cb sb : Nat} {Q : Int32 → g_St → Prop} (hret : ∀ (pc : Nat) (lv : List (Nat × Value)) (v : Int32) (st1 : g_St) (cb sb : Nat), decode cX2_code pc = .ok (.ireturn, 1) → narrow .int (.int v) = .int v → Q v st1 → g_J p l e R s m args below meth c 5 E st0 Z pc lv [.int v] st1 cb sb) (hvc : vc_X2_code l E a0 p0 st Q) : g_J p l e R s m args below meth c 5 E st0 Z 0 [(0, va_rf (some a0)), (1, .int p0)] [] st cb sb := by
  unfold vc_X2_code at hvc
  refine j_aload_n hC dX2_code_0 rfl 0 rfl ?_
  refine j_iload_n hC dX2_code_1 rfl 1 rfl ?_
  refine j_callS (As := [.int p0]) (rest := [va_rf (some a0)]) (n := 1) hC hvc (lw_S q2229 q2230 q60 q2231) (by decide +kernel) (g_rm hR rfl rfl) rfl rfl (g_sum rfl) dX2_code_2 (Nat.zero_le _) (Nat.zero_le _) (g_Kip fun x1 hv2 => ?_)
  replace hvc := hv2; clear hv2
  replace hvc := g_jn1_o hvc
  obtain ⟨K3, hK45, hvc⟩ := hvc
  have kh4 : ∀ (x2 : Int32), K3 x2 → g_J p l e R s m args below meth c 5 E st0 Z 29 [(0, va_rf (some a0)), (1, .int p0)] [.int x2, va_rf (some a0)] st cb sb := by
    clear hvc
    intro x2 hvc
    replace hvc := hK45 _ hvc
    obtain ⟨⟨fs, hr⟩, hvc⟩ := hvc
    refine j_callV (As := [.int x2]) (rest := []) (n := 1) (ci := 16) hC hvc (lw_V q2232 q2234 qs20 q60 q2235) (by decide +kernel) (g_rm hR rfl rfl) rfl hr rfl rfl (g_sum rfl) dX2_code_29 (Nat.zero_le _) (Nat.zero_le _) (g_Ki fun x5 st6 hv2 hx => ?_)
    replace hvc := hv2 hx; clear hx hv2
    clear hr fs
    refine j_if_eq (tgt := 37) hC dX2_code_32 rfl (fun c7 => ?_) (fun c7 => ?_)
    · replace hvc := hvc.1 c7
      refine j_iload_n hC dX2_code_37 rfl 1 rfl ?_
      refine j_bipush hC (nI 97) dX2_code_38 rfl ?_
      refine j_isub hC dX2_code_40 ?_
      refine j_istore_n (lv0 := [(1, .int p0), (0, va_rf (some a0))]) hC dX2_code_41 rfl rfl [1, 0] rfl (g_okS.h rfl rfl rfl) ?_
      refine j_aload_n hC dX2_code_42 rfl 2 rfl ?_
      obtain ⟨o8, ⟨fs, hr, hv⟩, hvc⟩ := hvc
      refine j_get hC fkX2_33_X2 dX2_code_43 hr hv ?_
      clear hv hr fs
      refine j_iload_n hC dX2_code_46 rfl 0 rfl ?_
      obtain ⟨a9, rfl, hvc⟩ := hvc
      obtain ⟨n10, f11, j12, hr, hi, hj, hJ, hvc⟩ := hvc
      refine j_ix hi ?_
      refine j_iald hC hr hj hJ dX2_code_47 ?_
      clear hr hi hj hJ
      refine j_istore_n (lv0 := [(2, .int (p0 - (nI 97))), (1, .int p0), (0, va_rf (some a0))]) hC dX2_code_48 rfl rfl [0, 1, 2] rfl (g_okS.h rfl rfl rfl) ?_
      refine j_aload_n hC dX2_code_49 rfl 3 rfl ?_
      obtain ⟨o13, ⟨fs, hr, hv⟩, hvc⟩ := hvc
      refine j_get hC fkX2_33_X2 dX2_code_50 hr hv ?_
      clear hv hr fs
      refine j_iload_n hC dX2_code_53 rfl 1 rfl ?_
      refine j_aload_n hC dX2_code_54 rfl 3 rfl ?_
      obtain ⟨x14, ⟨fs, hr, hv⟩, hvc⟩ := hvc
      refine j_get hC fkX2_49_X2 dX2_code_55 hr hv ?_
      clear hv hr fs
      obtain ⟨a15, rfl, hvc⟩ := hvc
      obtain ⟨n16, f17, j18, hm, hi, hj, hJ, hvc⟩ := hvc
      refine j_ix1 hi ?_
      refine j_sti hC hm hj hJ dX2_code_58 (fun st19 e1 => ?_)
      replace hvc := hvc st19 e1; clear hm hi hj hJ e1
      refine j_iconst hC (nI 0) dX2_code_59 rfl ?_
      refine j_istore (lv0 := [(3, .int (f11 j12)), (2, .int (p0 - (nI 97))), (1, .int p0), (0, va_rf (some a0))]) hC dX2_code_60 rfl [0, 1, 2, 3] rfl (g_okS.h rfl rfl rfl) ?_
      replace hvc := g_lp2_o hvc
      obtain ⟨K22, hz38, hs39, n40, hvc⟩ := hvc
      have kh23 : ∀ (n : Nat) (x20 : Int32) (st21 : g_St), K22 n x20 st21 → g_J p l e R s m args below meth c 5 E st0 Z 62 [(0, va_rf (some a0)), (2, .int (p0 - (nI 97))), (3, .int (f11 j12)), (4, .int x20)] [] st21 cb sb := by
        clear hvc
        intro n
        induction n with
        | zero => intro x20 st21 hvc; exact absurd hvc (hz38 _ _)
        | succ n ih24 =>
          intro x20 st21 hvc
          replace hvc := hs39 n _ _ hvc
          refine j_iload hC dX2_code_62 3 rfl ?_
          refine j_aload_n hC dX2_code_64 rfl 0 rfl ?_
          obtain ⟨x25, ⟨fs, hr, hv⟩, hvc⟩ := hvc
          refine j_get hC fkX2_49_X2 dX2_code_65 hr hv ?_
          clear hv hr fs
          refine j_icmp_ge (tgt := 95) hC dX2_code_68 rfl (fun c26 => ?_) (fun c26 => ?_)
          · replace hvc := hvc.1 c26
            refine j_iload_n hC dX2_code_95 rfl 2 rfl ?_
            exact hret _ _ _ _ _ _ dX2_code_96 rfl hvc
          · replace hvc := hvc.2 c26
            refine j_aload_n hC dX2_code_71 rfl 0 rfl ?_
            obtain ⟨o27, ⟨fs, hr, hv⟩, hvc⟩ := hvc
            refine j_get hC fkX2_20_X2 dX2_code_72 hr hv ?_
            clear hv hr fs
            refine j_iconst hC (nI 3) dX2_code_75 rfl ?_
            refine j_iload_n hC dX2_code_76 rfl 1 rfl ?_
            refine j_imul hC dX2_code_77 ?_
            refine j_iload hC dX2_code_78 3 rfl ?_
            refine j_iadd hC dX2_code_80 ?_
            refine j_aload_n hC dX2_code_81 rfl 0 rfl ?_
            obtain ⟨o28, ⟨fs, hr, hv⟩, hvc⟩ := hvc
            refine j_get hC fkX2_13_X2 dX2_code_82 hr hv ?_
            clear hv hr fs
            refine j_iload hC dX2_code_85 3 rfl ?_
            obtain ⟨a29, rfl, hvc⟩ := hvc
            obtain ⟨n30, f31, j32, hr, hi, hj, hJ, hvc⟩ := hvc
            refine j_ix hi ?_
            refine j_cald hC hr hj hJ dX2_code_87 ?_
            clear hr hi hj hJ
            obtain ⟨a33, rfl, hvc⟩ := hvc
            obtain ⟨n34, f35, j36, hm, hi, hj, hJ, hvc⟩ := hvc
            refine j_ix1 hi ?_
            refine j_stc hC hm hj hJ dX2_code_88 (fun st37 e1 => ?_)
            replace hvc := hvc st37 e1; clear hm hi hj hJ e1
            refine j_iinc (lv0 := [(3, .int (f11 j12)), (0, va_rf (some a0)), (2, .int (p0 - (nI 97)))]) hC (nI 1) dX2_code_89 3 rfl rfl rfl [2, 0, 1] rfl (g_okS.h rfl rfl rfl) ?_
            refine j_goto (tgt := 62) hC dX2_code_92 rfl ?_
            exact j_sub [2, 3, 1, 0] rfl (ih24 (x20 + (nI 1)) st37 hvc)
      exact j_sub [4, 2, 1, 0] rfl (kh23 n40 (nI 0) st19 hvc)
    · replace hvc := hvc.2 c7
      refine j_iconst hC (nI 0) dX2_code_35 rfl ?_
      exact hret _ _ _ _ _ _ dX2_code_36 rfl hvc
  refine j_if_ne (tgt := 12) hC dX2_code_5 rfl (fun c41 => ?_) (fun c41 => ?_)
  · replace hvc := hvc.1 c41
    refine j_aload_n hC dX2_code_12 rfl 0 rfl ?_
    obtain ⟨x42, ⟨fs, hr, hv⟩, hvc⟩ := hvc
    refine j_get hC fkX2_49_X2 dX2_code_13 hr hv ?_
    clear hv hr fs
    refine j_iconst hC (nI 1) dX2_code_16 rfl ?_
    refine j_iconst hC (nI 3) dX2_code_17 rfl ?_
    refine j_callS (As := [.int x42, .int (nI 1), .int (nI 3)]) (rest := [va_rf (some a0)]) (n := 3) hC hvc (lw_S q2240 q2241 q60 q2242) (by decide +kernel) (g_rm hR rfl rfl) rfl rfl (g_sum rfl) dX2_code_18 (Nat.zero_le _) (Nat.zero_le _) (g_Kip fun x43 hv2 => ?_)
    replace hvc := hv2; clear hv2
    refine j_if_ne (tgt := 28) hC dX2_code_21 rfl (fun c44 => ?_) (fun c44 => ?_)
    · replace hvc := hvc.1 c44
      refine j_iconst hC (nI 0) dX2_code_28 rfl ?_
      exact j_sub [0, 1] rfl (kh4 (nI 0) hvc)
    · replace hvc := hvc.2 c44
      refine j_iconst hC (nI 2) dX2_code_24 rfl ?_
      refine j_goto (tgt := 29) hC dX2_code_25 rfl ?_
      exact j_sub [0, 1] rfl (kh4 (nI 2) hvc)
  · replace hvc := hvc.2 c41
    refine j_iconst hC (nI 1) dX2_code_8 rfl ?_
    refine j_goto (tgt := 29) hC dX2_code_9 rfl ?_
    exact j_sub [0, 1] rfl (kh4 (nI 1) hvc)
theorem wk_X2_code {l : Launch} {E : g_E} {a0 : Nat} {p0 : Int32} {st : g_St} {mc ms : Nat} {Q : Int32 → g_St → Prop} (hvc : vc_X2_code l E a0 p0 st Q) : wp_X2_code l E mc ms [va_rf (some a0), .int p0] st Q :=
  g_enter (lv0 := [(0, va_rf (some a0)), (1, .int p0)]) (plainFor_of_name (by decide +kernel)) (by simp [lv_args, g_c1, g_ci, g_cL]) (by simp [lg_sl, g_c1, g_ci, g_cL]) (fun p e s m args below meth c hC => wb_X2_code hC ⟨Nat.le_refl _, Nat.le_refl _⟩ (fun pc lv v st1 cb sb hd hn hq => j_ireturn hC rfl hn hd (g_iv hq)) hvc)
abbrev wp_X2_puts (l : Launch) (E : g_E) (mc ms : Nat) (av : List Value) (st : g_St) (Q : Int32 → g_St → Prop) : Prop := g_WPi l E yX2_puts cX2_puts 5 (some .int) 1 40 mc ms av st Q
def vc_X2_puts (l : Launch) (E : g_E) (a0 : Nat) (p0 : Int32) (p1 : Int32) (st : g_St) (Q : Int32 → g_St → Prop) : Prop :=
  g_lp2 (fun (K3 : Int32 → g_St → Prop) (x1 : Int32) (st2 : g_St) => ∃ o6 : Option Nat, g_gr st2 a0 16 7 o6 ∧ ∃ a7 : Nat, o6 = some a7 ∧ ∃ (n8 : Nat) (f9 : Nat → Int32) (j10 : Nat), g_ai st2 a7 0 n8 f9 ∧ (p1 - (nI 97)) = nI j10 ∧ j10 < n8 ∧ j10 < 2 ^ 31 ∧ ((f9 j10) ≤ x1 → ∃ o12 : Option Nat, g_gr st2 a0 16 7 o12 ∧ ∃ a13 : Nat, o12 = some a13 ∧ ∃ (n14 : Nat) (f15 : Nat → Int32) (j16 : Nat), g_ai st2 a13 0 n14 f15 ∧ (p1 - (nI 97)) = nI j16 ∧ j16 < n14 ∧ j16 < 2 ^ 31 ∧ Q (p0 + (f15 j16)) st2) ∧ (¬ (f9 j10) ≤ x1 → ∃ o17 : Option Nat, g_gr st2 a0 16 4 o17 ∧ ∃ o18 : Option Nat, g_gr st2 a0 16 3 o18 ∧ ∃ a19 : Nat, o18 = some a19 ∧ ∃ (n20 : Nat) (f21 : Nat → Int32) (j22 : Nat), g_ai st2 a19 2 n20 f21 ∧ (((nI 3) * (p1 - (nI 97))) + x1) = nI j22 ∧ j22 < n20 ∧ j22 < 2 ^ 31 ∧ ∃ a23 : Nat, o17 = some a23 ∧ ∃ (n24 : Nat) (f25 : Nat → Int32) (j26 : Nat), st2.2.1 a23 = some (.inl (2, n24, .inl (f25))) ∧ (p0 + x1) = nI j26 ∧ j26 < n24 ∧ j26 < 2 ^ 31 ∧ ∀ st27 : g_St, st27 = g_put st2 a23 (.inl (2, n24, .inl (va_up f25 j26 (vp_nar .char (f21 j22))))) → K3 (x1 + (nI 1)) st27)) (nI 0) st
set_option maxHeartbeats 4000000 in
theorem wb_X2_puts {p : Program} {l : Launch} {e : Env} {R : Room} {s : State} {m : MethodId} {args : Array Value} {below : List Frame} {meth : Method} {c : Code} {E : g_E} {st0 : g_St} {Z : State → Prop} (hC : g_Cx p s m args meth c cX2_puts 5 "StemspanModel" (some .int) "puts" E st0) (hR : g_Rm 1 40 R) {a0 : Nat} {p0 : Int32} {p1 : Int32} {st : g_St} {cb sb : Nat} {Q : Int32 → g_St → Prop} (hret : ∀ (pc : Nat) (lv : List (Nat × Value)) (v : Int32) (st1 : g_St) (cb sb : Nat), decode cX2_puts pc = .ok (.ireturn, 1) → narrow .int (.int v) = .int v → Q v st1 → g_J p l e R s m args below meth c 5 E st0 Z pc lv [.int v] st1 cb sb) (hvc : vc_X2_puts l E a0 p0 p1 st Q) : g_J p l e R s m args below meth c 5 E st0 Z 0 [(0, va_rf (some a0)), (1, .int p0), (2, .int p1)] [] st cb sb := by
  unfold vc_X2_puts at hvc
  refine j_iload_n hC dX2_puts_0 rfl 2 rfl ?_
  refine j_bipush hC (nI 97) dX2_puts_1 rfl ?_
  refine j_isub hC dX2_puts_3 ?_
  refine j_istore_n (lv0 := [(2, .int p1), (0, va_rf (some a0)), (1, .int p0)]) hC dX2_puts_4 rfl rfl [2, 0, 1] rfl (g_okS.h rfl rfl rfl) ?_
  refine j_iconst hC (nI 0) dX2_puts_5 rfl ?_
  refine j_istore (lv0 := [(3, .int (p1 - (nI 97))), (2, .int p1), (0, va_rf (some a0)), (1, .int p0)]) hC dX2_puts_6 rfl [0, 1, 2, 3] rfl (g_okS.h rfl rfl rfl) ?_
  replace hvc := g_lp2_o hvc
  obtain ⟨K3, hz28, hs29, n30, hvc⟩ := hvc
  have kh4 : ∀ (n : Nat) (x1 : Int32) (st2 : g_St), K3 n x1 st2 → g_J p l e R s m args below meth c 5 E st0 Z 8 [(0, va_rf (some a0)), (1, .int p0), (3, .int (p1 - (nI 97))), (4, .int x1)] [] st2 cb sb := by
    clear hvc
    intro n
    induction n with
    | zero => intro x1 st2 hvc; exact absurd hvc (hz28 _ _)
    | succ n ih5 =>
      intro x1 st2 hvc
      replace hvc := hs29 n _ _ hvc
      refine j_iload hC dX2_puts_8 3 rfl ?_
      refine j_aload_n hC dX2_puts_10 rfl 0 rfl ?_
      obtain ⟨o6, ⟨fs, hr, hv⟩, hvc⟩ := hvc
      refine j_get hC fkX2_33_X2 dX2_puts_11 hr hv ?_
      clear hv hr fs
      refine j_iload_n hC dX2_puts_14 rfl 2 rfl ?_
      obtain ⟨a7, rfl, hvc⟩ := hvc
      obtain ⟨n8, f9, j10, hr, hi, hj, hJ, hvc⟩ := hvc
      refine j_ix hi ?_
      refine j_iald hC hr hj hJ dX2_puts_15 ?_
      clear hr hi hj hJ
      refine j_icmp_ge (tgt := 45) hC dX2_puts_16 rfl (fun c11 => ?_) (fun c11 => ?_)
      · replace hvc := hvc.1 c11
        refine j_iload_n hC dX2_puts_45 rfl 1 rfl ?_
        refine j_aload_n hC dX2_puts_46 rfl 0 rfl ?_
        obtain ⟨o12, ⟨fs, hr, hv⟩, hvc⟩ := hvc
        refine j_get hC fkX2_33_X2 dX2_puts_47 hr hv ?_
        clear hv hr fs
        refine j_iload_n hC dX2_puts_50 rfl 2 rfl ?_
        obtain ⟨a13, rfl, hvc⟩ := hvc
        obtain ⟨n14, f15, j16, hr, hi, hj, hJ, hvc⟩ := hvc
        refine j_ix hi ?_
        refine j_iald hC hr hj hJ dX2_puts_51 ?_
        clear hr hi hj hJ
        refine j_iadd hC dX2_puts_52 ?_
        exact hret _ _ _ _ _ _ dX2_puts_53 rfl hvc
      · replace hvc := hvc.2 c11
        refine j_aload_n hC dX2_puts_19 rfl 0 rfl ?_
        obtain ⟨o17, ⟨fs, hr, hv⟩, hvc⟩ := hvc
        refine j_get hC fkX2_23_X2 dX2_puts_20 hr hv ?_
        clear hv hr fs
        refine j_iload_n hC dX2_puts_23 rfl 1 rfl ?_
        refine j_iload hC dX2_puts_24 3 rfl ?_
        refine j_iadd hC dX2_puts_26 ?_
        refine j_aload_n hC dX2_puts_27 rfl 0 rfl ?_
        obtain ⟨o18, ⟨fs, hr, hv⟩, hvc⟩ := hvc
        refine j_get hC fkX2_20_X2 dX2_puts_28 hr hv ?_
        clear hv hr fs
        refine j_iconst hC (nI 3) dX2_puts_31 rfl ?_
        refine j_iload_n hC dX2_puts_32 rfl 2 rfl ?_
        refine j_imul hC dX2_puts_33 ?_
        refine j_iload hC dX2_puts_34 3 rfl ?_
        refine j_iadd hC dX2_puts_36 ?_
        obtain ⟨a19, rfl, hvc⟩ := hvc
        obtain ⟨n20, f21, j22, hr, hi, hj, hJ, hvc⟩ := hvc
        refine j_ix hi ?_
        refine j_cald hC hr hj hJ dX2_puts_37 ?_
        clear hr hi hj hJ
        obtain ⟨a23, rfl, hvc⟩ := hvc
        obtain ⟨n24, f25, j26, hm, hi, hj, hJ, hvc⟩ := hvc
        refine j_ix1 hi ?_
        refine j_stc hC hm hj hJ dX2_puts_38 (fun st27 e1 => ?_)
        replace hvc := hvc st27 e1; clear hm hi hj hJ e1
        refine j_iinc (lv0 := [(3, .int (p1 - (nI 97))), (0, va_rf (some a0)), (1, .int p0)]) hC (nI 1) dX2_puts_39 3 rfl rfl rfl [2, 0, 1] rfl (g_okS.h rfl rfl rfl) ?_
        refine j_goto (tgt := 8) hC dX2_puts_42 rfl ?_
        exact j_sub [2, 3, 1, 0] rfl (ih5 (x1 + (nI 1)) st27 hvc)
  exact j_sub [3, 4, 1, 0] rfl (kh4 n30 (nI 0) st hvc)
theorem wk_X2_puts {l : Launch} {E : g_E} {a0 : Nat} {p0 : Int32} {p1 : Int32} {st : g_St} {mc ms : Nat} {Q : Int32 → g_St → Prop} (hvc : vc_X2_puts l E a0 p0 p1 st Q) : wp_X2_puts l E mc ms [va_rf (some a0), .int p0, .int p1] st Q :=
  g_enter (lv0 := [(0, va_rf (some a0)), (1, .int p0), (2, .int p1)]) (plainFor_of_name (by decide +kernel)) (by simp [lv_args, g_c1, g_ci, g_cL]) (by simp [lg_sl, g_c1, g_ci, g_cL]) (fun p e s m args below meth c hC => wb_X2_puts hC ⟨Nat.le_refl _, Nat.le_refl _⟩ (fun pc lv v st1 cb sb hd hn hq => j_ireturn hC rfl hn hd (g_iv hq)) hvc)
abbrev wp_X2_write (l : Launch) (E : g_E) (mc ms : Nat) (av : List Value) (st : g_St) (Q : Int32 → g_St → Prop) : Prop := g_WPi l E yX2_write cX2_write 3 (some .int) 2 64 mc ms av st Q
def vc_X2_write (l : Launch) (E : g_E) (a0 : Nat) (st : g_St) (Q : Int32 → g_St → Prop) : Prop :=
  g_lp3 (fun (K4 : Int32 → Int32 → g_St → Prop) (x1 : Int32) (x2 : Int32) (st3 : g_St) => ∃ x7 : Int32, g_gi st3 a0 16 8 x7 ∧ (x7 ≤ x2 → g_jn1 (fun (K10 : Int32 → Prop) => (x1 ≤ (nI 24) → K10 (nI 0)) ∧ (¬ x1 ≤ (nI 24) → K10 (nI 1))) (fun (x9 : Int32) => g_is st3 a0 16 ∧ wp_X2_fails l E 0 0 [va_rf (some a0), .int x9] st3 (fun x12 st13 => g_Ext st3 st13 → (x12 = 0 → ∃ fs15 : List Value, st13.2.1 a0 = some (.inr (16, fs15)) ∧ ∀ st16 : g_St, st16 = g_put st13 a0 (.inr (16, fs15.set 8 (.int x1))) → g_lp2 (fun (K19 : Int32 → g_St → Prop) (x17 : Int32) (st18 : g_St) => (x1 ≤ x17 → ∃ x23 : Int32, g_gi st18 a0 16 8 x23 ∧ Q x23 st18) ∧ (¬ x1 ≤ x17 → ∃ o24 : Option Nat, g_gr st18 a0 16 1 o24 ∧ ∃ o25 : Option Nat, g_gr st18 a0 16 4 o25 ∧ ∃ a26 : Nat, o25 = some a26 ∧ ∃ (n27 : Nat) (f28 : Nat → Int32) (j29 : Nat), g_ai st18 a26 2 n27 f28 ∧ x17 = nI j29 ∧ j29 < n27 ∧ j29 < 2 ^ 31 ∧ ∃ a30 : Nat, o24 = some a30 ∧ ∃ (n31 : Nat) (f32 : Nat → Int32) (j33 : Nat), st18.2.1 a30 = some (.inl (2, n31, .inl (f32))) ∧ x17 = nI j33 ∧ j33 < n31 ∧ j33 < 2 ^ 31 ∧ ∀ st34 : g_St, st34 = g_put st18 a30 (.inl (2, n31, .inl (va_up f32 j33 (vp_nar .char (f28 j29))))) → K19 (x17 + (nI 1)) st34)) (nI 0) st16) ∧ (¬ x12 = 0 → Q (nI 0) st13)))) ∧ (¬ x7 ≤ x2 → ∃ o40 : Option Nat, g_gr st3 a0 16 1 o40 ∧ ∃ a41 : Nat, o40 = some a41 ∧ ∃ (n42 : Nat) (f43 : Nat → Int32) (j44 : Nat), g_ai st3 a41 2 n42 f43 ∧ x2 = nI j44 ∧ j44 < n42 ∧ j44 < 2 ^ 31 ∧ g_is st3 a0 16 ∧ wp_X2_puts l E 0 0 [va_rf (some a0), .int x1, .int (f43 j44)] st3 (fun x45 st46 => g_Ext st3 st46 → K4 x45 (x2 + (nI 1)) st46))) (nI 0) (nI 0) st
set_option maxHeartbeats 4000000 in
theorem wb_X2_write {p : Program} {l : Launch} {e : Env} {R : Room} {s : State} {m : MethodId} {args : Array Value} {below : List Frame} {meth : Method} {c : Code} {E : g_E} {st0 : g_St} {Z : State → Prop} (hC : g_Cx p s m args meth c cX2_write 3 "StemspanModel" (some .int) "write" E st0) (hR : g_Rm 2 64 R) {a0 : Nat} {st : g_St} {cb sb : Nat} {Q : Int32 → g_St → Prop} (hret : ∀ (pc : Nat) (lv : List (Nat × Value)) (v : Int32) (st1 : g_St) (cb sb : Nat), decode cX2_write pc = .ok (.ireturn, 1) → narrow .int (.int v) = .int v → Q v st1 → g_J p l e R s m args below meth c 3 E st0 Z pc lv [.int v] st1 cb sb) (hvc : vc_X2_write l E a0 st Q) : g_J p l e R s m args below meth c 3 E st0 Z 0 [(0, va_rf (some a0))] [] st cb sb := by
  unfold vc_X2_write at hvc
  refine j_iconst hC (nI 0) dX2_write_0 rfl ?_
  refine j_istore_n (lv0 := [(0, va_rf (some a0))]) hC dX2_write_1 rfl rfl [0] rfl (g_okS.h rfl g_c1 rfl) ?_
  refine j_iconst hC (nI 0) dX2_write_2 rfl ?_
  refine j_istore_n (lv0 := [(1, .int (nI 0)), (0, va_rf (some a0))]) hC dX2_write_3 rfl rfl [0, 1] rfl (g_okS.h rfl rfl rfl) ?_
  replace hvc := g_lp3_o hvc
  obtain ⟨K4, hz47, hs48, n49, hvc⟩ := hvc
  have kh5 : ∀ (n : Nat) (x1 : Int32) (x2 : Int32) (st3 : g_St), K4 n x1 x2 st3 → g_J p l e R s m args below meth c 3 E st0 Z 4 [(0, va_rf (some a0)), (1, .int x1), (2, .int x2)] [] st3 cb sb := by
    clear hvc
    intro n
    induction n with
    | zero => intro x1 x2 st3 hvc; exact absurd hvc (hz47 _ _ _)
    | succ n ih6 =>
      intro x1 x2 st3 hvc
      replace hvc := hs48 n _ _ _ hvc
      refine j_iload_n hC dX2_write_4 rfl 2 rfl ?_
      refine j_aload_n hC dX2_write_5 rfl 0 rfl ?_
      obtain ⟨x7, ⟨fs, hr, hv⟩, hvc⟩ := hvc
      refine j_get hC fkX2_49_X2 dX2_write_6 hr hv ?_
      clear hv hr fs
      refine j_icmp_ge (tgt := 30) hC dX2_write_9 rfl (fun c8 => ?_) (fun c8 => ?_)
      · replace hvc := hvc.1 c8
        refine j_aload_n hC dX2_write_30 rfl 0 rfl ?_
        refine j_iload_n hC dX2_write_31 rfl 1 rfl ?_
        refine j_bipush hC (nI 24) dX2_write_32 rfl ?_
        replace hvc := g_jn1_o hvc
        obtain ⟨K10, hK39, hvc⟩ := hvc
        have kh11 : ∀ (x9 : Int32), K10 x9 → g_J p l e R s m args below meth c 3 E st0 Z 42 [(0, va_rf (some a0)), (1, .int x1)] [.int x9, va_rf (some a0)] st3 cb sb := by
          clear hvc
          intro x9 hvc
          replace hvc := hK39 _ hvc
          obtain ⟨⟨fs, hr⟩, hvc⟩ := hvc
          refine j_callV (As := [.int x9]) (rest := []) (n := 1) (ci := 16) hC hvc (lw_V q2232 q2234 qs20 q60 q2235) (by decide +kernel) (g_rm hR rfl rfl) rfl hr rfl rfl (g_sum rfl) dX2_write_42 (Nat.zero_le _) (Nat.zero_le _) (g_Ki fun x12 st13 hv2 hx => ?_)
          replace hvc := hv2 hx; clear hx hv2
          clear hr fs
          refine j_if_eq (tgt := 50) hC dX2_write_45 rfl (fun c14 => ?_) (fun c14 => ?_)
          · replace hvc := hvc.1 c14
            refine j_aload_n hC dX2_write_50 rfl 0 rfl ?_
            refine j_iload_n hC dX2_write_51 rfl 1 rfl ?_
            obtain ⟨fs15, hm, hvc⟩ := hvc
            refine j_put hC fkX2_49_X2 dX2_write_52 hm rfl rfl (fun st16 e1 => ?_)
            replace hvc := hvc st16 e1; clear hm e1
            refine j_iconst hC (nI 0) dX2_write_55 rfl ?_
            refine j_istore_n (lv0 := [(1, .int x1), (0, va_rf (some a0))]) hC dX2_write_56 rfl rfl [1, 0] rfl (g_okS.h rfl rfl rfl) ?_
            replace hvc := g_lp2_o hvc
            obtain ⟨K19, hz35, hs36, n37, hvc⟩ := hvc
            have kh20 : ∀ (n : Nat) (x17 : Int32) (st18 : g_St), K19 n x17 st18 → g_J p l e R s m args below meth c 3 E st0 Z 57 [(0, va_rf (some a0)), (1, .int x1), (2, .int x17)] [] st18 cb sb := by
              clear hvc
              intro n
              induction n with
              | zero => intro x17 st18 hvc; exact absurd hvc (hz35 _ _)
              | succ n ih21 =>
                intro x17 st18 hvc
                replace hvc := hs36 n _ _ hvc
                refine j_iload_n hC dX2_write_57 rfl 2 rfl ?_
                refine j_iload_n hC dX2_write_58 rfl 1 rfl ?_
                refine j_icmp_ge (tgt := 80) hC dX2_write_59 rfl (fun c22 => ?_) (fun c22 => ?_)
                · replace hvc := hvc.1 c22
                  refine j_aload_n hC dX2_write_80 rfl 0 rfl ?_
                  obtain ⟨x23, ⟨fs, hr, hv⟩, hvc⟩ := hvc
                  refine j_get hC fkX2_49_X2 dX2_write_81 hr hv ?_
                  clear hv hr fs
                  exact hret _ _ _ _ _ _ dX2_write_84 rfl hvc
                · replace hvc := hvc.2 c22
                  refine j_aload_n hC dX2_write_62 rfl 0 rfl ?_
                  obtain ⟨o24, ⟨fs, hr, hv⟩, hvc⟩ := hvc
                  refine j_get hC fkX2_13_X2 dX2_write_63 hr hv ?_
                  clear hv hr fs
                  refine j_iload_n hC dX2_write_66 rfl 2 rfl ?_
                  refine j_aload_n hC dX2_write_67 rfl 0 rfl ?_
                  obtain ⟨o25, ⟨fs, hr, hv⟩, hvc⟩ := hvc
                  refine j_get hC fkX2_23_X2 dX2_write_68 hr hv ?_
                  clear hv hr fs
                  refine j_iload_n hC dX2_write_71 rfl 2 rfl ?_
                  obtain ⟨a26, rfl, hvc⟩ := hvc
                  obtain ⟨n27, f28, j29, hr, hi, hj, hJ, hvc⟩ := hvc
                  refine j_ix hi ?_
                  refine j_cald hC hr hj hJ dX2_write_72 ?_
                  clear hr hi hj hJ
                  obtain ⟨a30, rfl, hvc⟩ := hvc
                  obtain ⟨n31, f32, j33, hm, hi, hj, hJ, hvc⟩ := hvc
                  refine j_ix1 hi ?_
                  refine j_stc hC hm hj hJ dX2_write_73 (fun st34 e1 => ?_)
                  replace hvc := hvc st34 e1; clear hm hi hj hJ e1
                  refine j_iinc (lv0 := [(1, .int x1), (0, va_rf (some a0))]) hC (nI 1) dX2_write_74 2 rfl rfl rfl [1, 0] rfl (g_okS.h rfl rfl rfl) ?_
                  refine j_goto (tgt := 57) hC dX2_write_77 rfl ?_
                  exact j_sub [2, 1, 0] rfl (ih21 (x17 + (nI 1)) st34 hvc)
            exact j_sub [2, 1, 0] rfl (kh20 n37 (nI 0) st16 hvc)
          · replace hvc := hvc.2 c14
            refine j_iconst hC (nI 0) dX2_write_48 rfl ?_
            exact hret _ _ _ _ _ _ dX2_write_49 rfl hvc
        refine j_icmp_le (tgt := 41) hC dX2_write_34 rfl (fun c38 => ?_) (fun c38 => ?_)
        · replace hvc := hvc.1 c38
          refine j_iconst hC (nI 0) dX2_write_41 rfl ?_
          exact j_sub [0, 1] rfl (kh11 (nI 0) hvc)
        · replace hvc := hvc.2 c38
          refine j_iconst hC (nI 1) dX2_write_37 rfl ?_
          refine j_goto (tgt := 42) hC dX2_write_38 rfl ?_
          exact j_sub [0, 1] rfl (kh11 (nI 1) hvc)
      · replace hvc := hvc.2 c8
        refine j_aload_n hC dX2_write_12 rfl 0 rfl ?_
        refine j_iload_n hC dX2_write_13 rfl 1 rfl ?_
        refine j_aload_n hC dX2_write_14 rfl 0 rfl ?_
        obtain ⟨o40, ⟨fs, hr, hv⟩, hvc⟩ := hvc
        refine j_get hC fkX2_13_X2 dX2_write_15 hr hv ?_
        clear hv hr fs
        refine j_iload_n hC dX2_write_18 rfl 2 rfl ?_
        obtain ⟨a41, rfl, hvc⟩ := hvc
        obtain ⟨n42, f43, j44, hr, hi, hj, hJ, hvc⟩ := hvc
        refine j_ix hi ?_
        refine j_cald hC hr hj hJ dX2_write_19 ?_
        clear hr hi hj hJ
        obtain ⟨⟨fs, hr⟩, hvc⟩ := hvc
        refine j_callV (As := [.int x1, .int (f43 j44)]) (rest := []) (n := 2) (ci := 16) hC hvc (lw_V q2396 q2398 qs33 q60 q2399) (by decide +kernel) (g_rm hR rfl rfl) rfl hr rfl rfl (g_sum rfl) dX2_write_20 (Nat.zero_le _) (Nat.zero_le _) (g_Ki fun x45 st46 hv2 hx => ?_)
        replace hvc := hv2 hx; clear hx hv2
        clear hr fs
        refine j_istore_n (lv0 := [(0, va_rf (some a0)), (2, .int x2)]) hC dX2_write_23 rfl rfl [0, 2] rfl (g_okS.h rfl g_c1 rfl) ?_
        refine j_iinc (lv0 := [(1, .int x45), (0, va_rf (some a0))]) hC (nI 1) dX2_write_24 2 rfl rfl rfl [0, 1] rfl (g_okS.h rfl rfl rfl) ?_
        refine j_goto (tgt := 4) hC dX2_write_27 rfl ?_
        exact j_sub [2, 1, 0] rfl (ih6 x45 (x2 + (nI 1)) st46 hvc)
  exact j_sub [2, 1, 0] rfl (kh5 n49 (nI 0) (nI 0) st hvc)
theorem wk_X2_write {l : Launch} {E : g_E} {a0 : Nat} {st : g_St} {mc ms : Nat} {Q : Int32 → g_St → Prop} (hvc : vc_X2_write l E a0 st Q) : wp_X2_write l E mc ms [va_rf (some a0)] st Q :=
  g_enter (lv0 := [(0, va_rf (some a0))]) (plainFor_of_name (by decide +kernel)) (by simp [lv_args, g_c1, g_ci, g_cL]) (by simp [lg_sl, g_c1, g_ci, g_cL]) (fun p e s m args below meth c hC => wb_X2_write hC ⟨Nat.le_refl _, Nat.le_refl _⟩ (fun pc lv v st1 cb sb hd hn hq => j_ireturn hC rfl hn hd (g_iv hq)) hvc)
abbrev wp_X2_isAhead (l : Launch) (E : g_E) (mc ms : Nat) (av : List Value) (st : g_St) (Q : Int32 → g_St → Prop) : Prop := g_WPi l E yX2_isAhead cX2_isAhead 4 (some .boolean) 1 40 mc ms av st Q
def vc_X2_isAhead (l : Launch) (E : g_E) (a0 : Nat) (p0 : Int32) (p1 : Int32) (st : g_St) (Q : Int32 → g_St → Prop) : Prop :=
  g_lp1 (fun (K2 : Int32 → Prop) (x1 : Int32) => ∃ o5 : Option Nat, g_gr st a0 16 7 o5 ∧ ∃ a6 : Nat, o5 = some a6 ∧ ∃ (n7 : Nat) (f8 : Nat → Int32) (j9 : Nat), g_ai st a6 0 n7 f8 ∧ p0 = nI j9 ∧ j9 < n7 ∧ j9 < 2 ^ 31 ∧ g_jn0 (fun (K10 : Prop) => ((f8 j9) ≤ x1 → K10) ∧ (¬ (f8 j9) ≤ x1 → ∃ o43 : Option Nat, g_gr st a0 16 7 o43 ∧ ∃ a44 : Nat, o43 = some a44 ∧ ∃ (n45 : Nat) (f46 : Nat → Int32) (j47 : Nat), g_ai st a44 0 n45 f46 ∧ p1 = nI j47 ∧ j47 < n45 ∧ j47 < 2 ^ 31 ∧ ((f46 j47) ≤ x1 → K10) ∧ (¬ (f46 j47) ≤ x1 → ∃ o49 : Option Nat, g_gr st a0 16 3 o49 ∧ ∃ a50 : Nat, o49 = some a50 ∧ ∃ (n51 : Nat) (f52 : Nat → Int32) (j53 : Nat), g_ai st a50 2 n51 f52 ∧ (((nI 3) * p0) + x1) = nI j53 ∧ j53 < n51 ∧ j53 < 2 ^ 31 ∧ ∃ o54 : Option Nat, g_gr st a0 16 3 o54 ∧ ∃ a55 : Nat, o54 = some a55 ∧ ∃ (n56 : Nat) (f57 : Nat → Int32) (j58 : Nat), g_ai st a55 2 n56 f57 ∧ (((nI 3) * p1) + x1) = nI j58 ∧ j58 < n56 ∧ j58 < 2 ^ 31 ∧ (¬ (f52 j53) = (f57 j58) → K10) ∧ ((f52 j53) = (f57 j58) → K2 (x1 + (nI 1)))))) (∃ o12 : Option Nat, g_gr st a0 16 7 o12 ∧ ∃ a13 : Nat, o12 = some a13 ∧ ∃ (n14 : Nat) (f15 : Nat → Int32) (j16 : Nat), g_ai st a13 0 n14 f15 ∧ p0 = nI j16 ∧ j16 < n14 ∧ j16 < 2 ^ 31 ∧ g_jn1 (fun (K18 : Int32 → Prop) => g_jn0 (fun (K20 : Prop) => ((f15 j16) ≤ x1 → K20) ∧ (¬ (f15 j16) ≤ x1 → ∃ o23 : Option Nat, g_gr st a0 16 7 o23 ∧ ∃ a24 : Nat, o23 = some a24 ∧ ∃ (n25 : Nat) (f26 : Nat → Int32) (j27 : Nat), g_ai st a24 0 n25 f26 ∧ p1 = nI j27 ∧ j27 < n25 ∧ j27 < 2 ^ 31 ∧ ((f26 j27) ≤ x1 → K20) ∧ (¬ (f26 j27) ≤ x1 → ∃ o29 : Option Nat, g_gr st a0 16 3 o29 ∧ ∃ a30 : Nat, o29 = some a30 ∧ ∃ (n31 : Nat) (f32 : Nat → Int32) (j33 : Nat), g_ai st a30 2 n31 f32 ∧ (((nI 3) * p0) + x1) = nI j33 ∧ j33 < n31 ∧ j33 < 2 ^ 31 ∧ ∃ o34 : Option Nat, g_gr st a0 16 3 o34 ∧ ∃ a35 : Nat, o34 = some a35 ∧ ∃ (n36 : Nat) (f37 : Nat → Int32) (j38 : Nat), g_ai st a35 2 n36 f37 ∧ (((nI 3) * p1) + x1) = nI j38 ∧ j38 < n36 ∧ j38 < 2 ^ 31 ∧ ((f37 j38) ≤ (f32 j33) → K20) ∧ (¬ (f37 j38) ≤ (f32 j33) → K18 (nI 1))))) (K18 (nI 0))) (fun (x17 : Int32) => narrow .boolean (.int x17) = .int x17 ∧ Q x17 st))) (nI 0)
set_option maxHeartbeats 4000000 in
theorem wb_X2_isAhead {p : Program} {l : Launch} {e : Env} {R : Room} {s : State} {m : MethodId} {args : Array Value} {below : List Frame} {meth : Method} {c : Code} {E : g_E} {st0 : g_St} {Z : State → Prop} (hC : g_Cx p s m args meth c cX2_isAhead 4 "StemspanModel" (some .boolean) "isAhead" E st0) (hR : g_Rm 1 40 R) {a0 : Nat} {p0 : Int32} {p1 : Int32} {st : g_St} {cb sb : Nat} {Q : Int32 → g_St → Prop} (hret : ∀ (pc : Nat) (lv : List (Nat × Value)) (v : Int32) (st1 : g_St) (cb sb : Nat), decode cX2_isAhead pc = .ok (.ireturn, 1) → narrow .boolean (.int v) = .int v → Q v st1 → g_J p l e R s m args below meth c 4 E st0 Z pc lv [.int v] st1 cb sb) (hvc : vc_X2_isAhead l E a0 p0 p1 st Q) : g_J p l e R s m args below meth c 4 E st0 Z 0 [(0, va_rf (some a0)), (1, .int p0), (2, .int p1)] [] st cb sb := by
  unfold vc_X2_isAhead at hvc
  refine j_iconst hC (nI 0) dX2_isAhead_0 rfl ?_
  refine j_istore_n (lv0 := [(2, .int p1), (0, va_rf (some a0)), (1, .int p0)]) hC dX2_isAhead_1 rfl rfl [2, 0, 1] rfl (g_okS.h rfl rfl rfl) ?_
  replace hvc := g_lp1_o hvc
  obtain ⟨K2, hz61, hs62, n63, hvc⟩ := hvc
  have kh3 : ∀ (n : Nat) (x1 : Int32), K2 n x1 → g_J p l e R s m args below meth c 4 E st0 Z 2 [(0, va_rf (some a0)), (1, .int p0), (2, .int p1), (3, .int x1)] [] st cb sb := by
    clear hvc
    intro n
    induction n with
    | zero => intro x1 hvc; exact absurd hvc (hz61 _)
    | succ n ih4 =>
      intro x1 hvc
      replace hvc := hs62 n _ hvc
      refine j_iload_n hC dX2_isAhead_2 rfl 3 rfl ?_
      refine j_aload_n hC dX2_isAhead_3 rfl 0 rfl ?_
      obtain ⟨o5, ⟨fs, hr, hv⟩, hvc⟩ := hvc
      refine j_get hC fkX2_33_X2 dX2_isAhead_4 hr hv ?_
      clear hv hr fs
      refine j_iload_n hC dX2_isAhead_7 rfl 1 rfl ?_
      obtain ⟨a6, rfl, hvc⟩ := hvc
      obtain ⟨n7, f8, j9, hr, hi, hj, hJ, hvc⟩ := hvc
      refine j_ix hi ?_
      refine j_iald hC hr hj hJ dX2_isAhead_8 ?_
      clear hr hi hj hJ
      replace hvc := g_jn0_o hvc
      obtain ⟨K10, hK60, hvc⟩ := hvc
      have kh11 : K10 → g_J p l e R s m args below meth c 4 E st0 Z 51 [(0, va_rf (some a0)), (1, .int p0), (2, .int p1), (3, .int x1)] [] st cb sb := by
        clear hvc
        intro hvc
        replace hvc := hK60 hvc
        refine j_iload_n hC dX2_isAhead_51 rfl 3 rfl ?_
        refine j_aload_n hC dX2_isAhead_52 rfl 0 rfl ?_
        obtain ⟨o12, ⟨fs, hr, hv⟩, hvc⟩ := hvc
        refine j_get hC fkX2_33_X2 dX2_isAhead_53 hr hv ?_
        clear hv hr fs
        refine j_iload_n hC dX2_isAhead_56 rfl 1 rfl ?_
        obtain ⟨a13, rfl, hvc⟩ := hvc
        obtain ⟨n14, f15, j16, hr, hi, hj, hJ, hvc⟩ := hvc
        refine j_ix hi ?_
        refine j_iald hC hr hj hJ dX2_isAhead_57 ?_
        clear hr hi hj hJ
        replace hvc := g_jn1_o hvc
        obtain ⟨K18, hK41, hvc⟩ := hvc
        have kh19 : ∀ (x17 : Int32), K18 x17 → g_J p l e R s m args below meth c 4 E st0 Z 99 [] [.int x17] st cb sb := by
          clear hvc
          intro x17 hvc
          replace hvc := hK41 _ hvc
          exact hret _ _ _ _ _ _ dX2_isAhead_99 hvc.1 hvc.2
        replace hvc := g_jn0_o hvc
        obtain ⟨K20, hK40, hvc⟩ := hvc
        have kh21 : K20 → g_J p l e R s m args below meth c 4 E st0 Z 98 [] [] st cb sb := by
          clear hvc
          intro hvc
          replace hvc := hK40 hvc
          refine j_iconst hC (nI 0) dX2_isAhead_98 rfl ?_
          exact j_sub [] rfl (kh19 (nI 0) hvc)
        refine j_icmp_ge (tgt := 98) hC dX2_isAhead_58 rfl (fun c22 => ?_) (fun c22 => ?_)
        · replace hvc := hvc.1 c22
          exact j_sub [] rfl (kh21 hvc)
        · replace hvc := hvc.2 c22
          refine j_iload_n hC dX2_isAhead_61 rfl 3 rfl ?_
          refine j_aload_n hC dX2_isAhead_62 rfl 0 rfl ?_
          obtain ⟨o23, ⟨fs, hr, hv⟩, hvc⟩ := hvc
          refine j_get hC fkX2_33_X2 dX2_isAhead_63 hr hv ?_
          clear hv hr fs
          refine j_iload_n hC dX2_isAhead_66 rfl 2 rfl ?_
          obtain ⟨a24, rfl, hvc⟩ := hvc
          obtain ⟨n25, f26, j27, hr, hi, hj, hJ, hvc⟩ := hvc
          refine j_ix hi ?_
          refine j_iald hC hr hj hJ dX2_isAhead_67 ?_
          clear hr hi hj hJ
          refine j_icmp_ge (tgt := 98) hC dX2_isAhead_68 rfl (fun c28 => ?_) (fun c28 => ?_)
          · replace hvc := hvc.1 c28
            exact j_sub [] rfl (kh21 hvc)
          · replace hvc := hvc.2 c28
            refine j_aload_n hC dX2_isAhead_71 rfl 0 rfl ?_
            obtain ⟨o29, ⟨fs, hr, hv⟩, hvc⟩ := hvc
            refine j_get hC fkX2_20_X2 dX2_isAhead_72 hr hv ?_
            clear hv hr fs
            refine j_iconst hC (nI 3) dX2_isAhead_75 rfl ?_
            refine j_iload_n hC dX2_isAhead_76 rfl 1 rfl ?_
            refine j_imul hC dX2_isAhead_77 ?_
            refine j_iload_n hC dX2_isAhead_78 rfl 3 rfl ?_
            refine j_iadd hC dX2_isAhead_79 ?_
            obtain ⟨a30, rfl, hvc⟩ := hvc
            obtain ⟨n31, f32, j33, hr, hi, hj, hJ, hvc⟩ := hvc
            refine j_ix hi ?_
            refine j_cald hC hr hj hJ dX2_isAhead_80 ?_
            clear hr hi hj hJ
            refine j_aload_n hC dX2_isAhead_81 rfl 0 rfl ?_
            obtain ⟨o34, ⟨fs, hr, hv⟩, hvc⟩ := hvc
            refine j_get hC fkX2_20_X2 dX2_isAhead_82 hr hv ?_
            clear hv hr fs
            refine j_iconst hC (nI 3) dX2_isAhead_85 rfl ?_
            refine j_iload_n hC dX2_isAhead_86 rfl 2 rfl ?_
            refine j_imul hC dX2_isAhead_87 ?_
            refine j_iload_n hC dX2_isAhead_88 rfl 3 rfl ?_
            refine j_iadd hC dX2_isAhead_89 ?_
            obtain ⟨a35, rfl, hvc⟩ := hvc
            obtain ⟨n36, f37, j38, hr, hi, hj, hJ, hvc⟩ := hvc
            refine j_ix hi ?_
            refine j_cald hC hr hj hJ dX2_isAhead_90 ?_
            clear hr hi hj hJ
            refine j_icmp_ge (tgt := 98) hC dX2_isAhead_91 rfl (fun c39 => ?_) (fun c39 => ?_)
            · replace hvc := hvc.1 c39
              exact j_sub [] rfl (kh21 hvc)
            · replace hvc := hvc.2 c39
              refine j_iconst hC (nI 1) dX2_isAhead_94 rfl ?_
              refine j_goto (tgt := 99) hC dX2_isAhead_95 rfl ?_
              exact j_sub [] rfl (kh19 (nI 1) hvc)
      refine j_icmp_ge (tgt := 51) hC dX2_isAhead_9 rfl (fun c42 => ?_) (fun c42 => ?_)
      · replace hvc := hvc.1 c42
        exact j_sub [0, 1, 2, 3] rfl (kh11 hvc)
      · replace hvc := hvc.2 c42
        refine j_iload_n hC dX2_isAhead_12 rfl 3 rfl ?_
        refine j_aload_n hC dX2_isAhead_13 rfl 0 rfl ?_
        obtain ⟨o43, ⟨fs, hr, hv⟩, hvc⟩ := hvc
        refine j_get hC fkX2_33_X2 dX2_isAhead_14 hr hv ?_
        clear hv hr fs
        refine j_iload_n hC dX2_isAhead_17 rfl 2 rfl ?_
        obtain ⟨a44, rfl, hvc⟩ := hvc
        obtain ⟨n45, f46, j47, hr, hi, hj, hJ, hvc⟩ := hvc
        refine j_ix hi ?_
        refine j_iald hC hr hj hJ dX2_isAhead_18 ?_
        clear hr hi hj hJ
        refine j_icmp_ge (tgt := 51) hC dX2_isAhead_19 rfl (fun c48 => ?_) (fun c48 => ?_)
        · replace hvc := hvc.1 c48
          exact j_sub [0, 1, 2, 3] rfl (kh11 hvc)
        · replace hvc := hvc.2 c48
          refine j_aload_n hC dX2_isAhead_22 rfl 0 rfl ?_
          obtain ⟨o49, ⟨fs, hr, hv⟩, hvc⟩ := hvc
          refine j_get hC fkX2_20_X2 dX2_isAhead_23 hr hv ?_
          clear hv hr fs
          refine j_iconst hC (nI 3) dX2_isAhead_26 rfl ?_
          refine j_iload_n hC dX2_isAhead_27 rfl 1 rfl ?_
          refine j_imul hC dX2_isAhead_28 ?_
          refine j_iload_n hC dX2_isAhead_29 rfl 3 rfl ?_
          refine j_iadd hC dX2_isAhead_30 ?_
          obtain ⟨a50, rfl, hvc⟩ := hvc
          obtain ⟨n51, f52, j53, hr, hi, hj, hJ, hvc⟩ := hvc
          refine j_ix hi ?_
          refine j_cald hC hr hj hJ dX2_isAhead_31 ?_
          clear hr hi hj hJ
          refine j_aload_n hC dX2_isAhead_32 rfl 0 rfl ?_
          obtain ⟨o54, ⟨fs, hr, hv⟩, hvc⟩ := hvc
          refine j_get hC fkX2_20_X2 dX2_isAhead_33 hr hv ?_
          clear hv hr fs
          refine j_iconst hC (nI 3) dX2_isAhead_36 rfl ?_
          refine j_iload_n hC dX2_isAhead_37 rfl 2 rfl ?_
          refine j_imul hC dX2_isAhead_38 ?_
          refine j_iload_n hC dX2_isAhead_39 rfl 3 rfl ?_
          refine j_iadd hC dX2_isAhead_40 ?_
          obtain ⟨a55, rfl, hvc⟩ := hvc
          obtain ⟨n56, f57, j58, hr, hi, hj, hJ, hvc⟩ := hvc
          refine j_ix hi ?_
          refine j_cald hC hr hj hJ dX2_isAhead_41 ?_
          clear hr hi hj hJ
          refine j_icmp_ne (tgt := 51) hC dX2_isAhead_42 rfl (fun c59 => ?_) (fun c59 => ?_)
          · replace hvc := hvc.1 c59
            exact j_sub [0, 1, 2, 3] rfl (kh11 hvc)
          · replace hvc := hvc.2 c59
            refine j_iinc (lv0 := [(2, .int p1), (0, va_rf (some a0)), (1, .int p0)]) hC (nI 1) dX2_isAhead_45 3 rfl rfl rfl [2, 0, 1] rfl (g_okS.h rfl rfl rfl) ?_
            refine j_goto (tgt := 2) hC dX2_isAhead_48 rfl ?_
            exact j_sub [2, 3, 1, 0] rfl (ih4 (x1 + (nI 1)) hvc)
  exact j_sub [2, 3, 1, 0] rfl (kh3 n63 (nI 0) hvc)
theorem wk_X2_isAhead {l : Launch} {E : g_E} {a0 : Nat} {p0 : Int32} {p1 : Int32} {st : g_St} {mc ms : Nat} {Q : Int32 → g_St → Prop} (hvc : vc_X2_isAhead l E a0 p0 p1 st Q) : wp_X2_isAhead l E mc ms [va_rf (some a0), .int p0, .int p1] st Q :=
  g_enter (lv0 := [(0, va_rf (some a0)), (1, .int p0), (2, .int p1)]) (plainFor_of_name (by decide +kernel)) (by simp [lv_args, g_c1, g_ci, g_cL]) (by simp [lg_sl, g_c1, g_ci, g_cL]) (fun p e s m args below meth c hC => wb_X2_isAhead hC ⟨Nat.le_refl _, Nat.le_refl _⟩ (fun pc lv v st1 cb sb hd hn hq => j_ireturn hC rfl hn hd (g_iv hq)) hvc)
abbrev wp_X2_areOrderly (l : Launch) (E : g_E) (mc ms : Nat) (av : List Value) (st : g_St) (Q : Int32 → g_St → Prop) : Prop := g_WPi l E yX2_areOrderly cX2_areOrderly 3 (some .boolean) 2 63 mc ms av st Q
def vc_X2_areOrderly (l : Launch) (E : g_E) (a0 : Nat) (st : g_St) (Q : Int32 → g_St → Prop) : Prop :=
  g_lp1 (fun (K2 : Int32 → Prop) (x1 : Int32) => ((nI 6) ≤ x1 → Q (nI 1) st) ∧ (¬ (nI 6) ≤ x1 → g_lp1 (fun (K7 : Int32 → Prop) (x6 : Int32) => (x1 ≤ x6 → K2 (x1 + (nI 1))) ∧ (¬ x1 ≤ x6 → g_is st a0 16 ∧ wp_X2_isAhead l E 0 0 [va_rf (some a0), .int x6, .int x1] st (fun x11 stx => stx = st ∧ (¬ x11 = 0 → K7 (x6 + (nI 1))) ∧ (x11 = 0 → Q (nI 0) st)))) (nI 0))) (nI 0)
set_option maxHeartbeats 4000000 in
theorem wb_X2_areOrderly {p : Program} {l : Launch} {e : Env} {R : Room} {s : State} {m : MethodId} {args : Array Value} {below : List Frame} {meth : Method} {c : Code} {E : g_E} {st0 : g_St} {Z : State → Prop} (hC : g_Cx p s m args meth c cX2_areOrderly 3 "StemspanModel" (some .boolean) "areOrderly" E st0) (hR : g_Rm 2 63 R) {a0 : Nat} {st : g_St} {cb sb : Nat} {Q : Int32 → g_St → Prop} (hret : ∀ (pc : Nat) (lv : List (Nat × Value)) (v : Int32) (st1 : g_St) (cb sb : Nat), decode cX2_areOrderly pc = .ok (.ireturn, 1) → narrow .boolean (.int v) = .int v → Q v st1 → g_J p l e R s m args below meth c 3 E st0 Z pc lv [.int v] st1 cb sb) (hvc : vc_X2_areOrderly l E a0 st Q) : g_J p l e R s m args below meth c 3 E st0 Z 0 [(0, va_rf (some a0))] [] st cb sb := by
  unfold vc_X2_areOrderly at hvc
  refine j_iconst hC (nI 0) dX2_areOrderly_0 rfl ?_
  refine j_istore_n (lv0 := [(0, va_rf (some a0))]) hC dX2_areOrderly_1 rfl rfl [0] rfl (g_okS.h rfl g_c1 rfl) ?_
  replace hvc := g_lp1_o hvc
  obtain ⟨K2, hz16, hs17, n18, hvc⟩ := hvc
  have kh3 : ∀ (n : Nat) (x1 : Int32), K2 n x1 → g_J p l e R s m args below meth c 3 E st0 Z 2 [(0, va_rf (some a0)), (1, .int x1)] [] st cb sb := by
    clear hvc
    intro n
    induction n with
    | zero => intro x1 hvc; exact absurd hvc (hz16 _)
    | succ n ih4 =>
      intro x1 hvc
      replace hvc := hs17 n _ hvc
      refine j_iload_n hC dX2_areOrderly_2 rfl 1 rfl ?_
      refine j_bipush hC (nI 6) dX2_areOrderly_3 rfl ?_
      refine j_icmp_ge (tgt := 38) hC dX2_areOrderly_5 rfl (fun c5 => ?_) (fun c5 => ?_)
      · replace hvc := hvc.1 c5
        refine j_iconst hC (nI 1) dX2_areOrderly_38 rfl ?_
        exact hret _ _ _ _ _ _ dX2_areOrderly_39 rfl hvc
      · replace hvc := hvc.2 c5
        refine j_iconst hC (nI 0) dX2_areOrderly_8 rfl ?_
        refine j_istore_n (lv0 := [(1, .int x1), (0, va_rf (some a0))]) hC dX2_areOrderly_9 rfl rfl [1, 0] rfl (g_okS.h rfl rfl rfl) ?_
        replace hvc := g_lp1_o hvc
        obtain ⟨K7, hz13, hs14, n15, hvc⟩ := hvc
        have kh8 : ∀ (n : Nat) (x6 : Int32), K7 n x6 → g_J p l e R s m args below meth c 3 E st0 Z 10 [(0, va_rf (some a0)), (1, .int x1), (2, .int x6)] [] st cb sb := by
          clear hvc
          intro n
          induction n with
          | zero => intro x6 hvc; exact absurd hvc (hz13 _)
          | succ n ih9 =>
            intro x6 hvc
            replace hvc := hs14 n _ hvc
            refine j_iload_n hC dX2_areOrderly_10 rfl 2 rfl ?_
            refine j_iload_n hC dX2_areOrderly_11 rfl 1 rfl ?_
            refine j_icmp_ge (tgt := 32) hC dX2_areOrderly_12 rfl (fun c10 => ?_) (fun c10 => ?_)
            · replace hvc := hvc.1 c10
              refine j_iinc (lv0 := [(0, va_rf (some a0)), (2, .int x6)]) hC (nI 1) dX2_areOrderly_32 1 rfl rfl rfl [0, 2] rfl (g_okS.h rfl g_c1 rfl) ?_
              refine j_goto (tgt := 2) hC dX2_areOrderly_35 rfl ?_
              exact j_sub [1, 0] rfl (ih4 (x1 + (nI 1)) hvc)
            · replace hvc := hvc.2 c10
              refine j_aload_n hC dX2_areOrderly_15 rfl 0 rfl ?_
              refine j_iload_n hC dX2_areOrderly_16 rfl 2 rfl ?_
              refine j_iload_n hC dX2_areOrderly_17 rfl 1 rfl ?_
              obtain ⟨⟨fs, hr⟩, hvc⟩ := hvc
              refine j_callV (As := [.int x6, .int x1]) (rest := []) (n := 2) (ci := 16) hC hvc (lw_V q2412 q2414 qs36 q60 q2415) (by decide +kernel) (g_rm hR rfl rfl) rfl hr rfl rfl (g_sum rfl) dX2_areOrderly_18 (Nat.zero_le _) (Nat.zero_le _) (g_Kip fun x11 hv2 => ?_)
              replace hvc := hv2; clear hv2
              clear hr fs
              refine j_if_ne (tgt := 26) hC dX2_areOrderly_21 rfl (fun c12 => ?_) (fun c12 => ?_)
              · replace hvc := hvc.1 c12
                refine j_iinc (lv0 := [(1, .int x1), (0, va_rf (some a0))]) hC (nI 1) dX2_areOrderly_26 2 rfl rfl rfl [1, 0] rfl (g_okS.h rfl rfl rfl) ?_
                refine j_goto (tgt := 10) hC dX2_areOrderly_29 rfl ?_
                exact j_sub [2, 1, 0] rfl (ih9 (x6 + (nI 1)) hvc)
              · replace hvc := hvc.2 c12
                refine j_iconst hC (nI 0) dX2_areOrderly_24 rfl ?_
                exact hret _ _ _ _ _ _ dX2_areOrderly_25 rfl hvc
        exact j_sub [2, 1, 0] rfl (kh8 n15 (nI 0) hvc)
  exact j_sub [1, 0] rfl (kh3 n18 (nI 0) hvc)
theorem wk_X2_areOrderly {l : Launch} {E : g_E} {a0 : Nat} {st : g_St} {mc ms : Nat} {Q : Int32 → g_St → Prop} (hvc : vc_X2_areOrderly l E a0 st Q) : wp_X2_areOrderly l E mc ms [va_rf (some a0)] st Q :=
  g_enter (lv0 := [(0, va_rf (some a0))]) (plainFor_of_name (by decide +kernel)) (by simp [lv_args, g_c1, g_ci, g_cL]) (by simp [lg_sl, g_c1, g_ci, g_cL]) (fun p e s m args below meth c hC => wb_X2_areOrderly hC ⟨Nat.le_refl _, Nat.le_refl _⟩ (fun pc lv v st1 cb sb hd hn hq => j_ireturn hC rfl hn hd (g_iv hq)) hvc)
abbrev wp_X2_codeAt (l : Launch) (E : g_E) (mc ms : Nat) (av : List Value) (st : g_St) (Q : Int32 → g_St → Prop) : Prop := g_WPi l E yX2_codeAt cX2_codeAt 4 (some .int) 1 40 mc ms av st Q
def vc_X2_codeAt (l : Launch) (E : g_E) (a0 : Nat) (p0 : Int32) (st : g_St) (Q : Int32 → g_St → Prop) : Prop :=
  g_lp1 (fun (K2 : Int32 → Prop) (x1 : Int32) => ((nI 6) ≤ x1 → Q (-1) st) ∧ (¬ (nI 6) ≤ x1 → g_lp1 (fun (K7 : Int32 → Prop) (x6 : Int32) => ∃ o10 : Option Nat, g_gr st a0 16 7 o10 ∧ ∃ a11 : Nat, o10 = some a11 ∧ ∃ (n12 : Nat) (f13 : Nat → Int32) (j14 : Nat), g_ai st a11 0 n12 f13 ∧ x1 = nI j14 ∧ j14 < n12 ∧ j14 < 2 ^ 31 ∧ g_jn0 (fun (K15 : Prop) => ((f13 j14) ≤ x6 → K15) ∧ (¬ (f13 j14) ≤ x6 → ∃ x24 : Int32, g_gi st a0 16 8 x24 ∧ (x24 ≤ (p0 + x6) → K15) ∧ (¬ x24 ≤ (p0 + x6) → ∃ o26 : Option Nat, g_gr st a0 16 3 o26 ∧ ∃ a27 : Nat, o26 = some a27 ∧ ∃ (n28 : Nat) (f29 : Nat → Int32) (j30 : Nat), g_ai st a27 2 n28 f29 ∧ (((nI 3) * x1) + x6) = nI j30 ∧ j30 < n28 ∧ j30 < 2 ^ 31 ∧ ∃ o31 : Option Nat, g_gr st a0 16 1 o31 ∧ ∃ a32 : Nat, o31 = some a32 ∧ ∃ (n33 : Nat) (f34 : Nat → Int32) (j35 : Nat), g_ai st a32 2 n33 f34 ∧ (p0 + x6) = nI j35 ∧ j35 < n33 ∧ j35 < 2 ^ 31 ∧ (¬ (f29 j30) = (f34 j35) → K15) ∧ ((f29 j30) = (f34 j35) → K7 (x6 + (nI 1)))))) (∃ o17 : Option Nat, g_gr st a0 16 7 o17 ∧ ∃ a18 : Nat, o17 = some a18 ∧ ∃ (n19 : Nat) (f20 : Nat → Int32) (j21 : Nat), g_ai st a18 0 n19 f20 ∧ x1 = nI j21 ∧ j21 < n19 ∧ j21 < 2 ^ 31 ∧ (¬ x6 = (f20 j21) → K2 (x1 + (nI 1))) ∧ (x6 = (f20 j21) → Q x1 st))) (nI 0))) (nI 0)
set_option maxHeartbeats 4000000 in
theorem wb_X2_codeAt {p : Program} {l : Launch} {e : Env} {R : Room} {s : State} {m : MethodId} {args : Array Value} {below : List Frame} {meth : Method} {c : Code} {E : g_E} {st0 : g_St} {Z : State → Prop} (hC : g_Cx p s m args meth c cX2_codeAt 4 "StemspanModel" (some .int) "codeAt" E st0) (hR : g_Rm 1 40 R) {a0 : Nat} {p0 : Int32} {st : g_St} {cb sb : Nat} {Q : Int32 → g_St → Prop} (hret : ∀ (pc : Nat) (lv : List (Nat × Value)) (v : Int32) (st1 : g_St) (cb sb : Nat), decode cX2_codeAt pc = .ok (.ireturn, 1) → narrow .int (.int v) = .int v → Q v st1 → g_J p l e R s m args below meth c 4 E st0 Z pc lv [.int v] st1 cb sb) (hvc : vc_X2_codeAt l E a0 p0 st Q) : g_J p l e R s m args below meth c 4 E st0 Z 0 [(0, va_rf (some a0)), (1, .int p0)] [] st cb sb := by
  unfold vc_X2_codeAt at hvc
  refine j_iconst hC (nI 0) dX2_codeAt_0 rfl ?_
  refine j_istore_n (lv0 := [(1, .int p0), (0, va_rf (some a0))]) hC dX2_codeAt_1 rfl rfl [1, 0] rfl (g_okS.h rfl rfl rfl) ?_
  replace hvc := g_lp1_o hvc
  obtain ⟨K2, hz41, hs42, n43, hvc⟩ := hvc
  have kh3 : ∀ (n : Nat) (x1 : Int32), K2 n x1 → g_J p l e R s m args below meth c 4 E st0 Z 2 [(0, va_rf (some a0)), (1, .int p0), (2, .int x1)] [] st cb sb := by
    clear hvc
    intro n
    induction n with
    | zero => intro x1 hvc; exact absurd hvc (hz41 _)
    | succ n ih4 =>
      intro x1 hvc
      replace hvc := hs42 n _ hvc
      refine j_iload_n hC dX2_codeAt_2 rfl 2 rfl ?_
      refine j_bipush hC (nI 6) dX2_codeAt_3 rfl ?_
      refine j_icmp_ge (tgt := 75) hC dX2_codeAt_5 rfl (fun c5 => ?_) (fun c5 => ?_)
      · replace hvc := hvc.1 c5
        refine j_iconst hC (-1) dX2_codeAt_75 rfl ?_
        exact hret _ _ _ _ _ _ dX2_codeAt_76 rfl hvc
      · replace hvc := hvc.2 c5
        refine j_iconst hC (nI 0) dX2_codeAt_8 rfl ?_
        refine j_istore_n (lv0 := [(2, .int x1), (0, va_rf (some a0)), (1, .int p0)]) hC dX2_codeAt_9 rfl rfl [2, 0, 1] rfl (g_okS.h rfl rfl rfl) ?_
        replace hvc := g_lp1_o hvc
        obtain ⟨K7, hz38, hs39, n40, hvc⟩ := hvc
        have kh8 : ∀ (n : Nat) (x6 : Int32), K7 n x6 → g_J p l e R s m args below meth c 4 E st0 Z 10 [(0, va_rf (some a0)), (1, .int p0), (2, .int x1), (3, .int x6)] [] st cb sb := by
          clear hvc
          intro n
          induction n with
          | zero => intro x6 hvc; exact absurd hvc (hz38 _)
          | succ n ih9 =>
            intro x6 hvc
            replace hvc := hs39 n _ hvc
            refine j_iload_n hC dX2_codeAt_10 rfl 3 rfl ?_
            refine j_aload_n hC dX2_codeAt_11 rfl 0 rfl ?_
            obtain ⟨o10, ⟨fs, hr, hv⟩, hvc⟩ := hvc
            refine j_get hC fkX2_33_X2 dX2_codeAt_12 hr hv ?_
            clear hv hr fs
            refine j_iload_n hC dX2_codeAt_15 rfl 2 rfl ?_
            obtain ⟨a11, rfl, hvc⟩ := hvc
            obtain ⟨n12, f13, j14, hr, hi, hj, hJ, hvc⟩ := hvc
            refine j_ix hi ?_
            refine j_iald hC hr hj hJ dX2_codeAt_16 ?_
            clear hr hi hj hJ
            replace hvc := g_jn0_o hvc
            obtain ⟨K15, hK37, hvc⟩ := hvc
            have kh16 : K15 → g_J p l e R s m args below meth c 4 E st0 Z 57 [(0, va_rf (some a0)), (1, .int p0), (2, .int x1), (3, .int x6)] [] st cb sb := by
              clear hvc
              intro hvc
              replace hvc := hK37 hvc
              refine j_iload_n hC dX2_codeAt_57 rfl 3 rfl ?_
              refine j_aload_n hC dX2_codeAt_58 rfl 0 rfl ?_
              obtain ⟨o17, ⟨fs, hr, hv⟩, hvc⟩ := hvc
              refine j_get hC fkX2_33_X2 dX2_codeAt_59 hr hv ?_
              clear hv hr fs
              refine j_iload_n hC dX2_codeAt_62 rfl 2 rfl ?_
              obtain ⟨a18, rfl, hvc⟩ := hvc
              obtain ⟨n19, f20, j21, hr, hi, hj, hJ, hvc⟩ := hvc
              refine j_ix hi ?_
              refine j_iald hC hr hj hJ dX2_codeAt_63 ?_
              clear hr hi hj hJ
              refine j_icmp_ne (tgt := 69) hC dX2_codeAt_64 rfl (fun c22 => ?_) (fun c22 => ?_)
              · replace hvc := hvc.1 c22
                refine j_iinc (lv0 := [(1, .int p0), (0, va_rf (some a0)), (3, .int x6)]) hC (nI 1) dX2_codeAt_69 2 rfl rfl rfl [1, 0, 3] rfl (g_okS.h rfl rfl rfl) ?_
                refine j_goto (tgt := 2) hC dX2_codeAt_72 rfl ?_
                exact j_sub [2, 1, 0] rfl (ih4 (x1 + (nI 1)) hvc)
              · replace hvc := hvc.2 c22
                refine j_iload_n hC dX2_codeAt_67 rfl 2 rfl ?_
                exact hret _ _ _ _ _ _ dX2_codeAt_68 rfl hvc
            refine j_icmp_ge (tgt := 57) hC dX2_codeAt_17 rfl (fun c23 => ?_) (fun c23 => ?_)
            · replace hvc := hvc.1 c23
              exact j_sub [0, 1, 2, 3] rfl (kh16 hvc)
            · replace hvc := hvc.2 c23
              refine j_iload_n hC dX2_codeAt_20 rfl 1 rfl ?_
              refine j_iload_n hC dX2_codeAt_21 rfl 3 rfl ?_
              refine j_iadd hC dX2_codeAt_22 ?_
              refine j_aload_n hC dX2_codeAt_23 rfl 0 rfl ?_
              obtain ⟨x24, ⟨fs, hr, hv⟩, hvc⟩ := hvc
              refine j_get hC fkX2_49_X2 dX2_codeAt_24 hr hv ?_
              clear hv hr fs
              refine j_icmp_ge (tgt := 57) hC dX2_codeAt_27 rfl (fun c25 => ?_) (fun c25 => ?_)
              · replace hvc := hvc.1 c25
                exact j_sub [0, 1, 2, 3] rfl (kh16 hvc)
              · replace hvc := hvc.2 c25
                refine j_aload_n hC dX2_codeAt_30 rfl 0 rfl ?_
                obtain ⟨o26, ⟨fs, hr, hv⟩, hvc⟩ := hvc
                refine j_get hC fkX2_20_X2 dX2_codeAt_31 hr hv ?_
                clear hv hr fs
                refine j_iconst hC (nI 3) dX2_codeAt_34 rfl ?_
                refine j_iload_n hC dX2_codeAt_35 rfl 2 rfl ?_
                refine j_imul hC dX2_codeAt_36 ?_
                refine j_iload_n hC dX2_codeAt_37 rfl 3 rfl ?_
                refine j_iadd hC dX2_codeAt_38 ?_
                obtain ⟨a27, rfl, hvc⟩ := hvc
                obtain ⟨n28, f29, j30, hr, hi, hj, hJ, hvc⟩ := hvc
                refine j_ix hi ?_
                refine j_cald hC hr hj hJ dX2_codeAt_39 ?_
                clear hr hi hj hJ
                refine j_aload_n hC dX2_codeAt_40 rfl 0 rfl ?_
                obtain ⟨o31, ⟨fs, hr, hv⟩, hvc⟩ := hvc
                refine j_get hC fkX2_13_X2 dX2_codeAt_41 hr hv ?_
                clear hv hr fs
                refine j_iload_n hC dX2_codeAt_44 rfl 1 rfl ?_
                refine j_iload_n hC dX2_codeAt_45 rfl 3 rfl ?_
                refine j_iadd hC dX2_codeAt_46 ?_
                obtain ⟨a32, rfl, hvc⟩ := hvc
                obtain ⟨n33, f34, j35, hr, hi, hj, hJ, hvc⟩ := hvc
                refine j_ix hi ?_
                refine j_cald hC hr hj hJ dX2_codeAt_47 ?_
                clear hr hi hj hJ
                refine j_icmp_ne (tgt := 57) hC dX2_codeAt_48 rfl (fun c36 => ?_) (fun c36 => ?_)
                · replace hvc := hvc.1 c36
                  exact j_sub [0, 1, 2, 3] rfl (kh16 hvc)
                · replace hvc := hvc.2 c36
                  refine j_iinc (lv0 := [(2, .int x1), (0, va_rf (some a0)), (1, .int p0)]) hC (nI 1) dX2_codeAt_51 3 rfl rfl rfl [2, 0, 1] rfl (g_okS.h rfl rfl rfl) ?_
                  refine j_goto (tgt := 10) hC dX2_codeAt_54 rfl ?_
                  exact j_sub [2, 3, 1, 0] rfl (ih9 (x6 + (nI 1)) hvc)
        exact j_sub [2, 3, 1, 0] rfl (kh8 n40 (nI 0) hvc)
  exact j_sub [2, 1, 0] rfl (kh3 n43 (nI 0) hvc)
theorem wk_X2_codeAt {l : Launch} {E : g_E} {a0 : Nat} {p0 : Int32} {st : g_St} {mc ms : Nat} {Q : Int32 → g_St → Prop} (hvc : vc_X2_codeAt l E a0 p0 st Q) : wp_X2_codeAt l E mc ms [va_rf (some a0), .int p0] st Q :=
  g_enter (lv0 := [(0, va_rf (some a0)), (1, .int p0)]) (plainFor_of_name (by decide +kernel)) (by simp [lv_args, g_c1, g_ci, g_cL]) (by simp [lg_sl, g_c1, g_ci, g_cL]) (fun p e s m args below meth c hC => wb_X2_codeAt hC ⟨Nat.le_refl _, Nat.le_refl _⟩ (fun pc lv v st1 cb sb hd hn hq => j_ireturn hC rfl hn hd (g_iv hq)) hvc)
abbrev wp_X2_read (l : Launch) (E : g_E) (mc ms : Nat) (av : List Value) (st : g_St) (Q : Int32 → g_St → Prop) : Prop := g_WPi l E yX2_read cX2_read 4 (some .int) 3 85 mc ms av st Q
def vc_X2_read (l : Launch) (E : g_E) (a0 : Nat) (st : g_St) (Q : Int32 → g_St → Prop) : Prop :=
  g_lp3 (fun (K4 : Int32 → Int32 → g_St → Prop) (x1 : Int32) (x2 : Int32) (st3 : g_St) => ∃ x7 : Int32, g_gi st3 a0 16 8 x7 ∧ g_jn0 (fun (K8 : Prop) => (x7 ≤ x1 → K8) ∧ (¬ x7 ≤ x1 → g_is st3 a0 16 ∧ wp_X2_codeAt l E 0 0 [va_rf (some a0), .int x1] st3 (fun x45 stx => stx = st3 ∧ (x45 < 0 → K8) ∧ (¬ x45 < 0 → g_is st3 a0 16 ∧ wp_X2_codeAt l E 0 0 [va_rf (some a0), .int x1] st3 (fun x47 stx => stx = st3 ∧ ∃ o48 : Option Nat, g_gr st3 a0 16 4 o48 ∧ ∃ a49 : Nat, o48 = some a49 ∧ ∃ (n50 : Nat) (f51 : Nat → Int32) (j52 : Nat), st3.2.1 a49 = some (.inl (2, n50, .inl (f51))) ∧ x2 = nI j52 ∧ j52 < n50 ∧ j52 < 2 ^ 31 ∧ ∀ st53 : g_St, st53 = g_put st3 a49 (.inl (2, n50, .inl (va_up f51 j52 (vp_nar .char (((((nI 97) + x47)).toUInt32 % 65536).toInt32))))) → ∃ o54 : Option Nat, g_gr st53 a0 16 7 o54 ∧ ∃ a55 : Nat, o54 = some a55 ∧ ∃ (n56 : Nat) (f57 : Nat → Int32) (j58 : Nat), g_ai st53 a55 0 n56 f57 ∧ x47 = nI j58 ∧ j58 < n56 ∧ j58 < 2 ^ 31 ∧ K4 (x1 + (f57 j58)) (x2 + (nI 1)) st53))))) (g_is st3 a0 16 ∧ wp_X2_areOrderly l E 0 0 [va_rf (some a0)] st3 (fun x10 stx => stx = st3 ∧ g_jn1 (fun (K12 : Int32 → Prop) => (¬ x10 = 0 → ∃ x41 : Int32, g_gi st3 a0 16 8 x41 ∧ (x41 ≤ x1 → K12 (nI 0)) ∧ (¬ x41 ≤ x1 → K12 (nI 2))) ∧ (x10 = 0 → K12 (nI 1))) (fun (x11 : Int32) => g_is st3 a0 16 ∧ wp_X2_fails l E 0 0 [va_rf (some a0), .int x11] st3 (fun x14 st15 => g_Ext st3 st15 → (x14 = 0 → ∃ fs17 : List Value, st15.2.1 a0 = some (.inr (16, fs17)) ∧ ∀ st18 : g_St, st18 = g_put st15 a0 (.inr (16, fs17.set 8 (.int x2))) → g_lp2 (fun (K21 : Int32 → g_St → Prop) (x19 : Int32) (st20 : g_St) => (x2 ≤ x19 → ∃ x25 : Int32, g_gi st20 a0 16 8 x25 ∧ Q x25 st20) ∧ (¬ x2 ≤ x19 → ∃ o26 : Option Nat, g_gr st20 a0 16 1 o26 ∧ ∃ o27 : Option Nat, g_gr st20 a0 16 4 o27 ∧ ∃ a28 : Nat, o27 = some a28 ∧ ∃ (n29 : Nat) (f30 : Nat → Int32) (j31 : Nat), g_ai st20 a28 2 n29 f30 ∧ x19 = nI j31 ∧ j31 < n29 ∧ j31 < 2 ^ 31 ∧ ∃ a32 : Nat, o26 = some a32 ∧ ∃ (n33 : Nat) (f34 : Nat → Int32) (j35 : Nat), st20.2.1 a32 = some (.inl (2, n33, .inl (f34))) ∧ x19 = nI j35 ∧ j35 < n33 ∧ j35 < 2 ^ 31 ∧ ∀ st36 : g_St, st36 = g_put st20 a32 (.inl (2, n33, .inl (va_up f34 j35 (vp_nar .char (f30 j31))))) → K21 (x19 + (nI 1)) st36)) (nI 0) st18) ∧ (¬ x14 = 0 → Q (nI 0) st15)))))) (nI 0) (nI 0) st
set_option maxHeartbeats 4000000 in
theorem wb_X2_read {p : Program} {l : Launch} {e : Env} {R : Room} {s : State} {m : MethodId} {args : Array Value} {below : List Frame} {meth : Method} {c : Code} {E : g_E} {st0 : g_St} {Z : State → Prop} (hC : g_Cx p s m args meth c cX2_read 4 "StemspanModel" (some .int) "read" E st0) (hR : g_Rm 3 85 R) {a0 : Nat} {st : g_St} {cb sb : Nat} {Q : Int32 → g_St → Prop} (hret : ∀ (pc : Nat) (lv : List (Nat × Value)) (v : Int32) (st1 : g_St) (cb sb : Nat), decode cX2_read pc = .ok (.ireturn, 1) → narrow .int (.int v) = .int v → Q v st1 → g_J p l e R s m args below meth c 4 E st0 Z pc lv [.int v] st1 cb sb) (hvc : vc_X2_read l E a0 st Q) : g_J p l e R s m args below meth c 4 E st0 Z 0 [(0, va_rf (some a0))] [] st cb sb := by
  unfold vc_X2_read at hvc
  refine j_iconst hC (nI 0) dX2_read_0 rfl ?_
  refine j_istore_n (lv0 := [(0, va_rf (some a0))]) hC dX2_read_1 rfl rfl [0] rfl (g_okS.h rfl g_c1 rfl) ?_
  refine j_iconst hC (nI 0) dX2_read_2 rfl ?_
  refine j_istore_n (lv0 := [(1, .int (nI 0)), (0, va_rf (some a0))]) hC dX2_read_3 rfl rfl [0, 1] rfl (g_okS.h rfl rfl rfl) ?_
  replace hvc := g_lp3_o hvc
  obtain ⟨K4, hz60, hs61, n62, hvc⟩ := hvc
  have kh5 : ∀ (n : Nat) (x1 : Int32) (x2 : Int32) (st3 : g_St), K4 n x1 x2 st3 → g_J p l e R s m args below meth c 4 E st0 Z 4 [(0, va_rf (some a0)), (1, .int x1), (2, .int x2)] [] st3 cb sb := by
    clear hvc
    intro n
    induction n with
    | zero => intro x1 x2 st3 hvc; exact absurd hvc (hz60 _ _ _)
    | succ n ih6 =>
      intro x1 x2 st3 hvc
      replace hvc := hs61 n _ _ _ hvc
      refine j_iload_n hC dX2_read_4 rfl 1 rfl ?_
      refine j_aload_n hC dX2_read_5 rfl 0 rfl ?_
      obtain ⟨x7, ⟨fs, hr, hv⟩, hvc⟩ := hvc
      refine j_get hC fkX2_49_X2 dX2_read_6 hr hv ?_
      clear hv hr fs
      replace hvc := g_jn0_o hvc
      obtain ⟨K8, hK59, hvc⟩ := hvc
      have kh9 : K8 → g_J p l e R s m args below meth c 4 E st0 Z 52 [(0, va_rf (some a0)), (1, .int x1), (2, .int x2)] [] st3 cb sb := by
        clear hvc
        intro hvc
        replace hvc := hK59 hvc
        refine j_aload_n hC dX2_read_52 rfl 0 rfl ?_
        refine j_aload_n hC dX2_read_53 rfl 0 rfl ?_
        obtain ⟨⟨fs, hr⟩, hvc⟩ := hvc
        refine j_callV (As := []) (rest := [va_rf (some a0)]) (n := 0) (ci := 16) hC hvc (lw_V q2408 q2410 qs35 q60 q2411) (by decide +kernel) (g_rm hR rfl rfl) rfl hr rfl rfl (g_sum rfl) dX2_read_54 (Nat.zero_le _) (Nat.zero_le _) (g_Kip fun x10 hv2 => ?_)
        replace hvc := hv2; clear hv2
        clear hr fs
        replace hvc := g_jn1_o hvc
        obtain ⟨K12, hK43, hvc⟩ := hvc
        have kh13 : ∀ (x11 : Int32), K12 x11 → g_J p l e R s m args below meth c 4 E st0 Z 77 [(0, va_rf (some a0)), (2, .int x2)] [.int x11, va_rf (some a0)] st3 cb sb := by
          clear hvc
          intro x11 hvc
          replace hvc := hK43 _ hvc
          obtain ⟨⟨fs, hr⟩, hvc⟩ := hvc
          refine j_callV (As := [.int x11]) (rest := []) (n := 1) (ci := 16) hC hvc (lw_V q2232 q2234 qs20 q60 q2235) (by decide +kernel) (g_rm hR rfl rfl) rfl hr rfl rfl (g_sum rfl) dX2_read_77 (Nat.zero_le _) (Nat.zero_le _) (g_Ki fun x14 st15 hv2 hx => ?_)
          replace hvc := hv2 hx; clear hx hv2
          clear hr fs
          refine j_if_eq (tgt := 85) hC dX2_read_80 rfl (fun c16 => ?_) (fun c16 => ?_)
          · replace hvc := hvc.1 c16
            refine j_aload_n hC dX2_read_85 rfl 0 rfl ?_
            refine j_iload_n hC dX2_read_86 rfl 1 rfl ?_
            obtain ⟨fs17, hm, hvc⟩ := hvc
            refine j_put hC fkX2_49_X2 dX2_read_87 hm rfl rfl (fun st18 e1 => ?_)
            replace hvc := hvc st18 e1; clear hm e1
            refine j_iconst hC (nI 0) dX2_read_90 rfl ?_
            refine j_istore_n (lv0 := [(2, .int x2), (0, va_rf (some a0))]) hC dX2_read_91 rfl rfl [1, 0] rfl (g_okS.h rfl rfl rfl) ?_
            replace hvc := g_lp2_o hvc
            obtain ⟨K21, hz37, hs38, n39, hvc⟩ := hvc
            have kh22 : ∀ (n : Nat) (x19 : Int32) (st20 : g_St), K21 n x19 st20 → g_J p l e R s m args below meth c 4 E st0 Z 92 [(0, va_rf (some a0)), (2, .int x2), (3, .int x19)] [] st20 cb sb := by
              clear hvc
              intro n
              induction n with
              | zero => intro x19 st20 hvc; exact absurd hvc (hz37 _ _)
              | succ n ih23 =>
                intro x19 st20 hvc
                replace hvc := hs38 n _ _ hvc
                refine j_iload_n hC dX2_read_92 rfl 2 rfl ?_
                refine j_iload_n hC dX2_read_93 rfl 1 rfl ?_
                refine j_icmp_ge (tgt := 115) hC dX2_read_94 rfl (fun c24 => ?_) (fun c24 => ?_)
                · replace hvc := hvc.1 c24
                  refine j_aload_n hC dX2_read_115 rfl 0 rfl ?_
                  obtain ⟨x25, ⟨fs, hr, hv⟩, hvc⟩ := hvc
                  refine j_get hC fkX2_49_X2 dX2_read_116 hr hv ?_
                  clear hv hr fs
                  exact hret _ _ _ _ _ _ dX2_read_119 rfl hvc
                · replace hvc := hvc.2 c24
                  refine j_aload_n hC dX2_read_97 rfl 0 rfl ?_
                  obtain ⟨o26, ⟨fs, hr, hv⟩, hvc⟩ := hvc
                  refine j_get hC fkX2_13_X2 dX2_read_98 hr hv ?_
                  clear hv hr fs
                  refine j_iload_n hC dX2_read_101 rfl 2 rfl ?_
                  refine j_aload_n hC dX2_read_102 rfl 0 rfl ?_
                  obtain ⟨o27, ⟨fs, hr, hv⟩, hvc⟩ := hvc
                  refine j_get hC fkX2_23_X2 dX2_read_103 hr hv ?_
                  clear hv hr fs
                  refine j_iload_n hC dX2_read_106 rfl 2 rfl ?_
                  obtain ⟨a28, rfl, hvc⟩ := hvc
                  obtain ⟨n29, f30, j31, hr, hi, hj, hJ, hvc⟩ := hvc
                  refine j_ix hi ?_
                  refine j_cald hC hr hj hJ dX2_read_107 ?_
                  clear hr hi hj hJ
                  obtain ⟨a32, rfl, hvc⟩ := hvc
                  obtain ⟨n33, f34, j35, hm, hi, hj, hJ, hvc⟩ := hvc
                  refine j_ix1 hi ?_
                  refine j_stc hC hm hj hJ dX2_read_108 (fun st36 e1 => ?_)
                  replace hvc := hvc st36 e1; clear hm hi hj hJ e1
                  refine j_iinc (lv0 := [(2, .int x2), (0, va_rf (some a0))]) hC (nI 1) dX2_read_109 2 rfl rfl rfl [1, 0] rfl (g_okS.h rfl rfl rfl) ?_
                  refine j_goto (tgt := 92) hC dX2_read_112 rfl ?_
                  exact j_sub [2, 1, 0] rfl (ih23 (x19 + (nI 1)) st36 hvc)
            exact j_sub [2, 1, 0] rfl (kh22 n39 (nI 0) st18 hvc)
          · replace hvc := hvc.2 c16
            refine j_iconst hC (nI 0) dX2_read_83 rfl ?_
            exact hret _ _ _ _ _ _ dX2_read_84 rfl hvc
        refine j_if_ne (tgt := 64) hC dX2_read_57 rfl (fun c40 => ?_) (fun c40 => ?_)
        · replace hvc := hvc.1 c40
          refine j_iload_n hC dX2_read_64 rfl 1 rfl ?_
          refine j_aload_n hC dX2_read_65 rfl 0 rfl ?_
          obtain ⟨x41, ⟨fs, hr, hv⟩, hvc⟩ := hvc
          refine j_get hC fkX2_49_X2 dX2_read_66 hr hv ?_
          clear hv hr fs
          refine j_icmp_ge (tgt := 76) hC dX2_read_69 rfl (fun c42 => ?_) (fun c42 => ?_)
          · replace hvc := hvc.1 c42
            refine j_iconst hC (nI 0) dX2_read_76 rfl ?_
            exact j_sub [0, 2] rfl (kh13 (nI 0) hvc)
          · replace hvc := hvc.2 c42
            refine j_iconst hC (nI 2) dX2_read_72 rfl ?_
            refine j_goto (tgt := 77) hC dX2_read_73 rfl ?_
            exact j_sub [0, 2] rfl (kh13 (nI 2) hvc)
        · replace hvc := hvc.2 c40
          refine j_iconst hC (nI 1) dX2_read_60 rfl ?_
          refine j_goto (tgt := 77) hC dX2_read_61 rfl ?_
          exact j_sub [0, 2] rfl (kh13 (nI 1) hvc)
      refine j_icmp_ge (tgt := 52) hC dX2_read_9 rfl (fun c44 => ?_) (fun c44 => ?_)
      · replace hvc := hvc.1 c44
        exact j_sub [0, 1, 2] rfl (kh9 hvc)
      · replace hvc := hvc.2 c44
        refine j_aload_n hC dX2_read_12 rfl 0 rfl ?_
        refine j_iload_n hC dX2_read_13 rfl 1 rfl ?_
        obtain ⟨⟨fs, hr⟩, hvc⟩ := hvc
        refine j_callV (As := [.int x1]) (rest := []) (n := 1) (ci := 16) hC hvc (lw_V q2404 q2406 qs34 q60 q2407) (by decide +kernel) (g_rm hR rfl rfl) rfl hr rfl rfl (g_sum rfl) dX2_read_14 (Nat.zero_le _) (Nat.zero_le _) (g_Kip fun x45 hv2 => ?_)
        replace hvc := hv2; clear hv2
        clear hr fs
        refine j_if_lt (tgt := 52) hC dX2_read_17 rfl (fun c46 => ?_) (fun c46 => ?_)
        · replace hvc := hvc.1 c46
          exact j_sub [0, 1, 2] rfl (kh9 hvc)
        · replace hvc := hvc.2 c46
          refine j_aload_n hC dX2_read_20 rfl 0 rfl ?_
          refine j_iload_n hC dX2_read_21 rfl 1 rfl ?_
          obtain ⟨⟨fs, hr⟩, hvc⟩ := hvc
          refine j_callV (As := [.int x1]) (rest := []) (n := 1) (ci := 16) hC hvc (lw_V q2404 q2406 qs34 q60 q2407) (by decide +kernel) (g_rm hR rfl rfl) rfl hr rfl rfl (g_sum rfl) dX2_read_22 (Nat.zero_le _) (Nat.zero_le _) (g_Kip fun x47 hv2 => ?_)
          replace hvc := hv2; clear hv2
          clear hr fs
          refine j_istore_n (lv0 := [(2, .int x2), (0, va_rf (some a0)), (1, .int x1)]) hC dX2_read_25 rfl rfl [2, 0, 1] rfl (g_okS.h rfl rfl rfl) ?_
          refine j_aload_n hC dX2_read_26 rfl 2 rfl ?_
          obtain ⟨o48, ⟨fs, hr, hv⟩, hvc⟩ := hvc
          refine j_get hC fkX2_23_X2 dX2_read_27 hr hv ?_
          clear hv hr fs
          refine j_iload_n hC dX2_read_30 rfl 1 rfl ?_
          refine j_bipush hC (nI 97) dX2_read_31 rfl ?_
          refine j_iload_n hC dX2_read_33 rfl 0 rfl ?_
          refine j_iadd hC dX2_read_34 ?_
          refine j_i2c hC dX2_read_35 ?_
          obtain ⟨a49, rfl, hvc⟩ := hvc
          obtain ⟨n50, f51, j52, hm, hi, hj, hJ, hvc⟩ := hvc
          refine j_ix1 hi ?_
          refine j_stc hC hm hj hJ dX2_read_36 (fun st53 e1 => ?_)
          replace hvc := hvc st53 e1; clear hm hi hj hJ e1
          refine j_iinc (lv0 := [(1, .int x1), (3, .int x47), (0, va_rf (some a0))]) hC (nI 1) dX2_read_37 1 rfl rfl rfl [3, 0, 2] rfl (g_okS.h rfl rfl rfl) ?_
          refine j_iload_n hC dX2_read_40 rfl 1 rfl ?_
          refine j_aload_n hC dX2_read_41 rfl 3 rfl ?_
          obtain ⟨o54, ⟨fs, hr, hv⟩, hvc⟩ := hvc
          refine j_get hC fkX2_33_X2 dX2_read_42 hr hv ?_
          clear hv hr fs
          refine j_iload_n hC dX2_read_45 rfl 2 rfl ?_
          obtain ⟨a55, rfl, hvc⟩ := hvc
          obtain ⟨n56, f57, j58, hr, hi, hj, hJ, hvc⟩ := hvc
          refine j_ix hi ?_
          refine j_iald hC hr hj hJ dX2_read_46 ?_
          clear hr hi hj hJ
          refine j_iadd hC dX2_read_47 ?_
          refine j_istore_n (lv0 := [(0, va_rf (some a0)), (2, .int (x2 + (nI 1))), (3, .int x47)]) hC dX2_read_48 rfl rfl [3, 0, 2] rfl (g_okS.h rfl g_c1 rfl) ?_
          refine j_goto (tgt := 4) hC dX2_read_49 rfl ?_
          exact j_sub [1, 0, 2] rfl (ih6 (x1 + (f57 j58)) (x2 + (nI 1)) st53 hvc)
  exact j_sub [2, 1, 0] rfl (kh5 n62 (nI 0) (nI 0) st hvc)
theorem wk_X2_read {l : Launch} {E : g_E} {a0 : Nat} {st : g_St} {mc ms : Nat} {Q : Int32 → g_St → Prop} (hvc : vc_X2_read l E a0 st Q) : wp_X2_read l E mc ms [va_rf (some a0)] st Q :=
  g_enter (lv0 := [(0, va_rf (some a0))]) (plainFor_of_name (by decide +kernel)) (by simp [lv_args, g_c1, g_ci, g_cL]) (by simp [lg_sl, g_c1, g_ci, g_cL]) (fun p e s m args below meth c hC => wb_X2_read hC ⟨Nat.le_refl _, Nat.le_refl _⟩ (fun pc lv v st1 cb sb hd hn hq => j_ireturn hC rfl hn hd (g_iv hq)) hvc)
abbrev wp_X2_written (l : Launch) (E : g_E) (mc ms : Nat) (av : List Value) (st : g_St) (Q : Int32 → g_St → Prop) : Prop := g_WPi l E yX2_written cX2_written 4 (some .int) 2 64 mc ms av st Q
def vc_X2_written (l : Launch) (E : g_E) (a0 : Nat) (p0 : Int32) (st : g_St) (Q : Int32 → g_St → Prop) : Prop :=
  g_lp3 (fun (K4 : Int32 → Int32 → g_St → Prop) (x1 : Int32) (x2 : Int32) (st3 : g_St) => ∃ o7 : Option Nat, g_gr st3 a0 16 5 o7 ∧ ∃ a8 : Nat, o7 = some a8 ∧ ∃ (n9 : Nat) (f10 : Nat → Int32) (j11 : Nat), g_ai st3 a8 0 n9 f10 ∧ p0 = nI j11 ∧ j11 < n9 ∧ j11 < 2 ^ 31 ∧ ((f10 j11) ≤ x2 → Q x1 st3) ∧ (¬ (f10 j11) ≤ x2 → ∃ o13 : Option Nat, g_gr st3 a0 16 2 o13 ∧ ∃ a14 : Nat, o13 = some a14 ∧ ∃ (n15 : Nat) (f16 : Nat → Int32) (j17 : Nat), g_ai st3 a14 2 n15 f16 ∧ (((nI 10) * p0) + x2) = nI j17 ∧ j17 < n15 ∧ j17 < 2 ^ 31 ∧ g_is st3 a0 16 ∧ wp_X2_puts l E 0 0 [va_rf (some a0), .int x1, .int (f16 j17)] st3 (fun x18 st19 => g_Ext st3 st19 → K4 x18 (x2 + (nI 1)) st19))) (nI 0) (nI 0) st
set_option maxHeartbeats 4000000 in
theorem wb_X2_written {p : Program} {l : Launch} {e : Env} {R : Room} {s : State} {m : MethodId} {args : Array Value} {below : List Frame} {meth : Method} {c : Code} {E : g_E} {st0 : g_St} {Z : State → Prop} (hC : g_Cx p s m args meth c cX2_written 4 "StemspanModel" (some .int) "written" E st0) (hR : g_Rm 2 64 R) {a0 : Nat} {p0 : Int32} {st : g_St} {cb sb : Nat} {Q : Int32 → g_St → Prop} (hret : ∀ (pc : Nat) (lv : List (Nat × Value)) (v : Int32) (st1 : g_St) (cb sb : Nat), decode cX2_written pc = .ok (.ireturn, 1) → narrow .int (.int v) = .int v → Q v st1 → g_J p l e R s m args below meth c 4 E st0 Z pc lv [.int v] st1 cb sb) (hvc : vc_X2_written l E a0 p0 st Q) : g_J p l e R s m args below meth c 4 E st0 Z 0 [(0, va_rf (some a0)), (1, .int p0)] [] st cb sb := by
  unfold vc_X2_written at hvc
  refine j_iconst hC (nI 0) dX2_written_0 rfl ?_
  refine j_istore_n (lv0 := [(1, .int p0), (0, va_rf (some a0))]) hC dX2_written_1 rfl rfl [1, 0] rfl (g_okS.h rfl rfl rfl) ?_
  refine j_iconst hC (nI 0) dX2_written_2 rfl ?_
  refine j_istore_n (lv0 := [(2, .int (nI 0)), (1, .int p0), (0, va_rf (some a0))]) hC dX2_written_3 rfl rfl [0, 1, 2] rfl (g_okS.h rfl rfl rfl) ?_
  replace hvc := g_lp3_o hvc
  obtain ⟨K4, hz20, hs21, n22, hvc⟩ := hvc
  have kh5 : ∀ (n : Nat) (x1 : Int32) (x2 : Int32) (st3 : g_St), K4 n x1 x2 st3 → g_J p l e R s m args below meth c 4 E st0 Z 4 [(0, va_rf (some a0)), (1, .int p0), (2, .int x1), (3, .int x2)] [] st3 cb sb := by
    clear hvc
    intro n
    induction n with
    | zero => intro x1 x2 st3 hvc; exact absurd hvc (hz20 _ _ _)
    | succ n ih6 =>
      intro x1 x2 st3 hvc
      replace hvc := hs21 n _ _ _ hvc
      refine j_iload_n hC dX2_written_4 rfl 3 rfl ?_
      refine j_aload_n hC dX2_written_5 rfl 0 rfl ?_
      obtain ⟨o7, ⟨fs, hr, hv⟩, hvc⟩ := hvc
      refine j_get hC fkX2_26_X2 dX2_written_6 hr hv ?_
      clear hv hr fs
      refine j_iload_n hC dX2_written_9 rfl 1 rfl ?_
      obtain ⟨a8, rfl, hvc⟩ := hvc
      obtain ⟨n9, f10, j11, hr, hi, hj, hJ, hvc⟩ := hvc
      refine j_ix hi ?_
      refine j_iald hC hr hj hJ dX2_written_10 ?_
      clear hr hi hj hJ
      refine j_icmp_ge (tgt := 37) hC dX2_written_11 rfl (fun c12 => ?_) (fun c12 => ?_)
      · replace hvc := hvc.1 c12
        refine j_iload_n hC dX2_written_37 rfl 2 rfl ?_
        exact hret _ _ _ _ _ _ dX2_written_38 rfl hvc
      · replace hvc := hvc.2 c12
        refine j_aload_n hC dX2_written_14 rfl 0 rfl ?_
        refine j_iload_n hC dX2_written_15 rfl 2 rfl ?_
        refine j_aload_n hC dX2_written_16 rfl 0 rfl ?_
        obtain ⟨o13, ⟨fs, hr, hv⟩, hvc⟩ := hvc
        refine j_get hC fkX2_17_X2 dX2_written_17 hr hv ?_
        clear hv hr fs
        refine j_bipush hC (nI 10) dX2_written_20 rfl ?_
        refine j_iload_n hC dX2_written_22 rfl 1 rfl ?_
        refine j_imul hC dX2_written_23 ?_
        refine j_iload_n hC dX2_written_24 rfl 3 rfl ?_
        refine j_iadd hC dX2_written_25 ?_
        obtain ⟨a14, rfl, hvc⟩ := hvc
        obtain ⟨n15, f16, j17, hr, hi, hj, hJ, hvc⟩ := hvc
        refine j_ix hi ?_
        refine j_cald hC hr hj hJ dX2_written_26 ?_
        clear hr hi hj hJ
        obtain ⟨⟨fs, hr⟩, hvc⟩ := hvc
        refine j_callV (As := [.int x1, .int (f16 j17)]) (rest := []) (n := 2) (ci := 16) hC hvc (lw_V q2396 q2398 qs33 q60 q2399) (by decide +kernel) (g_rm hR rfl rfl) rfl hr rfl rfl (g_sum rfl) dX2_written_27 (Nat.zero_le _) (Nat.zero_le _) (g_Ki fun x18 st19 hv2 hx => ?_)
        replace hvc := hv2 hx; clear hx hv2
        clear hr fs
        refine j_istore_n (lv0 := [(1, .int p0), (0, va_rf (some a0)), (3, .int x2)]) hC dX2_written_30 rfl rfl [1, 0, 3] rfl (g_okS.h rfl rfl rfl) ?_
        refine j_iinc (lv0 := [(2, .int x18), (1, .int p0), (0, va_rf (some a0))]) hC (nI 1) dX2_written_31 3 rfl rfl rfl [0, 1, 2] rfl (g_okS.h rfl rfl rfl) ?_
        refine j_goto (tgt := 4) hC dX2_written_34 rfl ?_
        exact j_sub [3, 2, 1, 0] rfl (ih6 x18 (x2 + (nI 1)) st19 hvc)
  exact j_sub [3, 2, 1, 0] rfl (kh5 n22 (nI 0) (nI 0) st hvc)
theorem wk_X2_written {l : Launch} {E : g_E} {a0 : Nat} {p0 : Int32} {st : g_St} {mc ms : Nat} {Q : Int32 → g_St → Prop} (hvc : vc_X2_written l E a0 p0 st Q) : wp_X2_written l E mc ms [va_rf (some a0), .int p0] st Q :=
  g_enter (lv0 := [(0, va_rf (some a0)), (1, .int p0)]) (plainFor_of_name (by decide +kernel)) (by simp [lv_args, g_c1, g_ci, g_cL]) (by simp [lg_sl, g_c1, g_ci, g_cL]) (fun p e s m args below meth c hC => wb_X2_written hC ⟨Nat.le_refl _, Nat.le_refl _⟩ (fun pc lv v st1 cb sb hd hn hq => j_ireturn hC rfl hn hd (g_iv hq)) hvc)
abbrev wp_X2_writeAll (l : Launch) (E : g_E) (mc ms : Nat) (av : List Value) (st : g_St) (Q : Int32 → g_St → Prop) : Prop := g_WPi l E yX2_writeAll cX2_writeAll 6 (some .int) 3 87 mc ms av st Q
def vc_X2_writeAll (l : Launch) (E : g_E) (a0 : Nat) (st : g_St) (Q : Int32 → g_St → Prop) : Prop :=
  g_lp3 (fun (K4 : Int32 → Int32 → g_St → Prop) (x1 : Int32) (x2 : Int32) (st3 : g_St) => ∃ x7 : Int32, g_gi st3 a0 16 9 x7 ∧ (x7 ≤ x2 → g_is st3 a0 16 ∧ wp_X2_areOrderly l E 0 0 [va_rf (some a0)] st3 (fun x9 stx => stx = st3 ∧ g_jn1 (fun (K11 : Int32 → Prop) => (¬ x9 = 0 → (x1 = 0 → K11 (nI 0)) ∧ (¬ x1 = 0 → K11 (nI 2))) ∧ (x9 = 0 → K11 (nI 1))) (fun (x10 : Int32) => g_is st3 a0 16 ∧ wp_X2_fails l E 0 0 [va_rf (some a0), .int x10] st3 (fun x13 st14 => g_Ext st3 st14 → (x13 = 0 → g_lp3 (fun (K19 : Int32 → Int32 → g_St → Prop) (x16 : Int32) (x17 : Int32) (st18 : g_St) => ∃ x22 : Int32, g_gi st18 a0 16 9 x22 ∧ (x22 ≤ x17 → Q x16 st18) ∧ (¬ x22 ≤ x17 → g_is st18 a0 16 ∧ wp_X2_written l E 0 0 [va_rf (some a0), .int x17] st18 (fun x24 st25 => g_Ext st18 st25 → ∃ o26 : Option Nat, g_gr st25 a0 16 5 o26 ∧ ∃ a27 : Nat, o26 = some a27 ∧ ∃ (n28 : Nat) (f29 : Nat → Int32) (j30 : Nat), g_ai st25 a27 0 n28 f29 ∧ x17 = nI j30 ∧ j30 < n28 ∧ j30 < 2 ^ 31 ∧ g_jn1 (fun (K32 : Int32 → Prop) => (x24 ≤ (f29 j30) → K32 x16) ∧ (¬ x24 ≤ (f29 j30) → K32 (x16 + (nI 1)))) (fun (x31 : Int32) => ∃ o34 : Option Nat, g_gr st25 a0 16 5 o34 ∧ ∃ a35 : Nat, o34 = some a35 ∧ ∃ (n36 : Nat) (f37 : Nat → Int32) (j38 : Nat), st25.2.1 a35 = some (.inl (0, n36, .inl (f37))) ∧ x17 = nI j38 ∧ j38 < n36 ∧ j38 < 2 ^ 31 ∧ ∀ st39 : g_St, st39 = g_put st25 a35 (.inl (0, n36, .inl (va_up f37 j38 x24))) → g_lp2 (fun (K42 : Int32 → g_St → Prop) (x40 : Int32) (st41 : g_St) => (x24 ≤ x40 → K19 x31 (x17 + (nI 1)) st41) ∧ (¬ x24 ≤ x40 → ∃ o46 : Option Nat, g_gr st41 a0 16 2 o46 ∧ ∃ o47 : Option Nat, g_gr st41 a0 16 4 o47 ∧ ∃ a48 : Nat, o47 = some a48 ∧ ∃ (n49 : Nat) (f50 : Nat → Int32) (j51 : Nat), g_ai st41 a48 2 n49 f50 ∧ x40 = nI j51 ∧ j51 < n49 ∧ j51 < 2 ^ 31 ∧ ∃ a52 : Nat, o46 = some a52 ∧ ∃ (n53 : Nat) (f54 : Nat → Int32) (j55 : Nat), st41.2.1 a52 = some (.inl (2, n53, .inl (f54))) ∧ (((nI 10) * x17) + x40) = nI j55 ∧ j55 < n53 ∧ j55 < 2 ^ 31 ∧ ∀ st56 : g_St, st56 = g_put st41 a52 (.inl (2, n53, .inl (va_up f54 j55 (vp_nar .char (f50 j51))))) → K42 (x40 + (nI 1)) st56)) (nI 0) st39)))) (nI 0) (nI 0) st14) ∧ (¬ x13 = 0 → Q (nI 0) st14))))) ∧ (¬ x7 ≤ x2 → g_is st3 a0 16 ∧ wp_X2_written l E 0 0 [va_rf (some a0), .int x2] st3 (fun x68 st69 => g_Ext st3 st69 → g_jn1 (fun (K71 : Int32 → Prop) => (x68 ≤ (nI 10) → K71 (nI 0)) ∧ (¬ x68 ≤ (nI 10) → K71 (nI 1))) (fun (x70 : Int32) => K4 (x1 ||| x70) (x2 + (nI 1)) st69)))) (nI 0) (nI 0) st
set_option maxHeartbeats 4000000 in
theorem wb_X2_writeAll {p : Program} {l : Launch} {e : Env} {R : Room} {s : State} {m : MethodId} {args : Array Value} {below : List Frame} {meth : Method} {c : Code} {E : g_E} {st0 : g_St} {Z : State → Prop} (hC : g_Cx p s m args meth c cX2_writeAll 6 "StemspanModel" (some .int) "writeAll" E st0) (hR : g_Rm 3 87 R) {a0 : Nat} {st : g_St} {cb sb : Nat} {Q : Int32 → g_St → Prop} (hret : ∀ (pc : Nat) (lv : List (Nat × Value)) (v : Int32) (st1 : g_St) (cb sb : Nat), decode cX2_writeAll pc = .ok (.ireturn, 1) → narrow .int (.int v) = .int v → Q v st1 → g_J p l e R s m args below meth c 6 E st0 Z pc lv [.int v] st1 cb sb) (hvc : vc_X2_writeAll l E a0 st Q) : g_J p l e R s m args below meth c 6 E st0 Z 0 [(0, va_rf (some a0))] [] st cb sb := by
  unfold vc_X2_writeAll at hvc
  refine j_iconst hC (nI 0) dX2_writeAll_0 rfl ?_
  refine j_istore_n (lv0 := [(0, va_rf (some a0))]) hC dX2_writeAll_1 rfl rfl [0] rfl (g_okS.h rfl g_c1 rfl) ?_
  refine j_iconst hC (nI 0) dX2_writeAll_2 rfl ?_
  refine j_istore_n (lv0 := [(1, .int (nI 0)), (0, va_rf (some a0))]) hC dX2_writeAll_3 rfl rfl [0, 1] rfl (g_okS.h rfl rfl rfl) ?_
  replace hvc := g_lp3_o hvc
  obtain ⟨K4, hz75, hs76, n77, hvc⟩ := hvc
  have kh5 : ∀ (n : Nat) (x1 : Int32) (x2 : Int32) (st3 : g_St), K4 n x1 x2 st3 → g_J p l e R s m args below meth c 6 E st0 Z 4 [(0, va_rf (some a0)), (1, .int x1), (2, .int x2)] [] st3 cb sb := by
    clear hvc
    intro n
    induction n with
    | zero => intro x1 x2 st3 hvc; exact absurd hvc (hz75 _ _ _)
    | succ n ih6 =>
      intro x1 x2 st3 hvc
      replace hvc := hs76 n _ _ _ hvc
      refine j_iload_n hC dX2_writeAll_4 rfl 2 rfl ?_
      refine j_aload_n hC dX2_writeAll_5 rfl 0 rfl ?_
      obtain ⟨x7, ⟨fs, hr, hv⟩, hvc⟩ := hvc
      refine j_get hC fkX2_59_X2 dX2_writeAll_6 hr hv ?_
      clear hv hr fs
      refine j_icmp_ge (tgt := 36) hC dX2_writeAll_9 rfl (fun c8 => ?_) (fun c8 => ?_)
      · replace hvc := hvc.1 c8
        refine j_aload_n hC dX2_writeAll_36 rfl 0 rfl ?_
        refine j_aload_n hC dX2_writeAll_37 rfl 0 rfl ?_
        obtain ⟨⟨fs, hr⟩, hvc⟩ := hvc
        refine j_callV (As := []) (rest := [va_rf (some a0)]) (n := 0) (ci := 16) hC hvc (lw_V q2408 q2410 qs35 q60 q2411) (by decide +kernel) (g_rm hR rfl rfl) rfl hr rfl rfl (g_sum rfl) dX2_writeAll_38 (Nat.zero_le _) (Nat.zero_le _) (g_Kip fun x9 hv2 => ?_)
        replace hvc := hv2; clear hv2
        clear hr fs
        replace hvc := g_jn1_o hvc
        obtain ⟨K11, hK67, hvc⟩ := hvc
        have kh12 : ∀ (x10 : Int32), K11 x10 → g_J p l e R s m args below meth c 6 E st0 Z 57 [(0, va_rf (some a0))] [.int x10, va_rf (some a0)] st3 cb sb := by
          clear hvc
          intro x10 hvc
          replace hvc := hK67 _ hvc
          obtain ⟨⟨fs, hr⟩, hvc⟩ := hvc
          refine j_callV (As := [.int x10]) (rest := []) (n := 1) (ci := 16) hC hvc (lw_V q2232 q2234 qs20 q60 q2235) (by decide +kernel) (g_rm hR rfl rfl) rfl hr rfl rfl (g_sum rfl) dX2_writeAll_57 (Nat.zero_le _) (Nat.zero_le _) (g_Ki fun x13 st14 hv2 hx => ?_)
          replace hvc := hv2 hx; clear hx hv2
          clear hr fs
          refine j_if_eq (tgt := 65) hC dX2_writeAll_60 rfl (fun c15 => ?_) (fun c15 => ?_)
          · replace hvc := hvc.1 c15
            refine j_iconst hC (nI 0) dX2_writeAll_65 rfl ?_
            refine j_istore_n (lv0 := [(0, va_rf (some a0))]) hC dX2_writeAll_66 rfl rfl [0] rfl (g_okS.n rfl) ?_
            refine j_iconst hC (nI 0) dX2_writeAll_67 rfl ?_
            refine j_istore_n (lv0 := [(2, .int (nI 0)), (0, va_rf (some a0))]) hC dX2_writeAll_68 rfl rfl [0, 1] rfl (g_okS.h rfl rfl rfl) ?_
            replace hvc := g_lp3_o hvc
            obtain ⟨K19, hz62, hs63, n64, hvc⟩ := hvc
            have kh20 : ∀ (n : Nat) (x16 : Int32) (x17 : Int32) (st18 : g_St), K19 n x16 x17 st18 → g_J p l e R s m args below meth c 6 E st0 Z 69 [(0, va_rf (some a0)), (2, .int x16), (3, .int x17)] [] st18 cb sb := by
              clear hvc
              intro n
              induction n with
              | zero => intro x16 x17 st18 hvc; exact absurd hvc (hz62 _ _ _)
              | succ n ih21 =>
                intro x16 x17 st18 hvc
                replace hvc := hs63 n _ _ _ hvc
                refine j_iload_n hC dX2_writeAll_69 rfl 2 rfl ?_
                refine j_aload_n hC dX2_writeAll_70 rfl 0 rfl ?_
                obtain ⟨x22, ⟨fs, hr, hv⟩, hvc⟩ := hvc
                refine j_get hC fkX2_59_X2 dX2_writeAll_71 hr hv ?_
                clear hv hr fs
                refine j_icmp_ge (tgt := 147) hC dX2_writeAll_74 rfl (fun c23 => ?_) (fun c23 => ?_)
                · replace hvc := hvc.1 c23
                  refine j_iload_n hC dX2_writeAll_147 rfl 1 rfl ?_
                  exact hret _ _ _ _ _ _ dX2_writeAll_148 rfl hvc
                · replace hvc := hvc.2 c23
                  refine j_aload_n hC dX2_writeAll_77 rfl 0 rfl ?_
                  refine j_iload_n hC dX2_writeAll_78 rfl 2 rfl ?_
                  obtain ⟨⟨fs, hr⟩, hvc⟩ := hvc
                  refine j_callV (As := [.int x17]) (rest := []) (n := 1) (ci := 16) hC hvc (lw_V q2420 q2422 qs37 q60 q2423) (by decide +kernel) (g_rm hR rfl rfl) rfl hr rfl rfl (g_sum rfl) dX2_writeAll_79 (Nat.zero_le _) (Nat.zero_le _) (g_Ki fun x24 st25 hv2 hx => ?_)
                  replace hvc := hv2 hx; clear hx hv2
                  clear hr fs
                  refine j_istore (lv0 := [(3, .int x17), (0, va_rf (some a0)), (2, .int x16)]) hC dX2_writeAll_82 rfl [2, 0, 1] rfl (g_okS.h rfl rfl rfl) ?_
                  refine j_iload hC dX2_writeAll_84 0 rfl ?_
                  refine j_aload_n hC dX2_writeAll_86 rfl 2 rfl ?_
                  obtain ⟨o26, ⟨fs, hr, hv⟩, hvc⟩ := hvc
                  refine j_get hC fkX2_26_X2 dX2_writeAll_87 hr hv ?_
                  clear hv hr fs
                  refine j_iload_n hC dX2_writeAll_90 rfl 1 rfl ?_
                  obtain ⟨a27, rfl, hvc⟩ := hvc
                  obtain ⟨n28, f29, j30, hr, hi, hj, hJ, hvc⟩ := hvc
                  refine j_ix hi ?_
                  refine j_iald hC hr hj hJ dX2_writeAll_91 ?_
                  clear hr hi hj hJ
                  replace hvc := g_jn1_o hvc
                  obtain ⟨K32, hK61, hvc⟩ := hvc
                  have kh33 : ∀ (x31 : Int32), K32 x31 → g_J p l e R s m args below meth c 6 E st0 Z 98 [(0, va_rf (some a0)), (2, .int x31), (3, .int x17), (4, .int x24)] [] st25 cb sb := by
                    clear hvc
                    intro x31 hvc
                    replace hvc := hK61 _ hvc
                    refine j_aload_n hC dX2_writeAll_98 rfl 0 rfl ?_
                    obtain ⟨o34, ⟨fs, hr, hv⟩, hvc⟩ := hvc
                    refine j_get hC fkX2_26_X2 dX2_writeAll_99 hr hv ?_
                    clear hv hr fs
                    refine j_iload_n hC dX2_writeAll_102 rfl 2 rfl ?_
                    refine j_iload hC dX2_writeAll_103 3 rfl ?_
                    obtain ⟨a35, rfl, hvc⟩ := hvc
                    obtain ⟨n36, f37, j38, hm, hi, hj, hJ, hvc⟩ := hvc
                    refine j_ix1 hi ?_
                    refine j_sti hC hm hj hJ dX2_writeAll_105 (fun st39 e1 => ?_)
                    replace hvc := hvc st39 e1; clear hm hi hj hJ e1
                    refine j_iconst hC (nI 0) dX2_writeAll_106 rfl ?_
                    refine j_istore (lv0 := [(4, .int x24), (0, va_rf (some a0)), (2, .int x31), (3, .int x17)]) hC dX2_writeAll_107 rfl [3, 0, 1, 2] rfl (g_okS.h rfl rfl rfl) ?_
                    replace hvc := g_lp2_o hvc
                    obtain ⟨K42, hz57, hs58, n59, hvc⟩ := hvc
                    have kh43 : ∀ (n : Nat) (x40 : Int32) (st41 : g_St), K42 n x40 st41 → g_J p l e R s m args below meth c 6 E st0 Z 109 [(0, va_rf (some a0)), (2, .int x31), (3, .int x17), (4, .int x24), (5, .int x40)] [] st41 cb sb := by
                      clear hvc
                      intro n
                      induction n with
                      | zero => intro x40 st41 hvc; exact absurd hvc (hz57 _ _)
                      | succ n ih44 =>
                        intro x40 st41 hvc
                        replace hvc := hs58 n _ _ hvc
                        refine j_iload hC dX2_writeAll_109 4 rfl ?_
                        refine j_iload hC dX2_writeAll_111 3 rfl ?_
                        refine j_icmp_ge (tgt := 141) hC dX2_writeAll_113 rfl (fun c45 => ?_) (fun c45 => ?_)
                        · replace hvc := hvc.1 c45
                          refine j_iinc (lv0 := [(2, .int x31), (0, va_rf (some a0)), (4, .int x24), (5, .int x40)]) hC (nI 1) dX2_writeAll_141 2 rfl rfl rfl [1, 0, 3, 4] rfl (g_okS.h rfl rfl rfl) ?_
                          refine j_goto (tgt := 69) hC dX2_writeAll_144 rfl ?_
                          exact j_sub [2, 1, 0] rfl (ih21 x31 (x17 + (nI 1)) st41 hvc)
                        · replace hvc := hvc.2 c45
                          refine j_aload_n hC dX2_writeAll_116 rfl 0 rfl ?_
                          obtain ⟨o46, ⟨fs, hr, hv⟩, hvc⟩ := hvc
                          refine j_get hC fkX2_17_X2 dX2_writeAll_117 hr hv ?_
                          clear hv hr fs
                          refine j_bipush hC (nI 10) dX2_writeAll_120 rfl ?_
                          refine j_iload_n hC dX2_writeAll_122 rfl 2 rfl ?_
                          refine j_imul hC dX2_writeAll_123 ?_
                          refine j_iload hC dX2_writeAll_124 4 rfl ?_
                          refine j_iadd hC dX2_writeAll_126 ?_
                          refine j_aload_n hC dX2_writeAll_127 rfl 0 rfl ?_
                          obtain ⟨o47, ⟨fs, hr, hv⟩, hvc⟩ := hvc
                          refine j_get hC fkX2_23_X2 dX2_writeAll_128 hr hv ?_
                          clear hv hr fs
                          refine j_iload hC dX2_writeAll_131 4 rfl ?_
                          obtain ⟨a48, rfl, hvc⟩ := hvc
                          obtain ⟨n49, f50, j51, hr, hi, hj, hJ, hvc⟩ := hvc
                          refine j_ix hi ?_
                          refine j_cald hC hr hj hJ dX2_writeAll_133 ?_
                          clear hr hi hj hJ
                          obtain ⟨a52, rfl, hvc⟩ := hvc
                          obtain ⟨n53, f54, j55, hm, hi, hj, hJ, hvc⟩ := hvc
                          refine j_ix1 hi ?_
                          refine j_stc hC hm hj hJ dX2_writeAll_134 (fun st56 e1 => ?_)
                          replace hvc := hvc st56 e1; clear hm hi hj hJ e1
                          refine j_iinc (lv0 := [(4, .int x24), (0, va_rf (some a0)), (2, .int x31), (3, .int x17)]) hC (nI 1) dX2_writeAll_135 4 rfl rfl rfl [3, 0, 1, 2] rfl (g_okS.h rfl rfl rfl) ?_
                          refine j_goto (tgt := 109) hC dX2_writeAll_138 rfl ?_
                          exact j_sub [2, 3, 4, 1, 0] rfl (ih44 (x40 + (nI 1)) st56 hvc)
                    exact j_sub [2, 3, 4, 1, 0] rfl (kh43 n59 (nI 0) st39 hvc)
                  refine j_icmp_le (tgt := 98) hC dX2_writeAll_92 rfl (fun c60 => ?_) (fun c60 => ?_)
                  · replace hvc := hvc.1 c60
                    exact j_sub [2, 3, 1, 0] rfl (kh33 x16 hvc)
                  · replace hvc := hvc.2 c60
                    refine j_iinc (lv0 := [(4, .int x24), (3, .int x17), (0, va_rf (some a0))]) hC (nI 1) dX2_writeAll_95 3 rfl rfl rfl [0, 1, 2] rfl (g_okS.n rfl) ?_
                    exact j_sub [3, 0, 2, 1] rfl (kh33 (x16 + (nI 1)) hvc)
            exact j_sub [2, 1, 0] rfl (kh20 n64 (nI 0) (nI 0) st14 hvc)
          · replace hvc := hvc.2 c15
            refine j_iconst hC (nI 0) dX2_writeAll_63 rfl ?_
            exact hret _ _ _ _ _ _ dX2_writeAll_64 rfl hvc
        refine j_if_ne (tgt := 48) hC dX2_writeAll_41 rfl (fun c65 => ?_) (fun c65 => ?_)
        · replace hvc := hvc.1 c65
          refine j_iload_n hC dX2_writeAll_48 rfl 1 rfl ?_
          refine j_if_eq (tgt := 56) hC dX2_writeAll_49 rfl (fun c66 => ?_) (fun c66 => ?_)
          · replace hvc := hvc.1 c66
            refine j_iconst hC (nI 0) dX2_writeAll_56 rfl ?_
            exact j_sub [0] rfl (kh12 (nI 0) hvc)
          · replace hvc := hvc.2 c66
            refine j_iconst hC (nI 2) dX2_writeAll_52 rfl ?_
            refine j_goto (tgt := 57) hC dX2_writeAll_53 rfl ?_
            exact j_sub [0] rfl (kh12 (nI 2) hvc)
        · replace hvc := hvc.2 c65
          refine j_iconst hC (nI 1) dX2_writeAll_44 rfl ?_
          refine j_goto (tgt := 57) hC dX2_writeAll_45 rfl ?_
          exact j_sub [0] rfl (kh12 (nI 1) hvc)
      · replace hvc := hvc.2 c8
        refine j_iload_n hC dX2_writeAll_12 rfl 1 rfl ?_
        refine j_aload_n hC dX2_writeAll_13 rfl 0 rfl ?_
        refine j_iload_n hC dX2_writeAll_14 rfl 2 rfl ?_
        obtain ⟨⟨fs, hr⟩, hvc⟩ := hvc
        refine j_callV (As := [.int x2]) (rest := [.int x1]) (n := 1) (ci := 16) hC hvc (lw_V q2420 q2422 qs37 q60 q2423) (by decide +kernel) (g_rm hR rfl rfl) rfl hr rfl rfl (g_sum rfl) dX2_writeAll_15 (Nat.zero_le _) (Nat.zero_le _) (g_Ki fun x68 st69 hv2 hx => ?_)
        replace hvc := hv2 hx; clear hx hv2
        clear hr fs
        refine j_bipush hC (nI 10) dX2_writeAll_18 rfl ?_
        replace hvc := g_jn1_o hvc
        obtain ⟨K71, hK74, hvc⟩ := hvc
        have kh72 : ∀ (x70 : Int32), K71 x70 → g_J p l e R s m args below meth c 6 E st0 Z 28 [(0, va_rf (some a0)), (2, .int x2)] [.int x70, .int x1] st69 cb sb := by
          clear hvc
          intro x70 hvc
          replace hvc := hK74 _ hvc
          refine j_ior hC dX2_writeAll_28 ?_
          refine j_istore_n (lv0 := [(0, va_rf (some a0)), (2, .int x2)]) hC dX2_writeAll_29 rfl rfl [0, 1] rfl (g_okS.h rfl g_c1 rfl) ?_
          refine j_iinc (lv0 := [(1, .int (x1 ||| x70)), (0, va_rf (some a0))]) hC (nI 1) dX2_writeAll_30 2 rfl rfl rfl [0, 1] rfl (g_okS.h rfl rfl rfl) ?_
          refine j_goto (tgt := 4) hC dX2_writeAll_33 rfl ?_
          exact j_sub [2, 1, 0] rfl (ih6 (x1 ||| x70) (x2 + (nI 1)) st69 hvc)
        refine j_icmp_le (tgt := 27) hC dX2_writeAll_20 rfl (fun c73 => ?_) (fun c73 => ?_)
        · replace hvc := hvc.1 c73
          refine j_iconst hC (nI 0) dX2_writeAll_27 rfl ?_
          exact j_sub [0, 2] rfl (kh72 (nI 0) hvc)
        · replace hvc := hvc.2 c73
          refine j_iconst hC (nI 1) dX2_writeAll_23 rfl ?_
          refine j_goto (tgt := 28) hC dX2_writeAll_24 rfl ?_
          exact j_sub [0, 2] rfl (kh72 (nI 1) hvc)
  exact j_sub [2, 1, 0] rfl (kh5 n77 (nI 0) (nI 0) st hvc)
theorem wk_X2_writeAll {l : Launch} {E : g_E} {a0 : Nat} {st : g_St} {mc ms : Nat} {Q : Int32 → g_St → Prop} (hvc : vc_X2_writeAll l E a0 st Q) : wp_X2_writeAll l E mc ms [va_rf (some a0)] st Q :=
  g_enter (lv0 := [(0, va_rf (some a0))]) (plainFor_of_name (by decide +kernel)) (by simp [lv_args, g_c1, g_ci, g_cL]) (by simp [lg_sl, g_c1, g_ci, g_cL]) (fun p e s m args below meth c hC => wb_X2_writeAll hC ⟨Nat.le_refl _, Nat.le_refl _⟩ (fun pc lv v st1 cb sb hd hn hq => j_ireturn hC rfl hn hd (g_iv hq)) hvc)
abbrev wp_X2_areTwins (l : Launch) (E : g_E) (mc ms : Nat) (av : List Value) (st : g_St) (Q : Int32 → g_St → Prop) : Prop := g_WPi l E yX2_areTwins cX2_areTwins 5 (some .boolean) 2 63 mc ms av st Q
def vc_X2_areTwins (l : Launch) (E : g_E) (a0 : Nat) (st : g_St) (Q : Int32 → g_St → Prop) : Prop :=
  ∃ x1 : Int32, g_gi st a0 16 9 x1 ∧ ((nI 2) ≤ x1 → g_lp2 (fun (K5 : Int32 → Int32 → Prop) (x3 : Int32) (x4 : Int32) => ∃ x8 : Int32, g_gi st a0 16 9 x8 ∧ (x8 ≤ x4 → g_lp2 (fun (K12 : Int32 → Int32 → Prop) (x10 : Int32) (x11 : Int32) => ∃ x15 : Int32, g_gi st a0 16 9 x15 ∧ (x15 ≤ x11 → g_jn1 (fun (K18 : Int32 → Prop) => (¬ x3 = x10 → K18 (nI 0)) ∧ (x3 = x10 → K18 (nI 1))) (fun (x17 : Int32) => narrow .boolean (.int x17) = .int x17 ∧ Q x17 st)) ∧ (¬ x15 ≤ x11 → ∃ o22 : Option Nat, g_gr st a0 16 10 o22 ∧ ∃ a23 : Nat, o22 = some a23 ∧ ∃ (n24 : Nat) (f25 : Nat → Int32) (j26 : Nat), g_ai st a23 0 n24 f25 ∧ (x11 - (nI 1)) = nI j26 ∧ j26 < n24 ∧ j26 < 2 ^ 31 ∧ ∃ o27 : Option Nat, g_gr st a0 16 10 o27 ∧ ∃ a28 : Nat, o27 = some a28 ∧ ∃ (n29 : Nat) (f30 : Nat → Int32) (j31 : Nat), g_ai st a28 0 n29 f30 ∧ x11 = nI j31 ∧ j31 < n29 ∧ j31 < 2 ^ 31 ∧ g_is st a0 16 ∧ wp_X2_likeWords l E 0 0 [va_rf (some a0), .int (f25 j26), .int (f30 j31)] st (fun x32 stx => stx = st ∧ g_jn1 (fun (K34 : Int32 → Prop) => (x32 ≤ x10 → K34 x10) ∧ (¬ x32 ≤ x10 → ∃ o37 : Option Nat, g_gr st a0 16 10 o37 ∧ ∃ a38 : Nat, o37 = some a38 ∧ ∃ (n39 : Nat) (f40 : Nat → Int32) (j41 : Nat), g_ai st a38 0 n39 f40 ∧ (x11 - (nI 1)) = nI j41 ∧ j41 < n39 ∧ j41 < 2 ^ 31 ∧ ∃ o42 : Option Nat, g_gr st a0 16 10 o42 ∧ ∃ a43 : Nat, o42 = some a43 ∧ ∃ (n44 : Nat) (f45 : Nat → Int32) (j46 : Nat), g_ai st a43 0 n44 f45 ∧ x11 = nI j46 ∧ j46 < n44 ∧ j46 < 2 ^ 31 ∧ g_is st a0 16 ∧ wp_X2_likeWords l E 0 0 [va_rf (some a0), .int (f40 j41), .int (f45 j46)] st (fun x47 stx => stx = st ∧ K34 x47))) (fun (x33 : Int32) => K12 x33 (x11 + (nI 1)))))) (nI 0) (nI 1)) ∧ (¬ x8 ≤ x4 → g_lp2 (fun (K54 : Int32 → Int32 → Prop) (x52 : Int32) (x53 : Int32) => (x4 ≤ x53 → K5 x52 (x4 + (nI 1))) ∧ (¬ x4 ≤ x53 → g_is st a0 16 ∧ wp_X2_likeWords l E 0 0 [va_rf (some a0), .int x53, .int x4] st (fun x58 stx => stx = st ∧ g_jn1 (fun (K60 : Int32 → Prop) => (x58 ≤ x52 → K60 x52) ∧ (¬ x58 ≤ x52 → g_is st a0 16 ∧ wp_X2_likeWords l E 0 0 [va_rf (some a0), .int x53, .int x4] st (fun x63 stx => stx = st ∧ K60 x63))) (fun (x59 : Int32) => K54 x59 (x53 + (nI 1)))))) x3 (nI 0))) (nI 0) (nI 0)) ∧ (¬ (nI 2) ≤ x1 → Q (nI 1) st)
set_option maxHeartbeats 4000000 in
theorem wb_X2_areTwins {p : Program} {l : Launch} {e : Env} {R : Room} {s : State} {m : MethodId} {args : Array Value} {below : List Frame} {meth : Method} {c : Code} {E : g_E} {st0 : g_St} {Z : State → Prop} (hC : g_Cx p s m args meth c cX2_areTwins 5 "StemspanModel" (some .boolean) "areTwins" E st0) (hR : g_Rm 2 63 R) {a0 : Nat} {st : g_St} {cb sb : Nat} {Q : Int32 → g_St → Prop} (hret : ∀ (pc : Nat) (lv : List (Nat × Value)) (v : Int32) (st1 : g_St) (cb sb : Nat), decode cX2_areTwins pc = .ok (.ireturn, 1) → narrow .boolean (.int v) = .int v → Q v st1 → g_J p l e R s m args below meth c 5 E st0 Z pc lv [.int v] st1 cb sb) (hvc : vc_X2_areTwins l E a0 st Q) : g_J p l e R s m args below meth c 5 E st0 Z 0 [(0, va_rf (some a0))] [] st cb sb := by
  unfold vc_X2_areTwins at hvc
  refine j_aload_n hC dX2_areTwins_0 rfl 0 rfl ?_
  obtain ⟨x1, ⟨fs, hr, hv⟩, hvc⟩ := hvc
  refine j_get hC fkX2_59_X2 dX2_areTwins_1 hr hv ?_
  clear hv hr fs
  refine j_iconst hC (nI 2) dX2_areTwins_4 rfl ?_
  refine j_icmp_ge (tgt := 10) hC dX2_areTwins_5 rfl (fun c2 => ?_) (fun c2 => ?_)
  · replace hvc := hvc.1 c2
    refine j_iconst hC (nI 0) dX2_areTwins_10 rfl ?_
    refine j_istore_n (lv0 := [(0, va_rf (some a0))]) hC dX2_areTwins_11 rfl rfl [0] rfl (g_okS.h rfl g_c1 rfl) ?_
    refine j_iconst hC (nI 0) dX2_areTwins_12 rfl ?_
    refine j_istore_n (lv0 := [(1, .int (nI 0)), (0, va_rf (some a0))]) hC dX2_areTwins_13 rfl rfl [0, 1] rfl (g_okS.h rfl rfl rfl) ?_
    refine j_iconst hC (nI 0) dX2_areTwins_14 rfl ?_
    refine j_istore_n (lv0 := [(2, .int (nI 0)), (1, .int (nI 0)), (0, va_rf (some a0))]) hC dX2_areTwins_15 rfl rfl [0, 1, 2] rfl (g_okS.h rfl rfl rfl) ?_
    replace hvc := g_lp2_o hvc
    obtain ⟨K5, hz68, hs69, n70, hvc⟩ := hvc
    have kh6 : ∀ (n : Nat) (x3 : Int32) (x4 : Int32), K5 n x3 x4 → g_J p l e R s m args below meth c 5 E st0 Z 16 [(0, va_rf (some a0)), (1, .int x3), (2, .int (nI 0)), (3, .int x4)] [] st cb sb := by
      clear hvc
      intro n
      induction n with
      | zero => intro x3 x4 hvc; exact absurd hvc (hz68 _ _)
      | succ n ih7 =>
        intro x3 x4 hvc
        replace hvc := hs69 n _ _ hvc
        refine j_iload_n hC dX2_areTwins_16 rfl 3 rfl ?_
        refine j_aload_n hC dX2_areTwins_17 rfl 0 rfl ?_
        obtain ⟨x8, ⟨fs, hr, hv⟩, hvc⟩ := hvc
        refine j_get hC fkX2_59_X2 dX2_areTwins_18 hr hv ?_
        clear hv hr fs
        refine j_icmp_ge (tgt := 64) hC dX2_areTwins_21 rfl (fun c9 => ?_) (fun c9 => ?_)
        · replace hvc := hvc.1 c9
          refine j_iconst hC (nI 1) dX2_areTwins_64 rfl ?_
          refine j_istore_n (lv0 := [(2, .int (nI 0)), (0, va_rf (some a0)), (1, .int x3)]) hC dX2_areTwins_65 rfl rfl [2, 0, 1] rfl (g_okS.h rfl rfl rfl) ?_
          replace hvc := g_lp2_o hvc
          obtain ⟨K12, hz49, hs50, n51, hvc⟩ := hvc
          have kh13 : ∀ (n : Nat) (x10 : Int32) (x11 : Int32), K12 n x10 x11 → g_J p l e R s m args below meth c 5 E st0 Z 66 [(0, va_rf (some a0)), (1, .int x3), (2, .int x10), (3, .int x11)] [] st cb sb := by
            clear hvc
            intro n
            induction n with
            | zero => intro x10 x11 hvc; exact absurd hvc (hz49 _ _)
            | succ n ih14 =>
              intro x10 x11 hvc
              replace hvc := hs50 n _ _ hvc
              refine j_iload_n hC dX2_areTwins_66 rfl 3 rfl ?_
              refine j_aload_n hC dX2_areTwins_67 rfl 0 rfl ?_
              obtain ⟨x15, ⟨fs, hr, hv⟩, hvc⟩ := hvc
              refine j_get hC fkX2_59_X2 dX2_areTwins_68 hr hv ?_
              clear hv hr fs
              refine j_icmp_ge (tgt := 121) hC dX2_areTwins_71 rfl (fun c16 => ?_) (fun c16 => ?_)
              · replace hvc := hvc.1 c16
                refine j_iload_n hC dX2_areTwins_121 rfl 1 rfl ?_
                refine j_iload_n hC dX2_areTwins_122 rfl 2 rfl ?_
                replace hvc := g_jn1_o hvc
                obtain ⟨K18, hK21, hvc⟩ := hvc
                have kh19 : ∀ (x17 : Int32), K18 x17 → g_J p l e R s m args below meth c 5 E st0 Z 131 [] [.int x17] st cb sb := by
                  clear hvc
                  intro x17 hvc
                  replace hvc := hK21 _ hvc
                  exact hret _ _ _ _ _ _ dX2_areTwins_131 hvc.1 hvc.2
                refine j_icmp_ne (tgt := 130) hC dX2_areTwins_123 rfl (fun c20 => ?_) (fun c20 => ?_)
                · replace hvc := hvc.1 c20
                  refine j_iconst hC (nI 0) dX2_areTwins_130 rfl ?_
                  exact j_sub [] rfl (kh19 (nI 0) hvc)
                · replace hvc := hvc.2 c20
                  refine j_iconst hC (nI 1) dX2_areTwins_126 rfl ?_
                  refine j_goto (tgt := 131) hC dX2_areTwins_127 rfl ?_
                  exact j_sub [] rfl (kh19 (nI 1) hvc)
              · replace hvc := hvc.2 c16
                refine j_aload_n hC dX2_areTwins_74 rfl 0 rfl ?_
                refine j_aload_n hC dX2_areTwins_75 rfl 0 rfl ?_
                obtain ⟨o22, ⟨fs, hr, hv⟩, hvc⟩ := hvc
                refine j_get hC fkX2_36_X2 dX2_areTwins_76 hr hv ?_
                clear hv hr fs
                refine j_iload_n hC dX2_areTwins_79 rfl 3 rfl ?_
                refine j_iconst hC (nI 1) dX2_areTwins_80 rfl ?_
                refine j_isub hC dX2_areTwins_81 ?_
                obtain ⟨a23, rfl, hvc⟩ := hvc
                obtain ⟨n24, f25, j26, hr, hi, hj, hJ, hvc⟩ := hvc
                refine j_ix hi ?_
                refine j_iald hC hr hj hJ dX2_areTwins_82 ?_
                clear hr hi hj hJ
                refine j_aload_n hC dX2_areTwins_83 rfl 0 rfl ?_
                obtain ⟨o27, ⟨fs, hr, hv⟩, hvc⟩ := hvc
                refine j_get hC fkX2_36_X2 dX2_areTwins_84 hr hv ?_
                clear hv hr fs
                refine j_iload_n hC dX2_areTwins_87 rfl 3 rfl ?_
                obtain ⟨a28, rfl, hvc⟩ := hvc
                obtain ⟨n29, f30, j31, hr, hi, hj, hJ, hvc⟩ := hvc
                refine j_ix hi ?_
                refine j_iald hC hr hj hJ dX2_areTwins_88 ?_
                clear hr hi hj hJ
                obtain ⟨⟨fs, hr⟩, hvc⟩ := hvc
                refine j_callV (As := [.int (f25 j26), .int (f30 j31)]) (rest := []) (n := 2) (ci := 16) hC hvc (lw_V q2320 q2322 qs28 q60 q2323) (by decide +kernel) (g_rm hR rfl rfl) rfl hr rfl rfl (g_sum rfl) dX2_areTwins_89 (Nat.zero_le _) (Nat.zero_le _) (g_Kip fun x32 hv2 => ?_)
                replace hvc := hv2; clear hv2
                clear hr fs
                refine j_iload_n hC dX2_areTwins_92 rfl 2 rfl ?_
                replace hvc := g_jn1_o hvc
                obtain ⟨K34, hK48, hvc⟩ := hvc
                have kh35 : ∀ (x33 : Int32), K34 x33 → g_J p l e R s m args below meth c 5 E st0 Z 115 [(0, va_rf (some a0)), (1, .int x3), (2, .int x33), (3, .int x11)] [] st cb sb := by
                  clear hvc
                  intro x33 hvc
                  replace hvc := hK48 _ hvc
                  refine j_iinc (lv0 := [(2, .int x33), (0, va_rf (some a0)), (1, .int x3)]) hC (nI 1) dX2_areTwins_115 3 rfl rfl rfl [2, 0, 1] rfl (g_okS.h rfl rfl rfl) ?_
                  refine j_goto (tgt := 66) hC dX2_areTwins_118 rfl ?_
                  exact j_sub [2, 3, 1, 0] rfl (ih14 x33 (x11 + (nI 1)) hvc)
                refine j_icmp_le (tgt := 115) hC dX2_areTwins_93 rfl (fun c36 => ?_) (fun c36 => ?_)
                · replace hvc := hvc.1 c36
                  exact j_sub [0, 1, 2, 3] rfl (kh35 x10 hvc)
                · replace hvc := hvc.2 c36
                  refine j_aload_n hC dX2_areTwins_96 rfl 0 rfl ?_
                  refine j_aload_n hC dX2_areTwins_97 rfl 0 rfl ?_
                  obtain ⟨o37, ⟨fs, hr, hv⟩, hvc⟩ := hvc
                  refine j_get hC fkX2_36_X2 dX2_areTwins_98 hr hv ?_
                  clear hv hr fs
                  refine j_iload_n hC dX2_areTwins_101 rfl 3 rfl ?_
                  refine j_iconst hC (nI 1) dX2_areTwins_102 rfl ?_
                  refine j_isub hC dX2_areTwins_103 ?_
                  obtain ⟨a38, rfl, hvc⟩ := hvc
                  obtain ⟨n39, f40, j41, hr, hi, hj, hJ, hvc⟩ := hvc
                  refine j_ix hi ?_
                  refine j_iald hC hr hj hJ dX2_areTwins_104 ?_
                  clear hr hi hj hJ
                  refine j_aload_n hC dX2_areTwins_105 rfl 0 rfl ?_
                  obtain ⟨o42, ⟨fs, hr, hv⟩, hvc⟩ := hvc
                  refine j_get hC fkX2_36_X2 dX2_areTwins_106 hr hv ?_
                  clear hv hr fs
                  refine j_iload_n hC dX2_areTwins_109 rfl 3 rfl ?_
                  obtain ⟨a43, rfl, hvc⟩ := hvc
                  obtain ⟨n44, f45, j46, hr, hi, hj, hJ, hvc⟩ := hvc
                  refine j_ix hi ?_
                  refine j_iald hC hr hj hJ dX2_areTwins_110 ?_
                  clear hr hi hj hJ
                  obtain ⟨⟨fs, hr⟩, hvc⟩ := hvc
                  refine j_callV (As := [.int (f40 j41), .int (f45 j46)]) (rest := []) (n := 2) (ci := 16) hC hvc (lw_V q2320 q2322 qs28 q60 q2323) (by decide +kernel) (g_rm hR rfl rfl) rfl hr rfl rfl (g_sum rfl) dX2_areTwins_111 (Nat.zero_le _) (Nat.zero_le _) (g_Kip fun x47 hv2 => ?_)
                  replace hvc := hv2; clear hv2
                  clear hr fs
                  refine j_istore_n (lv0 := [(1, .int x3), (0, va_rf (some a0)), (3, .int x11)]) hC dX2_areTwins_114 rfl rfl [1, 0, 3] rfl (g_okS.h rfl rfl rfl) ?_
                  exact j_sub [2, 1, 0, 3] rfl (kh35 x47 hvc)
          exact j_sub [2, 3, 1, 0] rfl (kh13 n51 (nI 0) (nI 1) hvc)
        · replace hvc := hvc.2 c9
          refine j_iconst hC (nI 0) dX2_areTwins_24 rfl ?_
          refine j_istore (lv0 := [(3, .int x4), (0, va_rf (some a0)), (1, .int x3), (2, .int (nI 0))]) hC dX2_areTwins_25 rfl [3, 0, 1, 2] rfl (g_okS.h rfl rfl rfl) ?_
          replace hvc := g_lp2_o hvc
          obtain ⟨K54, hz65, hs66, n67, hvc⟩ := hvc
          have kh55 : ∀ (n : Nat) (x52 : Int32) (x53 : Int32), K54 n x52 x53 → g_J p l e R s m args below meth c 5 E st0 Z 27 [(0, va_rf (some a0)), (1, .int x52), (2, .int (nI 0)), (3, .int x4), (4, .int x53)] [] st cb sb := by
            clear hvc
            intro n
            induction n with
            | zero => intro x52 x53 hvc; exact absurd hvc (hz65 _ _)
            | succ n ih56 =>
              intro x52 x53 hvc
              replace hvc := hs66 n _ _ hvc
              refine j_iload hC dX2_areTwins_27 4 rfl ?_
              refine j_iload_n hC dX2_areTwins_29 rfl 3 rfl ?_
              refine j_icmp_ge (tgt := 58) hC dX2_areTwins_30 rfl (fun c57 => ?_) (fun c57 => ?_)
              · replace hvc := hvc.1 c57
                refine j_iinc (lv0 := [(2, .int (nI 0)), (0, va_rf (some a0)), (1, .int x52), (4, .int x53)]) hC (nI 1) dX2_areTwins_58 3 rfl rfl rfl [2, 0, 1, 4] rfl (g_okS.h rfl rfl rfl) ?_
                refine j_goto (tgt := 16) hC dX2_areTwins_61 rfl ?_
                exact j_sub [2, 3, 1, 0] rfl (ih7 x52 (x4 + (nI 1)) hvc)
              · replace hvc := hvc.2 c57
                refine j_aload_n hC dX2_areTwins_33 rfl 0 rfl ?_
                refine j_iload hC dX2_areTwins_34 4 rfl ?_
                refine j_iload_n hC dX2_areTwins_36 rfl 3 rfl ?_
                obtain ⟨⟨fs, hr⟩, hvc⟩ := hvc
                refine j_callV (As := [.int x53, .int x4]) (rest := []) (n := 2) (ci := 16) hC hvc (lw_V q2320 q2322 qs28 q60 q2323) (by decide +kernel) (g_rm hR rfl rfl) rfl hr rfl rfl (g_sum rfl) dX2_areTwins_37 (Nat.zero_le _) (Nat.zero_le _) (g_Kip fun x58 hv2 => ?_)
                replace hvc := hv2; clear hv2
                clear hr fs
                refine j_iload_n hC dX2_areTwins_40 rfl 1 rfl ?_
                replace hvc := g_jn1_o hvc
                obtain ⟨K60, hK64, hvc⟩ := hvc
                have kh61 : ∀ (x59 : Int32), K60 x59 → g_J p l e R s m args below meth c 5 E st0 Z 52 [(0, va_rf (some a0)), (1, .int x59), (2, .int (nI 0)), (3, .int x4), (4, .int x53)] [] st cb sb := by
                  clear hvc
                  intro x59 hvc
                  replace hvc := hK64 _ hvc
                  refine j_iinc (lv0 := [(3, .int x4), (0, va_rf (some a0)), (1, .int x59), (2, .int (nI 0))]) hC (nI 1) dX2_areTwins_52 4 rfl rfl rfl [3, 0, 1, 2] rfl (g_okS.h rfl rfl rfl) ?_
                  refine j_goto (tgt := 27) hC dX2_areTwins_55 rfl ?_
                  exact j_sub [2, 3, 4, 1, 0] rfl (ih56 x59 (x53 + (nI 1)) hvc)
                refine j_icmp_le (tgt := 52) hC dX2_areTwins_41 rfl (fun c62 => ?_) (fun c62 => ?_)
                · replace hvc := hvc.1 c62
                  exact j_sub [0, 1, 2, 3, 4] rfl (kh61 x52 hvc)
                · replace hvc := hvc.2 c62
                  refine j_aload_n hC dX2_areTwins_44 rfl 0 rfl ?_
                  refine j_iload hC dX2_areTwins_45 4 rfl ?_
                  refine j_iload_n hC dX2_areTwins_47 rfl 3 rfl ?_
                  obtain ⟨⟨fs, hr⟩, hvc⟩ := hvc
                  refine j_callV (As := [.int x53, .int x4]) (rest := []) (n := 2) (ci := 16) hC hvc (lw_V q2320 q2322 qs28 q60 q2323) (by decide +kernel) (g_rm hR rfl rfl) rfl hr rfl rfl (g_sum rfl) dX2_areTwins_48 (Nat.zero_le _) (Nat.zero_le _) (g_Kip fun x63 hv2 => ?_)
                  replace hvc := hv2; clear hv2
                  clear hr fs
                  refine j_istore_n (lv0 := [(0, va_rf (some a0)), (2, .int (nI 0)), (3, .int x4), (4, .int x53)]) hC dX2_areTwins_51 rfl rfl [0, 2, 3, 4] rfl (g_okS.h rfl g_c1 rfl) ?_
                  exact j_sub [1, 0, 2, 3, 4] rfl (kh61 x63 hvc)
          exact j_sub [2, 3, 4, 1, 0] rfl (kh55 n67 x3 (nI 0) hvc)
    exact j_sub [3, 2, 1, 0] rfl (kh6 n70 (nI 0) (nI 0) hvc)
  · replace hvc := hvc.2 c2
    refine j_iconst hC (nI 1) dX2_areTwins_8 rfl ?_
    exact hret _ _ _ _ _ _ dX2_areTwins_9 rfl hvc
theorem wk_X2_areTwins {l : Launch} {E : g_E} {a0 : Nat} {st : g_St} {mc ms : Nat} {Q : Int32 → g_St → Prop} (hvc : vc_X2_areTwins l E a0 st Q) : wp_X2_areTwins l E mc ms [va_rf (some a0)] st Q :=
  g_enter (lv0 := [(0, va_rf (some a0))]) (plainFor_of_name (by decide +kernel)) (by simp [lv_args, g_c1, g_ci, g_cL]) (by simp [lg_sl, g_c1, g_ci, g_cL]) (fun p e s m args below meth c hC => wb_X2_areTwins hC ⟨Nat.le_refl _, Nat.le_refl _⟩ (fun pc lv v st1 cb sb hd hn hq => j_ireturn hC rfl hn hd (g_iv hq)) hvc)
abbrev wp_X2_isSideBySide (l : Launch) (E : g_E) (mc ms : Nat) (av : List Value) (st : g_St) (Q : Int32 → g_St → Prop) : Prop := g_WPi l E yX2_isSideBySide cX2_isSideBySide 8 (some .boolean) 2 63 mc ms av st Q
def vc_X2_isSideBySide (l : Launch) (E : g_E) (a0 : Nat) (p0 : Int32) (st : g_St) (Q : Int32 → g_St → Prop) : Prop :=
  ∃ x1 : Int32, g_gi st a0 16 9 x1 ∧ g_lp5 (fun (K7 : Int32 → Int32 → Int32 → Int32 → Int32 → Prop) (x2 : Int32) (x3 : Int32) (x4 : Int32) (x5 : Int32) (x6 : Int32) => ∃ x10 : Int32, g_gi st a0 16 9 x10 ∧ (x10 ≤ x6 → g_jn1 (fun (K13 : Int32 → Prop) => g_jn0 (fun (K15 : Prop) => (x4 = 0 → K15) ∧ (¬ x4 = 0 → g_jn0 (fun (K18 : Prop) => (¬ ((x3 - x2) + (nI 1)) = x4 → K18) ∧ (((x3 - x2) + (nI 1)) = x4 → (¬ x2 = x5 → K18) ∧ (x2 = x5 → K15))) (K13 (nI 0)))) (K13 (nI 1))) (fun (x12 : Int32) => narrow .boolean (.int x12) = .int x12 ∧ Q x12 st)) ∧ (¬ x10 ≤ x6 → ∃ o25 : Option Nat, g_gr st a0 16 5 o25 ∧ ∃ a26 : Nat, o25 = some a26 ∧ ∃ (n27 : Nat) (f28 : Nat → Int32) (j29 : Nat), g_ai st a26 0 n27 f28 ∧ x6 = nI j29 ∧ j29 < n27 ∧ j29 < 2 ^ 31 ∧ g_jn1 (fun (K31 : Int32 → Prop) => g_jn0 (fun (K92 : Prop) => ((f28 j29) < p0 → K92) ∧ (¬ (f28 j29) < p0 → g_is st a0 16 ∧ wp_X2_like l E 0 0 [va_rf (some a0), .int x6, .int (nI 0)] st (fun x95 stx => stx = st ∧ (x95 < p0 → K92) ∧ (¬ x95 < p0 → K31 (nI 1))))) (K31 (nI 0))) (fun (x30 : Int32) => g_jn4 (fun (K37 : Int32 → Int32 → Int32 → Int32 → Prop) => (x30 = 0 → g_is st a0 16 ∧ wp_X2_like l E 0 0 [va_rf (some a0), .int x6, .int (nI 0)] st (fun x40 stx => stx = st ∧ ∃ o41 : Option Nat, g_gr st a0 16 5 o41 ∧ ∃ a42 : Nat, o41 = some a42 ∧ ∃ (n43 : Nat) (f44 : Nat → Int32) (j45 : Nat), g_ai st a42 0 n43 f44 ∧ x6 = nI j45 ∧ j45 < n43 ∧ j45 < 2 ^ 31 ∧ g_jn0 (fun (K46 : Prop) => (x40 = (f44 j45) → K46) ∧ (¬ x40 = (f44 j45) → g_is st a0 16 ∧ wp_X2_like l E 0 0 [va_rf (some a0), .int x6, .int (nI 0)] st (fun x49 stx => stx = st ∧ (p0 ≤ x49 → K37 x2 x3 x4 x5) ∧ (¬ p0 ≤ x49 → ∃ o51 : Option Nat, g_gr st a0 16 2 o51 ∧ g_is st a0 16 ∧ wp_X2_like l E 0 0 [va_rf (some a0), .int x6, .int (nI 0)] st (fun x52 stx => stx = st ∧ ∃ a53 : Nat, o51 = some a53 ∧ ∃ (n54 : Nat) (f55 : Nat → Int32) (j56 : Nat), g_ai st a53 2 n54 f55 ∧ (((nI 10) * x6) + x52) = nI j56 ∧ j56 < n54 ∧ j56 < 2 ^ 31 ∧ ∃ o57 : Option Nat, g_gr st a0 16 1 o57 ∧ g_is st a0 16 ∧ wp_X2_like l E 0 0 [va_rf (some a0), .int x6, .int (nI 0)] st (fun x58 stx => stx = st ∧ ∃ a59 : Nat, o57 = some a59 ∧ ∃ (n60 : Nat) (f61 : Nat → Int32) (j62 : Nat), g_ai st a59 2 n60 f61 ∧ x58 = nI j62 ∧ j62 < n60 ∧ j62 < 2 ^ 31 ∧ ((f61 j62) ≤ (f55 j56) → K37 x2 x3 x4 x5) ∧ (¬ (f61 j62) ≤ (f55 j56) → K46))))))) (K37 x2 x3 x4 (x5 + (nI 1))))) ∧ (¬ x30 = 0 → ∃ o65 : Option Nat, g_gr st a0 16 11 o65 ∧ ∃ a66 : Nat, o65 = some a66 ∧ ∃ (n67 : Nat) (f68 : Nat → Int32) (j69 : Nat), g_ai st a66 0 n67 f68 ∧ x6 = nI j69 ∧ j69 < n67 ∧ j69 < 2 ^ 31 ∧ g_jn1 (fun (K71 : Int32 → Prop) => (x2 ≤ (f68 j69) → K71 x2) ∧ (¬ x2 ≤ (f68 j69) → ∃ o85 : Option Nat, g_gr st a0 16 11 o85 ∧ ∃ a86 : Nat, o85 = some a86 ∧ ∃ (n87 : Nat) (f88 : Nat → Int32) (j89 : Nat), g_ai st a86 0 n87 f88 ∧ x6 = nI j89 ∧ j89 < n87 ∧ j89 < 2 ^ 31 ∧ K71 (f88 j89))) (fun (x70 : Int32) => ∃ o73 : Option Nat, g_gr st a0 16 11 o73 ∧ ∃ a74 : Nat, o73 = some a74 ∧ ∃ (n75 : Nat) (f76 : Nat → Int32) (j77 : Nat), g_ai st a74 0 n75 f76 ∧ x6 = nI j77 ∧ j77 < n75 ∧ j77 < 2 ^ 31 ∧ ((f76 j77) ≤ x3 → K37 x70 x3 (x4 + (nI 1)) x5) ∧ (¬ (f76 j77) ≤ x3 → ∃ o79 : Option Nat, g_gr st a0 16 11 o79 ∧ ∃ a80 : Nat, o79 = some a80 ∧ ∃ (n81 : Nat) (f82 : Nat → Int32) (j83 : Nat), g_ai st a80 0 n81 f82 ∧ x6 = nI j83 ∧ j83 < n81 ∧ j83 < 2 ^ 31 ∧ K37 x70 (f82 j83) (x4 + (nI 1)) x5)))) (fun (x33 : Int32) (x34 : Int32) (x35 : Int32) (x36 : Int32) => K7 x33 x34 x35 x36 (x6 + (nI 1)))))) x1 (-1) (nI 0) (nI 0) (nI 0)
set_option maxHeartbeats 4000000 in
theorem wb_X2_isSideBySide {p : Program} {l : Launch} {e : Env} {R : Room} {s : State} {m : MethodId} {args : Array Value} {below : List Frame} {meth : Method} {c : Code} {E : g_E} {st0 : g_St} {Z : State → Prop} (hC : g_Cx p s m args meth c cX2_isSideBySide 8 "StemspanModel" (some .boolean) "isSideBySide" E st0) (hR : g_Rm 2 63 R) {a0 : Nat} {p0 : Int32} {st : g_St} {cb sb : Nat} {Q : Int32 → g_St → Prop} (hret : ∀ (pc : Nat) (lv : List (Nat × Value)) (v : Int32) (st1 : g_St) (cb sb : Nat), decode cX2_isSideBySide pc = .ok (.ireturn, 1) → narrow .boolean (.int v) = .int v → Q v st1 → g_J p l e R s m args below meth c 8 E st0 Z pc lv [.int v] st1 cb sb) (hvc : vc_X2_isSideBySide l E a0 p0 st Q) : g_J p l e R s m args below meth c 8 E st0 Z 0 [(0, va_rf (some a0)), (1, .int p0)] [] st cb sb := by
  unfold vc_X2_isSideBySide at hvc
  refine j_aload_n hC dX2_isSideBySide_0 rfl 0 rfl ?_
  obtain ⟨x1, ⟨fs, hr, hv⟩, hvc⟩ := hvc
  refine j_get hC fkX2_59_X2 dX2_isSideBySide_1 hr hv ?_
  clear hv hr fs
  refine j_istore_n (lv0 := [(1, .int p0), (0, va_rf (some a0))]) hC dX2_isSideBySide_4 rfl rfl [1, 0] rfl (g_okS.h rfl rfl rfl) ?_
  refine j_iconst hC (-1) dX2_isSideBySide_5 rfl ?_
  refine j_istore_n (lv0 := [(2, .int x1), (1, .int p0), (0, va_rf (some a0))]) hC dX2_isSideBySide_6 rfl rfl [0, 1, 2] rfl (g_okS.h rfl rfl rfl) ?_
  refine j_iconst hC (nI 0) dX2_isSideBySide_7 rfl ?_
  refine j_istore (lv0 := [(3, .int (-1)), (2, .int x1), (1, .int p0), (0, va_rf (some a0))]) hC dX2_isSideBySide_8 rfl [0, 1, 2, 3] rfl (g_okS.h rfl rfl rfl) ?_
  refine j_iconst hC (nI 0) dX2_isSideBySide_10 rfl ?_
  refine j_istore (lv0 := [(4, .int (nI 0)), (3, .int (-1)), (2, .int x1), (1, .int p0), (0, va_rf (some a0))]) hC dX2_isSideBySide_11 rfl [0, 1, 2, 3, 4] rfl (g_okS.h rfl rfl rfl) ?_
  refine j_iconst hC (nI 0) dX2_isSideBySide_13 rfl ?_
  refine j_istore (lv0 := [(5, .int (nI 0)), (4, .int (nI 0)), (3, .int (-1)), (2, .int x1), (1, .int p0), (0, va_rf (some a0))]) hC dX2_isSideBySide_14 rfl [0, 1, 2, 3, 4, 5] rfl (g_okS.h rfl rfl rfl) ?_
  replace hvc := g_lp5_o hvc
  obtain ⟨K7, hz99, hs100, n101, hvc⟩ := hvc
  have kh8 : ∀ (n : Nat) (x2 : Int32) (x3 : Int32) (x4 : Int32) (x5 : Int32) (x6 : Int32), K7 n x2 x3 x4 x5 x6 → g_J p l e R s m args below meth c 8 E st0 Z 16 [(0, va_rf (some a0)), (1, .int p0), (2, .int x2), (3, .int x3), (4, .int x4), (5, .int x5), (6, .int x6)] [] st cb sb := by
    clear hvc
    intro n
    induction n with
    | zero => intro x2 x3 x4 x5 x6 hvc; exact absurd hvc (hz99 _ _ _ _ _)
    | succ n ih9 =>
      intro x2 x3 x4 x5 x6 hvc
      replace hvc := hs100 n _ _ _ _ _ hvc
      refine j_iload hC dX2_isSideBySide_16 6 rfl ?_
      refine j_aload_n hC dX2_isSideBySide_18 rfl 0 rfl ?_
      obtain ⟨x10, ⟨fs, hr, hv⟩, hvc⟩ := hvc
      refine j_get hC fkX2_59_X2 dX2_isSideBySide_19 hr hv ?_
      clear hv hr fs
      refine j_icmp_ge (tgt := 173) hC dX2_isSideBySide_22 rfl (fun c11 => ?_) (fun c11 => ?_)
      · replace hvc := hvc.1 c11
        refine j_iload hC dX2_isSideBySide_173 4 rfl ?_
        replace hvc := g_jn1_o hvc
        obtain ⟨K13, hK24, hvc⟩ := hvc
        have kh14 : ∀ (x12 : Int32), K13 x12 → g_J p l e R s m args below meth c 8 E st0 Z 199 [] [.int x12] st cb sb := by
          clear hvc
          intro x12 hvc
          replace hvc := hK24 _ hvc
          exact hret _ _ _ _ _ _ dX2_isSideBySide_199 hvc.1 hvc.2
        replace hvc := g_jn0_o hvc
        obtain ⟨K15, hK23, hvc⟩ := hvc
        have kh16 : K15 → g_J p l e R s m args below meth c 8 E st0 Z 194 [] [] st cb sb := by
          clear hvc
          intro hvc
          replace hvc := hK23 hvc
          refine j_iconst hC (nI 1) dX2_isSideBySide_194 rfl ?_
          refine j_goto (tgt := 199) hC dX2_isSideBySide_195 rfl ?_
          exact j_sub [] rfl (kh14 (nI 1) hvc)
        refine j_if_eq (tgt := 194) hC dX2_isSideBySide_175 rfl (fun c17 => ?_) (fun c17 => ?_)
        · replace hvc := hvc.1 c17
          exact j_sub [] rfl (kh16 hvc)
        · replace hvc := hvc.2 c17
          refine j_iload_n hC dX2_isSideBySide_178 rfl 3 rfl ?_
          refine j_iload_n hC dX2_isSideBySide_179 rfl 2 rfl ?_
          refine j_isub hC dX2_isSideBySide_180 ?_
          refine j_iconst hC (nI 1) dX2_isSideBySide_181 rfl ?_
          refine j_iadd hC dX2_isSideBySide_182 ?_
          refine j_iload hC dX2_isSideBySide_183 4 rfl ?_
          replace hvc := g_jn0_o hvc
          obtain ⟨K18, hK22, hvc⟩ := hvc
          have kh19 : K18 → g_J p l e R s m args below meth c 8 E st0 Z 198 [] [] st cb sb := by
            clear hvc
            intro hvc
            replace hvc := hK22 hvc
            refine j_iconst hC (nI 0) dX2_isSideBySide_198 rfl ?_
            exact j_sub [] rfl (kh14 (nI 0) hvc)
          refine j_icmp_ne (tgt := 198) hC dX2_isSideBySide_185 rfl (fun c20 => ?_) (fun c20 => ?_)
          · replace hvc := hvc.1 c20
            exact j_sub [] rfl (kh19 hvc)
          · replace hvc := hvc.2 c20
            refine j_iload_n hC dX2_isSideBySide_188 rfl 2 rfl ?_
            refine j_iload hC dX2_isSideBySide_189 5 rfl ?_
            refine j_icmp_ne (tgt := 198) hC dX2_isSideBySide_191 rfl (fun c21 => ?_) (fun c21 => ?_)
            · replace hvc := hvc.1 c21
              exact j_sub [] rfl (kh19 hvc)
            · replace hvc := hvc.2 c21
              exact j_sub [] rfl (kh16 hvc)
      · replace hvc := hvc.2 c11
        refine j_aload_n hC dX2_isSideBySide_25 rfl 0 rfl ?_
        obtain ⟨o25, ⟨fs, hr, hv⟩, hvc⟩ := hvc
        refine j_get hC fkX2_26_X2 dX2_isSideBySide_26 hr hv ?_
        clear hv hr fs
        refine j_iload hC dX2_isSideBySide_29 6 rfl ?_
        obtain ⟨a26, rfl, hvc⟩ := hvc
        obtain ⟨n27, f28, j29, hr, hi, hj, hJ, hvc⟩ := hvc
        refine j_ix hi ?_
        refine j_iald hC hr hj hJ dX2_isSideBySide_31 ?_
        clear hr hi hj hJ
        refine j_iload_n hC dX2_isSideBySide_32 rfl 1 rfl ?_
        replace hvc := g_jn1_o hvc
        obtain ⟨K31, hK98, hvc⟩ := hvc
        have kh32 : ∀ (x30 : Int32), K31 x30 → g_J p l e R s m args below meth c 8 E st0 Z 52 [(0, va_rf (some a0)), (1, .int p0), (2, .int x2), (3, .int x3), (4, .int x4), (5, .int x5), (6, .int x6)] [.int x30] st cb sb := by
          clear hvc
          intro x30 hvc
          replace hvc := hK98 _ hvc
          refine j_istore (lv0 := [(6, .int x6), (0, va_rf (some a0)), (1, .int p0), (2, .int x2), (3, .int x3), (4, .int x4), (5, .int x5)]) hC dX2_isSideBySide_52 rfl [6, 0, 1, 2, 3, 4, 5] rfl (g_okS.h rfl rfl rfl) ?_
          refine j_iload hC dX2_isSideBySide_54 0 rfl ?_
          replace hvc := g_jn4_o hvc
          obtain ⟨K37, hK91, hvc⟩ := hvc
          have kh38 : ∀ (x33 : Int32) (x34 : Int32) (x35 : Int32) (x36 : Int32), K37 x33 x34 x35 x36 → g_J p l e R s m args below meth c 8 E st0 Z 167 [(0, va_rf (some a0)), (1, .int p0), (2, .int x33), (3, .int x34), (4, .int x35), (5, .int x36), (6, .int x6)] [] st cb sb := by
            clear hvc
            intro x33 x34 x35 x36 hvc
            replace hvc := hK91 _ _ _ _ hvc
            refine j_iinc (lv0 := [(5, .int x36), (0, va_rf (some a0)), (1, .int p0), (2, .int x33), (3, .int x34), (4, .int x35)]) hC (nI 1) dX2_isSideBySide_167 6 rfl rfl rfl [5, 0, 1, 2, 3, 4] rfl (g_okS.h rfl rfl rfl) ?_
            refine j_goto (tgt := 16) hC dX2_isSideBySide_170 rfl ?_
            exact j_sub [2, 3, 4, 5, 6, 1, 0] rfl (ih9 x33 x34 x35 x36 (x6 + (nI 1)) hvc)
          refine j_if_eq (tgt := 103) hC dX2_isSideBySide_56 rfl (fun c39 => ?_) (fun c39 => ?_)
          · replace hvc := hvc.1 c39
            refine j_aload_n hC dX2_isSideBySide_103 rfl 2 rfl ?_
            refine j_iload hC dX2_isSideBySide_104 1 rfl ?_
            refine j_iconst hC (nI 0) dX2_isSideBySide_106 rfl ?_
            obtain ⟨⟨fs, hr⟩, hvc⟩ := hvc
            refine j_callV (As := [.int x6, .int (nI 0)]) (rest := []) (n := 2) (ci := 16) hC hvc (lw_V q2280 q2282 qs23 q60 q2283) (by decide +kernel) (g_rm hR rfl rfl) rfl hr rfl rfl (g_sum rfl) dX2_isSideBySide_107 (Nat.zero_le _) (Nat.zero_le _) (g_Kip fun x40 hv2 => ?_)
            replace hvc := hv2; clear hv2
            clear hr fs
            refine j_aload_n hC dX2_isSideBySide_110 rfl 2 rfl ?_
            obtain ⟨o41, ⟨fs, hr, hv⟩, hvc⟩ := hvc
            refine j_get hC fkX2_26_X2 dX2_isSideBySide_111 hr hv ?_
            clear hv hr fs
            refine j_iload hC dX2_isSideBySide_114 1 rfl ?_
            obtain ⟨a42, rfl, hvc⟩ := hvc
            obtain ⟨n43, f44, j45, hr, hi, hj, hJ, hvc⟩ := hvc
            refine j_ix hi ?_
            refine j_iald hC hr hj hJ dX2_isSideBySide_116 ?_
            clear hr hi hj hJ
            replace hvc := g_jn0_o hvc
            obtain ⟨K46, hK64, hvc⟩ := hvc
            have kh47 : K46 → g_J p l e R s m args below meth c 8 E st0 Z 164 [(0, va_rf (some a0)), (1, .int p0), (2, .int x2), (3, .int x3), (4, .int x4), (5, .int x5), (6, .int x6)] [] st cb sb := by
              clear hvc
              intro hvc
              replace hvc := hK64 hvc
              refine j_iinc (lv0 := [(4, .int x4), (0, va_rf (some a0)), (1, .int p0), (2, .int x2), (3, .int x3), (6, .int x6)]) hC (nI 1) dX2_isSideBySide_164 5 rfl rfl rfl [4, 0, 1, 2, 3, 6] rfl (g_okS.h rfl rfl rfl) ?_
              exact j_sub [2, 3, 4, 5, 1, 0, 6] rfl (kh38 x2 x3 x4 (x5 + (nI 1)) hvc)
            refine j_icmp_eq (tgt := 164) hC dX2_isSideBySide_117 rfl (fun c48 => ?_) (fun c48 => ?_)
            · replace hvc := hvc.1 c48
              exact j_sub [2, 3, 4, 5, 6, 7, 1] rfl (kh47 hvc)
            · replace hvc := hvc.2 c48
              refine j_aload_n hC dX2_isSideBySide_120 rfl 2 rfl ?_
              refine j_iload hC dX2_isSideBySide_121 1 rfl ?_
              refine j_iconst hC (nI 0) dX2_isSideBySide_123 rfl ?_
              obtain ⟨⟨fs, hr⟩, hvc⟩ := hvc
              refine j_callV (As := [.int x6, .int (nI 0)]) (rest := []) (n := 2) (ci := 16) hC hvc (lw_V q2280 q2282 qs23 q60 q2283) (by decide +kernel) (g_rm hR rfl rfl) rfl hr rfl rfl (g_sum rfl) dX2_isSideBySide_124 (Nat.zero_le _) (Nat.zero_le _) (g_Kip fun x49 hv2 => ?_)
              replace hvc := hv2; clear hv2
              clear hr fs
              refine j_iload_n hC dX2_isSideBySide_127 rfl 3 rfl ?_
              refine j_icmp_ge (tgt := 167) hC dX2_isSideBySide_128 rfl (fun c50 => ?_) (fun c50 => ?_)
              · replace hvc := hvc.1 c50
                exact j_sub [2, 3, 4, 5, 6, 7, 1] rfl (kh38 x2 x3 x4 x5 hvc)
              · replace hvc := hvc.2 c50
                refine j_aload_n hC dX2_isSideBySide_131 rfl 2 rfl ?_
                obtain ⟨o51, ⟨fs, hr, hv⟩, hvc⟩ := hvc
                refine j_get hC fkX2_17_X2 dX2_isSideBySide_132 hr hv ?_
                clear hv hr fs
                refine j_bipush hC (nI 10) dX2_isSideBySide_135 rfl ?_
                refine j_iload hC dX2_isSideBySide_137 1 rfl ?_
                refine j_imul hC dX2_isSideBySide_139 ?_
                refine j_aload_n hC dX2_isSideBySide_140 rfl 2 rfl ?_
                refine j_iload hC dX2_isSideBySide_141 1 rfl ?_
                refine j_iconst hC (nI 0) dX2_isSideBySide_143 rfl ?_
                obtain ⟨⟨fs, hr⟩, hvc⟩ := hvc
                refine j_callV (As := [.int x6, .int (nI 0)]) (rest := [.int ((nI 10) * x6), va_rf o51]) (n := 2) (ci := 16) hC hvc (lw_V q2280 q2282 qs23 q60 q2283) (by decide +kernel) (g_rm hR rfl rfl) rfl hr rfl rfl (g_sum rfl) dX2_isSideBySide_144 (Nat.zero_le _) (Nat.zero_le _) (g_Kip fun x52 hv2 => ?_)
                replace hvc := hv2; clear hv2
                clear hr fs
                refine j_iadd hC dX2_isSideBySide_147 ?_
                obtain ⟨a53, rfl, hvc⟩ := hvc
                obtain ⟨n54, f55, j56, hr, hi, hj, hJ, hvc⟩ := hvc
                refine j_ix hi ?_
                refine j_cald hC hr hj hJ dX2_isSideBySide_148 ?_
                clear hr hi hj hJ
                refine j_aload_n hC dX2_isSideBySide_149 rfl 2 rfl ?_
                obtain ⟨o57, ⟨fs, hr, hv⟩, hvc⟩ := hvc
                refine j_get hC fkX2_13_X2 dX2_isSideBySide_150 hr hv ?_
                clear hv hr fs
                refine j_aload_n hC dX2_isSideBySide_153 rfl 2 rfl ?_
                refine j_iload hC dX2_isSideBySide_154 1 rfl ?_
                refine j_iconst hC (nI 0) dX2_isSideBySide_156 rfl ?_
                obtain ⟨⟨fs, hr⟩, hvc⟩ := hvc
                refine j_callV (As := [.int x6, .int (nI 0)]) (rest := [va_rf o57, .int (f55 j56)]) (n := 2) (ci := 16) hC hvc (lw_V q2280 q2282 qs23 q60 q2283) (by decide +kernel) (g_rm hR rfl rfl) rfl hr rfl rfl (g_sum rfl) dX2_isSideBySide_157 (Nat.zero_le _) (Nat.zero_le _) (g_Kip fun x58 hv2 => ?_)
                replace hvc := hv2; clear hv2
                clear hr fs
                obtain ⟨a59, rfl, hvc⟩ := hvc
                obtain ⟨n60, f61, j62, hr, hi, hj, hJ, hvc⟩ := hvc
                refine j_ix hi ?_
                refine j_cald hC hr hj hJ dX2_isSideBySide_160 ?_
                clear hr hi hj hJ
                refine j_icmp_ge (tgt := 167) hC dX2_isSideBySide_161 rfl (fun c63 => ?_) (fun c63 => ?_)
                · replace hvc := hvc.1 c63
                  exact j_sub [2, 3, 4, 5, 6, 7, 1] rfl (kh38 x2 x3 x4 x5 hvc)
                · replace hvc := hvc.2 c63
                  exact j_sub [2, 3, 4, 5, 6, 7, 1] rfl (kh47 hvc)
          · replace hvc := hvc.2 c39
            refine j_iinc (lv0 := [(3, .int x3), (7, .int x30), (6, .int x6), (0, va_rf (some a0)), (1, .int p0), (2, .int x2), (5, .int x5)]) hC (nI 1) dX2_isSideBySide_59 6 rfl rfl rfl [5, 0, 1, 2, 3, 4, 7] rfl (g_okS.h rfl rfl rfl) ?_
            refine j_aload_n hC dX2_isSideBySide_62 rfl 4 rfl ?_
            obtain ⟨o65, ⟨fs, hr, hv⟩, hvc⟩ := hvc
            refine j_get hC fkX2_39_X2 dX2_isSideBySide_63 hr hv ?_
            clear hv hr fs
            refine j_iload hC dX2_isSideBySide_66 3 rfl ?_
            obtain ⟨a66, rfl, hvc⟩ := hvc
            obtain ⟨n67, f68, j69, hr, hi, hj, hJ, hvc⟩ := hvc
            refine j_ix hi ?_
            refine j_iald hC hr hj hJ dX2_isSideBySide_68 ?_
            clear hr hi hj hJ
            refine j_iload_n hC dX2_isSideBySide_69 rfl 6 rfl ?_
            replace hvc := g_jn1_o hvc
            obtain ⟨K71, hK90, hvc⟩ := hvc
            have kh72 : ∀ (x70 : Int32), K71 x70 → g_J p l e R s m args below meth c 8 E st0 Z 81 [(0, va_rf (some a0)), (1, .int p0), (2, .int x70), (3, .int x3), (4, .int (x4 + (nI 1))), (5, .int x5), (6, .int x6)] [] st cb sb := by
              clear hvc
              intro x70 hvc
              replace hvc := hK90 _ hvc
              refine j_aload_n hC dX2_isSideBySide_81 rfl 0 rfl ?_
              obtain ⟨o73, ⟨fs, hr, hv⟩, hvc⟩ := hvc
              refine j_get hC fkX2_39_X2 dX2_isSideBySide_82 hr hv ?_
              clear hv hr fs
              refine j_iload hC dX2_isSideBySide_85 6 rfl ?_
              obtain ⟨a74, rfl, hvc⟩ := hvc
              obtain ⟨n75, f76, j77, hr, hi, hj, hJ, hvc⟩ := hvc
              refine j_ix hi ?_
              refine j_iald hC hr hj hJ dX2_isSideBySide_87 ?_
              clear hr hi hj hJ
              refine j_iload_n hC dX2_isSideBySide_88 rfl 3 rfl ?_
              refine j_icmp_le (tgt := 167) hC dX2_isSideBySide_89 rfl (fun c78 => ?_) (fun c78 => ?_)
              · replace hvc := hvc.1 c78
                exact j_sub [0, 1, 2, 3, 4, 5, 6] rfl (kh38 x70 x3 (x4 + (nI 1)) x5 hvc)
              · replace hvc := hvc.2 c78
                refine j_aload_n hC dX2_isSideBySide_92 rfl 0 rfl ?_
                obtain ⟨o79, ⟨fs, hr, hv⟩, hvc⟩ := hvc
                refine j_get hC fkX2_39_X2 dX2_isSideBySide_93 hr hv ?_
                clear hv hr fs
                refine j_iload hC dX2_isSideBySide_96 6 rfl ?_
                obtain ⟨a80, rfl, hvc⟩ := hvc
                obtain ⟨n81, f82, j83, hr, hi, hj, hJ, hvc⟩ := hvc
                refine j_ix hi ?_
                refine j_iald hC hr hj hJ dX2_isSideBySide_98 ?_
                clear hr hi hj hJ
                refine j_istore_n (lv0 := [(2, .int x70), (0, va_rf (some a0)), (1, .int p0), (4, .int (x4 + (nI 1))), (5, .int x5), (6, .int x6)]) hC dX2_isSideBySide_99 rfl rfl [2, 0, 1, 4, 5, 6] rfl (g_okS.h rfl rfl rfl) ?_
                refine j_goto (tgt := 167) hC dX2_isSideBySide_100 rfl ?_
                exact j_sub [2, 3, 1, 0, 4, 5, 6] rfl (kh38 x70 (f82 j83) (x4 + (nI 1)) x5 hvc)
            refine j_icmp_ge (tgt := 81) hC dX2_isSideBySide_70 rfl (fun c84 => ?_) (fun c84 => ?_)
            · replace hvc := hvc.1 c84
              exact j_sub [4, 5, 6, 1, 0, 7, 3] rfl (kh72 x2 hvc)
            · replace hvc := hvc.2 c84
              refine j_aload_n hC dX2_isSideBySide_73 rfl 4 rfl ?_
              obtain ⟨o85, ⟨fs, hr, hv⟩, hvc⟩ := hvc
              refine j_get hC fkX2_39_X2 dX2_isSideBySide_74 hr hv ?_
              clear hv hr fs
              refine j_iload hC dX2_isSideBySide_77 3 rfl ?_
              obtain ⟨a86, rfl, hvc⟩ := hvc
              obtain ⟨n87, f88, j89, hr, hi, hj, hJ, hvc⟩ := hvc
              refine j_ix hi ?_
              refine j_iald hC hr hj hJ dX2_isSideBySide_79 ?_
              clear hr hi hj hJ
              refine j_istore_n (lv0 := [(1, .int p0), (4, .int (x4 + (nI 1))), (3, .int x3), (7, .int x30), (6, .int x6), (0, va_rf (some a0)), (5, .int x5)]) hC dX2_isSideBySide_80 rfl rfl [5, 0, 1, 2, 3, 4, 7] rfl (g_okS.h rfl rfl rfl) ?_
              exact j_sub [6, 1, 0, 3, 2, 7, 5] rfl (kh72 (f88 j89) hvc)
        replace hvc := g_jn0_o hvc
        obtain ⟨K92, hK97, hvc⟩ := hvc
        have kh93 : K92 → g_J p l e R s m args below meth c 8 E st0 Z 51 [(0, va_rf (some a0)), (1, .int p0), (2, .int x2), (3, .int x3), (4, .int x4), (5, .int x5), (6, .int x6)] [] st cb sb := by
          clear hvc
          intro hvc
          replace hvc := hK97 hvc
          refine j_iconst hC (nI 0) dX2_isSideBySide_51 rfl ?_
          exact j_sub [0, 1, 2, 3, 4, 5, 6] rfl (kh32 (nI 0) hvc)
        refine j_icmp_lt (tgt := 51) hC dX2_isSideBySide_33 rfl (fun c94 => ?_) (fun c94 => ?_)
        · replace hvc := hvc.1 c94
          exact j_sub [0, 1, 2, 3, 4, 5, 6] rfl (kh93 hvc)
        · replace hvc := hvc.2 c94
          refine j_aload_n hC dX2_isSideBySide_36 rfl 0 rfl ?_
          refine j_iload hC dX2_isSideBySide_37 6 rfl ?_
          refine j_iconst hC (nI 0) dX2_isSideBySide_39 rfl ?_
          obtain ⟨⟨fs, hr⟩, hvc⟩ := hvc
          refine j_callV (As := [.int x6, .int (nI 0)]) (rest := []) (n := 2) (ci := 16) hC hvc (lw_V q2280 q2282 qs23 q60 q2283) (by decide +kernel) (g_rm hR rfl rfl) rfl hr rfl rfl (g_sum rfl) dX2_isSideBySide_40 (Nat.zero_le _) (Nat.zero_le _) (g_Kip fun x95 hv2 => ?_)
          replace hvc := hv2; clear hv2
          clear hr fs
          refine j_iload_n hC dX2_isSideBySide_43 rfl 1 rfl ?_
          refine j_icmp_lt (tgt := 51) hC dX2_isSideBySide_44 rfl (fun c96 => ?_) (fun c96 => ?_)
          · replace hvc := hvc.1 c96
            exact j_sub [0, 1, 2, 3, 4, 5, 6] rfl (kh93 hvc)
          · replace hvc := hvc.2 c96
            refine j_iconst hC (nI 1) dX2_isSideBySide_47 rfl ?_
            refine j_goto (tgt := 52) hC dX2_isSideBySide_48 rfl ?_
            exact j_sub [0, 1, 2, 3, 4, 5, 6] rfl (kh32 (nI 1) hvc)
  exact j_sub [6, 5, 4, 3, 2, 1, 0] rfl (kh8 n101 x1 (-1) (nI 0) (nI 0) (nI 0) hvc)
theorem wk_X2_isSideBySide {l : Launch} {E : g_E} {a0 : Nat} {p0 : Int32} {st : g_St} {mc ms : Nat} {Q : Int32 → g_St → Prop} (hvc : vc_X2_isSideBySide l E a0 p0 st Q) : wp_X2_isSideBySide l E mc ms [va_rf (some a0), .int p0] st Q :=
  g_enter (lv0 := [(0, va_rf (some a0)), (1, .int p0)]) (plainFor_of_name (by decide +kernel)) (by simp [lv_args, g_c1, g_ci, g_cL]) (by simp [lg_sl, g_c1, g_ci, g_cL]) (fun p e s m args below meth c hC => wb_X2_isSideBySide hC ⟨Nat.le_refl _, Nat.le_refl _⟩ (fun pc lv v st1 cb sb hd hn hq => j_ireturn hC rfl hn hd (g_iv hq)) hvc)
abbrev wp_X2_isTrue (l : Launch) (E : g_E) (mc ms : Nat) (av : List Value) (st : g_St) (Q : Int32 → g_St → Prop) : Prop := g_WPi l E yX2_isTrue cX2_isTrue 2 (some .boolean) 5 130 mc ms av st Q
def vc_X2_isTrue (l : Launch) (E : g_E) (a0 : Nat) (st : g_St) (Q : Int32 → g_St → Prop) : Prop :=
  ∃ fs1 : List Value, st.2.1 a0 = some (.inr (16, fs1)) ∧ ∀ st2 : g_St, st2 = g_put st a0 (.inr (16, fs1.set 0 (.int (nI 0)))) → g_is st2 a0 16 ∧ wp_X2_orders l E 0 0 [va_rf (some a0)] st2 (fun st3 => g_Ext st2 st3 → g_lp1 (fun (K5 : Int32 → Prop) (x4 : Int32) => ∃ x8 : Int32, g_gi st3 a0 16 8 x8 ∧ g_jn0 (fun (K9 : Prop) => (x8 < x4 → K9) ∧ (¬ x8 < x4 → ((nI 10) < x4 → K9) ∧ (¬ (nI 10) < x4 → g_is st3 a0 16 ∧ wp_X2_isSideBySide l E 0 0 [va_rf (some a0), .int x4] st3 (fun x14 stx => stx = st3 ∧ (¬ x14 = 0 → K5 (x4 + (nI 1))) ∧ (x14 = 0 → Q (nI 0) st3))))) (g_is st3 a0 16 ∧ wp_X2_areTwins l E 0 0 [va_rf (some a0)] st3 (fun x11 stx => stx = st3 ∧ narrow .boolean (.int x11) = .int x11 ∧ Q x11 st3))) (nI 0))
set_option maxHeartbeats 4000000 in
theorem wb_X2_isTrue {p : Program} {l : Launch} {e : Env} {R : Room} {s : State} {m : MethodId} {args : Array Value} {below : List Frame} {meth : Method} {c : Code} {E : g_E} {st0 : g_St} {Z : State → Prop} (hC : g_Cx p s m args meth c cX2_isTrue 2 "StemspanModel" (some .boolean) "isTrue" E st0) (hR : g_Rm 5 130 R) {a0 : Nat} {st : g_St} {cb sb : Nat} {Q : Int32 → g_St → Prop} (hret : ∀ (pc : Nat) (lv : List (Nat × Value)) (v : Int32) (st1 : g_St) (cb sb : Nat), decode cX2_isTrue pc = .ok (.ireturn, 1) → narrow .boolean (.int v) = .int v → Q v st1 → g_J p l e R s m args below meth c 2 E st0 Z pc lv [.int v] st1 cb sb) (hvc : vc_X2_isTrue l E a0 st Q) : g_J p l e R s m args below meth c 2 E st0 Z 0 [(0, va_rf (some a0))] [] st cb sb := by
  unfold vc_X2_isTrue at hvc
  refine j_aload_n hC dX2_isTrue_0 rfl 0 rfl ?_
  refine j_iconst hC (nI 0) dX2_isTrue_1 rfl ?_
  obtain ⟨fs1, hm, hvc⟩ := hvc
  refine j_put hC fkX2_1_X2 dX2_isTrue_2 hm rfl rfl (fun st2 e1 => ?_)
  replace hvc := hvc st2 e1; clear hm e1
  refine j_aload_n hC dX2_isTrue_5 rfl 0 rfl ?_
  obtain ⟨⟨fs, hr⟩, hvc⟩ := hvc
  refine j_callV (As := []) (rest := []) (n := 0) (ci := 16) hC hvc (lw_V q2308 q2310 qs25 q60 q2311) (by decide +kernel) (g_rm hR rfl rfl) rfl hr rfl rfl (g_sum rfl) dX2_isTrue_6 (Nat.zero_le _) (Nat.zero_le _) (g_Kv fun st3 hv2 hx => ?_)
  replace hvc := hv2 hx; clear hx hv2
  clear hr fs
  refine j_iconst hC (nI 0) dX2_isTrue_9 rfl ?_
  refine j_istore_n (lv0 := [(0, va_rf (some a0))]) hC dX2_isTrue_10 rfl rfl [0] rfl (g_okS.h rfl g_c1 rfl) ?_
  replace hvc := g_lp1_o hvc
  obtain ⟨K5, hz17, hs18, n19, hvc⟩ := hvc
  have kh6 : ∀ (n : Nat) (x4 : Int32), K5 n x4 → g_J p l e R s m args below meth c 2 E st0 Z 11 [(0, va_rf (some a0)), (1, .int x4)] [] st3 cb sb := by
    clear hvc
    intro n
    induction n with
    | zero => intro x4 hvc; exact absurd hvc (hz17 _)
    | succ n ih7 =>
      intro x4 hvc
      replace hvc := hs18 n _ hvc
      refine j_iload_n hC dX2_isTrue_11 rfl 1 rfl ?_
      refine j_aload_n hC dX2_isTrue_12 rfl 0 rfl ?_
      obtain ⟨x8, ⟨fs, hr, hv⟩, hvc⟩ := hvc
      refine j_get hC fkX2_49_X2 dX2_isTrue_13 hr hv ?_
      clear hv hr fs
      replace hvc := g_jn0_o hvc
      obtain ⟨K9, hK16, hvc⟩ := hvc
      have kh10 : K9 → g_J p l e R s m args below meth c 2 E st0 Z 41 [(0, va_rf (some a0))] [] st3 cb sb := by
        clear hvc
        intro hvc
        replace hvc := hK16 hvc
        refine j_aload_n hC dX2_isTrue_41 rfl 0 rfl ?_
        obtain ⟨⟨fs, hr⟩, hvc⟩ := hvc
        refine j_callV (As := []) (rest := []) (n := 0) (ci := 16) hC hvc (lw_V q2432 q2434 qs39 q60 q2435) (by decide +kernel) (g_rm hR rfl rfl) rfl hr rfl rfl (g_sum rfl) dX2_isTrue_42 (Nat.zero_le _) (Nat.zero_le _) (g_Kip fun x11 hv2 => ?_)
        replace hvc := hv2; clear hv2
        clear hr fs
        exact hret _ _ _ _ _ _ dX2_isTrue_45 hvc.1 hvc.2
      refine j_icmp_gt (tgt := 41) hC dX2_isTrue_16 rfl (fun c12 => ?_) (fun c12 => ?_)
      · replace hvc := hvc.1 c12
        exact j_sub [0] rfl (kh10 hvc)
      · replace hvc := hvc.2 c12
        refine j_iload_n hC dX2_isTrue_19 rfl 1 rfl ?_
        refine j_bipush hC (nI 10) dX2_isTrue_20 rfl ?_
        refine j_icmp_gt (tgt := 41) hC dX2_isTrue_22 rfl (fun c13 => ?_) (fun c13 => ?_)
        · replace hvc := hvc.1 c13
          exact j_sub [0] rfl (kh10 hvc)
        · replace hvc := hvc.2 c13
          refine j_aload_n hC dX2_isTrue_25 rfl 0 rfl ?_
          refine j_iload_n hC dX2_isTrue_26 rfl 1 rfl ?_
          obtain ⟨⟨fs, hr⟩, hvc⟩ := hvc
          refine j_callV (As := [.int x4]) (rest := []) (n := 1) (ci := 16) hC hvc (lw_V q2428 q2430 qs38 q60 q2431) (by decide +kernel) (g_rm hR rfl rfl) rfl hr rfl rfl (g_sum rfl) dX2_isTrue_27 (Nat.zero_le _) (Nat.zero_le _) (g_Kip fun x14 hv2 => ?_)
          replace hvc := hv2; clear hv2
          clear hr fs
          refine j_if_ne (tgt := 35) hC dX2_isTrue_30 rfl (fun c15 => ?_) (fun c15 => ?_)
          · replace hvc := hvc.1 c15
            refine j_iinc (lv0 := [(0, va_rf (some a0))]) hC (nI 1) dX2_isTrue_35 1 rfl rfl rfl [0] rfl (g_okS.h rfl g_c1 rfl) ?_
            refine j_goto (tgt := 11) hC dX2_isTrue_38 rfl ?_
            exact j_sub [1, 0] rfl (ih7 (x4 + (nI 1)) hvc)
          · replace hvc := hvc.2 c15
            refine j_iconst hC (nI 0) dX2_isTrue_33 rfl ?_
            exact hret _ _ _ _ _ _ dX2_isTrue_34 rfl hvc
  exact j_sub [1, 0] rfl (kh6 n19 (nI 0) hvc)
theorem wk_X2_isTrue {l : Launch} {E : g_E} {a0 : Nat} {st : g_St} {mc ms : Nat} {Q : Int32 → g_St → Prop} (hvc : vc_X2_isTrue l E a0 st Q) : wp_X2_isTrue l E mc ms [va_rf (some a0)] st Q :=
  g_enter (lv0 := [(0, va_rf (some a0))]) (plainFor_of_name (by decide +kernel)) (by simp [lv_args, g_c1, g_ci, g_cL]) (by simp [lg_sl, g_c1, g_ci, g_cL]) (fun p e s m args below meth c hC => wb_X2_isTrue hC ⟨Nat.le_refl _, Nat.le_refl _⟩ (fun pc lv v st1 cb sb hd hn hq => j_ireturn hC rfl hn hd (g_iv hq)) hvc)
abbrev wp_X2_checksum (l : Launch) (E : g_E) (mc ms : Nat) (av : List Value) (st : g_St) (Q : Int64 → g_St → Prop) : Prop := g_WPl l E yX2_checksum cX2_checksum 6 (some .long) 5 130 mc ms av st Q
def vc_X2_checksum (l : Launch) (E : g_E) (a0 : Nat) (st : g_St) (Q : Int64 → g_St → Prop) : Prop :=
  ∃ fs1 : List Value, st.2.1 a0 = some (.inr (16, fs1)) ∧ ∀ st2 : g_St, st2 = g_put st a0 (.inr (16, fs1.set 0 (.int (nI 0)))) → g_lp2 (fun (K5 : Int64 → Int32 → Prop) (y3 : Int64) (x4 : Int32) => ∃ x8 : Int32, g_gi st2 a0 16 8 x8 ∧ (x8 ≤ x4 → g_is st2 a0 16 ∧ wp_X2_orders l E 0 0 [va_rf (some a0)] st2 (fun st10 => g_Ext st2 st10 → g_lp2 (fun (K13 : Int64 → Int32 → Prop) (y11 : Int64) (x12 : Int32) => ∃ x16 : Int32, g_gi st10 a0 16 9 x16 ∧ (x16 ≤ x12 → g_lp2 (fun (K20 : Int64 → Int32 → Prop) (y18 : Int64) (x19 : Int32) => ((nI 6) ≤ x19 → Q y18 st10) ∧ (¬ (nI 6) ≤ x19 → ∃ o24 : Option Nat, g_gr st10 a0 16 7 o24 ∧ ∃ a25 : Nat, o24 = some a25 ∧ ∃ (n26 : Nat) (f27 : Nat → Int32) (j28 : Nat), g_ai st10 a25 0 n26 f27 ∧ x19 = nI j28 ∧ j28 < n26 ∧ j28 < 2 ^ 31 ∧ g_lp2 (fun (K31 : Int64 → Int32 → Prop) (y29 : Int64) (x30 : Int32) => ∃ o34 : Option Nat, g_gr st10 a0 16 7 o34 ∧ ∃ a35 : Nat, o34 = some a35 ∧ ∃ (n36 : Nat) (f37 : Nat → Int32) (j38 : Nat), g_ai st10 a35 0 n36 f37 ∧ x19 = nI j38 ∧ j38 < n36 ∧ j38 < 2 ^ 31 ∧ ((f37 j38) ≤ x30 → K20 y29 (x19 + (nI 1))) ∧ (¬ (f37 j38) ≤ x30 → ∃ o40 : Option Nat, g_gr st10 a0 16 3 o40 ∧ ∃ a41 : Nat, o40 = some a41 ∧ ∃ (n42 : Nat) (f43 : Nat → Int32) (j44 : Nat), g_ai st10 a41 2 n42 f43 ∧ (((nI 3) * x19) + x30) = nI j44 ∧ j44 < n42 ∧ j44 < 2 ^ 31 ∧ K31 ((31 * y29) + (((f43 j44)).toInt64)) (x30 + (nI 1)))) ((31 * y18) + (((f27 j28)).toInt64)) (nI 0))) y11 (nI 0)) ∧ (¬ x16 ≤ x12 → ∃ o51 : Option Nat, g_gr st10 a0 16 10 o51 ∧ ∃ a52 : Nat, o51 = some a52 ∧ ∃ (n53 : Nat) (f54 : Nat → Int32) (j55 : Nat), g_ai st10 a52 0 n53 f54 ∧ x12 = nI j55 ∧ j55 < n53 ∧ j55 < 2 ^ 31 ∧ g_lp2 (fun (K58 : Int64 → Int32 → Prop) (y56 : Int64) (x57 : Int32) => ∃ o61 : Option Nat, g_gr st10 a0 16 5 o61 ∧ ∃ a62 : Nat, o61 = some a62 ∧ ∃ (n63 : Nat) (f64 : Nat → Int32) (j65 : Nat), g_ai st10 a62 0 n63 f64 ∧ (f54 j55) = nI j65 ∧ j65 < n63 ∧ j65 < 2 ^ 31 ∧ ((f64 j65) ≤ x57 → ∃ o67 : Option Nat, g_gr st10 a0 16 6 o67 ∧ ∃ a68 : Nat, o67 = some a68 ∧ ∃ (n69 : Nat) (f70 : Nat → Int32) (j71 : Nat), g_ai st10 a68 0 n69 f70 ∧ (f54 j55) = nI j71 ∧ j71 < n69 ∧ j71 < 2 ^ 31 ∧ K13 ((31 * y56) + (((f70 j71)).toInt64)) (x12 + (nI 1))) ∧ (¬ (f64 j65) ≤ x57 → ∃ o72 : Option Nat, g_gr st10 a0 16 2 o72 ∧ ∃ a73 : Nat, o72 = some a73 ∧ ∃ (n74 : Nat) (f75 : Nat → Int32) (j76 : Nat), g_ai st10 a73 2 n74 f75 ∧ (((nI 10) * (f54 j55)) + x57) = nI j76 ∧ j76 < n74 ∧ j76 < 2 ^ 31 ∧ K58 ((31 * y56) + (((f75 j76)).toInt64)) (x57 + (nI 1)))) y11 (nI 0))) y3 (nI 0))) ∧ (¬ x8 ≤ x4 → ∃ o83 : Option Nat, g_gr st2 a0 16 1 o83 ∧ ∃ a84 : Nat, o83 = some a84 ∧ ∃ (n85 : Nat) (f86 : Nat → Int32) (j87 : Nat), g_ai st2 a84 2 n85 f86 ∧ x4 = nI j87 ∧ j87 < n85 ∧ j87 < 2 ^ 31 ∧ K5 ((31 * y3) + (((f86 j87)).toInt64)) (x4 + (nI 1)))) 7 (nI 0)
set_option maxHeartbeats 4000000 in
theorem wb_X2_checksum {p : Program} {l : Launch} {e : Env} {R : Room} {s : State} {m : MethodId} {args : Array Value} {below : List Frame} {meth : Method} {c : Code} {E : g_E} {st0 : g_St} {Z : State → Prop} (hC : g_Cx p s m args meth c cX2_checksum 6 "StemspanModel" (some .long) "checksum" E st0) (hR : g_Rm 5 130 R) {a0 : Nat} {st : g_St} {cb sb : Nat} {Q : Int64 → g_St → Prop} (hret : ∀ (pc : Nat) (lv : List (Nat × Value)) (v : Int64) (st1 : g_St) (cb sb : Nat), decode cX2_checksum pc = .ok (.lreturn, 1) → Q v st1 → g_J p l e R s m args below meth c 6 E st0 Z pc lv [.long v] st1 cb sb) (hvc : vc_X2_checksum l E a0 st Q) : g_J p l e R s m args below meth c 6 E st0 Z 0 [(0, va_rf (some a0))] [] st cb sb := by
  unfold vc_X2_checksum at hvc
  refine j_aload_n hC dX2_checksum_0 rfl 0 rfl ?_
  refine j_iconst hC (nI 0) dX2_checksum_1 rfl ?_
  obtain ⟨fs1, hm, hvc⟩ := hvc
  refine j_put hC fkX2_1_X2 dX2_checksum_2 hm rfl rfl (fun st2 e1 => ?_)
  replace hvc := hvc st2 e1; clear hm e1
  refine j_ldc2 hC 7 q2440 dX2_checksum_5 ?_
  refine j_lstore_n (lv0 := [(0, va_rf (some a0))]) hC dX2_checksum_8 rfl rfl [0] rfl (g_okS.h rfl g_c1 rfl) rfl ?_
  refine j_iconst hC (nI 0) dX2_checksum_9 rfl ?_
  refine j_istore_n (lv0 := [(1, .long 7), (0, va_rf (some a0))]) hC dX2_checksum_10 rfl rfl [0, 1] rfl (g_okS.n rfl) ?_
  replace hvc := g_lp2_o hvc
  obtain ⟨K5, hz88, hs89, n90, hvc⟩ := hvc
  have kh6 : ∀ (n : Nat) (y3 : Int64) (x4 : Int32), K5 n y3 x4 → g_J p l e R s m args below meth c 6 E st0 Z 11 [(0, va_rf (some a0)), (1, .long y3), (3, .int x4)] [] st2 cb sb := by
    clear hvc
    intro n
    induction n with
    | zero => intro y3 x4 hvc; exact absurd hvc (hz88 _ _)
    | succ n ih7 =>
      intro y3 x4 hvc
      replace hvc := hs89 n _ _ hvc
      refine j_iload_n hC dX2_checksum_11 rfl 2 rfl ?_
      refine j_aload_n hC dX2_checksum_12 rfl 0 rfl ?_
      obtain ⟨x8, ⟨fs, hr, hv⟩, hvc⟩ := hvc
      refine j_get hC fkX2_49_X2 dX2_checksum_13 hr hv ?_
      clear hv hr fs
      refine j_icmp_ge (tgt := 39) hC dX2_checksum_16 rfl (fun c9 => ?_) (fun c9 => ?_)
      · replace hvc := hvc.1 c9
        refine j_aload_n hC dX2_checksum_39 rfl 0 rfl ?_
        obtain ⟨⟨fs, hr⟩, hvc⟩ := hvc
        refine j_callV (As := []) (rest := []) (n := 0) (ci := 16) hC hvc (lw_V q2308 q2310 qs25 q60 q2311) (by decide +kernel) (g_rm hR rfl rfl) rfl hr rfl rfl (g_sum rfl) dX2_checksum_40 (Nat.zero_le _) (Nat.zero_le _) (g_Kv fun st10 hv2 hx => ?_)
        replace hvc := hv2 hx; clear hx hv2
        clear hr fs
        refine j_iconst hC (nI 0) dX2_checksum_43 rfl ?_
        refine j_istore_n (lv0 := [(0, va_rf (some a0)), (1, .long y3)]) hC dX2_checksum_44 rfl rfl [0, 1] rfl (g_okS.n rfl) ?_
        replace hvc := g_lp2_o hvc
        obtain ⟨K13, hz80, hs81, n82, hvc⟩ := hvc
        have kh14 : ∀ (n : Nat) (y11 : Int64) (x12 : Int32), K13 n y11 x12 → g_J p l e R s m args below meth c 6 E st0 Z 45 [(0, va_rf (some a0)), (1, .long y11), (3, .int x12)] [] st10 cb sb := by
          clear hvc
          intro n
          induction n with
          | zero => intro y11 x12 hvc; exact absurd hvc (hz80 _ _)
          | succ n ih15 =>
            intro y11 x12 hvc
            replace hvc := hs81 n _ _ hvc
            refine j_iload_n hC dX2_checksum_45 rfl 2 rfl ?_
            refine j_aload_n hC dX2_checksum_46 rfl 0 rfl ?_
            obtain ⟨x16, ⟨fs, hr, hv⟩, hvc⟩ := hvc
            refine j_get hC fkX2_59_X2 dX2_checksum_47 hr hv ?_
            clear hv hr fs
            refine j_icmp_ge (tgt := 124) hC dX2_checksum_50 rfl (fun c17 => ?_) (fun c17 => ?_)
            · replace hvc := hvc.1 c17
              refine j_iconst hC (nI 0) dX2_checksum_124 rfl ?_
              refine j_istore_n (lv0 := [(0, va_rf (some a0)), (1, .long y11)]) hC dX2_checksum_125 rfl rfl [0, 1] rfl (g_okS.n rfl) ?_
              replace hvc := g_lp2_o hvc
              obtain ⟨K20, hz48, hs49, n50, hvc⟩ := hvc
              have kh21 : ∀ (n : Nat) (y18 : Int64) (x19 : Int32), K20 n y18 x19 → g_J p l e R s m args below meth c 6 E st0 Z 126 [(0, va_rf (some a0)), (1, .long y18), (3, .int x19)] [] st10 cb sb := by
                clear hvc
                intro n
                induction n with
                | zero => intro y18 x19 hvc; exact absurd hvc (hz48 _ _)
                | succ n ih22 =>
                  intro y18 x19 hvc
                  replace hvc := hs49 n _ _ hvc
                  refine j_iload_n hC dX2_checksum_126 rfl 2 rfl ?_
                  refine j_bipush hC (nI 6) dX2_checksum_127 rfl ?_
                  refine j_icmp_ge (tgt := 191) hC dX2_checksum_129 rfl (fun c23 => ?_) (fun c23 => ?_)
                  · replace hvc := hvc.1 c23
                    refine j_lload_n hC dX2_checksum_191 rfl 1 rfl ?_
                    exact hret _ _ _ _ _ _ dX2_checksum_192 hvc
                  · replace hvc := hvc.2 c23
                    refine j_ldc2 hC 31 q2441 dX2_checksum_132 ?_
                    refine j_lload_n hC dX2_checksum_135 rfl 1 rfl ?_
                    refine j_lmul hC dX2_checksum_136 ?_
                    refine j_aload_n hC dX2_checksum_137 rfl 0 rfl ?_
                    obtain ⟨o24, ⟨fs, hr, hv⟩, hvc⟩ := hvc
                    refine j_get hC fkX2_33_X2 dX2_checksum_138 hr hv ?_
                    clear hv hr fs
                    refine j_iload_n hC dX2_checksum_141 rfl 2 rfl ?_
                    obtain ⟨a25, rfl, hvc⟩ := hvc
                    obtain ⟨n26, f27, j28, hr, hi, hj, hJ, hvc⟩ := hvc
                    refine j_ix hi ?_
                    refine j_iald hC hr hj hJ dX2_checksum_142 ?_
                    clear hr hi hj hJ
                    refine j_i2l hC dX2_checksum_143 ?_
                    refine j_ladd hC dX2_checksum_144 ?_
                    refine j_lstore_n (lv0 := [(0, va_rf (some a0)), (3, .int x19)]) hC dX2_checksum_145 rfl rfl [0, 2] rfl (g_okS.h rfl g_c1 rfl) rfl ?_
                    refine j_iconst hC (nI 0) dX2_checksum_146 rfl ?_
                    refine j_istore (lv0 := [(3, .int x19), (1, .long ((31 * y18) + (((f27 j28)).toInt64))), (0, va_rf (some a0))]) hC dX2_checksum_147 rfl [2, 0, 1] rfl (g_okS.h rfl rfl rfl) ?_
                    replace hvc := g_lp2_o hvc
                    obtain ⟨K31, hz45, hs46, n47, hvc⟩ := hvc
                    have kh32 : ∀ (n : Nat) (y29 : Int64) (x30 : Int32), K31 n y29 x30 → g_J p l e R s m args below meth c 6 E st0 Z 149 [(0, va_rf (some a0)), (1, .long y29), (3, .int x19), (4, .int x30)] [] st10 cb sb := by
                      clear hvc
                      intro n
                      induction n with
                      | zero => intro y29 x30 hvc; exact absurd hvc (hz45 _ _)
                      | succ n ih33 =>
                        intro y29 x30 hvc
                        replace hvc := hs46 n _ _ hvc
                        refine j_iload hC dX2_checksum_149 3 rfl ?_
                        refine j_aload_n hC dX2_checksum_151 rfl 0 rfl ?_
                        obtain ⟨o34, ⟨fs, hr, hv⟩, hvc⟩ := hvc
                        refine j_get hC fkX2_33_X2 dX2_checksum_152 hr hv ?_
                        clear hv hr fs
                        refine j_iload_n hC dX2_checksum_155 rfl 2 rfl ?_
                        obtain ⟨a35, rfl, hvc⟩ := hvc
                        obtain ⟨n36, f37, j38, hr, hi, hj, hJ, hvc⟩ := hvc
                        refine j_ix hi ?_
                        refine j_iald hC hr hj hJ dX2_checksum_156 ?_
                        clear hr hi hj hJ
                        refine j_icmp_ge (tgt := 185) hC dX2_checksum_157 rfl (fun c39 => ?_) (fun c39 => ?_)
                        · replace hvc := hvc.1 c39
                          refine j_iinc (lv0 := [(0, va_rf (some a0)), (1, .long y29), (4, .int x30)]) hC (nI 1) dX2_checksum_185 2 rfl rfl rfl [0, 1, 3] rfl (g_okS.n rfl) ?_
                          refine j_goto (tgt := 126) hC dX2_checksum_188 rfl ?_
                          exact j_sub [1, 2, 0] rfl (ih22 y29 (x19 + (nI 1)) hvc)
                        · replace hvc := hvc.2 c39
                          refine j_ldc2 hC 31 q2441 dX2_checksum_160 ?_
                          refine j_lload_n hC dX2_checksum_163 rfl 1 rfl ?_
                          refine j_lmul hC dX2_checksum_164 ?_
                          refine j_aload_n hC dX2_checksum_165 rfl 0 rfl ?_
                          obtain ⟨o40, ⟨fs, hr, hv⟩, hvc⟩ := hvc
                          refine j_get hC fkX2_20_X2 dX2_checksum_166 hr hv ?_
                          clear hv hr fs
                          refine j_iconst hC (nI 3) dX2_checksum_169 rfl ?_
                          refine j_iload_n hC dX2_checksum_170 rfl 2 rfl ?_
                          refine j_imul hC dX2_checksum_171 ?_
                          refine j_iload hC dX2_checksum_172 3 rfl ?_
                          refine j_iadd hC dX2_checksum_174 ?_
                          obtain ⟨a41, rfl, hvc⟩ := hvc
                          obtain ⟨n42, f43, j44, hr, hi, hj, hJ, hvc⟩ := hvc
                          refine j_ix hi ?_
                          refine j_cald hC hr hj hJ dX2_checksum_175 ?_
                          clear hr hi hj hJ
                          refine j_i2l hC dX2_checksum_176 ?_
                          refine j_ladd hC dX2_checksum_177 ?_
                          refine j_lstore_n (lv0 := [(0, va_rf (some a0)), (3, .int x19), (4, .int x30)]) hC dX2_checksum_178 rfl rfl [0, 2, 3] rfl (g_okS.h rfl g_c1 rfl) rfl ?_
                          refine j_iinc (lv0 := [(3, .int x19), (1, .long ((31 * y29) + (((f43 j44)).toInt64))), (0, va_rf (some a0))]) hC (nI 1) dX2_checksum_179 3 rfl rfl rfl [2, 0, 1] rfl (g_okS.h rfl rfl rfl) ?_
                          refine j_goto (tgt := 149) hC dX2_checksum_182 rfl ?_
                          exact j_sub [3, 2, 1, 0] rfl (ih33 ((31 * y29) + (((f43 j44)).toInt64)) (x30 + (nI 1)) hvc)
                    exact j_sub [3, 2, 1, 0] rfl (kh32 n47 ((31 * y18) + (((f27 j28)).toInt64)) (nI 0) hvc)
              exact j_sub [1, 2, 0] rfl (kh21 n50 y11 (nI 0) hvc)
            · replace hvc := hvc.2 c17
              refine j_aload_n hC dX2_checksum_53 rfl 0 rfl ?_
              obtain ⟨o51, ⟨fs, hr, hv⟩, hvc⟩ := hvc
              refine j_get hC fkX2_36_X2 dX2_checksum_54 hr hv ?_
              clear hv hr fs
              refine j_iload_n hC dX2_checksum_57 rfl 2 rfl ?_
              obtain ⟨a52, rfl, hvc⟩ := hvc
              obtain ⟨n53, f54, j55, hr, hi, hj, hJ, hvc⟩ := hvc
              refine j_ix hi ?_
              refine j_iald hC hr hj hJ dX2_checksum_58 ?_
              clear hr hi hj hJ
              refine j_istore (lv0 := [(3, .int x12), (0, va_rf (some a0)), (1, .long y11)]) hC dX2_checksum_59 rfl [2, 0, 1] rfl (g_okS.h rfl rfl rfl) ?_
              refine j_iconst hC (nI 0) dX2_checksum_61 rfl ?_
              refine j_istore (lv0 := [(4, .int (f54 j55)), (3, .int x12), (0, va_rf (some a0)), (1, .long y11)]) hC dX2_checksum_62 rfl [0, 1, 2, 3] rfl (g_okS.h rfl rfl rfl) ?_
              replace hvc := g_lp2_o hvc
              obtain ⟨K58, hz77, hs78, n79, hvc⟩ := hvc
              have kh59 : ∀ (n : Nat) (y56 : Int64) (x57 : Int32), K58 n y56 x57 → g_J p l e R s m args below meth c 6 E st0 Z 64 [(0, va_rf (some a0)), (1, .long y56), (3, .int x12), (4, .int (f54 j55)), (5, .int x57)] [] st10 cb sb := by
                clear hvc
                intro n
                induction n with
                | zero => intro y56 x57 hvc; exact absurd hvc (hz77 _ _)
                | succ n ih60 =>
                  intro y56 x57 hvc
                  replace hvc := hs78 n _ _ hvc
                  refine j_iload hC dX2_checksum_64 4 rfl ?_
                  refine j_aload_n hC dX2_checksum_66 rfl 0 rfl ?_
                  obtain ⟨o61, ⟨fs, hr, hv⟩, hvc⟩ := hvc
                  refine j_get hC fkX2_26_X2 dX2_checksum_67 hr hv ?_
                  clear hv hr fs
                  refine j_iload hC dX2_checksum_70 3 rfl ?_
                  obtain ⟨a62, rfl, hvc⟩ := hvc
                  obtain ⟨n63, f64, j65, hr, hi, hj, hJ, hvc⟩ := hvc
                  refine j_ix hi ?_
                  refine j_iald hC hr hj hJ dX2_checksum_72 ?_
                  clear hr hi hj hJ
                  refine j_icmp_ge (tgt := 103) hC dX2_checksum_73 rfl (fun c66 => ?_) (fun c66 => ?_)
                  · replace hvc := hvc.1 c66
                    refine j_ldc2 hC 31 q2441 dX2_checksum_103 ?_
                    refine j_lload_n hC dX2_checksum_106 rfl 1 rfl ?_
                    refine j_lmul hC dX2_checksum_107 ?_
                    refine j_aload_n hC dX2_checksum_108 rfl 0 rfl ?_
                    obtain ⟨o67, ⟨fs, hr, hv⟩, hvc⟩ := hvc
                    refine j_get hC fkX2_30_X2 dX2_checksum_109 hr hv ?_
                    clear hv hr fs
                    refine j_iload hC dX2_checksum_112 3 rfl ?_
                    obtain ⟨a68, rfl, hvc⟩ := hvc
                    obtain ⟨n69, f70, j71, hr, hi, hj, hJ, hvc⟩ := hvc
                    refine j_ix hi ?_
                    refine j_iald hC hr hj hJ dX2_checksum_114 ?_
                    clear hr hi hj hJ
                    refine j_i2l hC dX2_checksum_115 ?_
                    refine j_ladd hC dX2_checksum_116 ?_
                    refine j_lstore_n (lv0 := [(0, va_rf (some a0)), (3, .int x12), (4, .int (f54 j55)), (5, .int x57)]) hC dX2_checksum_117 rfl rfl [0, 2, 3, 4] rfl (g_okS.h rfl g_c1 rfl) rfl ?_
                    refine j_iinc (lv0 := [(1, .long ((31 * y56) + (((f70 j71)).toInt64))), (0, va_rf (some a0)), (4, .int (f54 j55)), (5, .int x57)]) hC (nI 1) dX2_checksum_118 2 rfl rfl rfl [0, 1, 3, 4] rfl (g_okS.n rfl) ?_
                    refine j_goto (tgt := 45) hC dX2_checksum_121 rfl ?_
                    exact j_sub [2, 1, 0] rfl (ih15 ((31 * y56) + (((f70 j71)).toInt64)) (x12 + (nI 1)) hvc)
                  · replace hvc := hvc.2 c66
                    refine j_ldc2 hC 31 q2441 dX2_checksum_76 ?_
                    refine j_lload_n hC dX2_checksum_79 rfl 1 rfl ?_
                    refine j_lmul hC dX2_checksum_80 ?_
                    refine j_aload_n hC dX2_checksum_81 rfl 0 rfl ?_
                    obtain ⟨o72, ⟨fs, hr, hv⟩, hvc⟩ := hvc
                    refine j_get hC fkX2_17_X2 dX2_checksum_82 hr hv ?_
                    clear hv hr fs
                    refine j_bipush hC (nI 10) dX2_checksum_85 rfl ?_
                    refine j_iload hC dX2_checksum_87 3 rfl ?_
                    refine j_imul hC dX2_checksum_89 ?_
                    refine j_iload hC dX2_checksum_90 4 rfl ?_
                    refine j_iadd hC dX2_checksum_92 ?_
                    obtain ⟨a73, rfl, hvc⟩ := hvc
                    obtain ⟨n74, f75, j76, hr, hi, hj, hJ, hvc⟩ := hvc
                    refine j_ix hi ?_
                    refine j_cald hC hr hj hJ dX2_checksum_93 ?_
                    clear hr hi hj hJ
                    refine j_i2l hC dX2_checksum_94 ?_
                    refine j_ladd hC dX2_checksum_95 ?_
                    refine j_lstore_n (lv0 := [(0, va_rf (some a0)), (3, .int x12), (4, .int (f54 j55)), (5, .int x57)]) hC dX2_checksum_96 rfl rfl [0, 2, 3, 4] rfl (g_okS.h rfl g_c1 rfl) rfl ?_
                    refine j_iinc (lv0 := [(4, .int (f54 j55)), (1, .long ((31 * y56) + (((f75 j76)).toInt64))), (0, va_rf (some a0)), (3, .int x12)]) hC (nI 1) dX2_checksum_97 4 rfl rfl rfl [3, 0, 1, 2] rfl (g_okS.h rfl rfl rfl) ?_
                    refine j_goto (tgt := 64) hC dX2_checksum_100 rfl ?_
                    exact j_sub [3, 2, 4, 1, 0] rfl (ih60 ((31 * y56) + (((f75 j76)).toInt64)) (x57 + (nI 1)) hvc)
              exact j_sub [3, 4, 2, 1, 0] rfl (kh59 n79 y11 (nI 0) hvc)
        exact j_sub [1, 2, 0] rfl (kh14 n82 y3 (nI 0) hvc)
      · replace hvc := hvc.2 c9
        refine j_ldc2 hC 31 q2441 dX2_checksum_19 ?_
        refine j_lload_n hC dX2_checksum_22 rfl 1 rfl ?_
        refine j_lmul hC dX2_checksum_23 ?_
        refine j_aload_n hC dX2_checksum_24 rfl 0 rfl ?_
        obtain ⟨o83, ⟨fs, hr, hv⟩, hvc⟩ := hvc
        refine j_get hC fkX2_13_X2 dX2_checksum_25 hr hv ?_
        clear hv hr fs
        refine j_iload_n hC dX2_checksum_28 rfl 2 rfl ?_
        obtain ⟨a84, rfl, hvc⟩ := hvc
        obtain ⟨n85, f86, j87, hr, hi, hj, hJ, hvc⟩ := hvc
        refine j_ix hi ?_
        refine j_cald hC hr hj hJ dX2_checksum_29 ?_
        clear hr hi hj hJ
        refine j_i2l hC dX2_checksum_30 ?_
        refine j_ladd hC dX2_checksum_31 ?_
        refine j_lstore_n (lv0 := [(0, va_rf (some a0)), (3, .int x4)]) hC dX2_checksum_32 rfl rfl [0, 2] rfl (g_okS.h rfl g_c1 rfl) rfl ?_
        refine j_iinc (lv0 := [(1, .long ((31 * y3) + (((f86 j87)).toInt64))), (0, va_rf (some a0))]) hC (nI 1) dX2_checksum_33 2 rfl rfl rfl [0, 1] rfl (g_okS.n rfl) ?_
        refine j_goto (tgt := 11) hC dX2_checksum_36 rfl ?_
        exact j_sub [2, 1, 0] rfl (ih7 ((31 * y3) + (((f86 j87)).toInt64)) (x4 + (nI 1)) hvc)
  exact j_sub [2, 1, 0] rfl (kh6 n90 7 (nI 0) hvc)
theorem wk_X2_checksum {l : Launch} {E : g_E} {a0 : Nat} {st : g_St} {mc ms : Nat} {Q : Int64 → g_St → Prop} (hvc : vc_X2_checksum l E a0 st Q) : wp_X2_checksum l E mc ms [va_rf (some a0)] st Q :=
  g_enter (lv0 := [(0, va_rf (some a0))]) (plainFor_of_name (by decide +kernel)) (by simp [lv_args, g_c1, g_ci, g_cL]) (by simp [lg_sl, g_c1, g_ci, g_cL]) (fun p e s m args below meth c hC => wb_X2_checksum hC ⟨Nat.le_refl _, Nat.le_refl _⟩ (fun pc lv v st1 cb sb hd hq => j_lreturn hC rfl hd (g_lvv hq)) hvc)
