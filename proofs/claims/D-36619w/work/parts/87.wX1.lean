set_option maxRecDepth 100000
theorem nwX1_7 : g_Nw "Stemspan" 7 0 [va_rf none, .int 0, .int 0, .int 0] := ⟨RJ1, TJ1, tyJ1, rfl, in_J1, tyJ1_ok, q101, q102, q43, g_dv rfl⟩
theorem fkX1_10_X1 : g_Fd "Stemspan" 10 15 0 (.object "java/lang/StringBuilder") true := ⟨RX1, TX1, 3, tyX1, "Stemspan", rfl, in_X1, by decide, q483, Or.inl rfl, tyX1_ok, (g_nmL nmX1), rfl, rfl, fun _ => rfl⟩
theorem nwX1_16 : g_Nw "Stemspan" 16 3 [va_rf none, va_rf none, va_rf none, va_rf none, .int 0, .int 0, va_rf none, va_rf none, va_rf none] := ⟨RJ5, TJ5, tyJ5, rfl, in_J5, tyJ5_ok, q134, q135, q47, g_dv rfl⟩
theorem fkX1_19_X1 : g_Fd "Stemspan" 19 15 1 (.object "java/util/TreeMap") true := ⟨RX1, TX1, 3, tyX1, "Stemspan", rfl, in_X1, by decide, q484, Or.inl rfl, tyX1_ok, (g_nmL nmX1), rfl, rfl, fun _ => rfl⟩
theorem fkX1_25_X1 : g_Fd "Stemspan" 25 15 2 (.array (.object "java/lang/String")) true := ⟨RX1, TX1, 3, tyX1, "Stemspan", rfl, in_X1, by decide, q485, Or.inl rfl, tyX1_ok, (g_nmL nmX1), rfl, rfl, fun _ => rfl⟩
abbrev wp_X1_init (l : Launch) (E : g_E) (mc ms : Nat) (av : List Value) (st : g_St) (Q : g_St → Prop) : Prop := g_WPv l E yX1_init cX1_init 2 none 6 153 mc ms av st Q
def vc_X1_init (l : Launch) (E : g_E) (a0 : Nat) (st : g_St) (cb sb : Nat) (Q : g_St → Prop) : Prop :=
  1 ≤ cb ∧ 4 ≤ sb ∧ ∀ (q1 : Nat) (st2 : g_St), q1 = st.2.2 → st2 = g_new st (.inr (0, [va_rf none, .int 0, .int 0, .int 0])) → ∃ mc4 ms5 : Nat, mc4 ≤ (cb - 1) ∧ ms5 ≤ (sb - 4) ∧ wp_J1_init l E mc4 ms5 [va_rf (some q1)] st2 (fun st3 => g_Ext st2 st3 → ∃ fs6 : List Value, st3.2.1 a0 = some (.inr (15, fs6)) ∧ ∀ st7 : g_St, st7 = g_put st3 a0 (.inr (15, fs6.set 0 (va_rf (some q1)))) → 1 ≤ ((cb - 1) - mc4) ∧ 9 ≤ ((sb - 4) - ms5) ∧ ∀ (q8 : Nat) (st9 : g_St), q8 = st7.2.2 → st9 = g_new st7 (.inr (3, [va_rf none, va_rf none, va_rf none, va_rf none, .int 0, .int 0, va_rf none, va_rf none, va_rf none])) → wp_J5_init l E 0 0 [va_rf (some q8)] st9 (fun st10 => g_Ext st9 st10 → ∃ fs11 : List Value, st10.2.1 a0 = some (.inr (15, fs11)) ∧ ∀ st12 : g_St, st12 = g_put st10 a0 (.inr (15, fs11.set 1 (va_rf (some q8)))) → ∃ n13 : Nat, (nI 6) = nI n13 ∧ n13 ≤ 67108864 ∧ 1 ≤ (((cb - 1) - mc4) - 1) ∧ n13 ≤ (((sb - 4) - ms5) - 9) ∧ ∀ (q14 : Nat) (st15 : g_St), q14 = st12.2.2 → st15 = g_new st12 (.inl (4, n13, .inr (.inr (.inr (.inr fun _ => none))))) → ∃ fs16 : List Value, st15.2.1 a0 = some (.inr (15, fs16)) ∧ ∀ st17 : g_St, st17 = g_put st15 a0 (.inr (15, fs16.set 2 (va_rf (some q14)))) → g_lp4 (fun (K22 : Int32 → g_St → Nat → Nat → Prop) (x18 : Int32) (st19 : g_St) (cb20 : Nat) (sb21 : Nat) => ((nI 6) ≤ x18 → Q st19) ∧ (¬ (nI 6) ≤ x18 → ∃ o26 : Option Nat, g_gr st19 a0 15 2 o26 ∧ ∀ o27 : Option Nat, o27 = E.2.2.2.2.1 0 → ∃ a28 : Nat, o27 = some a28 ∧ ∃ mc31 ms32 : Nat, mc31 ≤ cb20 ∧ ms32 ≤ sb21 ∧ g_is st19 a28 1 ∧ wp_J2_substring l E mc31 ms32 [va_rf (some a28), .int x18, .int (x18 + (nI 1))] st19 (fun o29 st30 => g_Ext st19 st30 → ∃ a33 : Nat, o26 = some a33 ∧ ∃ (n34 : Nat) (f35 : Nat → Option Nat) (j36 : Nat), st30.2.1 a33 = some (.inl (4, n34, .inr (.inr (.inr (.inr (f35)))))) ∧ x18 = nI j36 ∧ j36 < n34 ∧ j36 < 2 ^ 31 ∧ g_isN st30 o29 1 ∧ ∀ st37 : g_St, st37 = g_put st30 a33 (.inl (4, n34, .inr (.inr (.inr (.inr (va_up f35 j36 o29)))))) → K22 (x18 + (nI 1)) st37 (cb20 - mc31) (sb21 - ms32)))) (nI 0) st17 ((((cb - 1) - mc4) - 1) - 1) ((((sb - 4) - ms5) - 9) - n13)))
set_option maxHeartbeats 4000000 in
theorem wb_X1_init {p : Program} {l : Launch} {e : Env} {R : Room} {s : State} {m : MethodId} {args : Array Value} {below : List Frame} {meth : Method} {c : Code} {E : g_E} {st0 : g_St} {Z : State → Prop} (hC : g_Cx p s m args meth c cX1_init 2 "Stemspan" none "<init>" E st0) (hR : g_Rm 6 153 R) {a0 : Nat} {st : g_St} {cb sb : Nat} {Q : g_St → Prop} (hret : ∀ (pc : Nat) (lv : List (Nat × Value)) (st1 : g_St) (cb sb : Nat), decode cX1_init pc = .ok (.return_, 1) → Q st1 → g_J p l e R s m args below meth c 2 E st0 Z pc lv [] st1 cb sb) (hvc : vc_X1_init l E a0 st cb sb Q) : g_J p l e R s m args below meth c 2 E st0 Z 0 [(0, va_rf (some a0))] [] st cb sb := by
  unfold vc_X1_init at hvc
  refine j_aload_n hC dX1_init_0 rfl 0 rfl ?_
  refine j_objInit hC q98 q99 q100 (Nat.le_trans (Nat.le_of_ble_eq_true rfl) hR.1) (Nat.le_trans (g_sumO rfl) hR.2) dX1_init_1 ?_
  refine j_aload_n hC dX1_init_4 rfl 0 rfl ?_
  obtain ⟨h1, h2, hvc⟩ := hvc
  refine j_new hC nwX1_7 dX1_init_5 (n := 4) rfl h1 h2 (fun q1 st2 e1 e2 => ?_)
  replace hvc := hvc q1 st2 e1 e2; clear h1 h2 e1 e2
  refine j_dup hC dX1_init_8 g_c1 ?_
  obtain ⟨mc4, ms5, h1, h2, hvc⟩ := hvc
  refine j_callI (As := []) (rest := [va_rf (some q1), va_rf (some a0)]) (n := 0) hC hvc (lw_meth q105) q43 q103 q104 rfl (by decide +kernel) (g_rm hR rfl rfl) rfl rfl (g_sum rfl) dX1_init_9 h1 h2 (g_Kv fun st3 hv2 hx => ?_)
  replace hvc := hv2 hx; clear hx hv2
  obtain ⟨fs6, hm, hvc⟩ := hvc
  refine j_putF hC fkX1_10_X1 rfl dX1_init_12 hm g_no g_fo (fun st7 e1 => ?_)
  replace hvc := hvc st7 e1; clear hm e1
  refine j_aload_n hC dX1_init_15 rfl 0 rfl ?_
  obtain ⟨h1, h2, hvc⟩ := hvc
  refine j_new hC nwX1_16 dX1_init_16 (n := 9) rfl h1 h2 (fun q8 st9 e1 e2 => ?_)
  replace hvc := hvc q8 st9 e1 e2; clear h1 h2 e1 e2
  refine j_dup hC dX1_init_19 g_c1 ?_
  refine j_callI (As := []) (rest := [va_rf (some q8), va_rf (some a0)]) (n := 0) hC hvc (lw_meth q138) q47 q136 q137 rfl (by decide +kernel) (g_rm hR rfl rfl) rfl rfl (g_sum rfl) dX1_init_20 (Nat.zero_le _) (Nat.zero_le _) (g_Kv fun st10 hv2 hx => ?_)
  replace hvc := hv2 hx; clear hx hv2
  obtain ⟨fs11, hm, hvc⟩ := hvc
  refine j_putF hC fkX1_19_X1 rfl dX1_init_23 hm g_no g_fo (fun st12 e1 => ?_)
  replace hvc := hvc st12 e1; clear hm e1
  refine j_aload_n hC dX1_init_26 rfl 0 rfl ?_
  refine j_bipush hC (nI 6) dX1_init_27 rfl ?_
  obtain ⟨n13, hi, hn, h1, h2, hvc⟩ := hvc
  refine j_ix hi ?_
  refine j_newS hC q174 ge_92 hn h1 h2 dX1_init_29 (fun q14 st15 e1 e2 => ?_)
  replace hvc := hvc q14 st15 e1 e2; clear hi hn h1 h2 e1 e2
  obtain ⟨fs16, hm, hvc⟩ := hvc
  refine j_putF hC fkX1_25_X1 rfl dX1_init_32 hm g_noA g_foA (fun st17 e1 => ?_)
  replace hvc := hvc st17 e1; clear hm e1
  refine j_iconst hC (nI 0) dX1_init_35 rfl ?_
  refine j_istore_n (lv0 := [(0, va_rf (some a0))]) hC dX1_init_36 rfl rfl [0] rfl (g_okS.h rfl g_c1 rfl) ?_
  replace hvc := g_lp4_o hvc
  obtain ⟨K22, hz38, hs39, n40, hvc⟩ := hvc
  have kh23 : ∀ (n : Nat) (x18 : Int32) (st19 : g_St) (cb20 : Nat) (sb21 : Nat), K22 n x18 st19 cb20 sb21 → g_J p l e R s m args below meth c 2 E st0 Z 37 [(0, va_rf (some a0)), (1, .int x18)] [] st19 cb20 sb21 := by
    clear hvc
    intro n
    induction n with
    | zero => intro x18 st19 cb20 sb21 hvc; exact absurd hvc (hz38 _ _ _ _)
    | succ n ih24 =>
      intro x18 st19 cb20 sb21 hvc
      replace hvc := hs39 n _ _ _ _ hvc
      refine j_iload_n hC dX1_init_37 rfl 1 rfl ?_
      refine j_bipush hC (nI 6) dX1_init_38 rfl ?_
      refine j_icmp_ge (tgt := 64) hC dX1_init_40 rfl (fun c25 => ?_) (fun c25 => ?_)
      · replace hvc := hvc.1 c25
        exact hret _ _ _ _ _ dX1_init_64 hvc
      · replace hvc := hvc.2 c25
        refine j_aload_n hC dX1_init_43 rfl 0 rfl ?_
        obtain ⟨o26, ⟨fs, hr, hv⟩, hvc⟩ := hvc
        refine j_get hC fkX1_25_X1 dX1_init_44 hr hv ?_
        clear hv hr fs
        refine j_iload_n hC dX1_init_47 rfl 1 rfl ?_
        refine j_ldcS hC (tx := "abcdef") (k := 0) (List.mem_of_getElem? (i := 0) rfl) dX1_init_48 ?_
        obtain ⟨o27, ho27⟩ : ∃ z : Option Nat, z = E.2.2.2.2.1 0 := ⟨_, rfl⟩
        rw [← ho27]
        replace hvc := hvc _ ho27
        refine j_iload_n hC dX1_init_50 rfl 1 rfl ?_
        refine j_iload_n hC dX1_init_51 rfl 1 rfl ?_
        refine j_iconst hC (nI 1) dX1_init_52 rfl ?_
        refine j_iadd hC dX1_init_53 ?_
        obtain ⟨a28, rfl, hvc⟩ := hvc
        obtain ⟨mc31, ms32, h1, h2, hvc⟩ := hvc
        obtain ⟨⟨fs, hr⟩, hvc⟩ := hvc
        refine j_callV (As := [.int x18, .int (x18 + (nI 1))]) (rest := [.int x18, va_rf o26]) (n := 2) (ci := 1) hC hvc (lw_V q177 q178 q179 q44 q180) (by decide +kernel) (g_rm hR rfl rfl) rfl hr rfl rfl (g_sum rfl) dX1_init_54 h1 h2 (g_Ka fun o29 st30 hv2 hx => ?_)
        replace hvc := hv2 hx; clear hx hv2
        clear hr fs
        obtain ⟨a33, rfl, hvc⟩ := hvc
        obtain ⟨n34, f35, j36, hm, hi, hj, hJ, hv, hvc⟩ := hvc
        refine j_ix1 hi ?_
        refine j_aast hC hm hj hJ (ci := 1) rfl hv dX1_init_57 (fun st37 e1 => ?_)
        replace hvc := hvc st37 e1; clear hm hi hj hJ hv e1
        refine j_iinc (lv0 := [(0, va_rf (some a0))]) hC (nI 1) dX1_init_58 1 rfl rfl rfl [0] rfl (g_okS.h rfl g_c1 rfl) ?_
        refine j_goto (tgt := 37) hC dX1_init_61 rfl ?_
        exact j_sub [1, 0] rfl (ih24 (x18 + (nI 1)) st37 (cb20 - mc31) (sb21 - ms32) hvc)
  exact j_sub [1, 0] rfl (kh23 n40 (nI 0) st17 ((((cb - 1) - mc4) - 1) - 1) ((((sb - 4) - ms5) - 9) - n13) hvc)
theorem wk_X1_init {l : Launch} {E : g_E} {a0 : Nat} {st : g_St} {mc ms : Nat} {Q : g_St → Prop} (hvc : vc_X1_init l E a0 st mc ms Q) : wp_X1_init l E mc ms [va_rf (some a0)] st Q :=
  g_enter (lv0 := [(0, va_rf (some a0))]) (plainFor_of_name (by decide +kernel)) (by simp [lv_args, g_c1, g_ci, g_cL]) (by simp [lg_sl, g_c1, g_ci, g_cL]) (fun p e s m args below meth c hC => wb_X1_init hC ⟨Nat.le_refl _, Nat.le_refl _⟩ (fun pc lv st1 cb sb hd hq => j_return hC rfl hd ⟨rfl, hq⟩) hvc)
abbrev wp_X1_wipe (l : Launch) (E : g_E) (mc ms : Nat) (av : List Value) (st : g_St) (Q : Int32 → g_St → Prop) : Prop := g_WPi l E yX1_wipe cX1_wipe 2 (some .int) 6 152 mc ms av st Q
def vc_X1_wipe (l : Launch) (E : g_E) (a0 : Nat) (st : g_St) (cb sb : Nat) (Q : Int32 → g_St → Prop) : Prop :=
  ∃ o1 : Option Nat, g_gr st a0 15 0 o1 ∧ ∃ a2 : Nat, o1 = some a2 ∧ g_is st a2 0 ∧ wp_J1_length l E 0 0 [va_rf (some a2)] st (fun x3 stx => stx = st ∧ ∃ o4 : Option Nat, g_gr st a0 15 0 o4 ∧ ∃ a5 : Nat, o4 = some a5 ∧ ∃ mc7 ms8 : Nat, mc7 ≤ cb ∧ ms8 ≤ sb ∧ g_is st a5 0 ∧ wp_J1_setLength l E mc7 ms8 [va_rf (some a5), .int (nI 0)] st (fun st6 => g_Ext st st6 → Q x3 st6))
set_option maxHeartbeats 4000000 in
theorem wb_X1_wipe {p : Program} {l : Launch} {e : Env} {R : Room} {s : State} {m : MethodId} {args : Array Value} {below : List Frame} {meth : Method} {c : Code} {E : g_E} {st0 : g_St} {Z : State → Prop} (hC : g_Cx p s m args meth c cX1_wipe 2 "Stemspan" (some .int) "wipe" E st0) (hR : g_Rm 6 152 R) {a0 : Nat} {st : g_St} {cb sb : Nat} {Q : Int32 → g_St → Prop} (hret : ∀ (pc : Nat) (lv : List (Nat × Value)) (v : Int32) (st1 : g_St) (cb sb : Nat), decode cX1_wipe pc = .ok (.ireturn, 1) → narrow .int (.int v) = .int v → Q v st1 → g_J p l e R s m args below meth c 2 E st0 Z pc lv [.int v] st1 cb sb) (hvc : vc_X1_wipe l E a0 st cb sb Q) : g_J p l e R s m args below meth c 2 E st0 Z 0 [(0, va_rf (some a0))] [] st cb sb := by
  unfold vc_X1_wipe at hvc
  refine j_aload_n hC dX1_wipe_0 rfl 0 rfl ?_
  obtain ⟨o1, ⟨fs, hr, hv⟩, hvc⟩ := hvc
  refine j_get hC fkX1_10_X1 dX1_wipe_1 hr hv ?_
  clear hv hr fs
  obtain ⟨a2, rfl, hvc⟩ := hvc
  obtain ⟨⟨fs, hr⟩, hvc⟩ := hvc
  refine j_callV (As := []) (rest := []) (n := 0) (ci := 0) hC hvc (lw_V q497 q416 q2451 q43 q417) (by decide +kernel) (g_rm hR rfl rfl) rfl hr rfl rfl (g_sum rfl) dX1_wipe_4 (Nat.zero_le _) (Nat.zero_le _) (g_Kip fun x3 hv2 => ?_)
  replace hvc := hv2; clear hv2
  clear hr fs
  refine j_istore_n (lv0 := [(0, va_rf (some a0))]) hC dX1_wipe_7 rfl rfl [0] rfl (g_okS.h rfl g_c1 rfl) ?_
  refine j_aload_n hC dX1_wipe_8 rfl 1 rfl ?_
  obtain ⟨o4, ⟨fs, hr, hv⟩, hvc⟩ := hvc
  refine j_get hC fkX1_10_X1 dX1_wipe_9 hr hv ?_
  clear hv hr fs
  refine j_iconst hC (nI 0) dX1_wipe_12 rfl ?_
  obtain ⟨a5, rfl, hvc⟩ := hvc
  obtain ⟨mc7, ms8, h1, h2, hvc⟩ := hvc
  obtain ⟨⟨fs, hr⟩, hvc⟩ := hvc
  refine j_callV (As := [.int (nI 0)]) (rest := []) (n := 1) (ci := 0) hC hvc (lw_V q498 q499 q500 q43 q501) (by decide +kernel) (g_rm hR rfl rfl) rfl hr rfl rfl (g_sum rfl) dX1_wipe_13 h1 h2 (g_Kv fun st6 hv2 hx => ?_)
  replace hvc := hv2 hx; clear hx hv2
  clear hr fs
  refine j_iload_n hC dX1_wipe_16 rfl 0 rfl ?_
  exact hret _ _ _ _ _ _ dX1_wipe_17 rfl hvc
theorem wk_X1_wipe {l : Launch} {E : g_E} {a0 : Nat} {st : g_St} {mc ms : Nat} {Q : Int32 → g_St → Prop} (hvc : vc_X1_wipe l E a0 st mc ms Q) : wp_X1_wipe l E mc ms [va_rf (some a0)] st Q :=
  g_enter (lv0 := [(0, va_rf (some a0))]) (plainFor_of_name (by decide +kernel)) (by simp [lv_args, g_c1, g_ci, g_cL]) (by simp [lg_sl, g_c1, g_ci, g_cL]) (fun p e s m args below meth c hC => wb_X1_wipe hC ⟨Nat.le_refl _, Nat.le_refl _⟩ (fun pc lv v st1 cb sb hd hn hq => j_ireturn hC rfl hn hd (g_iv hq)) hvc)
abbrev wp_X1_turn (l : Launch) (E : g_E) (mc ms : Nat) (av : List Value) (st : g_St) (Q : Int32 → g_St → Prop) : Prop := g_WPi l E yX1_turn cX1_turn 2 (some .boolean) 7 172 mc ms av st Q
def vc_X1_turn (l : Launch) (E : g_E) (a0 : Nat) (st : g_St) (cb sb : Nat) (Q : Int32 → g_St → Prop) : Prop :=
  ∃ o1 : Option Nat, g_gr st a0 15 0 o1 ∧ ∃ a2 : Nat, o1 = some a2 ∧ ∃ mc5 ms6 : Nat, mc5 ≤ cb ∧ ms6 ≤ sb ∧ g_is st a2 0 ∧ wp_J1_toString l E mc5 ms6 [va_rf (some a2)] st (fun o3 st4 => g_Ext st st4 → ∃ o7 : Option Nat, g_gr st4 a0 15 0 o7 ∧ ∃ a8 : Nat, o7 = some a8 ∧ g_is st4 a8 0 ∧ wp_J1_reverse l E 0 0 [va_rf (some a8)] st4 (fun o9 st10 => g_Ext st4 st10 → ∃ o11 : Option Nat, g_gr st10 a0 15 0 o11 ∧ ∃ a12 : Nat, o11 = some a12 ∧ ∃ mc15 ms16 : Nat, mc15 ≤ (cb - mc5) ∧ ms16 ≤ (sb - ms6) ∧ g_is st10 a12 0 ∧ wp_J1_toString l E mc15 ms16 [va_rf (some a12)] st10 (fun o13 st14 => g_Ext st10 st14 → ∃ a17 : Nat, o3 = some a17 ∧ g_is st14 a17 1 ∧ wp_J2_equals l E 0 0 [va_rf (some a17), va_rf o13] st14 (fun x18 stx => stx = st14 ∧ narrow .boolean (.int x18) = .int x18 ∧ Q x18 st14))))
set_option maxHeartbeats 4000000 in
theorem wb_X1_turn {p : Program} {l : Launch} {e : Env} {R : Room} {s : State} {m : MethodId} {args : Array Value} {below : List Frame} {meth : Method} {c : Code} {E : g_E} {st0 : g_St} {Z : State → Prop} (hC : g_Cx p s m args meth c cX1_turn 2 "Stemspan" (some .boolean) "turn" E st0) (hR : g_Rm 7 172 R) {a0 : Nat} {st : g_St} {cb sb : Nat} {Q : Int32 → g_St → Prop} (hret : ∀ (pc : Nat) (lv : List (Nat × Value)) (v : Int32) (st1 : g_St) (cb sb : Nat), decode cX1_turn pc = .ok (.ireturn, 1) → narrow .boolean (.int v) = .int v → Q v st1 → g_J p l e R s m args below meth c 2 E st0 Z pc lv [.int v] st1 cb sb) (hvc : vc_X1_turn l E a0 st cb sb Q) : g_J p l e R s m args below meth c 2 E st0 Z 0 [(0, va_rf (some a0))] [] st cb sb := by
  unfold vc_X1_turn at hvc
  refine j_aload_n hC dX1_turn_0 rfl 0 rfl ?_
  obtain ⟨o1, ⟨fs, hr, hv⟩, hvc⟩ := hvc
  refine j_get hC fkX1_10_X1 dX1_turn_1 hr hv ?_
  clear hv hr fs
  obtain ⟨a2, rfl, hvc⟩ := hvc
  obtain ⟨mc5, ms6, h1, h2, hvc⟩ := hvc
  obtain ⟨⟨fs, hr⟩, hvc⟩ := hvc
  refine j_callV (As := []) (rest := []) (n := 0) (ci := 0) hC hvc (lw_V q570 q396 q397 q43 q398) (by decide +kernel) (g_rm hR rfl rfl) rfl hr rfl rfl (g_sum rfl) dX1_turn_4 h1 h2 (g_Ka fun o3 st4 hv2 hx => ?_)
  replace hvc := hv2 hx; clear hx hv2
  clear hr fs
  refine j_astore_n (lv0 := [(0, va_rf (some a0))]) hC dX1_turn_7 rfl rfl [0] rfl (g_okS.h rfl g_c1 rfl) ?_
  refine j_aload_n hC dX1_turn_8 rfl 1 rfl ?_
  obtain ⟨o7, ⟨fs, hr, hv⟩, hvc⟩ := hvc
  refine j_get hC fkX1_10_X1 dX1_turn_9 hr hv ?_
  clear hv hr fs
  obtain ⟨a8, rfl, hvc⟩ := hvc
  obtain ⟨⟨fs, hr⟩, hvc⟩ := hvc
  refine j_callV (As := []) (rest := []) (n := 0) (ci := 0) hC hvc (lw_V q571 q572 q573 q43 q574) (by decide +kernel) (g_rm hR rfl rfl) rfl hr rfl rfl (g_sum rfl) dX1_turn_12 (Nat.zero_le _) (Nat.zero_le _) (g_Ka fun o9 st10 hv2 hx => ?_)
  replace hvc := hv2 hx; clear hx hv2
  clear hr fs
  refine j_pop hC dX1_turn_15 g_c1 ?_
  refine j_aload_n hC dX1_turn_16 rfl 0 rfl ?_
  refine j_aload_n hC dX1_turn_17 rfl 1 rfl ?_
  obtain ⟨o11, ⟨fs, hr, hv⟩, hvc⟩ := hvc
  refine j_get hC fkX1_10_X1 dX1_turn_18 hr hv ?_
  clear hv hr fs
  obtain ⟨a12, rfl, hvc⟩ := hvc
  obtain ⟨mc15, ms16, h1, h2, hvc⟩ := hvc
  obtain ⟨⟨fs, hr⟩, hvc⟩ := hvc
  refine j_callV (As := []) (rest := [va_rf o3]) (n := 0) (ci := 0) hC hvc (lw_V q570 q396 q397 q43 q398) (by decide +kernel) (g_rm hR rfl rfl) rfl hr rfl rfl (g_sum rfl) dX1_turn_21 h1 h2 (g_Ka fun o13 st14 hv2 hx => ?_)
  replace hvc := hv2 hx; clear hx hv2
  clear hr fs
  obtain ⟨a17, rfl, hvc⟩ := hvc
  obtain ⟨⟨fs, hr⟩, hvc⟩ := hvc
  refine j_callV (As := [va_rf o13]) (rest := []) (n := 1) (ci := 1) hC hvc (lw_V q602 q603 q604 q44 q605) (by decide +kernel) (g_rm hR rfl rfl) rfl hr rfl rfl (g_sum rfl) dX1_turn_24 (Nat.zero_le _) (Nat.zero_le _) (g_Kip fun x18 hv2 => ?_)
  replace hvc := hv2; clear hv2
  clear hr fs
  exact hret _ _ _ _ _ _ dX1_turn_27 hvc.1 hvc.2
theorem wk_X1_turn {l : Launch} {E : g_E} {a0 : Nat} {st : g_St} {mc ms : Nat} {Q : Int32 → g_St → Prop} (hvc : vc_X1_turn l E a0 st mc ms Q) : wp_X1_turn l E mc ms [va_rf (some a0)] st Q :=
  g_enter (lv0 := [(0, va_rf (some a0))]) (plainFor_of_name (by decide +kernel)) (by simp [lv_args, g_c1, g_ci, g_cL]) (by simp [lg_sl, g_c1, g_ci, g_cL]) (fun p e s m args below meth c hC => wb_X1_turn hC ⟨Nat.le_refl _, Nat.le_refl _⟩ (fun pc lv v st1 cb sb hd hn hq => j_ireturn hC rfl hn hd (g_iv hq)) hvc)
abbrev wp_X1_words (l : Launch) (E : g_E) (mc ms : Nat) (av : List Value) (st : g_St) (Q : Int32 → g_St → Prop) : Prop := g_WPi l E yX1_words cX1_words 1 (some .int) 2 60 mc ms av st Q
def vc_X1_words (l : Launch) (E : g_E) (a0 : Nat) (st : g_St) (Q : Int32 → g_St → Prop) : Prop :=
  ∃ o1 : Option Nat, g_gr st a0 15 1 o1 ∧ ∃ a2 : Nat, o1 = some a2 ∧ g_is st a2 3 ∧ wp_J5_size l E 0 0 [va_rf (some a2)] st (fun x3 stx => stx = st ∧ Q x3 st)
set_option maxHeartbeats 4000000 in
theorem wb_X1_words {p : Program} {l : Launch} {e : Env} {R : Room} {s : State} {m : MethodId} {args : Array Value} {below : List Frame} {meth : Method} {c : Code} {E : g_E} {st0 : g_St} {Z : State → Prop} (hC : g_Cx p s m args meth c cX1_words 1 "Stemspan" (some .int) "words" E st0) (hR : g_Rm 2 60 R) {a0 : Nat} {st : g_St} {cb sb : Nat} {Q : Int32 → g_St → Prop} (hret : ∀ (pc : Nat) (lv : List (Nat × Value)) (v : Int32) (st1 : g_St) (cb sb : Nat), decode cX1_words pc = .ok (.ireturn, 1) → narrow .int (.int v) = .int v → Q v st1 → g_J p l e R s m args below meth c 1 E st0 Z pc lv [.int v] st1 cb sb) (hvc : vc_X1_words l E a0 st Q) : g_J p l e R s m args below meth c 1 E st0 Z 0 [(0, va_rf (some a0))] [] st cb sb := by
  unfold vc_X1_words at hvc
  refine j_aload_n hC dX1_words_0 rfl 0 rfl ?_
  obtain ⟨o1, ⟨fs, hr, hv⟩, hvc⟩ := hvc
  refine j_get hC fkX1_19_X1 dX1_words_1 hr hv ?_
  clear hv hr fs
  obtain ⟨a2, rfl, hvc⟩ := hvc
  obtain ⟨⟨fs, hr⟩, hvc⟩ := hvc
  refine j_callV (As := []) (rest := []) (n := 0) (ci := 3) hC hvc (lw_V q614 q615 q616 q47 q617) (by decide +kernel) (g_rm hR rfl rfl) rfl hr rfl rfl (g_sum rfl) dX1_words_4 (Nat.zero_le _) (Nat.zero_le _) (g_Kip fun x3 hv2 => ?_)
  replace hvc := hv2; clear hv2
  clear hr fs
  exact hret _ _ _ _ _ _ dX1_words_7 rfl hvc
theorem wk_X1_words {l : Launch} {E : g_E} {a0 : Nat} {st : g_St} {mc ms : Nat} {Q : Int32 → g_St → Prop} (hvc : vc_X1_words l E a0 st Q) : wp_X1_words l E mc ms [va_rf (some a0)] st Q :=
  g_enter (lv0 := [(0, va_rf (some a0))]) (plainFor_of_name (by decide +kernel)) (by simp [lv_args, g_c1, g_ci, g_cL]) (by simp [lg_sl, g_c1, g_ci, g_cL]) (fun p e s m args below meth c hC => wb_X1_words hC ⟨Nat.le_refl _, Nat.le_refl _⟩ (fun pc lv v st1 cb sb hd hn hq => j_ireturn hC rfl hn hd (g_iv hq)) hvc)
abbrev wp_X1_rank (l : Launch) (E : g_E) (mc ms : Nat) (av : List Value) (st : g_St) (Q : Int32 → g_St → Prop) : Prop := g_WPi l E yX1_rank cX1_rank 1 (some .int) 15 366 mc ms av st Q
def vc_X1_rank (l : Launch) (E : g_E) (a0 : Nat) (st : g_St) (cb sb : Nat) (Q : Int32 → g_St → Prop) : Prop :=
  ∃ o1 : Option Nat, g_gr st a0 15 1 o1 ∧ ∃ o2 : Option Nat, g_gr st a0 15 0 o2 ∧ ∃ a3 : Nat, o2 = some a3 ∧ ∃ mc6 ms7 : Nat, mc6 ≤ cb ∧ ms7 ≤ sb ∧ g_is st a3 0 ∧ wp_J1_toString l E mc6 ms7 [va_rf (some a3)] st (fun o4 st5 => g_Ext st st5 → ∃ a8 : Nat, o1 = some a8 ∧ ∃ mc11 ms12 : Nat, mc11 ≤ (cb - mc6) ∧ ms12 ≤ (sb - ms7) ∧ g_is st5 a8 3 ∧ wp_J5_headMap l E mc11 ms12 [va_rf (some a8), va_rf o4] st5 (fun o9 st10 => g_Ext st5 st10 → ∃ a13 : Nat, o9 = some a13 ∧ ∃ mc16 ms17 : Nat, mc16 ≤ ((cb - mc6) - mc11) ∧ ms17 ≤ ((sb - ms7) - ms12) ∧ g_is st10 a13 5 ∧ wp_J28_size l E mc16 ms17 [va_rf (some a13)] st10 (fun x14 st15 => g_Ext st10 st15 → Q x14 st15)))
set_option maxHeartbeats 4000000 in
theorem wb_X1_rank {p : Program} {l : Launch} {e : Env} {R : Room} {s : State} {m : MethodId} {args : Array Value} {below : List Frame} {meth : Method} {c : Code} {E : g_E} {st0 : g_St} {Z : State → Prop} (hC : g_Cx p s m args meth c cX1_rank 1 "Stemspan" (some .int) "rank" E st0) (hR : g_Rm 15 366 R) {a0 : Nat} {st : g_St} {cb sb : Nat} {Q : Int32 → g_St → Prop} (hret : ∀ (pc : Nat) (lv : List (Nat × Value)) (v : Int32) (st1 : g_St) (cb sb : Nat), decode cX1_rank pc = .ok (.ireturn, 1) → narrow .int (.int v) = .int v → Q v st1 → g_J p l e R s m args below meth c 1 E st0 Z pc lv [.int v] st1 cb sb) (hvc : vc_X1_rank l E a0 st cb sb Q) : g_J p l e R s m args below meth c 1 E st0 Z 0 [(0, va_rf (some a0))] [] st cb sb := by
  unfold vc_X1_rank at hvc
  refine j_aload_n hC dX1_rank_0 rfl 0 rfl ?_
  obtain ⟨o1, ⟨fs, hr, hv⟩, hvc⟩ := hvc
  refine j_get hC fkX1_19_X1 dX1_rank_1 hr hv ?_
  clear hv hr fs
  refine j_aload_n hC dX1_rank_4 rfl 0 rfl ?_
  obtain ⟨o2, ⟨fs, hr, hv⟩, hvc⟩ := hvc
  refine j_get hC fkX1_10_X1 dX1_rank_5 hr hv ?_
  clear hv hr fs
  obtain ⟨a3, rfl, hvc⟩ := hvc
  obtain ⟨mc6, ms7, h1, h2, hvc⟩ := hvc
  obtain ⟨⟨fs, hr⟩, hvc⟩ := hvc
  refine j_callV (As := []) (rest := [va_rf o1]) (n := 0) (ci := 0) hC hvc (lw_V q570 q396 q397 q43 q398) (by decide +kernel) (g_rm hR rfl rfl) rfl hr rfl rfl (g_sum rfl) dX1_rank_8 h1 h2 (g_Ka fun o4 st5 hv2 hx => ?_)
  replace hvc := hv2 hx; clear hx hv2
  clear hr fs
  obtain ⟨a8, rfl, hvc⟩ := hvc
  obtain ⟨mc11, ms12, h1, h2, hvc⟩ := hvc
  obtain ⟨⟨fs, hr⟩, hvc⟩ := hvc
  refine j_callV (As := [va_rf o4]) (rest := []) (n := 1) (ci := 3) hC hvc (lw_V q622 q623 q624 q47 q625) (by decide +kernel) (g_rm hR rfl rfl) rfl hr rfl rfl (g_sum rfl) dX1_rank_11 h1 h2 (g_Ka fun o9 st10 hv2 hx => ?_)
  replace hvc := hv2 hx; clear hx hv2
  clear hr fs
  obtain ⟨a13, rfl, hvc⟩ := hvc
  obtain ⟨mc16, ms17, h1, h2, hvc⟩ := hvc
  obtain ⟨⟨fs, hr⟩, hvc⟩ := hvc
  refine j_callFX_size (rest := []) hC hvc (g_rm hR rfl rfl) hr rfl (g_sum rfl) dX1_rank_14 h1 h2 (g_Ki fun x14 st15 hv2 hx => ?_)
  replace hvc := hv2 hx; clear hx hv2
  clear hr fs
  exact hret _ _ _ _ _ _ dX1_rank_19 rfl hvc
theorem wk_X1_rank {l : Launch} {E : g_E} {a0 : Nat} {st : g_St} {mc ms : Nat} {Q : Int32 → g_St → Prop} (hvc : vc_X1_rank l E a0 st mc ms Q) : wp_X1_rank l E mc ms [va_rf (some a0)] st Q :=
  g_enter (lv0 := [(0, va_rf (some a0))]) (plainFor_of_name (by decide +kernel)) (by simp [lv_args, g_c1, g_ci, g_cL]) (by simp [lg_sl, g_c1, g_ci, g_cL]) (fun p e s m args below meth c hC => wb_X1_rank hC ⟨Nat.le_refl _, Nat.le_refl _⟩ (fun pc lv v st1 cb sb hd hn hq => j_ireturn hC rfl hn hd (g_iv hq)) hvc)
abbrev wp_X1_behind (l : Launch) (E : g_E) (mc ms : Nat) (av : List Value) (st : g_St) (Q : Option Nat → g_St → Prop) : Prop := g_WPa l E yX1_behind cX1_behind 2 (some (.object "java/lang/String")) 7 172 mc ms av st Q
def vc_X1_behind (l : Launch) (E : g_E) (p0 : Option Nat) (st : g_St) (cb sb : Nat) (Q : Option Nat → g_St → Prop) : Prop :=
  1 ≤ cb ∧ 4 ≤ sb ∧ ∀ (q1 : Nat) (st2 : g_St), q1 = st.2.2 → st2 = g_new st (.inr (0, [va_rf none, .int 0, .int 0, .int 0])) → ∃ mc4 ms5 : Nat, mc4 ≤ (cb - 1) ∧ ms5 ≤ (sb - 4) ∧ wp_J1_init l E mc4 ms5 [va_rf (some q1)] st2 (fun st3 => g_Ext st2 st3 → ∃ mc8 ms9 : Nat, mc8 ≤ ((cb - 1) - mc4) ∧ ms9 ≤ ((sb - 4) - ms5) ∧ g_is st3 q1 0 ∧ wp_J1_append_2 l E mc8 ms9 [va_rf (some q1), va_rf p0] st3 (fun o6 st7 => g_Ext st3 st7 → ∃ mc12 ms13 : Nat, mc12 ≤ (((cb - 1) - mc4) - mc8) ∧ ms13 ≤ (((sb - 4) - ms5) - ms9) ∧ g_is st7 q1 0 ∧ wp_J1_append_3 l E mc12 ms13 [va_rf (some q1), .int (nI 103)] st7 (fun o10 st11 => g_Ext st7 st11 → ∃ mc16 ms17 : Nat, mc16 ≤ ((((cb - 1) - mc4) - mc8) - mc12) ∧ ms17 ≤ ((((sb - 4) - ms5) - ms9) - ms13) ∧ g_is st11 q1 0 ∧ wp_J1_toString l E mc16 ms17 [va_rf (some q1)] st11 (fun o14 st15 => g_Ext st11 st15 → Q o14 st15))))
set_option maxHeartbeats 4000000 in
theorem wb_X1_behind {p : Program} {l : Launch} {e : Env} {R : Room} {s : State} {m : MethodId} {args : Array Value} {below : List Frame} {meth : Method} {c : Code} {E : g_E} {st0 : g_St} {Z : State → Prop} (hC : g_Cx p s m args meth c cX1_behind 2 "Stemspan" (some (.object "java/lang/String")) "behind" E st0) (hR : g_Rm 7 172 R) {p0 : Option Nat} {st : g_St} {cb sb : Nat} {Q : Option Nat → g_St → Prop} (hret : ∀ (pc : Nat) (lv : List (Nat × Value)) (v : Option Nat) (st1 : g_St) (cb sb : Nat), decode cX1_behind pc = .ok (.areturn, 1) → Q v st1 → g_J p l e R s m args below meth c 2 E st0 Z pc lv [va_rf v] st1 cb sb) (hvc : vc_X1_behind l E p0 st cb sb Q) : g_J p l e R s m args below meth c 2 E st0 Z 0 [(0, va_rf p0)] [] st cb sb := by
  unfold vc_X1_behind at hvc
  obtain ⟨h1, h2, hvc⟩ := hvc
  refine j_new hC nwX1_7 dX1_behind_0 (n := 4) rfl h1 h2 (fun q1 st2 e1 e2 => ?_)
  replace hvc := hvc q1 st2 e1 e2; clear h1 h2 e1 e2
  refine j_dup hC dX1_behind_3 g_c1 ?_
  obtain ⟨mc4, ms5, h1, h2, hvc⟩ := hvc
  refine j_callI (As := []) (rest := [va_rf (some q1)]) (n := 0) hC hvc (lw_meth q105) q43 q103 q104 rfl (by decide +kernel) (g_rm hR rfl rfl) rfl rfl (g_sum rfl) dX1_behind_4 h1 h2 (g_Kv fun st3 hv2 hx => ?_)
  replace hvc := hv2 hx; clear hx hv2
  refine j_astore_n (lv0 := [(0, va_rf p0)]) hC dX1_behind_7 rfl rfl [0] rfl (g_okS.h rfl g_c1 rfl) ?_
  refine j_aload_n hC dX1_behind_8 rfl 0 rfl ?_
  refine j_aload_n hC dX1_behind_9 rfl 1 rfl ?_
  obtain ⟨mc8, ms9, h1, h2, hvc⟩ := hvc
  obtain ⟨⟨fs, hr⟩, hvc⟩ := hvc
  refine j_callV (As := [va_rf p0]) (rest := []) (n := 1) (ci := 0) hC hvc (lw_V q1170 q347 q348 q43 q349) (by decide +kernel) (g_rm hR rfl rfl) rfl hr rfl rfl (g_sum rfl) dX1_behind_10 h1 h2 (g_Ka fun o6 st7 hv2 hx => ?_)
  replace hvc := hv2 hx; clear hx hv2
  clear hr fs
  refine j_pop hC dX1_behind_13 g_c1 ?_
  refine j_aload_n hC dX1_behind_14 rfl 0 rfl ?_
  refine j_bipush hC (nI 103) dX1_behind_15 rfl ?_
  obtain ⟨mc12, ms13, h1, h2, hvc⟩ := hvc
  obtain ⟨⟨fs, hr⟩, hvc⟩ := hvc
  refine j_callV (As := [.int (nI 103)]) (rest := []) (n := 1) (ci := 0) hC hvc (lw_V q1171 q1172 q1173 q43 q1174) (by decide +kernel) (g_rm hR rfl rfl) rfl hr rfl rfl (g_sum rfl) dX1_behind_17 h1 h2 (g_Ka fun o10 st11 hv2 hx => ?_)
  replace hvc := hv2 hx; clear hx hv2
  clear hr fs
  refine j_pop hC dX1_behind_20 g_c1 ?_
  refine j_aload_n hC dX1_behind_21 rfl 0 rfl ?_
  obtain ⟨mc16, ms17, h1, h2, hvc⟩ := hvc
  obtain ⟨⟨fs, hr⟩, hvc⟩ := hvc
  refine j_callV (As := []) (rest := []) (n := 0) (ci := 0) hC hvc (lw_V q570 q396 q397 q43 q398) (by decide +kernel) (g_rm hR rfl rfl) rfl hr rfl rfl (g_sum rfl) dX1_behind_22 h1 h2 (g_Ka fun o14 st15 hv2 hx => ?_)
  replace hvc := hv2 hx; clear hx hv2
  clear hr fs
  exact hret _ _ _ _ _ _ dX1_behind_25 hvc
theorem wk_X1_behind {l : Launch} {E : g_E} {p0 : Option Nat} {st : g_St} {mc ms : Nat} {Q : Option Nat → g_St → Prop} (hvc : vc_X1_behind l E p0 st mc ms Q) : wp_X1_behind l E mc ms [va_rf p0] st Q :=
  g_enter (lv0 := [(0, va_rf p0)]) (plainFor_of_name (by decide +kernel)) (by simp [lv_args, g_c1, g_ci, g_cL]) (by simp [lg_sl, g_c1, g_ci, g_cL]) (fun p e s m args below meth c hC => wb_X1_behind hC ⟨Nat.le_refl _, Nat.le_refl _⟩ (fun pc lv v st1 cb sb hd hq => j_areturn hC rfl (by first | exact Or.inl ⟨_, rfl⟩ | exact Or.inr ⟨_, rfl⟩) hd (g_av hq)) hvc)
abbrev wp_X1_span (l : Launch) (E : g_E) (mc ms : Nat) (av : List Value) (st : g_St) (Q : Int32 → g_St → Prop) : Prop := g_WPi l E yX1_span cX1_span 2 (some .int) 15 366 mc ms av st Q
def vc_X1_span (l : Launch) (E : g_E) (a0 : Nat) (p0 : Option Nat) (st : g_St) (cb sb : Nat) (Q : Int32 → g_St → Prop) : Prop :=
  ∃ o1 : Option Nat, g_gr st a0 15 1 o1 ∧ ∃ mc4 ms5 : Nat, mc4 ≤ cb ∧ ms5 ≤ sb ∧ wp_X1_behind l E mc4 ms5 [va_rf p0] st (fun o2 st3 => g_Ext st st3 → ∃ a6 : Nat, o1 = some a6 ∧ ∃ mc9 ms10 : Nat, mc9 ≤ (cb - mc4) ∧ ms10 ≤ (sb - ms5) ∧ g_is st3 a6 3 ∧ wp_J5_subMap l E mc9 ms10 [va_rf (some a6), va_rf p0, va_rf o2] st3 (fun o7 st8 => g_Ext st3 st8 → ∃ a11 : Nat, o7 = some a11 ∧ ∃ mc14 ms15 : Nat, mc14 ≤ ((cb - mc4) - mc9) ∧ ms15 ≤ ((sb - ms5) - ms10) ∧ g_is st8 a11 5 ∧ wp_J28_size l E mc14 ms15 [va_rf (some a11)] st8 (fun x12 st13 => g_Ext st8 st13 → Q x12 st13)))
set_option maxHeartbeats 4000000 in
theorem wb_X1_span {p : Program} {l : Launch} {e : Env} {R : Room} {s : State} {m : MethodId} {args : Array Value} {below : List Frame} {meth : Method} {c : Code} {E : g_E} {st0 : g_St} {Z : State → Prop} (hC : g_Cx p s m args meth c cX1_span 2 "Stemspan" (some .int) "span" E st0) (hR : g_Rm 15 366 R) {a0 : Nat} {p0 : Option Nat} {st : g_St} {cb sb : Nat} {Q : Int32 → g_St → Prop} (hret : ∀ (pc : Nat) (lv : List (Nat × Value)) (v : Int32) (st1 : g_St) (cb sb : Nat), decode cX1_span pc = .ok (.ireturn, 1) → narrow .int (.int v) = .int v → Q v st1 → g_J p l e R s m args below meth c 2 E st0 Z pc lv [.int v] st1 cb sb) (hvc : vc_X1_span l E a0 p0 st cb sb Q) : g_J p l e R s m args below meth c 2 E st0 Z 0 [(0, va_rf (some a0)), (1, va_rf p0)] [] st cb sb := by
  unfold vc_X1_span at hvc
  refine j_aload_n hC dX1_span_0 rfl 0 rfl ?_
  obtain ⟨o1, ⟨fs, hr, hv⟩, hvc⟩ := hvc
  refine j_get hC fkX1_19_X1 dX1_span_1 hr hv ?_
  clear hv hr fs
  refine j_aload_n hC dX1_span_4 rfl 1 rfl ?_
  refine j_aload_n hC dX1_span_5 rfl 1 rfl ?_
  obtain ⟨mc4, ms5, h1, h2, hvc⟩ := hvc
  refine j_callS (As := [va_rf p0]) (rest := [va_rf p0, va_rf o1]) (n := 1) hC hvc (lw_S q1167 q1168 q41 q1169) (by decide +kernel) (g_rm hR rfl rfl) rfl rfl (g_sum rfl) dX1_span_6 h1 h2 (g_Ka fun o2 st3 hv2 hx => ?_)
  replace hvc := hv2 hx; clear hx hv2
  obtain ⟨a6, rfl, hvc⟩ := hvc
  obtain ⟨mc9, ms10, h1, h2, hvc⟩ := hvc
  obtain ⟨⟨fs, hr⟩, hvc⟩ := hvc
  refine j_callV (As := [va_rf p0, va_rf o2]) (rest := []) (n := 2) (ci := 3) hC hvc (lw_V q1193 q1194 q1195 q47 q1196) (by decide +kernel) (g_rm hR rfl rfl) rfl hr rfl rfl (g_sum rfl) dX1_span_9 h1 h2 (g_Ka fun o7 st8 hv2 hx => ?_)
  replace hvc := hv2 hx; clear hx hv2
  clear hr fs
  obtain ⟨a11, rfl, hvc⟩ := hvc
  obtain ⟨mc14, ms15, h1, h2, hvc⟩ := hvc
  obtain ⟨⟨fs, hr⟩, hvc⟩ := hvc
  refine j_callFX_size (rest := []) hC hvc (g_rm hR rfl rfl) hr rfl (g_sum rfl) dX1_span_12 h1 h2 (g_Ki fun x12 st13 hv2 hx => ?_)
  replace hvc := hv2 hx; clear hx hv2
  clear hr fs
  exact hret _ _ _ _ _ _ dX1_span_17 rfl hvc
theorem wk_X1_span {l : Launch} {E : g_E} {a0 : Nat} {p0 : Option Nat} {st : g_St} {mc ms : Nat} {Q : Int32 → g_St → Prop} (hvc : vc_X1_span l E a0 p0 st mc ms Q) : wp_X1_span l E mc ms [va_rf (some a0), va_rf p0] st Q :=
  g_enter (lv0 := [(0, va_rf (some a0)), (1, va_rf p0)]) (plainFor_of_name (by decide +kernel)) (by simp [lv_args, g_c1, g_ci, g_cL]) (by simp [lg_sl, g_c1, g_ci, g_cL]) (fun p e s m args below meth c hC => wb_X1_span hC ⟨Nat.le_refl _, Nat.le_refl _⟩ (fun pc lv v st1 cb sb hd hn hq => j_ireturn hC rfl hn hd (g_iv hq)) hvc)
abbrev wp_X1_begun (l : Launch) (E : g_E) (mc ms : Nat) (av : List Value) (st : g_St) (Q : Int32 → g_St → Prop) : Prop := g_WPi l E yX1_begun cX1_begun 1 (some .int) 16 387 mc ms av st Q
def vc_X1_begun (l : Launch) (E : g_E) (a0 : Nat) (st : g_St) (cb sb : Nat) (Q : Int32 → g_St → Prop) : Prop :=
  ∃ o1 : Option Nat, g_gr st a0 15 0 o1 ∧ ∃ a2 : Nat, o1 = some a2 ∧ ∃ mc5 ms6 : Nat, mc5 ≤ cb ∧ ms6 ≤ sb ∧ g_is st a2 0 ∧ wp_J1_toString l E mc5 ms6 [va_rf (some a2)] st (fun o3 st4 => g_Ext st st4 → ∃ mc9 ms10 : Nat, mc9 ≤ (cb - mc5) ∧ ms10 ≤ (sb - ms6) ∧ g_is st4 a0 15 ∧ wp_X1_span l E mc9 ms10 [va_rf (some a0), va_rf o3] st4 (fun x7 st8 => g_Ext st4 st8 → Q x7 st8))
set_option maxHeartbeats 4000000 in
theorem wb_X1_begun {p : Program} {l : Launch} {e : Env} {R : Room} {s : State} {m : MethodId} {args : Array Value} {below : List Frame} {meth : Method} {c : Code} {E : g_E} {st0 : g_St} {Z : State → Prop} (hC : g_Cx p s m args meth c cX1_begun 1 "Stemspan" (some .int) "begun" E st0) (hR : g_Rm 16 387 R) {a0 : Nat} {st : g_St} {cb sb : Nat} {Q : Int32 → g_St → Prop} (hret : ∀ (pc : Nat) (lv : List (Nat × Value)) (v : Int32) (st1 : g_St) (cb sb : Nat), decode cX1_begun pc = .ok (.ireturn, 1) → narrow .int (.int v) = .int v → Q v st1 → g_J p l e R s m args below meth c 1 E st0 Z pc lv [.int v] st1 cb sb) (hvc : vc_X1_begun l E a0 st cb sb Q) : g_J p l e R s m args below meth c 1 E st0 Z 0 [(0, va_rf (some a0))] [] st cb sb := by
  unfold vc_X1_begun at hvc
  refine j_aload_n hC dX1_begun_0 rfl 0 rfl ?_
  refine j_aload_n hC dX1_begun_1 rfl 0 rfl ?_
  obtain ⟨o1, ⟨fs, hr, hv⟩, hvc⟩ := hvc
  refine j_get hC fkX1_10_X1 dX1_begun_2 hr hv ?_
  clear hv hr fs
  obtain ⟨a2, rfl, hvc⟩ := hvc
  obtain ⟨mc5, ms6, h1, h2, hvc⟩ := hvc
  obtain ⟨⟨fs, hr⟩, hvc⟩ := hvc
  refine j_callV (As := []) (rest := [va_rf (some a0)]) (n := 0) (ci := 0) hC hvc (lw_V q570 q396 q397 q43 q398) (by decide +kernel) (g_rm hR rfl rfl) rfl hr rfl rfl (g_sum rfl) dX1_begun_5 h1 h2 (g_Ka fun o3 st4 hv2 hx => ?_)
  replace hvc := hv2 hx; clear hx hv2
  clear hr fs
  obtain ⟨mc9, ms10, h1, h2, hvc⟩ := hvc
  obtain ⟨⟨fs, hr⟩, hvc⟩ := hvc
  refine j_callV (As := [va_rf o3]) (rest := []) (n := 1) (ci := 15) hC hvc (lw_V q1163 q1165 qs1 q41 q1166) (by decide +kernel) (g_rm hR rfl rfl) rfl hr rfl rfl (g_sum rfl) dX1_begun_8 h1 h2 (g_Ki fun x7 st8 hv2 hx => ?_)
  replace hvc := hv2 hx; clear hx hv2
  clear hr fs
  exact hret _ _ _ _ _ _ dX1_begun_11 rfl hvc
theorem wk_X1_begun {l : Launch} {E : g_E} {a0 : Nat} {st : g_St} {mc ms : Nat} {Q : Int32 → g_St → Prop} (hvc : vc_X1_begun l E a0 st mc ms Q) : wp_X1_begun l E mc ms [va_rf (some a0)] st Q :=
  g_enter (lv0 := [(0, va_rf (some a0))]) (plainFor_of_name (by decide +kernel)) (by simp [lv_args, g_c1, g_ci, g_cL]) (by simp [lg_sl, g_c1, g_ci, g_cL]) (fun p e s m args below meth c hC => wb_X1_begun hC ⟨Nat.le_refl _, Nat.le_refl _⟩ (fun pc lv v st1 cb sb hd hn hq => j_ireturn hC rfl hn hd (g_iv hq)) hvc)
abbrev wp_X1_sum (l : Launch) (E : g_E) (mc ms : Nat) (av : List Value) (st : g_St) (Q : Int32 → g_St → Prop) : Prop := g_WPi l E yX1_sum cX1_sum 5 (some .int) 15 366 mc ms av st Q
def vc_X1_sum (l : Launch) (E : g_E) (a0 : Nat) (st : g_St) (cb sb : Nat) (Q : Int32 → g_St → Prop) : Prop :=
  ∃ o1 : Option Nat, g_gr st a0 15 0 o1 ∧ ∃ a2 : Nat, o1 = some a2 ∧ ∃ mc5 ms6 : Nat, mc5 ≤ cb ∧ ms6 ≤ sb ∧ g_is st a2 0 ∧ wp_J1_toString l E mc5 ms6 [va_rf (some a2)] st (fun o3 st4 => g_Ext st st4 → ∃ o7 : Option Nat, g_gr st4 a0 15 1 o7 ∧ ∃ mc10 ms11 : Nat, mc10 ≤ (cb - mc5) ∧ ms11 ≤ (sb - ms6) ∧ wp_X1_behind l E mc10 ms11 [va_rf o3] st4 (fun o8 st9 => g_Ext st4 st9 → ∃ a12 : Nat, o7 = some a12 ∧ ∃ mc15 ms16 : Nat, mc15 ≤ ((cb - mc5) - mc10) ∧ ms16 ≤ ((sb - ms6) - ms11) ∧ g_is st9 a12 3 ∧ wp_J5_subMap l E mc15 ms16 [va_rf (some a12), va_rf o3, va_rf o8] st9 (fun o13 st14 => g_Ext st9 st14 → ∃ a17 : Nat, o13 = some a17 ∧ ∃ mc20 ms21 : Nat, mc20 ≤ (((cb - mc5) - mc10) - mc15) ∧ ms21 ≤ (((sb - ms6) - ms11) - ms16) ∧ g_is st14 a17 5 ∧ wp_J4_values l E mc20 ms21 [va_rf (some a17)] st14 (fun o18 st19 => g_Ext st14 st19 → ∃ a22 : Nat, o18 = some a22 ∧ ∃ mc25 ms26 : Nat, mc25 ≤ ((((cb - mc5) - mc10) - mc15) - mc20) ∧ ms26 ≤ ((((sb - ms6) - ms11) - ms16) - ms21) ∧ g_is st19 a22 12 ∧ wp_J43_iterator l E mc25 ms26 [va_rf (some a22)] st19 (fun o23 st24 => g_Ext st19 st24 → g_lp2 (fun (K29 : Int32 → g_St → Prop) (x27 : Int32) (st28 : g_St) => ∃ a32 : Nat, o23 = some a32 ∧ g_is st28 a32 13 ∧ wp_J44_hasNext l E 0 0 [va_rf (some a32)] st28 (fun x33 stx => stx = st28 ∧ (x33 = 0 → Q x27 st28) ∧ (¬ x33 = 0 → g_is st28 a32 13 ∧ wp_J44_next l E 0 0 [va_rf (some a32)] st28 (fun o35 st36 => g_Ext st28 st36 → g_isN st36 o35 2 ∧ ∃ a37 : Nat, o35 = some a37 ∧ g_is st36 a37 2 ∧ wp_J14_intValue l E 0 0 [va_rf (some a37)] st36 (fun x38 stx => stx = st36 ∧ K29 (x27 + x38) st36))))) (nI 0) st24)))))
set_option maxHeartbeats 4000000 in
theorem wb_X1_sum {p : Program} {l : Launch} {e : Env} {R : Room} {s : State} {m : MethodId} {args : Array Value} {below : List Frame} {meth : Method} {c : Code} {E : g_E} {st0 : g_St} {Z : State → Prop} (hC : g_Cx p s m args meth c cX1_sum 5 "Stemspan" (some .int) "sum" E st0) (hR : g_Rm 15 366 R) {a0 : Nat} {st : g_St} {cb sb : Nat} {Q : Int32 → g_St → Prop} (hret : ∀ (pc : Nat) (lv : List (Nat × Value)) (v : Int32) (st1 : g_St) (cb sb : Nat), decode cX1_sum pc = .ok (.ireturn, 1) → narrow .int (.int v) = .int v → Q v st1 → g_J p l e R s m args below meth c 5 E st0 Z pc lv [.int v] st1 cb sb) (hvc : vc_X1_sum l E a0 st cb sb Q) : g_J p l e R s m args below meth c 5 E st0 Z 0 [(0, va_rf (some a0))] [] st cb sb := by
  unfold vc_X1_sum at hvc
  refine j_aload_n hC dX1_sum_0 rfl 0 rfl ?_
  obtain ⟨o1, ⟨fs, hr, hv⟩, hvc⟩ := hvc
  refine j_get hC fkX1_10_X1 dX1_sum_1 hr hv ?_
  clear hv hr fs
  obtain ⟨a2, rfl, hvc⟩ := hvc
  obtain ⟨mc5, ms6, h1, h2, hvc⟩ := hvc
  obtain ⟨⟨fs, hr⟩, hvc⟩ := hvc
  refine j_callV (As := []) (rest := []) (n := 0) (ci := 0) hC hvc (lw_V q570 q396 q397 q43 q398) (by decide +kernel) (g_rm hR rfl rfl) rfl hr rfl rfl (g_sum rfl) dX1_sum_4 h1 h2 (g_Ka fun o3 st4 hv2 hx => ?_)
  replace hvc := hv2 hx; clear hx hv2
  clear hr fs
  refine j_astore_n (lv0 := [(0, va_rf (some a0))]) hC dX1_sum_7 rfl rfl [0] rfl (g_okS.h rfl g_c1 rfl) ?_
  refine j_iconst hC (nI 0) dX1_sum_8 rfl ?_
  refine j_istore_n (lv0 := [(1, va_rf o3), (0, va_rf (some a0))]) hC dX1_sum_9 rfl rfl [0, 1] rfl (g_okS.h rfl g_c1 rfl) ?_
  refine j_aload_n hC dX1_sum_10 rfl 2 rfl ?_
  obtain ⟨o7, ⟨fs, hr, hv⟩, hvc⟩ := hvc
  refine j_get hC fkX1_19_X1 dX1_sum_11 hr hv ?_
  clear hv hr fs
  refine j_aload_n hC dX1_sum_14 rfl 1 rfl ?_
  refine j_aload_n hC dX1_sum_15 rfl 1 rfl ?_
  obtain ⟨mc10, ms11, h1, h2, hvc⟩ := hvc
  refine j_callS (As := [va_rf o3]) (rest := [va_rf o3, va_rf o7]) (n := 1) hC hvc (lw_S q1167 q1168 q41 q1169) (by decide +kernel) (g_rm hR rfl rfl) rfl rfl (g_sum rfl) dX1_sum_16 h1 h2 (g_Ka fun o8 st9 hv2 hx => ?_)
  replace hvc := hv2 hx; clear hx hv2
  obtain ⟨a12, rfl, hvc⟩ := hvc
  obtain ⟨mc15, ms16, h1, h2, hvc⟩ := hvc
  obtain ⟨⟨fs, hr⟩, hvc⟩ := hvc
  refine j_callV (As := [va_rf o3, va_rf o8]) (rest := []) (n := 2) (ci := 3) hC hvc (lw_V q1193 q1194 q1195 q47 q1196) (by decide +kernel) (g_rm hR rfl rfl) rfl hr rfl rfl (g_sum rfl) dX1_sum_19 h1 h2 (g_Ka fun o13 st14 hv2 hx => ?_)
  replace hvc := hv2 hx; clear hx hv2
  clear hr fs
  obtain ⟨a17, rfl, hvc⟩ := hvc
  obtain ⟨mc20, ms21, h1, h2, hvc⟩ := hvc
  obtain ⟨⟨fs, hr⟩, hvc⟩ := hvc
  refine j_callF (As := []) (rest := []) (n := 0) (x := ⟨"java/util/SortedMap", "values", "()Ljava/util/Collection;"⟩) (C := "java/util/TreeMap$AscendingSubMap") (ci := 5) hC hvc (lw_F q1206 q1224 q1226 q46 q1228) gf_6 (by decide +kernel) (g_rm hR rfl rfl) rfl hr rfl rfl (g_sum rfl) dX1_sum_22 h1 h2 (g_Ka fun o18 st19 hv2 hx => ?_)
  replace hvc := hv2 hx; clear hx hv2
  clear hr fs
  obtain ⟨a22, rfl, hvc⟩ := hvc
  obtain ⟨mc25, ms26, h1, h2, hvc⟩ := hvc
  obtain ⟨⟨fs, hr⟩, hvc⟩ := hvc
  refine j_callF (As := []) (rest := []) (n := 0) (x := ⟨"java/util/Collection", "iterator", "()Ljava/util/Iterator;"⟩) (C := "java/util/AbstractMap$2") (ci := 12) hC hvc (lw_F q1241 q1245 q1247 q89 q1249) gf_28 (by decide +kernel) (g_rm hR rfl rfl) rfl hr rfl rfl (g_sum rfl) dX1_sum_27 h1 h2 (g_Ka fun o23 st24 hv2 hx => ?_)
  replace hvc := hv2 hx; clear hx hv2
  clear hr fs
  refine j_astore_n (lv0 := [(2, .int (nI 0)), (1, va_rf o3), (0, va_rf (some a0))]) hC dX1_sum_32 rfl rfl [0, 1, 2] rfl (g_okS.h rfl rfl rfl) ?_
  replace hvc := g_lp2_o hvc
  obtain ⟨K29, hz39, hs40, n41, hvc⟩ := hvc
  have kh30 : ∀ (n : Nat) (x27 : Int32) (st28 : g_St), K29 n x27 st28 → g_J p l e R s m args below meth c 5 E st0 Z 33 [(2, .int x27), (3, va_rf o23)] [] st28 (((((cb - mc5) - mc10) - mc15) - mc20) - mc25) (((((sb - ms6) - ms11) - ms16) - ms21) - ms26) := by
    clear hvc
    intro n
    induction n with
    | zero => intro x27 st28 hvc; exact absurd hvc (hz39 _ _)
    | succ n ih31 =>
      intro x27 st28 hvc
      replace hvc := hs40 n _ _ hvc
      refine j_aload_n hC dX1_sum_33 rfl 1 rfl ?_
      obtain ⟨a32, rfl, hvc⟩ := hvc
      obtain ⟨⟨fs, hr⟩, hvc⟩ := hvc
      refine j_callF (As := []) (rest := []) (n := 0) (x := ⟨"java/util/Iterator", "hasNext", "()Z"⟩) (C := "java/util/AbstractMap$2$1") (ci := 13) hC hvc (lw_F q1382 q1006 q1008 q90 q1010) gf_29 (by decide +kernel) (g_rm hR rfl rfl) rfl hr rfl rfl (g_sum rfl) dX1_sum_34 (Nat.zero_le _) (Nat.zero_le _) (g_Kip fun x33 hv2 => ?_)
      replace hvc := hv2; clear hv2
      clear hr fs
      refine j_if_eq (tgt := 64) hC dX1_sum_39 rfl (fun c34 => ?_) (fun c34 => ?_)
      · replace hvc := hvc.1 c34
        refine j_iload_n hC dX1_sum_64 rfl 0 rfl ?_
        exact hret _ _ _ _ _ _ dX1_sum_65 rfl hvc
      · replace hvc := hvc.2 c34
        refine j_aload_n hC dX1_sum_42 rfl 1 rfl ?_
        obtain ⟨⟨fs, hr⟩, hvc⟩ := hvc
        refine j_callF (As := []) (rest := []) (n := 0) (x := ⟨"java/util/Iterator", "next", "()Ljava/lang/Object;"⟩) (C := "java/util/AbstractMap$2$1") (ci := 13) hC hvc (lw_F q1384 q1038 q1040 q90 q1042) gf_30 (by decide +kernel) (g_rm hR rfl rfl) rfl hr rfl rfl (g_sum rfl) dX1_sum_43 (Nat.zero_le _) (Nat.zero_le _) (g_Ka fun o35 st36 hv2 hx => ?_)
        replace hvc := hv2 hx; clear hx hv2
        clear hr fs
        obtain ⟨hv, hvc⟩ := hvc
        refine j_cast hC (C := "java/lang/Integer") (ci := 2) q1385 rfl (Or.inl rfl) hv dX1_sum_48 ?_
        clear hv
        obtain ⟨a37, rfl, hvc⟩ := hvc
        obtain ⟨⟨fs, hr⟩, hvc⟩ := hvc
        refine j_callV (As := []) (rest := []) (n := 0) (ci := 2) hC hvc (lw_V q1386 q1387 q1388 q56 q1389) (by decide +kernel) (g_rm hR rfl rfl) rfl hr rfl rfl (g_sum rfl) dX1_sum_51 (Nat.zero_le _) (Nat.zero_le _) (g_Kip fun x38 hv2 => ?_)
        replace hvc := hv2; clear hv2
        clear hr fs
        refine j_istore (lv0 := [(3, va_rf (some a32)), (2, .int x27)]) hC dX1_sum_54 rfl [1, 0] rfl (g_okS.h rfl g_c1 rfl) ?_
        refine j_iload_n hC dX1_sum_56 rfl 2 rfl ?_
        refine j_iload hC dX1_sum_57 0 rfl ?_
        refine j_iadd hC dX1_sum_59 ?_
        refine j_istore_n (lv0 := [(4, .int x38), (3, va_rf (some a32))]) hC dX1_sum_60 rfl rfl [0, 1] rfl (g_okS.n rfl) ?_
        refine j_goto (tgt := 33) hC dX1_sum_61 rfl ?_
        exact j_sub [0, 2] rfl (ih31 (x27 + x38) st36 hvc)
  exact j_sub [1, 0] rfl (kh30 n41 (nI 0) st24 hvc)
theorem wk_X1_sum {l : Launch} {E : g_E} {a0 : Nat} {st : g_St} {mc ms : Nat} {Q : Int32 → g_St → Prop} (hvc : vc_X1_sum l E a0 st mc ms Q) : wp_X1_sum l E mc ms [va_rf (some a0)] st Q :=
  g_enter (lv0 := [(0, va_rf (some a0))]) (plainFor_of_name (by decide +kernel)) (by simp [lv_args, g_c1, g_ci, g_cL]) (by simp [lg_sl, g_c1, g_ci, g_cL]) (fun p e s m args below meth c hC => wb_X1_sum hC ⟨Nat.le_refl _, Nat.le_refl _⟩ (fun pc lv v st1 cb sb hd hn hq => j_ireturn hC rfl hn hd (g_iv hq)) hvc)
abbrev wp_X1_gone (l : Launch) (E : g_E) (mc ms : Nat) (av : List Value) (st : g_St) (Q : Int32 → g_St → Prop) : Prop := g_WPi l E yX1_gone cX1_gone 3 (some .int) 15 366 mc ms av st Q
def vc_X1_gone (l : Launch) (E : g_E) (a0 : Nat) (st : g_St) (cb sb : Nat) (Q : Int32 → g_St → Prop) : Prop :=
  ∃ o1 : Option Nat, g_gr st a0 15 1 o1 ∧ ∃ a2 : Nat, o1 = some a2 ∧ g_is st a2 3 ∧ wp_J5_size l E 0 0 [va_rf (some a2)] st (fun x3 stx => stx = st ∧ ∃ o4 : Option Nat, g_gr st a0 15 0 o4 ∧ ∃ a5 : Nat, o4 = some a5 ∧ ∃ mc8 ms9 : Nat, mc8 ≤ cb ∧ ms9 ≤ sb ∧ g_is st a5 0 ∧ wp_J1_toString l E mc8 ms9 [va_rf (some a5)] st (fun o6 st7 => g_Ext st st7 → ∃ o10 : Option Nat, g_gr st7 a0 15 1 o10 ∧ ∃ mc13 ms14 : Nat, mc13 ≤ (cb - mc8) ∧ ms14 ≤ (sb - ms9) ∧ wp_X1_behind l E mc13 ms14 [va_rf o6] st7 (fun o11 st12 => g_Ext st7 st12 → ∃ a15 : Nat, o10 = some a15 ∧ ∃ mc18 ms19 : Nat, mc18 ≤ ((cb - mc8) - mc13) ∧ ms19 ≤ ((sb - ms9) - ms14) ∧ g_is st12 a15 3 ∧ wp_J5_subMap l E mc18 ms19 [va_rf (some a15), va_rf o6, va_rf o11] st12 (fun o16 st17 => g_Ext st12 st17 → ∃ a20 : Nat, o16 = some a20 ∧ ∃ mc22 ms23 : Nat, mc22 ≤ (((cb - mc8) - mc13) - mc18) ∧ ms23 ≤ (((sb - ms9) - ms14) - ms19) ∧ g_is st17 a20 5 ∧ wp_J4_clear l E mc22 ms23 [va_rf (some a20)] st17 (fun st21 => g_Ext st17 st21 → ∃ o24 : Option Nat, g_gr st21 a0 15 1 o24 ∧ ∃ a25 : Nat, o24 = some a25 ∧ g_is st21 a25 3 ∧ wp_J5_size l E 0 0 [va_rf (some a25)] st21 (fun x26 stx => stx = st21 ∧ Q (x3 - x26) st21))))))
set_option maxHeartbeats 4000000 in
theorem wb_X1_gone {p : Program} {l : Launch} {e : Env} {R : Room} {s : State} {m : MethodId} {args : Array Value} {below : List Frame} {meth : Method} {c : Code} {E : g_E} {st0 : g_St} {Z : State → Prop} (hC : g_Cx p s m args meth c cX1_gone 3 "Stemspan" (some .int) "gone" E st0) (hR : g_Rm 15 366 R) {a0 : Nat} {st : g_St} {cb sb : Nat} {Q : Int32 → g_St → Prop} (hret : ∀ (pc : Nat) (lv : List (Nat × Value)) (v : Int32) (st1 : g_St) (cb sb : Nat), decode cX1_gone pc = .ok (.ireturn, 1) → narrow .int (.int v) = .int v → Q v st1 → g_J p l e R s m args below meth c 3 E st0 Z pc lv [.int v] st1 cb sb) (hvc : vc_X1_gone l E a0 st cb sb Q) : g_J p l e R s m args below meth c 3 E st0 Z 0 [(0, va_rf (some a0))] [] st cb sb := by
  unfold vc_X1_gone at hvc
  refine j_aload_n hC dX1_gone_0 rfl 0 rfl ?_
  obtain ⟨o1, ⟨fs, hr, hv⟩, hvc⟩ := hvc
  refine j_get hC fkX1_19_X1 dX1_gone_1 hr hv ?_
  clear hv hr fs
  obtain ⟨a2, rfl, hvc⟩ := hvc
  obtain ⟨⟨fs, hr⟩, hvc⟩ := hvc
  refine j_callV (As := []) (rest := []) (n := 0) (ci := 3) hC hvc (lw_V q614 q615 q616 q47 q617) (by decide +kernel) (g_rm hR rfl rfl) rfl hr rfl rfl (g_sum rfl) dX1_gone_4 (Nat.zero_le _) (Nat.zero_le _) (g_Kip fun x3 hv2 => ?_)
  replace hvc := hv2; clear hv2
  clear hr fs
  refine j_istore_n (lv0 := [(0, va_rf (some a0))]) hC dX1_gone_7 rfl rfl [0] rfl (g_okS.h rfl g_c1 rfl) ?_
  refine j_aload_n hC dX1_gone_8 rfl 1 rfl ?_
  obtain ⟨o4, ⟨fs, hr, hv⟩, hvc⟩ := hvc
  refine j_get hC fkX1_10_X1 dX1_gone_9 hr hv ?_
  clear hv hr fs
  obtain ⟨a5, rfl, hvc⟩ := hvc
  obtain ⟨mc8, ms9, h1, h2, hvc⟩ := hvc
  obtain ⟨⟨fs, hr⟩, hvc⟩ := hvc
  refine j_callV (As := []) (rest := []) (n := 0) (ci := 0) hC hvc (lw_V q570 q396 q397 q43 q398) (by decide +kernel) (g_rm hR rfl rfl) rfl hr rfl rfl (g_sum rfl) dX1_gone_12 h1 h2 (g_Ka fun o6 st7 hv2 hx => ?_)
  replace hvc := hv2 hx; clear hx hv2
  clear hr fs
  refine j_astore_n (lv0 := [(1, .int x3), (0, va_rf (some a0))]) hC dX1_gone_15 rfl rfl [0, 1] rfl (g_okS.h rfl rfl rfl) ?_
  refine j_aload_n hC dX1_gone_16 rfl 2 rfl ?_
  obtain ⟨o10, ⟨fs, hr, hv⟩, hvc⟩ := hvc
  refine j_get hC fkX1_19_X1 dX1_gone_17 hr hv ?_
  clear hv hr fs
  refine j_aload_n hC dX1_gone_20 rfl 0 rfl ?_
  refine j_aload_n hC dX1_gone_21 rfl 0 rfl ?_
  obtain ⟨mc13, ms14, h1, h2, hvc⟩ := hvc
  refine j_callS (As := [va_rf o6]) (rest := [va_rf o6, va_rf o10]) (n := 1) hC hvc (lw_S q1167 q1168 q41 q1169) (by decide +kernel) (g_rm hR rfl rfl) rfl rfl (g_sum rfl) dX1_gone_22 h1 h2 (g_Ka fun o11 st12 hv2 hx => ?_)
  replace hvc := hv2 hx; clear hx hv2
  obtain ⟨a15, rfl, hvc⟩ := hvc
  obtain ⟨mc18, ms19, h1, h2, hvc⟩ := hvc
  obtain ⟨⟨fs, hr⟩, hvc⟩ := hvc
  refine j_callV (As := [va_rf o6, va_rf o11]) (rest := []) (n := 2) (ci := 3) hC hvc (lw_V q1193 q1194 q1195 q47 q1196) (by decide +kernel) (g_rm hR rfl rfl) rfl hr rfl rfl (g_sum rfl) dX1_gone_25 h1 h2 (g_Ka fun o16 st17 hv2 hx => ?_)
  replace hvc := hv2 hx; clear hx hv2
  clear hr fs
  obtain ⟨a20, rfl, hvc⟩ := hvc
  obtain ⟨mc22, ms23, h1, h2, hvc⟩ := hvc
  obtain ⟨⟨fs, hr⟩, hvc⟩ := hvc
  refine j_callFX_clear (rest := []) hC hvc (g_rm hR rfl rfl) hr rfl (g_sum rfl) dX1_gone_28 h1 h2 (g_Kv fun st21 hv2 hx => ?_)
  replace hvc := hv2 hx; clear hx hv2
  clear hr fs
  refine j_iload_n hC dX1_gone_33 rfl 1 rfl ?_
  refine j_aload_n hC dX1_gone_34 rfl 2 rfl ?_
  obtain ⟨o24, ⟨fs, hr, hv⟩, hvc⟩ := hvc
  refine j_get hC fkX1_19_X1 dX1_gone_35 hr hv ?_
  clear hv hr fs
  obtain ⟨a25, rfl, hvc⟩ := hvc
  obtain ⟨⟨fs, hr⟩, hvc⟩ := hvc
  refine j_callV (As := []) (rest := [.int x3]) (n := 0) (ci := 3) hC hvc (lw_V q614 q615 q616 q47 q617) (by decide +kernel) (g_rm hR rfl rfl) rfl hr rfl rfl (g_sum rfl) dX1_gone_38 (Nat.zero_le _) (Nat.zero_le _) (g_Kip fun x26 hv2 => ?_)
  replace hvc := hv2; clear hv2
  clear hr fs
  refine j_isub hC dX1_gone_41 ?_
  exact hret _ _ _ _ _ _ dX1_gone_42 rfl hvc
theorem wk_X1_gone {l : Launch} {E : g_E} {a0 : Nat} {st : g_St} {mc ms : Nat} {Q : Int32 → g_St → Prop} (hvc : vc_X1_gone l E a0 st mc ms Q) : wp_X1_gone l E mc ms [va_rf (some a0)] st Q :=
  g_enter (lv0 := [(0, va_rf (some a0))]) (plainFor_of_name (by decide +kernel)) (by simp [lv_args, g_c1, g_ci, g_cL]) (by simp [lg_sl, g_c1, g_ci, g_cL]) (fun p e s m args below meth c hC => wb_X1_gone hC ⟨Nat.le_refl _, Nat.le_refl _⟩ (fun pc lv v st1 cb sb hd hn hq => j_ireturn hC rfl hn hd (g_iv hq)) hvc)
abbrev wp_X1_common (l : Launch) (E : g_E) (mc ms : Nat) (av : List Value) (st : g_St) (Q : Int32 → g_St → Prop) : Prop := g_WPi l E yX1_common cX1_common 3 (some .int) 5 125 mc ms av st Q
def vc_X1_common (l : Launch) (E : g_E) (p0 : Option Nat) (p1 : Option Nat) (st : g_St) (Q : Int32 → g_St → Prop) : Prop :=
  g_lp1 (fun (K2 : Int32 → Prop) (x1 : Int32) => ∃ a5 : Nat, p0 = some a5 ∧ g_is st a5 1 ∧ wp_J2_length l E 0 0 [va_rf (some a5)] st (fun x6 stx => stx = st ∧ g_jn0 (fun (K7 : Prop) => (x6 ≤ x1 → K7) ∧ (¬ x6 ≤ x1 → ∃ a10 : Nat, p1 = some a10 ∧ g_is st a10 1 ∧ wp_J2_length l E 0 0 [va_rf (some a10)] st (fun x11 stx => stx = st ∧ (x11 ≤ x1 → K7) ∧ (¬ x11 ≤ x1 → g_is st a5 1 ∧ wp_J2_charAt l E 0 0 [va_rf (some a5), .int x1] st (fun x13 stx => stx = st ∧ g_is st a10 1 ∧ wp_J2_charAt l E 0 0 [va_rf (some a10), .int x1] st (fun x14 stx => stx = st ∧ (¬ x13 = x14 → K7) ∧ (x13 = x14 → K2 (x1 + (nI 1))))))))) (Q x1 st))) (nI 0)
set_option maxHeartbeats 4000000 in
theorem wb_X1_common {p : Program} {l : Launch} {e : Env} {R : Room} {s : State} {m : MethodId} {args : Array Value} {below : List Frame} {meth : Method} {c : Code} {E : g_E} {st0 : g_St} {Z : State → Prop} (hC : g_Cx p s m args meth c cX1_common 3 "Stemspan" (some .int) "common" E st0) (hR : g_Rm 5 125 R) {p0 : Option Nat} {p1 : Option Nat} {st : g_St} {cb sb : Nat} {Q : Int32 → g_St → Prop} (hret : ∀ (pc : Nat) (lv : List (Nat × Value)) (v : Int32) (st1 : g_St) (cb sb : Nat), decode cX1_common pc = .ok (.ireturn, 1) → narrow .int (.int v) = .int v → Q v st1 → g_J p l e R s m args below meth c 3 E st0 Z pc lv [.int v] st1 cb sb) (hvc : vc_X1_common l E p0 p1 st Q) : g_J p l e R s m args below meth c 3 E st0 Z 0 [(0, va_rf p0), (1, va_rf p1)] [] st cb sb := by
  unfold vc_X1_common at hvc
  refine j_iconst hC (nI 0) dX1_common_0 rfl ?_
  refine j_istore_n (lv0 := [(1, va_rf p1), (0, va_rf p0)]) hC dX1_common_1 rfl rfl [1, 0] rfl (g_okS.h rfl g_c1 rfl) ?_
  replace hvc := g_lp1_o hvc
  obtain ⟨K2, hz17, hs18, n19, hvc⟩ := hvc
  have kh3 : ∀ (n : Nat) (x1 : Int32), K2 n x1 → g_J p l e R s m args below meth c 3 E st0 Z 2 [(0, va_rf p0), (1, va_rf p1), (2, .int x1)] [] st cb sb := by
    clear hvc
    intro n
    induction n with
    | zero => intro x1 hvc; exact absurd hvc (hz17 _)
    | succ n ih4 =>
      intro x1 hvc
      replace hvc := hs18 n _ hvc
      refine j_iload_n hC dX1_common_2 rfl 2 rfl ?_
      refine j_aload_n hC dX1_common_3 rfl 0 rfl ?_
      obtain ⟨a5, rfl, hvc⟩ := hvc
      obtain ⟨⟨fs, hr⟩, hvc⟩ := hvc
      refine j_callV (As := []) (rest := [.int x1]) (n := 0) (ci := 1) hC hvc (lw_V q1546 q182 q183 q44 q184) (by decide +kernel) (g_rm hR rfl rfl) rfl hr rfl rfl (g_sum rfl) dX1_common_4 (Nat.zero_le _) (Nat.zero_le _) (g_Kip fun x6 hv2 => ?_)
      replace hvc := hv2; clear hv2
      clear hr fs
      replace hvc := g_jn0_o hvc
      obtain ⟨K7, hK16, hvc⟩ := hvc
      have kh8 : K7 → g_J p l e R s m args below meth c 3 E st0 Z 37 [(2, .int x1)] [] st cb sb := by
        clear hvc
        intro hvc
        replace hvc := hK16 hvc
        refine j_iload_n hC dX1_common_37 rfl 0 rfl ?_
        exact hret _ _ _ _ _ _ dX1_common_38 rfl hvc
      refine j_icmp_ge (tgt := 37) hC dX1_common_7 rfl (fun c9 => ?_) (fun c9 => ?_)
      · replace hvc := hvc.1 c9
        exact j_sub [2] rfl (kh8 hvc)
      · replace hvc := hvc.2 c9
        refine j_iload_n hC dX1_common_10 rfl 2 rfl ?_
        refine j_aload_n hC dX1_common_11 rfl 1 rfl ?_
        obtain ⟨a10, rfl, hvc⟩ := hvc
        obtain ⟨⟨fs, hr⟩, hvc⟩ := hvc
        refine j_callV (As := []) (rest := [.int x1]) (n := 0) (ci := 1) hC hvc (lw_V q1546 q182 q183 q44 q184) (by decide +kernel) (g_rm hR rfl rfl) rfl hr rfl rfl (g_sum rfl) dX1_common_12 (Nat.zero_le _) (Nat.zero_le _) (g_Kip fun x11 hv2 => ?_)
        replace hvc := hv2; clear hv2
        clear hr fs
        refine j_icmp_ge (tgt := 37) hC dX1_common_15 rfl (fun c12 => ?_) (fun c12 => ?_)
        · replace hvc := hvc.1 c12
          exact j_sub [2] rfl (kh8 hvc)
        · replace hvc := hvc.2 c12
          refine j_aload_n hC dX1_common_18 rfl 0 rfl ?_
          refine j_iload_n hC dX1_common_19 rfl 2 rfl ?_
          obtain ⟨⟨fs, hr⟩, hvc⟩ := hvc
          refine j_callV (As := [.int x1]) (rest := []) (n := 1) (ci := 1) hC hvc (lw_V q1547 q1548 q1549 q44 q1550) (by decide +kernel) (g_rm hR rfl rfl) rfl hr rfl rfl (g_sum rfl) dX1_common_20 (Nat.zero_le _) (Nat.zero_le _) (g_Kip fun x13 hv2 => ?_)
          replace hvc := hv2; clear hv2
          clear hr fs
          refine j_aload_n hC dX1_common_23 rfl 1 rfl ?_
          refine j_iload_n hC dX1_common_24 rfl 2 rfl ?_
          obtain ⟨⟨fs, hr⟩, hvc⟩ := hvc
          refine j_callV (As := [.int x1]) (rest := [.int x13]) (n := 1) (ci := 1) hC hvc (lw_V q1547 q1548 q1549 q44 q1550) (by decide +kernel) (g_rm hR rfl rfl) rfl hr rfl rfl (g_sum rfl) dX1_common_25 (Nat.zero_le _) (Nat.zero_le _) (g_Kip fun x14 hv2 => ?_)
          replace hvc := hv2; clear hv2
          clear hr fs
          refine j_icmp_ne (tgt := 37) hC dX1_common_28 rfl (fun c15 => ?_) (fun c15 => ?_)
          · replace hvc := hvc.1 c15
            exact j_sub [2] rfl (kh8 hvc)
          · replace hvc := hvc.2 c15
            refine j_iinc (lv0 := [(1, va_rf (some a10)), (0, va_rf (some a5))]) hC (nI 1) dX1_common_31 2 rfl rfl rfl [1, 0] rfl (g_okS.h rfl g_c1 rfl) ?_
            refine j_goto (tgt := 2) hC dX1_common_34 rfl ?_
            exact j_sub [2, 1, 0] rfl (ih4 (x1 + (nI 1)) hvc)
  exact j_sub [2, 1, 0] rfl (kh3 n19 (nI 0) hvc)
theorem wk_X1_common {l : Launch} {E : g_E} {p0 : Option Nat} {p1 : Option Nat} {st : g_St} {mc ms : Nat} {Q : Int32 → g_St → Prop} (hvc : vc_X1_common l E p0 p1 st Q) : wp_X1_common l E mc ms [va_rf p0, va_rf p1] st Q :=
  g_enter (lv0 := [(0, va_rf p0), (1, va_rf p1)]) (plainFor_of_name (by decide +kernel)) (by simp [lv_args, g_c1, g_ci, g_cL]) (by simp [lg_sl, g_c1, g_ci, g_cL]) (fun p e s m args below meth c hC => wb_X1_common hC ⟨Nat.le_refl _, Nat.le_refl _⟩ (fun pc lv v st1 cb sb hd hn hq => j_ireturn hC rfl hn hd (g_iv hq)) hvc)
abbrev wp_X1_shared (l : Launch) (E : g_E) (mc ms : Nat) (av : List Value) (st : g_St) (Q : Int32 → g_St → Prop) : Prop := g_WPi l E yX1_shared cX1_shared 6 (some .int) 12 305 mc ms av st Q
def vc_X1_shared (l : Launch) (E : g_E) (a0 : Nat) (st : g_St) (cb sb : Nat) (Q : Int32 → g_St → Prop) : Prop :=
  ∃ o1 : Option Nat, g_gr st a0 15 0 o1 ∧ ∃ a2 : Nat, o1 = some a2 ∧ ∃ mc5 ms6 : Nat, mc5 ≤ cb ∧ ms6 ≤ sb ∧ g_is st a2 0 ∧ wp_J1_toString l E mc5 ms6 [va_rf (some a2)] st (fun o3 st4 => g_Ext st st4 → ∃ o7 : Option Nat, g_gr st4 a0 15 1 o7 ∧ ∃ a8 : Nat, o7 = some a8 ∧ g_is st4 a8 3 ∧ wp_J5_floorKey l E 0 0 [va_rf (some a8), va_rf o3] st4 (fun o9 stx => stx = st4 ∧ g_isN st4 o9 1 ∧ ∃ o10 : Option Nat, g_gr st4 a0 15 1 o10 ∧ ∃ a11 : Nat, o10 = some a11 ∧ g_is st4 a11 3 ∧ wp_J5_ceilingKey l E 0 0 [va_rf (some a11), va_rf o3] st4 (fun o12 stx => stx = st4 ∧ g_isN st4 o12 1 ∧ g_jn1 (fun (K14 : Int32 → Prop) => (o9 = none → K14 (nI 0)) ∧ (∀ a29 : Nat, o9 = some a29 → wp_X1_common l E 0 0 [va_rf (some a29), va_rf o3] st4 (fun x30 stx => stx = st4 ∧ K14 x30))) (fun (x13 : Int32) => g_jn1 (fun (K17 : Int32 → Prop) => (o12 = none → K17 (nI 0)) ∧ (∀ a25 : Nat, o12 = some a25 → wp_X1_common l E 0 0 [va_rf (some a25), va_rf o3] st4 (fun x26 stx => stx = st4 ∧ K17 x26))) (fun (x16 : Int32) => g_jn1 (fun (K20 : Int32 → Prop) => (x13 ≤ x16 → K20 x16) ∧ (¬ x13 ≤ x16 → K20 x13)) (fun (x19 : Int32) => Q x19 st4))))))
set_option maxHeartbeats 4000000 in
theorem wb_X1_shared {p : Program} {l : Launch} {e : Env} {R : Room} {s : State} {m : MethodId} {args : Array Value} {below : List Frame} {meth : Method} {c : Code} {E : g_E} {st0 : g_St} {Z : State → Prop} (hC : g_Cx p s m args meth c cX1_shared 6 "Stemspan" (some .int) "shared" E st0) (hR : g_Rm 12 305 R) {a0 : Nat} {st : g_St} {cb sb : Nat} {Q : Int32 → g_St → Prop} (hret : ∀ (pc : Nat) (lv : List (Nat × Value)) (v : Int32) (st1 : g_St) (cb sb : Nat), decode cX1_shared pc = .ok (.ireturn, 1) → narrow .int (.int v) = .int v → Q v st1 → g_J p l e R s m args below meth c 6 E st0 Z pc lv [.int v] st1 cb sb) (hvc : vc_X1_shared l E a0 st cb sb Q) : g_J p l e R s m args below meth c 6 E st0 Z 0 [(0, va_rf (some a0))] [] st cb sb := by
  unfold vc_X1_shared at hvc
  refine j_aload_n hC dX1_shared_0 rfl 0 rfl ?_
  obtain ⟨o1, ⟨fs, hr, hv⟩, hvc⟩ := hvc
  refine j_get hC fkX1_10_X1 dX1_shared_1 hr hv ?_
  clear hv hr fs
  obtain ⟨a2, rfl, hvc⟩ := hvc
  obtain ⟨mc5, ms6, h1, h2, hvc⟩ := hvc
  obtain ⟨⟨fs, hr⟩, hvc⟩ := hvc
  refine j_callV (As := []) (rest := []) (n := 0) (ci := 0) hC hvc (lw_V q570 q396 q397 q43 q398) (by decide +kernel) (g_rm hR rfl rfl) rfl hr rfl rfl (g_sum rfl) dX1_shared_4 h1 h2 (g_Ka fun o3 st4 hv2 hx => ?_)
  replace hvc := hv2 hx; clear hx hv2
  clear hr fs
  refine j_astore_n (lv0 := [(0, va_rf (some a0))]) hC dX1_shared_7 rfl rfl [0] rfl (g_okS.h rfl g_c1 rfl) ?_
  refine j_aload_n hC dX1_shared_8 rfl 1 rfl ?_
  obtain ⟨o7, ⟨fs, hr, hv⟩, hvc⟩ := hvc
  refine j_get hC fkX1_19_X1 dX1_shared_9 hr hv ?_
  clear hv hr fs
  refine j_aload_n hC dX1_shared_12 rfl 0 rfl ?_
  obtain ⟨a8, rfl, hvc⟩ := hvc
  obtain ⟨⟨fs, hr⟩, hvc⟩ := hvc
  refine j_callV (As := [va_rf o3]) (rest := []) (n := 1) (ci := 3) hC hvc (lw_V q1527 q1528 q1529 q47 q1530) (by decide +kernel) (g_rm hR rfl rfl) rfl hr rfl rfl (g_sum rfl) dX1_shared_13 (Nat.zero_le _) (Nat.zero_le _) (g_Kap fun o9 hv2 => ?_)
  replace hvc := hv2; clear hv2
  clear hr fs
  obtain ⟨hv, hvc⟩ := hvc
  refine j_cast hC (C := "java/lang/String") (ci := 1) q174 rfl (Or.inl rfl) hv dX1_shared_16 ?_
  clear hv
  refine j_astore_n (lv0 := [(1, va_rf o3), (0, va_rf (some a0))]) hC dX1_shared_19 rfl rfl [0, 1] rfl (g_okS.h rfl g_c1 rfl) ?_
  refine j_aload_n hC dX1_shared_20 rfl 2 rfl ?_
  obtain ⟨o10, ⟨fs, hr, hv⟩, hvc⟩ := hvc
  refine j_get hC fkX1_19_X1 dX1_shared_21 hr hv ?_
  clear hv hr fs
  refine j_aload_n hC dX1_shared_24 rfl 1 rfl ?_
  obtain ⟨a11, rfl, hvc⟩ := hvc
  obtain ⟨⟨fs, hr⟩, hvc⟩ := hvc
  refine j_callV (As := [va_rf o3]) (rest := []) (n := 1) (ci := 3) hC hvc (lw_V q1538 q1539 q1540 q47 q1541) (by decide +kernel) (g_rm hR rfl rfl) rfl hr rfl rfl (g_sum rfl) dX1_shared_25 (Nat.zero_le _) (Nat.zero_le _) (g_Kap fun o12 hv2 => ?_)
  replace hvc := hv2; clear hv2
  clear hr fs
  obtain ⟨hv, hvc⟩ := hvc
  refine j_cast hC (C := "java/lang/String") (ci := 1) q174 rfl (Or.inl rfl) hv dX1_shared_28 ?_
  clear hv
  refine j_astore_n (lv0 := [(2, va_rf o9), (1, va_rf o3), (0, va_rf (some a0))]) hC dX1_shared_31 rfl rfl [0, 1, 2] rfl (g_okS.h rfl g_c1 rfl) ?_
  refine j_aload_n hC dX1_shared_32 rfl 1 rfl ?_
  replace hvc := g_jn1_o hvc
  obtain ⟨K14, hK31, hvc⟩ := hvc
  have kh15 : ∀ (x13 : Int32), K14 x13 → g_J p l e R s m args below meth c 6 E st0 Z 45 [(1, va_rf o3), (3, va_rf o12)] [.int x13] st4 (cb - mc5) (sb - ms6) := by
    clear hvc
    intro x13 hvc
    replace hvc := hK31 _ hvc
    refine j_istore (lv0 := [(3, va_rf o12), (1, va_rf o3)]) hC dX1_shared_45 rfl [1, 0] rfl (g_okS.h rfl g_c1 rfl) ?_
    refine j_aload_n hC dX1_shared_47 rfl 1 rfl ?_
    replace hvc := g_jn1_o hvc
    obtain ⟨K17, hK27, hvc⟩ := hvc
    have kh18 : ∀ (x16 : Int32), K17 x16 → g_J p l e R s m args below meth c 6 E st0 Z 60 [(4, .int x13)] [.int x16] st4 (cb - mc5) (sb - ms6) := by
      clear hvc
      intro x16 hvc
      replace hvc := hK27 _ hvc
      refine j_istore (lv0 := [(4, .int x13)]) hC dX1_shared_60 rfl [0] rfl (g_okS.h rfl rfl rfl) ?_
      refine j_iload hC dX1_shared_62 1 rfl ?_
      refine j_iload hC dX1_shared_64 0 rfl ?_
      replace hvc := g_jn1_o hvc
      obtain ⟨K20, hK23, hvc⟩ := hvc
      have kh21 : ∀ (x19 : Int32), K20 x19 → g_J p l e R s m args below meth c 6 E st0 Z 76 [] [.int x19] st4 (cb - mc5) (sb - ms6) := by
        clear hvc
        intro x19 hvc
        replace hvc := hK23 _ hvc
        exact hret _ _ _ _ _ _ dX1_shared_76 rfl hvc
      refine j_icmp_le (tgt := 74) hC dX1_shared_66 rfl (fun c22 => ?_) (fun c22 => ?_)
      · replace hvc := hvc.1 c22
        refine j_iload hC dX1_shared_74 0 rfl ?_
        exact j_sub [] rfl (kh21 x16 hvc)
      · replace hvc := hvc.2 c22
        refine j_iload hC dX1_shared_69 1 rfl ?_
        refine j_goto (tgt := 76) hC dX1_shared_71 rfl ?_
        exact j_sub [] rfl (kh21 x13 hvc)
    refine j_ifnonnull (tgt := 55) hC dX1_shared_48 rfl (fun a25 c24 => ?_) (fun c24 => ?_)
    · subst c24; replace hvc := hvc.2 a25 rfl
      refine j_aload_n hC dX1_shared_55 rfl 1 rfl ?_
      refine j_aload_n hC dX1_shared_56 rfl 2 rfl ?_
      refine j_callS (As := [va_rf (some a25), va_rf o3]) (rest := []) (n := 2) hC hvc (lw_S q1543 q1544 q41 q1545) (by decide +kernel) (g_rm hR rfl rfl) rfl rfl (g_sum rfl) dX1_shared_57 (Nat.zero_le _) (Nat.zero_le _) (g_Kip fun x26 hv2 => ?_)
      replace hvc := hv2; clear hv2
      exact j_sub [0] rfl (kh18 x26 hvc)
    · subst c24; replace hvc := hvc.1 rfl
      refine j_iconst hC (nI 0) dX1_shared_51 rfl ?_
      refine j_goto (tgt := 60) hC dX1_shared_52 rfl ?_
      exact j_sub [0] rfl (kh18 (nI 0) hvc)
  refine j_ifnonnull (tgt := 40) hC dX1_shared_33 rfl (fun a29 c28 => ?_) (fun c28 => ?_)
  · subst c28; replace hvc := hvc.2 a29 rfl
    refine j_aload_n hC dX1_shared_40 rfl 1 rfl ?_
    refine j_aload_n hC dX1_shared_41 rfl 2 rfl ?_
    refine j_callS (As := [va_rf (some a29), va_rf o3]) (rest := []) (n := 2) hC hvc (lw_S q1543 q1544 q41 q1545) (by decide +kernel) (g_rm hR rfl rfl) rfl rfl (g_sum rfl) dX1_shared_42 (Nat.zero_le _) (Nat.zero_le _) (g_Kip fun x30 hv2 => ?_)
    replace hvc := hv2; clear hv2
    exact j_sub [2, 0] rfl (kh15 x30 hvc)
  · subst c28; replace hvc := hvc.1 rfl
    refine j_iconst hC (nI 0) dX1_shared_36 rfl ?_
    refine j_goto (tgt := 45) hC dX1_shared_37 rfl ?_
    exact j_sub [2, 0] rfl (kh15 (nI 0) hvc)
theorem wk_X1_shared {l : Launch} {E : g_E} {a0 : Nat} {st : g_St} {mc ms : Nat} {Q : Int32 → g_St → Prop} (hvc : vc_X1_shared l E a0 st mc ms Q) : wp_X1_shared l E mc ms [va_rf (some a0)] st Q :=
  g_enter (lv0 := [(0, va_rf (some a0))]) (plainFor_of_name (by decide +kernel)) (by simp [lv_args, g_c1, g_ci, g_cL]) (by simp [lg_sl, g_c1, g_ci, g_cL]) (fun p e s m args below meth c hC => wb_X1_shared hC ⟨Nat.le_refl _, Nat.le_refl _⟩ (fun pc lv v st1 cb sb hd hn hq => j_ireturn hC rfl hn hd (g_iv hq)) hvc)
abbrev wp_X1_longest (l : Launch) (E : g_E) (mc ms : Nat) (av : List Value) (st : g_St) (Q : Int32 → g_St → Prop) : Prop := g_WPi l E yX1_longest cX1_longest 5 (some .int) 12 305 mc ms av st Q
def vc_X1_longest (l : Launch) (E : g_E) (p0 : Option Nat) (p1 : Option Nat) (st : g_St) (cb sb : Nat) (Q : Int32 → g_St → Prop) : Prop :=
  g_lp4 (fun (K5 : (Option Nat) → g_St → Nat → Nat → Prop) (o1 : Option Nat) (st2 : g_St) (cb3 : Nat) (sb4 : Nat) => ∃ a8 : Nat, o1 = some a8 ∧ g_is st2 a8 1 ∧ wp_J2_isEmpty l E 0 0 [va_rf (some a8)] st2 (fun x9 stx => stx = st2 ∧ (¬ x9 = 0 → Q (nI 0) st2) ∧ (x9 = 0 → ∃ a11 : Nat, p0 = some a11 ∧ g_is st2 a11 3 ∧ wp_J5_floorKey l E 0 0 [va_rf (some a11), va_rf (some a8)] st2 (fun o12 stx => stx = st2 ∧ g_isN st2 o12 1 ∧ (o12 = none → Q (nI 0) st2) ∧ (∀ a14 : Nat, o12 = some a14 → wp_X1_common l E 0 0 [va_rf (some a14), va_rf (some a8)] st2 (fun x15 stx => stx = st2 ∧ g_is st2 a14 1 ∧ wp_J2_length l E 0 0 [va_rf (some a14)] st2 (fun x16 stx => stx = st2 ∧ (¬ x15 = x16 → ∃ mc20 ms21 : Nat, mc20 ≤ cb3 ∧ ms21 ≤ sb4 ∧ g_is st2 a8 1 ∧ wp_J2_substring l E mc20 ms21 [va_rf (some a8), .int (nI 0), .int x15] st2 (fun o18 st19 => g_Ext st2 st19 → K5 o18 st19 (cb3 - mc20) (sb4 - ms21))) ∧ (x15 = x16 → Q x15 st2)))))))) p1 st cb sb
set_option maxHeartbeats 4000000 in
theorem wb_X1_longest {p : Program} {l : Launch} {e : Env} {R : Room} {s : State} {m : MethodId} {args : Array Value} {below : List Frame} {meth : Method} {c : Code} {E : g_E} {st0 : g_St} {Z : State → Prop} (hC : g_Cx p s m args meth c cX1_longest 5 "Stemspan" (some .int) "longest" E st0) (hR : g_Rm 12 305 R) {p0 : Option Nat} {p1 : Option Nat} {st : g_St} {cb sb : Nat} {Q : Int32 → g_St → Prop} (hret : ∀ (pc : Nat) (lv : List (Nat × Value)) (v : Int32) (st1 : g_St) (cb sb : Nat), decode cX1_longest pc = .ok (.ireturn, 1) → narrow .int (.int v) = .int v → Q v st1 → g_J p l e R s m args below meth c 5 E st0 Z pc lv [.int v] st1 cb sb) (hvc : vc_X1_longest l E p0 p1 st cb sb Q) : g_J p l e R s m args below meth c 5 E st0 Z 0 [(0, va_rf p0), (1, va_rf p1)] [] st cb sb := by
  unfold vc_X1_longest at hvc
  refine j_aload_n hC dX1_longest_0 rfl 1 rfl ?_
  refine j_astore_n (lv0 := [(1, va_rf p1), (0, va_rf p0)]) hC dX1_longest_1 rfl rfl [1, 0] rfl (g_okS.h rfl g_c1 rfl) ?_
  replace hvc := g_lp4_o hvc
  obtain ⟨K5, hz22, hs23, n24, hvc⟩ := hvc
  have kh6 : ∀ (n : Nat) (o1 : Option Nat) (st2 : g_St) (cb3 : Nat) (sb4 : Nat), K5 n o1 st2 cb3 sb4 → g_J p l e R s m args below meth c 5 E st0 Z 2 [(0, va_rf p0), (2, va_rf o1)] [] st2 cb3 sb4 := by
    clear hvc
    intro n
    induction n with
    | zero => intro o1 st2 cb3 sb4 hvc; exact absurd hvc (hz22 _ _ _ _)
    | succ n ih7 =>
      intro o1 st2 cb3 sb4 hvc
      replace hvc := hs23 n _ _ _ _ hvc
      refine j_aload_n hC dX1_longest_2 rfl 1 rfl ?_
      obtain ⟨a8, rfl, hvc⟩ := hvc
      obtain ⟨⟨fs, hr⟩, hvc⟩ := hvc
      refine j_callV (As := []) (rest := []) (n := 0) (ci := 1) hC hvc (lw_V q1584 q1585 q1586 q44 q1587) (by decide +kernel) (g_rm hR rfl rfl) rfl hr rfl rfl (g_sum rfl) dX1_longest_3 (Nat.zero_le _) (Nat.zero_le _) (g_Kip fun x9 hv2 => ?_)
      replace hvc := hv2; clear hv2
      clear hr fs
      refine j_if_ne (tgt := 54) hC dX1_longest_6 rfl (fun c10 => ?_) (fun c10 => ?_)
      · replace hvc := hvc.1 c10
        refine j_iconst hC (nI 0) dX1_longest_54 rfl ?_
        exact hret _ _ _ _ _ _ dX1_longest_55 rfl hvc
      · replace hvc := hvc.2 c10
        refine j_aload_n hC dX1_longest_9 rfl 0 rfl ?_
        refine j_aload_n hC dX1_longest_10 rfl 1 rfl ?_
        obtain ⟨a11, rfl, hvc⟩ := hvc
        obtain ⟨⟨fs, hr⟩, hvc⟩ := hvc
        refine j_callV (As := [va_rf (some a8)]) (rest := []) (n := 1) (ci := 3) hC hvc (lw_V q1527 q1528 q1529 q47 q1530) (by decide +kernel) (g_rm hR rfl rfl) rfl hr rfl rfl (g_sum rfl) dX1_longest_11 (Nat.zero_le _) (Nat.zero_le _) (g_Kap fun o12 hv2 => ?_)
        replace hvc := hv2; clear hv2
        clear hr fs
        obtain ⟨hv, hvc⟩ := hvc
        refine j_cast hC (C := "java/lang/String") (ci := 1) q174 rfl (Or.inl rfl) hv dX1_longest_14 ?_
        clear hv
        refine j_astore_n (lv0 := [(2, va_rf (some a8)), (0, va_rf (some a11))]) hC dX1_longest_17 rfl rfl [1, 0] rfl (g_okS.h rfl g_c1 rfl) ?_
        refine j_aload_n hC dX1_longest_18 rfl 0 rfl ?_
        refine j_ifnonnull (tgt := 24) hC dX1_longest_19 rfl (fun a14 c13 => ?_) (fun c13 => ?_)
        · subst c13; replace hvc := hvc.2 a14 rfl
          refine j_aload_n hC dX1_longest_24 rfl 0 rfl ?_
          refine j_aload_n hC dX1_longest_25 rfl 1 rfl ?_
          refine j_callS (As := [va_rf (some a14), va_rf (some a8)]) (rest := []) (n := 2) hC hvc (lw_S q1543 q1544 q41 q1545) (by decide +kernel) (g_rm hR rfl rfl) rfl rfl (g_sum rfl) dX1_longest_26 (Nat.zero_le _) (Nat.zero_le _) (g_Kip fun x15 hv2 => ?_)
          replace hvc := hv2; clear hv2
          refine j_istore (lv0 := [(3, va_rf (some a14)), (2, va_rf (some a8)), (0, va_rf (some a11))]) hC dX1_longest_29 rfl [0, 1, 2] rfl (g_okS.h rfl g_c1 rfl) ?_
          refine j_iload hC dX1_longest_31 0 rfl ?_
          refine j_aload_n hC dX1_longest_33 rfl 1 rfl ?_
          obtain ⟨⟨fs, hr⟩, hvc⟩ := hvc
          refine j_callV (As := []) (rest := [.int x15]) (n := 0) (ci := 1) hC hvc (lw_V q1546 q182 q183 q44 q184) (by decide +kernel) (g_rm hR rfl rfl) rfl hr rfl rfl (g_sum rfl) dX1_longest_34 (Nat.zero_le _) (Nat.zero_le _) (g_Kip fun x16 hv2 => ?_)
          replace hvc := hv2; clear hv2
          clear hr fs
          refine j_icmp_ne (tgt := 43) hC dX1_longest_37 rfl (fun c17 => ?_) (fun c17 => ?_)
          · replace hvc := hvc.1 c17
            refine j_aload_n hC dX1_longest_43 rfl 2 rfl ?_
            refine j_iconst hC (nI 0) dX1_longest_44 rfl ?_
            refine j_iload hC dX1_longest_45 0 rfl ?_
            obtain ⟨mc20, ms21, h1, h2, hvc⟩ := hvc
            obtain ⟨⟨fs, hr⟩, hvc⟩ := hvc
            refine j_callV (As := [.int (nI 0), .int x15]) (rest := []) (n := 2) (ci := 1) hC hvc (lw_V q177 q178 q179 q44 q180) (by decide +kernel) (g_rm hR rfl rfl) rfl hr rfl rfl (g_sum rfl) dX1_longest_47 h1 h2 (g_Ka fun o18 st19 hv2 hx => ?_)
            replace hvc := hv2 hx; clear hx hv2
            clear hr fs
            refine j_astore_n (lv0 := [(4, .int x15), (3, va_rf (some a14)), (0, va_rf (some a11))]) hC dX1_longest_50 rfl rfl [0, 1, 3] rfl (g_okS.n rfl) ?_
            refine j_goto (tgt := 2) hC dX1_longest_51 rfl ?_
            exact j_sub [3, 0] rfl (ih7 o18 st19 (cb3 - mc20) (sb4 - ms21) hvc)
          · replace hvc := hvc.2 c17
            refine j_iload hC dX1_longest_40 0 rfl ?_
            exact hret _ _ _ _ _ _ dX1_longest_42 rfl hvc
        · subst c13; replace hvc := hvc.1 rfl
          refine j_iconst hC (nI 0) dX1_longest_22 rfl ?_
          exact hret _ _ _ _ _ _ dX1_longest_23 rfl hvc
  exact j_sub [2, 0] rfl (kh6 n24 p1 st cb sb hvc)
theorem wk_X1_longest {l : Launch} {E : g_E} {p0 : Option Nat} {p1 : Option Nat} {st : g_St} {mc ms : Nat} {Q : Int32 → g_St → Prop} (hvc : vc_X1_longest l E p0 p1 st mc ms Q) : wp_X1_longest l E mc ms [va_rf p0, va_rf p1] st Q :=
  g_enter (lv0 := [(0, va_rf p0), (1, va_rf p1)]) (plainFor_of_name (by decide +kernel)) (by simp [lv_args, g_c1, g_ci, g_cL]) (by simp [lg_sl, g_c1, g_ci, g_cL]) (fun p e s m args below meth c hC => wb_X1_longest hC ⟨Nat.le_refl _, Nat.le_refl _⟩ (fun pc lv v st1 cb sb hd hn hq => j_ireturn hC rfl hn hd (g_iv hq)) hvc)
abbrev wp_X1_pieces (l : Launch) (E : g_E) (mc ms : Nat) (av : List Value) (st : g_St) (Q : Int32 → g_St → Prop) : Prop := g_WPi l E yX1_pieces cX1_pieces 4 (some .int) 13 329 mc ms av st Q
def vc_X1_pieces (l : Launch) (E : g_E) (a0 : Nat) (st : g_St) (cb sb : Nat) (Q : Int32 → g_St → Prop) : Prop :=
  g_lp5 (fun (K6 : Int32 → Int32 → g_St → Nat → Nat → Prop) (x1 : Int32) (x2 : Int32) (st3 : g_St) (cb4 : Nat) (sb5 : Nat) => ∃ o9 : Option Nat, g_gr st3 a0 15 0 o9 ∧ ∃ a10 : Nat, o9 = some a10 ∧ g_is st3 a10 0 ∧ wp_J1_length l E 0 0 [va_rf (some a10)] st3 (fun x11 stx => stx = st3 ∧ (x11 ≤ x2 → Q x1 st3) ∧ (¬ x11 ≤ x2 → ∃ o13 : Option Nat, g_gr st3 a0 15 1 o13 ∧ ∃ o14 : Option Nat, g_gr st3 a0 15 0 o14 ∧ ∃ a15 : Nat, o14 = some a15 ∧ ∃ mc18 ms19 : Nat, mc18 ≤ cb4 ∧ ms19 ≤ sb5 ∧ g_is st3 a15 0 ∧ wp_J1_substring l E mc18 ms19 [va_rf (some a15), .int x2] st3 (fun o16 st17 => g_Ext st3 st17 → ∃ mc22 ms23 : Nat, mc22 ≤ (cb4 - mc18) ∧ ms23 ≤ (sb5 - ms19) ∧ wp_X1_longest l E mc22 ms23 [va_rf o13, va_rf o16] st17 (fun x20 st21 => g_Ext st17 st21 → (¬ x20 = 0 → K6 (x1 + (nI 1)) (x2 + x20) st21 ((cb4 - mc18) - mc22) ((sb5 - ms19) - ms23)) ∧ (x20 = 0 → Q ((-1) - x2) st21)))))) (nI 0) (nI 0) st cb sb
set_option maxHeartbeats 4000000 in
theorem wb_X1_pieces {p : Program} {l : Launch} {e : Env} {R : Room} {s : State} {m : MethodId} {args : Array Value} {below : List Frame} {meth : Method} {c : Code} {E : g_E} {st0 : g_St} {Z : State → Prop} (hC : g_Cx p s m args meth c cX1_pieces 4 "Stemspan" (some .int) "pieces" E st0) (hR : g_Rm 13 329 R) {a0 : Nat} {st : g_St} {cb sb : Nat} {Q : Int32 → g_St → Prop} (hret : ∀ (pc : Nat) (lv : List (Nat × Value)) (v : Int32) (st1 : g_St) (cb sb : Nat), decode cX1_pieces pc = .ok (.ireturn, 1) → narrow .int (.int v) = .int v → Q v st1 → g_J p l e R s m args below meth c 4 E st0 Z pc lv [.int v] st1 cb sb) (hvc : vc_X1_pieces l E a0 st cb sb Q) : g_J p l e R s m args below meth c 4 E st0 Z 0 [(0, va_rf (some a0))] [] st cb sb := by
  unfold vc_X1_pieces at hvc
  refine j_iconst hC (nI 0) dX1_pieces_0 rfl ?_
  refine j_istore_n (lv0 := [(0, va_rf (some a0))]) hC dX1_pieces_1 rfl rfl [0] rfl (g_okS.h rfl g_c1 rfl) ?_
  refine j_iconst hC (nI 0) dX1_pieces_2 rfl ?_
  refine j_istore_n (lv0 := [(1, .int (nI 0)), (0, va_rf (some a0))]) hC dX1_pieces_3 rfl rfl [0, 1] rfl (g_okS.h rfl rfl rfl) ?_
  replace hvc := g_lp5_o hvc
  obtain ⟨K6, hz25, hs26, n27, hvc⟩ := hvc
  have kh7 : ∀ (n : Nat) (x1 : Int32) (x2 : Int32) (st3 : g_St) (cb4 : Nat) (sb5 : Nat), K6 n x1 x2 st3 cb4 sb5 → g_J p l e R s m args below meth c 4 E st0 Z 4 [(0, va_rf (some a0)), (1, .int x1), (2, .int x2)] [] st3 cb4 sb5 := by
    clear hvc
    intro n
    induction n with
    | zero => intro x1 x2 st3 cb4 sb5 hvc; exact absurd hvc (hz25 _ _ _ _ _)
    | succ n ih8 =>
      intro x1 x2 st3 cb4 sb5 hvc
      replace hvc := hs26 n _ _ _ _ _ hvc
      refine j_iload_n hC dX1_pieces_4 rfl 2 rfl ?_
      refine j_aload_n hC dX1_pieces_5 rfl 0 rfl ?_
      obtain ⟨o9, ⟨fs, hr, hv⟩, hvc⟩ := hvc
      refine j_get hC fkX1_10_X1 dX1_pieces_6 hr hv ?_
      clear hv hr fs
      obtain ⟨a10, rfl, hvc⟩ := hvc
      obtain ⟨⟨fs, hr⟩, hvc⟩ := hvc
      refine j_callV (As := []) (rest := [.int x2]) (n := 0) (ci := 0) hC hvc (lw_V q497 q416 q2451 q43 q417) (by decide +kernel) (g_rm hR rfl rfl) rfl hr rfl rfl (g_sum rfl) dX1_pieces_9 (Nat.zero_le _) (Nat.zero_le _) (g_Kip fun x11 hv2 => ?_)
      replace hvc := hv2; clear hv2
      clear hr fs
      refine j_icmp_ge (tgt := 49) hC dX1_pieces_12 rfl (fun c12 => ?_) (fun c12 => ?_)
      · replace hvc := hvc.1 c12
        refine j_iload_n hC dX1_pieces_49 rfl 1 rfl ?_
        exact hret _ _ _ _ _ _ dX1_pieces_50 rfl hvc
      · replace hvc := hvc.2 c12
        refine j_aload_n hC dX1_pieces_15 rfl 0 rfl ?_
        obtain ⟨o13, ⟨fs, hr, hv⟩, hvc⟩ := hvc
        refine j_get hC fkX1_19_X1 dX1_pieces_16 hr hv ?_
        clear hv hr fs
        refine j_aload_n hC dX1_pieces_19 rfl 0 rfl ?_
        obtain ⟨o14, ⟨fs, hr, hv⟩, hvc⟩ := hvc
        refine j_get hC fkX1_10_X1 dX1_pieces_20 hr hv ?_
        clear hv hr fs
        refine j_iload_n hC dX1_pieces_23 rfl 2 rfl ?_
        obtain ⟨a15, rfl, hvc⟩ := hvc
        obtain ⟨mc18, ms19, h1, h2, hvc⟩ := hvc
        obtain ⟨⟨fs, hr⟩, hvc⟩ := hvc
        refine j_callV (As := [.int x2]) (rest := [va_rf o13]) (n := 1) (ci := 0) hC hvc (lw_V q1562 q1563 q1564 q43 q1565) (by decide +kernel) (g_rm hR rfl rfl) rfl hr rfl rfl (g_sum rfl) dX1_pieces_24 h1 h2 (g_Ka fun o16 st17 hv2 hx => ?_)
        replace hvc := hv2 hx; clear hx hv2
        clear hr fs
        obtain ⟨mc22, ms23, h1, h2, hvc⟩ := hvc
        refine j_callS (As := [va_rf o13, va_rf o16]) (rest := []) (n := 2) hC hvc (lw_S q1581 q1582 q41 q1583) (by decide +kernel) (g_rm hR rfl rfl) rfl rfl (g_sum rfl) dX1_pieces_27 h1 h2 (g_Ki fun x20 st21 hv2 hx => ?_)
        replace hvc := hv2 hx; clear hx hv2
        refine j_istore_n (lv0 := [(2, .int x2), (0, va_rf (some a0)), (1, .int x1)]) hC dX1_pieces_30 rfl rfl [2, 0, 1] rfl (g_okS.h rfl rfl rfl) ?_
        refine j_iload_n hC dX1_pieces_31 rfl 0 rfl ?_
        refine j_if_ne (tgt := 39) hC dX1_pieces_32 rfl (fun c24 => ?_) (fun c24 => ?_)
        · replace hvc := hvc.1 c24
          refine j_iload_n hC dX1_pieces_39 rfl 1 rfl ?_
          refine j_iload_n hC dX1_pieces_40 rfl 0 rfl ?_
          refine j_iadd hC dX1_pieces_41 ?_
          refine j_istore_n (lv0 := [(1, .int x1), (3, .int x20), (0, va_rf (some a0))]) hC dX1_pieces_42 rfl rfl [3, 0, 2] rfl (g_okS.h rfl rfl rfl) ?_
          refine j_iinc (lv0 := [(0, va_rf (some a0)), (2, .int (x2 + x20)), (3, .int x20)]) hC (nI 1) dX1_pieces_43 1 rfl rfl rfl [3, 0, 2] rfl (g_okS.h rfl g_c1 rfl) ?_
          refine j_goto (tgt := 4) hC dX1_pieces_46 rfl ?_
          exact j_sub [1, 0, 2] rfl (ih8 (x1 + (nI 1)) (x2 + x20) st21 ((cb4 - mc18) - mc22) ((sb5 - ms19) - ms23) hvc)
        · replace hvc := hvc.2 c24
          refine j_iconst hC (-1) dX1_pieces_35 rfl ?_
          refine j_iload_n hC dX1_pieces_36 rfl 1 rfl ?_
          refine j_isub hC dX1_pieces_37 ?_
          exact hret _ _ _ _ _ _ dX1_pieces_38 rfl hvc
  exact j_sub [2, 1, 0] rfl (kh7 n27 (nI 0) (nI 0) st cb sb hvc)
theorem wk_X1_pieces {l : Launch} {E : g_E} {a0 : Nat} {st : g_St} {mc ms : Nat} {Q : Int32 → g_St → Prop} (hvc : vc_X1_pieces l E a0 st mc ms Q) : wp_X1_pieces l E mc ms [va_rf (some a0)] st Q :=
  g_enter (lv0 := [(0, va_rf (some a0))]) (plainFor_of_name (by decide +kernel)) (by simp [lv_args, g_c1, g_ci, g_cL]) (by simp [lg_sl, g_c1, g_ci, g_cL]) (fun p e s m args below meth c hC => wb_X1_pieces hC ⟨Nat.le_refl _, Nat.le_refl _⟩ (fun pc lv v st1 cb sb hd hn hq => j_ireturn hC rfl hn hd (g_iv hq)) hvc)
abbrev wp_X1_cuts (l : Launch) (E : g_E) (mc ms : Nat) (av : List Value) (st : g_St) (Q : Int64 → g_St → Prop) : Prop := g_WPl l E yX1_cuts cX1_cuts 4 (some .long) 11 282 mc ms av st Q
def vc_X1_cuts (l : Launch) (E : g_E) (a0 : Nat) (st : g_St) (cb sb : Nat) (Q : Int64 → g_St → Prop) : Prop :=
  ∃ o1 : Option Nat, g_gr st a0 15 0 o1 ∧ ∃ a2 : Nat, o1 = some a2 ∧ g_is st a2 0 ∧ wp_J1_length l E 0 0 [va_rf (some a2)] st (fun x3 stx => stx = st ∧ ∃ n4 : Nat, (x3 + (nI 1)) = nI n4 ∧ n4 ≤ 67108864 ∧ 1 ≤ cb ∧ n4 ≤ sb ∧ ∀ (q5 : Nat) (st6 : g_St), q5 = st.2.2 → st6 = g_new st (.inl (3, n4, .inr (.inl fun _ => 0))) → ∃ o7 : Option Nat, g_gr st6 a0 15 0 o7 ∧ ∃ a8 : Nat, o7 = some a8 ∧ g_is st6 a8 0 ∧ wp_J1_length l E 0 0 [va_rf (some a8)] st6 (fun x9 stx => stx = st6 ∧ ∃ (n10 : Nat) (f11 : Nat → Int64) (j12 : Nat), st6.2.1 q5 = some (.inl (3, n10, .inr (.inl (f11)))) ∧ x9 = nI j12 ∧ j12 < n10 ∧ j12 < 2 ^ 31 ∧ ∀ st13 : g_St, st13 = g_put st6 q5 (.inl (3, n10, .inr (.inl (va_up f11 j12 1)))) → ∃ o14 : Option Nat, g_gr st13 a0 15 0 o14 ∧ ∃ a15 : Nat, o14 = some a15 ∧ g_is st13 a15 0 ∧ wp_J1_length l E 0 0 [va_rf (some a15)] st13 (fun x16 stx => stx = st13 ∧ g_lp4 (fun (K21 : Int32 → g_St → Nat → Nat → Prop) (x17 : Int32) (st18 : g_St) (cb19 : Nat) (sb20 : Nat) => (x17 < 0 → ∃ (n25 : Nat) (f26 : Nat → Int64) (j27 : Nat), g_al st18 q5 3 n25 f26 ∧ (nI 0) = nI j27 ∧ j27 < n25 ∧ j27 < 2 ^ 31 ∧ Q (f26 j27) st18) ∧ (¬ x17 < 0 → g_lp4 (fun (K32 : Int32 → g_St → Nat → Nat → Prop) (x28 : Int32) (st29 : g_St) (cb30 : Nat) (sb31 : Nat) => ∃ o35 : Option Nat, g_gr st29 a0 15 0 o35 ∧ ∃ a36 : Nat, o35 = some a36 ∧ g_is st29 a36 0 ∧ wp_J1_length l E 0 0 [va_rf (some a36)] st29 (fun x37 stx => stx = st29 ∧ g_jn0 (fun (K38 : Prop) => (x37 < x28 → K38) ∧ (¬ x37 < x28 → ((x17 + (nI 10)) < x28 → K38) ∧ (¬ (x17 + (nI 10)) < x28 → ∃ (n42 : Nat) (f43 : Nat → Int64) (j44 : Nat), g_al st29 q5 3 n42 f43 ∧ x28 = nI j44 ∧ j44 < n42 ∧ j44 < 2 ^ 31 ∧ g_jn3 (fun (K48 : g_St → Nat → Nat → Prop) => ((lg_cmp (f43 j44) 0) ≤ 0 → K48 st29 cb30 sb31) ∧ (¬ (lg_cmp (f43 j44) 0) ≤ 0 → ∃ o51 : Option Nat, g_gr st29 a0 15 1 o51 ∧ ∃ o52 : Option Nat, g_gr st29 a0 15 0 o52 ∧ ∃ a53 : Nat, o52 = some a53 ∧ ∃ mc56 ms57 : Nat, mc56 ≤ cb30 ∧ ms57 ≤ sb31 ∧ g_is st29 a53 0 ∧ wp_J1_substring_2 l E mc56 ms57 [va_rf (some a53), .int x17, .int x28] st29 (fun o54 st55 => g_Ext st29 st55 → ∃ a58 : Nat, o51 = some a58 ∧ g_is st55 a58 3 ∧ wp_J5_containsKey l E 0 0 [va_rf (some a58), va_rf o54] st55 (fun x59 stx => stx = st55 ∧ (x59 = 0 → K48 st55 (cb30 - mc56) (sb31 - ms57)) ∧ (¬ x59 = 0 → ∃ (n61 : Nat) (f62 : Nat → Int64) (j63 : Nat), g_al st55 q5 3 n61 f62 ∧ x17 = nI j63 ∧ j63 < n61 ∧ j63 < 2 ^ 31 ∧ ∃ (n64 : Nat) (f65 : Nat → Int64) (j66 : Nat), g_al st55 q5 3 n64 f65 ∧ x28 = nI j66 ∧ j66 < n64 ∧ j66 < 2 ^ 31 ∧ ∃ (n67 : Nat) (f68 : Nat → Int64) (j69 : Nat), st55.2.1 q5 = some (.inl (3, n67, .inr (.inl (f68)))) ∧ x17 = nI j69 ∧ j69 < n67 ∧ j69 < 2 ^ 31 ∧ ∀ st70 : g_St, st70 = g_put st55 q5 (.inl (3, n67, .inr (.inl (va_up f68 j69 ((f62 j63) + (f65 j66)))))) → K48 st70 (cb30 - mc56) (sb31 - ms57)))))) (fun (st45 : g_St) (cb46 : Nat) (sb47 : Nat) => K32 (x28 + (nI 1)) st45 cb46 sb47)))) (K21 (x17 + (-1)) st29 cb30 sb31))) (x17 + (nI 1)) st18 cb19 sb20)) (x16 - (nI 1)) st13 (cb - 1) (sb - n4))))
set_option maxHeartbeats 4000000 in
theorem wb_X1_cuts {p : Program} {l : Launch} {e : Env} {R : Room} {s : State} {m : MethodId} {args : Array Value} {below : List Frame} {meth : Method} {c : Code} {E : g_E} {st0 : g_St} {Z : State → Prop} (hC : g_Cx p s m args meth c cX1_cuts 4 "Stemspan" (some .long) "cuts" E st0) (hR : g_Rm 11 282 R) {a0 : Nat} {st : g_St} {cb sb : Nat} {Q : Int64 → g_St → Prop} (hret : ∀ (pc : Nat) (lv : List (Nat × Value)) (v : Int64) (st1 : g_St) (cb sb : Nat), decode cX1_cuts pc = .ok (.lreturn, 1) → Q v st1 → g_J p l e R s m args below meth c 4 E st0 Z pc lv [.long v] st1 cb sb) (hvc : vc_X1_cuts l E a0 st cb sb Q) : g_J p l e R s m args below meth c 4 E st0 Z 0 [(0, va_rf (some a0))] [] st cb sb := by
  unfold vc_X1_cuts at hvc
  refine j_aload_n hC dX1_cuts_0 rfl 0 rfl ?_
  obtain ⟨o1, ⟨fs, hr, hv⟩, hvc⟩ := hvc
  refine j_get hC fkX1_10_X1 dX1_cuts_1 hr hv ?_
  clear hv hr fs
  obtain ⟨a2, rfl, hvc⟩ := hvc
  obtain ⟨⟨fs, hr⟩, hvc⟩ := hvc
  refine j_callV (As := []) (rest := []) (n := 0) (ci := 0) hC hvc (lw_V q497 q416 q2451 q43 q417) (by decide +kernel) (g_rm hR rfl rfl) rfl hr rfl rfl (g_sum rfl) dX1_cuts_4 (Nat.zero_le _) (Nat.zero_le _) (g_Kip fun x3 hv2 => ?_)
  replace hvc := hv2; clear hv2
  clear hr fs
  refine j_iconst hC (nI 1) dX1_cuts_7 rfl ?_
  refine j_iadd hC dX1_cuts_8 ?_
  obtain ⟨n4, hi, hn, h1, h2, hvc⟩ := hvc
  refine j_ix hi ?_
  refine j_newL hC q1608 hn h1 h2 dX1_cuts_9 (fun q5 st6 e1 e2 => ?_)
  replace hvc := hvc q5 st6 e1 e2; clear hi hn h1 h2 e1 e2
  refine j_astore_n (lv0 := [(0, va_rf (some a0))]) hC dX1_cuts_11 rfl rfl [0] rfl (g_okS.h rfl g_c1 rfl) ?_
  refine j_aload_n hC dX1_cuts_12 rfl 0 rfl ?_
  refine j_aload_n hC dX1_cuts_13 rfl 1 rfl ?_
  obtain ⟨o7, ⟨fs, hr, hv⟩, hvc⟩ := hvc
  refine j_get hC fkX1_10_X1 dX1_cuts_14 hr hv ?_
  clear hv hr fs
  obtain ⟨a8, rfl, hvc⟩ := hvc
  obtain ⟨⟨fs, hr⟩, hvc⟩ := hvc
  refine j_callV (As := []) (rest := [va_rf (some q5)]) (n := 0) (ci := 0) hC hvc (lw_V q497 q416 q2451 q43 q417) (by decide +kernel) (g_rm hR rfl rfl) rfl hr rfl rfl (g_sum rfl) dX1_cuts_17 (Nat.zero_le _) (Nat.zero_le _) (g_Kip fun x9 hv2 => ?_)
  replace hvc := hv2; clear hv2
  clear hr fs
  refine j_lconst hC 1 dX1_cuts_20 rfl ?_
  obtain ⟨n10, f11, j12, hm, hi, hj, hJ, hvc⟩ := hvc
  refine j_ix1 hi ?_
  refine j_stl hC hm hj hJ dX1_cuts_21 (fun st13 e1 => ?_)
  replace hvc := hvc st13 e1; clear hm hi hj hJ e1
  refine j_aload_n hC dX1_cuts_22 rfl 1 rfl ?_
  obtain ⟨o14, ⟨fs, hr, hv⟩, hvc⟩ := hvc
  refine j_get hC fkX1_10_X1 dX1_cuts_23 hr hv ?_
  clear hv hr fs
  obtain ⟨a15, rfl, hvc⟩ := hvc
  obtain ⟨⟨fs, hr⟩, hvc⟩ := hvc
  refine j_callV (As := []) (rest := []) (n := 0) (ci := 0) hC hvc (lw_V q497 q416 q2451 q43 q417) (by decide +kernel) (g_rm hR rfl rfl) rfl hr rfl rfl (g_sum rfl) dX1_cuts_26 (Nat.zero_le _) (Nat.zero_le _) (g_Kip fun x16 hv2 => ?_)
  replace hvc := hv2; clear hv2
  clear hr fs
  refine j_iconst hC (nI 1) dX1_cuts_29 rfl ?_
  refine j_isub hC dX1_cuts_30 ?_
  refine j_istore_n (lv0 := [(1, va_rf (some q5)), (0, va_rf (some a0))]) hC dX1_cuts_31 rfl rfl [0, 1] rfl (g_okS.h rfl g_c1 rfl) ?_
  replace hvc := g_lp4_o hvc
  obtain ⟨K21, hz76, hs77, n78, hvc⟩ := hvc
  have kh22 : ∀ (n : Nat) (x17 : Int32) (st18 : g_St) (cb19 : Nat) (sb20 : Nat), K21 n x17 st18 cb19 sb20 → g_J p l e R s m args below meth c 4 E st0 Z 32 [(0, va_rf (some a0)), (1, va_rf (some q5)), (2, .int x17)] [] st18 cb19 sb20 := by
    clear hvc
    intro n
    induction n with
    | zero => intro x17 st18 cb19 sb20 hvc; exact absurd hvc (hz76 _ _ _ _)
    | succ n ih23 =>
      intro x17 st18 cb19 sb20 hvc
      replace hvc := hs77 n _ _ _ _ hvc
      refine j_iload_n hC dX1_cuts_32 rfl 2 rfl ?_
      refine j_if_lt (tgt := 107) hC dX1_cuts_33 rfl (fun c24 => ?_) (fun c24 => ?_)
      · replace hvc := hvc.1 c24
        refine j_aload_n hC dX1_cuts_107 rfl 1 rfl ?_
        refine j_iconst hC (nI 0) dX1_cuts_108 rfl ?_
        obtain ⟨n25, f26, j27, hr, hi, hj, hJ, hvc⟩ := hvc
        refine j_ix hi ?_
        refine j_lald hC hr hj hJ dX1_cuts_109 ?_
        clear hr hi hj hJ
        exact hret _ _ _ _ _ _ dX1_cuts_110 hvc
      · replace hvc := hvc.2 c24
        refine j_iload_n hC dX1_cuts_36 rfl 2 rfl ?_
        refine j_iconst hC (nI 1) dX1_cuts_37 rfl ?_
        refine j_iadd hC dX1_cuts_38 ?_
        refine j_istore_n (lv0 := [(2, .int x17), (0, va_rf (some a0)), (1, va_rf (some q5))]) hC dX1_cuts_39 rfl rfl [2, 0, 1] rfl (g_okS.h rfl rfl rfl) ?_
        replace hvc := g_lp4_o hvc
        obtain ⟨K32, hz73, hs74, n75, hvc⟩ := hvc
        have kh33 : ∀ (n : Nat) (x28 : Int32) (st29 : g_St) (cb30 : Nat) (sb31 : Nat), K32 n x28 st29 cb30 sb31 → g_J p l e R s m args below meth c 4 E st0 Z 40 [(0, va_rf (some a0)), (1, va_rf (some q5)), (2, .int x17), (3, .int x28)] [] st29 cb30 sb31 := by
          clear hvc
          intro n
          induction n with
          | zero => intro x28 st29 cb30 sb31 hvc; exact absurd hvc (hz73 _ _ _ _)
          | succ n ih34 =>
            intro x28 st29 cb30 sb31 hvc
            replace hvc := hs74 n _ _ _ _ hvc
            refine j_iload_n hC dX1_cuts_40 rfl 3 rfl ?_
            refine j_aload_n hC dX1_cuts_41 rfl 0 rfl ?_
            obtain ⟨o35, ⟨fs, hr, hv⟩, hvc⟩ := hvc
            refine j_get hC fkX1_10_X1 dX1_cuts_42 hr hv ?_
            clear hv hr fs
            obtain ⟨a36, rfl, hvc⟩ := hvc
            obtain ⟨⟨fs, hr⟩, hvc⟩ := hvc
            refine j_callV (As := []) (rest := [.int x28]) (n := 0) (ci := 0) hC hvc (lw_V q497 q416 q2451 q43 q417) (by decide +kernel) (g_rm hR rfl rfl) rfl hr rfl rfl (g_sum rfl) dX1_cuts_45 (Nat.zero_le _) (Nat.zero_le _) (g_Kip fun x37 hv2 => ?_)
            replace hvc := hv2; clear hv2
            clear hr fs
            replace hvc := g_jn0_o hvc
            obtain ⟨K38, hK72, hvc⟩ := hvc
            have kh39 : K38 → g_J p l e R s m args below meth c 4 E st0 Z 101 [(0, va_rf (some a0)), (1, va_rf (some q5)), (2, .int x17)] [] st29 cb30 sb31 := by
              clear hvc
              intro hvc
              replace hvc := hK72 hvc
              refine j_iinc (lv0 := [(1, va_rf (some q5)), (0, va_rf (some a0))]) hC (-1) dX1_cuts_101 2 rfl rfl rfl [1, 0] rfl (g_okS.h rfl g_c1 rfl) ?_
              refine j_goto (tgt := 32) hC dX1_cuts_104 rfl ?_
              exact j_sub [2, 1, 0] rfl (ih23 (x17 + (-1)) st29 cb30 sb31 hvc)
            refine j_icmp_gt (tgt := 101) hC dX1_cuts_48 rfl (fun c40 => ?_) (fun c40 => ?_)
            · replace hvc := hvc.1 c40
              exact j_sub [0, 1, 2] rfl (kh39 hvc)
            · replace hvc := hvc.2 c40
              refine j_iload_n hC dX1_cuts_51 rfl 3 rfl ?_
              refine j_iload_n hC dX1_cuts_52 rfl 2 rfl ?_
              refine j_bipush hC (nI 10) dX1_cuts_53 rfl ?_
              refine j_iadd hC dX1_cuts_55 ?_
              refine j_icmp_gt (tgt := 101) hC dX1_cuts_56 rfl (fun c41 => ?_) (fun c41 => ?_)
              · replace hvc := hvc.1 c41
                exact j_sub [0, 1, 2] rfl (kh39 hvc)
              · replace hvc := hvc.2 c41
                refine j_aload_n hC dX1_cuts_59 rfl 1 rfl ?_
                refine j_iload_n hC dX1_cuts_60 rfl 3 rfl ?_
                obtain ⟨n42, f43, j44, hr, hi, hj, hJ, hvc⟩ := hvc
                refine j_ix hi ?_
                refine j_lald hC hr hj hJ dX1_cuts_61 ?_
                clear hr hi hj hJ
                refine j_lconst hC 0 dX1_cuts_62 rfl ?_
                refine j_lcmp hC dX1_cuts_63 ?_
                replace hvc := g_jn3_o hvc
                obtain ⟨K48, hK71, hvc⟩ := hvc
                have kh49 : ∀ (st45 : g_St) (cb46 : Nat) (sb47 : Nat), K48 st45 cb46 sb47 → g_J p l e R s m args below meth c 4 E st0 Z 95 [(0, va_rf (some a0)), (1, va_rf (some q5)), (2, .int x17), (3, .int x28)] [] st45 cb46 sb47 := by
                  clear hvc
                  intro st45 cb46 sb47 hvc
                  replace hvc := hK71 _ _ _ hvc
                  refine j_iinc (lv0 := [(2, .int x17), (0, va_rf (some a0)), (1, va_rf (some q5))]) hC (nI 1) dX1_cuts_95 3 rfl rfl rfl [2, 0, 1] rfl (g_okS.h rfl rfl rfl) ?_
                  refine j_goto (tgt := 40) hC dX1_cuts_98 rfl ?_
                  exact j_sub [2, 3, 1, 0] rfl (ih34 (x28 + (nI 1)) st45 cb46 sb47 hvc)
                refine j_if_le (tgt := 95) hC dX1_cuts_64 rfl (fun c50 => ?_) (fun c50 => ?_)
                · replace hvc := hvc.1 c50
                  exact j_sub [0, 1, 2, 3] rfl (kh49 st29 cb30 sb31 hvc)
                · replace hvc := hvc.2 c50
                  refine j_aload_n hC dX1_cuts_67 rfl 0 rfl ?_
                  obtain ⟨o51, ⟨fs, hr, hv⟩, hvc⟩ := hvc
                  refine j_get hC fkX1_19_X1 dX1_cuts_68 hr hv ?_
                  clear hv hr fs
                  refine j_aload_n hC dX1_cuts_71 rfl 0 rfl ?_
                  obtain ⟨o52, ⟨fs, hr, hv⟩, hvc⟩ := hvc
                  refine j_get hC fkX1_10_X1 dX1_cuts_72 hr hv ?_
                  clear hv hr fs
                  refine j_iload_n hC dX1_cuts_75 rfl 2 rfl ?_
                  refine j_iload_n hC dX1_cuts_76 rfl 3 rfl ?_
                  obtain ⟨a53, rfl, hvc⟩ := hvc
                  obtain ⟨mc56, ms57, h1, h2, hvc⟩ := hvc
                  obtain ⟨⟨fs, hr⟩, hvc⟩ := hvc
                  refine j_callV (As := [.int x17, .int x28]) (rest := [va_rf o51]) (n := 2) (ci := 0) hC hvc (lw_V q1592 q1573 q2467 q43 q1574) (by decide +kernel) (g_rm hR rfl rfl) rfl hr rfl rfl (g_sum rfl) dX1_cuts_77 h1 h2 (g_Ka fun o54 st55 hv2 hx => ?_)
                  replace hvc := hv2 hx; clear hx hv2
                  clear hr fs
                  obtain ⟨a58, rfl, hvc⟩ := hvc
                  obtain ⟨⟨fs, hr⟩, hvc⟩ := hvc
                  refine j_callV (As := [va_rf o54]) (rest := []) (n := 1) (ci := 3) hC hvc (lw_V q1593 q1594 q1595 q47 q1596) (by decide +kernel) (g_rm hR rfl rfl) rfl hr rfl rfl (g_sum rfl) dX1_cuts_80 (Nat.zero_le _) (Nat.zero_le _) (g_Kip fun x59 hv2 => ?_)
                  replace hvc := hv2; clear hv2
                  clear hr fs
                  refine j_if_eq (tgt := 95) hC dX1_cuts_83 rfl (fun c60 => ?_) (fun c60 => ?_)
                  · replace hvc := hvc.1 c60
                    exact j_sub [0, 1, 2, 3] rfl (kh49 st55 (cb30 - mc56) (sb31 - ms57) hvc)
                  · replace hvc := hvc.2 c60
                    refine j_aload_n hC dX1_cuts_86 rfl 1 rfl ?_
                    refine j_iload_n hC dX1_cuts_87 rfl 2 rfl ?_
                    refine j_dup2 hC dX1_cuts_88 rfl g_c1 ?_
                    obtain ⟨n61, f62, j63, hr, hi, hj, hJ, hvc⟩ := hvc
                    refine j_ix hi ?_
                    refine j_lald hC hr hj hJ dX1_cuts_89 ?_
                    clear hr hi hj hJ
                    refine j_aload_n hC dX1_cuts_90 rfl 1 rfl ?_
                    refine j_iload_n hC dX1_cuts_91 rfl 3 rfl ?_
                    obtain ⟨n64, f65, j66, hr, hi, hj, hJ, hvc⟩ := hvc
                    refine j_ix hi ?_
                    refine j_lald hC hr hj hJ dX1_cuts_92 ?_
                    clear hr hi hj hJ
                    refine j_ladd hC dX1_cuts_93 ?_
                    obtain ⟨n67, f68, j69, hm, hi, hj, hJ, hvc⟩ := hvc
                    refine j_ix1 hi ?_
                    refine j_stl hC hm hj hJ dX1_cuts_94 (fun st70 e1 => ?_)
                    replace hvc := hvc st70 e1; clear hm hi hj hJ e1
                    exact j_sub [0, 1, 2, 3] rfl (kh49 st70 (cb30 - mc56) (sb31 - ms57) hvc)
        exact j_sub [2, 3, 1, 0] rfl (kh33 n75 (x17 + (nI 1)) st18 cb19 sb20 hvc)
  exact j_sub [2, 1, 0] rfl (kh22 n78 (x16 - (nI 1)) st13 (cb - 1) (sb - n4) hvc)
theorem wk_X1_cuts {l : Launch} {E : g_E} {a0 : Nat} {st : g_St} {mc ms : Nat} {Q : Int64 → g_St → Prop} (hvc : vc_X1_cuts l E a0 st mc ms Q) : wp_X1_cuts l E mc ms [va_rf (some a0)] st Q :=
  g_enter (lv0 := [(0, va_rf (some a0))]) (plainFor_of_name (by decide +kernel)) (by simp [lv_args, g_c1, g_ci, g_cL]) (by simp [lg_sl, g_c1, g_ci, g_cL]) (fun p e s m args below meth c hC => wb_X1_cuts hC ⟨Nat.le_refl _, Nat.le_refl _⟩ (fun pc lv v st1 cb sb hd hq => j_lreturn hC rfl hd (g_lvv hq)) hvc)
abbrev wp_X1_fewest (l : Launch) (E : g_E) (mc ms : Nat) (av : List Value) (st : g_St) (Q : Int32 → g_St → Prop) : Prop := g_WPi l E yX1_fewest cX1_fewest 4 (some .int) 11 282 mc ms av st Q
def vc_X1_fewest (l : Launch) (E : g_E) (a0 : Nat) (st : g_St) (cb sb : Nat) (Q : Int32 → g_St → Prop) : Prop :=
  ∃ o1 : Option Nat, g_gr st a0 15 0 o1 ∧ ∃ a2 : Nat, o1 = some a2 ∧ g_is st a2 0 ∧ wp_J1_length l E 0 0 [va_rf (some a2)] st (fun x3 stx => stx = st ∧ ∃ n4 : Nat, (x3 + (nI 1)) = nI n4 ∧ n4 ≤ 67108864 ∧ 1 ≤ cb ∧ n4 ≤ sb ∧ ∀ (q5 : Nat) (st6 : g_St), q5 = st.2.2 → st6 = g_new st (.inl (0, n4, .inl fun _ => 0)) → ∃ o7 : Option Nat, g_gr st6 a0 15 0 o7 ∧ ∃ a8 : Nat, o7 = some a8 ∧ g_is st6 a8 0 ∧ wp_J1_length l E 0 0 [va_rf (some a8)] st6 (fun x9 stx => stx = st6 ∧ g_lp4 (fun (K14 : Int32 → g_St → Nat → Nat → Prop) (x10 : Int32) (st11 : g_St) (cb12 : Nat) (sb13 : Nat) => (x10 < 0 → ∃ (n18 : Nat) (f19 : Nat → Int32) (j20 : Nat), g_ai st11 q5 0 n18 f19 ∧ (nI 0) = nI j20 ∧ j20 < n18 ∧ j20 < 2 ^ 31 ∧ g_jn1 (fun (K22 : Int32 → Prop) => (¬ (f19 j20) = (nI 99) → ∃ (n25 : Nat) (f26 : Nat → Int32) (j27 : Nat), g_ai st11 q5 0 n25 f26 ∧ (nI 0) = nI j27 ∧ j27 < n25 ∧ j27 < 2 ^ 31 ∧ K22 (f26 j27)) ∧ ((f19 j20) = (nI 99) → K22 (-1))) (fun (x21 : Int32) => Q x21 st11)) ∧ (¬ x10 < 0 → ∃ (n29 : Nat) (f30 : Nat → Int32) (j31 : Nat), st11.2.1 q5 = some (.inl (0, n29, .inl (f30))) ∧ x10 = nI j31 ∧ j31 < n29 ∧ j31 < 2 ^ 31 ∧ ∀ st32 : g_St, st32 = g_put st11 q5 (.inl (0, n29, .inl (va_up f30 j31 (nI 99)))) → g_lp4 (fun (K37 : Int32 → g_St → Nat → Nat → Prop) (x33 : Int32) (st34 : g_St) (cb35 : Nat) (sb36 : Nat) => ∃ o40 : Option Nat, g_gr st34 a0 15 0 o40 ∧ ∃ a41 : Nat, o40 = some a41 ∧ g_is st34 a41 0 ∧ wp_J1_length l E 0 0 [va_rf (some a41)] st34 (fun x42 stx => stx = st34 ∧ g_jn0 (fun (K43 : Prop) => (x42 < x33 → K43) ∧ (¬ x42 < x33 → ((x10 + (nI 10)) < x33 → K43) ∧ (¬ (x10 + (nI 10)) < x33 → ∃ (n47 : Nat) (f48 : Nat → Int32) (j49 : Nat), g_ai st34 q5 0 n47 f48 ∧ x33 = nI j49 ∧ j49 < n47 ∧ j49 < 2 ^ 31 ∧ ∃ (n50 : Nat) (f51 : Nat → Int32) (j52 : Nat), g_ai st34 q5 0 n50 f51 ∧ x10 = nI j52 ∧ j52 < n50 ∧ j52 < 2 ^ 31 ∧ g_jn3 (fun (K56 : g_St → Nat → Nat → Prop) => ((f51 j52) ≤ ((f48 j49) + (nI 1)) → K56 st34 cb35 sb36) ∧ (¬ (f51 j52) ≤ ((f48 j49) + (nI 1)) → ∃ o59 : Option Nat, g_gr st34 a0 15 1 o59 ∧ ∃ o60 : Option Nat, g_gr st34 a0 15 0 o60 ∧ ∃ a61 : Nat, o60 = some a61 ∧ ∃ mc64 ms65 : Nat, mc64 ≤ cb35 ∧ ms65 ≤ sb36 ∧ g_is st34 a61 0 ∧ wp_J1_substring_2 l E mc64 ms65 [va_rf (some a61), .int x10, .int x33] st34 (fun o62 st63 => g_Ext st34 st63 → ∃ a66 : Nat, o59 = some a66 ∧ g_is st63 a66 3 ∧ wp_J5_containsKey l E 0 0 [va_rf (some a66), va_rf o62] st63 (fun x67 stx => stx = st63 ∧ (x67 = 0 → K56 st63 (cb35 - mc64) (sb36 - ms65)) ∧ (¬ x67 = 0 → ∃ (n69 : Nat) (f70 : Nat → Int32) (j71 : Nat), g_ai st63 q5 0 n69 f70 ∧ x33 = nI j71 ∧ j71 < n69 ∧ j71 < 2 ^ 31 ∧ ∃ (n72 : Nat) (f73 : Nat → Int32) (j74 : Nat), st63.2.1 q5 = some (.inl (0, n72, .inl (f73))) ∧ x10 = nI j74 ∧ j74 < n72 ∧ j74 < 2 ^ 31 ∧ ∀ st75 : g_St, st75 = g_put st63 q5 (.inl (0, n72, .inl (va_up f73 j74 ((f70 j71) + (nI 1))))) → K56 st75 (cb35 - mc64) (sb36 - ms65)))))) (fun (st53 : g_St) (cb54 : Nat) (sb55 : Nat) => K37 (x33 + (nI 1)) st53 cb54 sb55)))) (K14 (x10 + (-1)) st34 cb35 sb36))) (x10 + (nI 1)) st32 cb12 sb13)) (x9 - (nI 1)) st6 (cb - 1) (sb - n4)))
set_option maxHeartbeats 4000000 in
theorem wb_X1_fewest {p : Program} {l : Launch} {e : Env} {R : Room} {s : State} {m : MethodId} {args : Array Value} {below : List Frame} {meth : Method} {c : Code} {E : g_E} {st0 : g_St} {Z : State → Prop} (hC : g_Cx p s m args meth c cX1_fewest 4 "Stemspan" (some .int) "fewest" E st0) (hR : g_Rm 11 282 R) {a0 : Nat} {st : g_St} {cb sb : Nat} {Q : Int32 → g_St → Prop} (hret : ∀ (pc : Nat) (lv : List (Nat × Value)) (v : Int32) (st1 : g_St) (cb sb : Nat), decode cX1_fewest pc = .ok (.ireturn, 1) → narrow .int (.int v) = .int v → Q v st1 → g_J p l e R s m args below meth c 4 E st0 Z pc lv [.int v] st1 cb sb) (hvc : vc_X1_fewest l E a0 st cb sb Q) : g_J p l e R s m args below meth c 4 E st0 Z 0 [(0, va_rf (some a0))] [] st cb sb := by
  unfold vc_X1_fewest at hvc
  refine j_aload_n hC dX1_fewest_0 rfl 0 rfl ?_
  obtain ⟨o1, ⟨fs, hr, hv⟩, hvc⟩ := hvc
  refine j_get hC fkX1_10_X1 dX1_fewest_1 hr hv ?_
  clear hv hr fs
  obtain ⟨a2, rfl, hvc⟩ := hvc
  obtain ⟨⟨fs, hr⟩, hvc⟩ := hvc
  refine j_callV (As := []) (rest := []) (n := 0) (ci := 0) hC hvc (lw_V q497 q416 q2451 q43 q417) (by decide +kernel) (g_rm hR rfl rfl) rfl hr rfl rfl (g_sum rfl) dX1_fewest_4 (Nat.zero_le _) (Nat.zero_le _) (g_Kip fun x3 hv2 => ?_)
  replace hvc := hv2; clear hv2
  clear hr fs
  refine j_iconst hC (nI 1) dX1_fewest_7 rfl ?_
  refine j_iadd hC dX1_fewest_8 ?_
  obtain ⟨n4, hi, hn, h1, h2, hvc⟩ := hvc
  refine j_ix hi ?_
  refine j_newI hC q1613 hn h1 h2 dX1_fewest_9 (fun q5 st6 e1 e2 => ?_)
  replace hvc := hvc q5 st6 e1 e2; clear hi hn h1 h2 e1 e2
  refine j_astore_n (lv0 := [(0, va_rf (some a0))]) hC dX1_fewest_11 rfl rfl [0] rfl (g_okS.h rfl g_c1 rfl) ?_
  refine j_aload_n hC dX1_fewest_12 rfl 1 rfl ?_
  obtain ⟨o7, ⟨fs, hr, hv⟩, hvc⟩ := hvc
  refine j_get hC fkX1_10_X1 dX1_fewest_13 hr hv ?_
  clear hv hr fs
  obtain ⟨a8, rfl, hvc⟩ := hvc
  obtain ⟨⟨fs, hr⟩, hvc⟩ := hvc
  refine j_callV (As := []) (rest := []) (n := 0) (ci := 0) hC hvc (lw_V q497 q416 q2451 q43 q417) (by decide +kernel) (g_rm hR rfl rfl) rfl hr rfl rfl (g_sum rfl) dX1_fewest_16 (Nat.zero_le _) (Nat.zero_le _) (g_Kip fun x9 hv2 => ?_)
  replace hvc := hv2; clear hv2
  clear hr fs
  refine j_iconst hC (nI 1) dX1_fewest_19 rfl ?_
  refine j_isub hC dX1_fewest_20 ?_
  refine j_istore_n (lv0 := [(1, va_rf (some q5)), (0, va_rf (some a0))]) hC dX1_fewest_21 rfl rfl [0, 1] rfl (g_okS.h rfl g_c1 rfl) ?_
  replace hvc := g_lp4_o hvc
  obtain ⟨K14, hz81, hs82, n83, hvc⟩ := hvc
  have kh15 : ∀ (n : Nat) (x10 : Int32) (st11 : g_St) (cb12 : Nat) (sb13 : Nat), K14 n x10 st11 cb12 sb13 → g_J p l e R s m args below meth c 4 E st0 Z 22 [(0, va_rf (some a0)), (1, va_rf (some q5)), (2, .int x10)] [] st11 cb12 sb13 := by
    clear hvc
    intro n
    induction n with
    | zero => intro x10 st11 cb12 sb13 hvc; exact absurd hvc (hz81 _ _ _ _)
    | succ n ih16 =>
      intro x10 st11 cb12 sb13 hvc
      replace hvc := hs82 n _ _ _ _ hvc
      refine j_iload_n hC dX1_fewest_22 rfl 2 rfl ?_
      refine j_if_lt (tgt := 104) hC dX1_fewest_23 rfl (fun c17 => ?_) (fun c17 => ?_)
      · replace hvc := hvc.1 c17
        refine j_aload_n hC dX1_fewest_104 rfl 1 rfl ?_
        refine j_iconst hC (nI 0) dX1_fewest_105 rfl ?_
        obtain ⟨n18, f19, j20, hr, hi, hj, hJ, hvc⟩ := hvc
        refine j_ix hi ?_
        refine j_iald hC hr hj hJ dX1_fewest_106 ?_
        clear hr hi hj hJ
        refine j_bipush hC (nI 99) dX1_fewest_107 rfl ?_
        replace hvc := g_jn1_o hvc
        obtain ⟨K22, hK28, hvc⟩ := hvc
        have kh23 : ∀ (x21 : Int32), K22 x21 → g_J p l e R s m args below meth c 4 E st0 Z 119 [] [.int x21] st11 cb12 sb13 := by
          clear hvc
          intro x21 hvc
          replace hvc := hK28 _ hvc
          exact hret _ _ _ _ _ _ dX1_fewest_119 rfl hvc
        refine j_icmp_ne (tgt := 116) hC dX1_fewest_109 rfl (fun c24 => ?_) (fun c24 => ?_)
        · replace hvc := hvc.1 c24
          refine j_aload_n hC dX1_fewest_116 rfl 1 rfl ?_
          refine j_iconst hC (nI 0) dX1_fewest_117 rfl ?_
          obtain ⟨n25, f26, j27, hr, hi, hj, hJ, hvc⟩ := hvc
          refine j_ix hi ?_
          refine j_iald hC hr hj hJ dX1_fewest_118 ?_
          clear hr hi hj hJ
          exact j_sub [] rfl (kh23 (f26 j27) hvc)
        · replace hvc := hvc.2 c24
          refine j_iconst hC (-1) dX1_fewest_112 rfl ?_
          refine j_goto (tgt := 119) hC dX1_fewest_113 rfl ?_
          exact j_sub [] rfl (kh23 (-1) hvc)
      · replace hvc := hvc.2 c17
        refine j_aload_n hC dX1_fewest_26 rfl 1 rfl ?_
        refine j_iload_n hC dX1_fewest_27 rfl 2 rfl ?_
        refine j_bipush hC (nI 99) dX1_fewest_28 rfl ?_
        obtain ⟨n29, f30, j31, hm, hi, hj, hJ, hvc⟩ := hvc
        refine j_ix1 hi ?_
        refine j_sti hC hm hj hJ dX1_fewest_30 (fun st32 e1 => ?_)
        replace hvc := hvc st32 e1; clear hm hi hj hJ e1
        refine j_iload_n hC dX1_fewest_31 rfl 2 rfl ?_
        refine j_iconst hC (nI 1) dX1_fewest_32 rfl ?_
        refine j_iadd hC dX1_fewest_33 ?_
        refine j_istore_n (lv0 := [(2, .int x10), (0, va_rf (some a0)), (1, va_rf (some q5))]) hC dX1_fewest_34 rfl rfl [2, 0, 1] rfl (g_okS.h rfl rfl rfl) ?_
        replace hvc := g_lp4_o hvc
        obtain ⟨K37, hz78, hs79, n80, hvc⟩ := hvc
        have kh38 : ∀ (n : Nat) (x33 : Int32) (st34 : g_St) (cb35 : Nat) (sb36 : Nat), K37 n x33 st34 cb35 sb36 → g_J p l e R s m args below meth c 4 E st0 Z 35 [(0, va_rf (some a0)), (1, va_rf (some q5)), (2, .int x10), (3, .int x33)] [] st34 cb35 sb36 := by
          clear hvc
          intro n
          induction n with
          | zero => intro x33 st34 cb35 sb36 hvc; exact absurd hvc (hz78 _ _ _ _)
          | succ n ih39 =>
            intro x33 st34 cb35 sb36 hvc
            replace hvc := hs79 n _ _ _ _ hvc
            refine j_iload_n hC dX1_fewest_35 rfl 3 rfl ?_
            refine j_aload_n hC dX1_fewest_36 rfl 0 rfl ?_
            obtain ⟨o40, ⟨fs, hr, hv⟩, hvc⟩ := hvc
            refine j_get hC fkX1_10_X1 dX1_fewest_37 hr hv ?_
            clear hv hr fs
            obtain ⟨a41, rfl, hvc⟩ := hvc
            obtain ⟨⟨fs, hr⟩, hvc⟩ := hvc
            refine j_callV (As := []) (rest := [.int x33]) (n := 0) (ci := 0) hC hvc (lw_V q497 q416 q2451 q43 q417) (by decide +kernel) (g_rm hR rfl rfl) rfl hr rfl rfl (g_sum rfl) dX1_fewest_40 (Nat.zero_le _) (Nat.zero_le _) (g_Kip fun x42 hv2 => ?_)
            replace hvc := hv2; clear hv2
            clear hr fs
            replace hvc := g_jn0_o hvc
            obtain ⟨K43, hK77, hvc⟩ := hvc
            have kh44 : K43 → g_J p l e R s m args below meth c 4 E st0 Z 98 [(0, va_rf (some a0)), (1, va_rf (some q5)), (2, .int x10)] [] st34 cb35 sb36 := by
              clear hvc
              intro hvc
              replace hvc := hK77 hvc
              refine j_iinc (lv0 := [(1, va_rf (some q5)), (0, va_rf (some a0))]) hC (-1) dX1_fewest_98 2 rfl rfl rfl [1, 0] rfl (g_okS.h rfl g_c1 rfl) ?_
              refine j_goto (tgt := 22) hC dX1_fewest_101 rfl ?_
              exact j_sub [2, 1, 0] rfl (ih16 (x10 + (-1)) st34 cb35 sb36 hvc)
            refine j_icmp_gt (tgt := 98) hC dX1_fewest_43 rfl (fun c45 => ?_) (fun c45 => ?_)
            · replace hvc := hvc.1 c45
              exact j_sub [0, 1, 2] rfl (kh44 hvc)
            · replace hvc := hvc.2 c45
              refine j_iload_n hC dX1_fewest_46 rfl 3 rfl ?_
              refine j_iload_n hC dX1_fewest_47 rfl 2 rfl ?_
              refine j_bipush hC (nI 10) dX1_fewest_48 rfl ?_
              refine j_iadd hC dX1_fewest_50 ?_
              refine j_icmp_gt (tgt := 98) hC dX1_fewest_51 rfl (fun c46 => ?_) (fun c46 => ?_)
              · replace hvc := hvc.1 c46
                exact j_sub [0, 1, 2] rfl (kh44 hvc)
              · replace hvc := hvc.2 c46
                refine j_aload_n hC dX1_fewest_54 rfl 1 rfl ?_
                refine j_iload_n hC dX1_fewest_55 rfl 3 rfl ?_
                obtain ⟨n47, f48, j49, hr, hi, hj, hJ, hvc⟩ := hvc
                refine j_ix hi ?_
                refine j_iald hC hr hj hJ dX1_fewest_56 ?_
                clear hr hi hj hJ
                refine j_iconst hC (nI 1) dX1_fewest_57 rfl ?_
                refine j_iadd hC dX1_fewest_58 ?_
                refine j_aload_n hC dX1_fewest_59 rfl 1 rfl ?_
                refine j_iload_n hC dX1_fewest_60 rfl 2 rfl ?_
                obtain ⟨n50, f51, j52, hr, hi, hj, hJ, hvc⟩ := hvc
                refine j_ix hi ?_
                refine j_iald hC hr hj hJ dX1_fewest_61 ?_
                clear hr hi hj hJ
                replace hvc := g_jn3_o hvc
                obtain ⟨K56, hK76, hvc⟩ := hvc
                have kh57 : ∀ (st53 : g_St) (cb54 : Nat) (sb55 : Nat), K56 st53 cb54 sb55 → g_J p l e R s m args below meth c 4 E st0 Z 92 [(0, va_rf (some a0)), (1, va_rf (some q5)), (2, .int x10), (3, .int x33)] [] st53 cb54 sb55 := by
                  clear hvc
                  intro st53 cb54 sb55 hvc
                  replace hvc := hK76 _ _ _ hvc
                  refine j_iinc (lv0 := [(2, .int x10), (0, va_rf (some a0)), (1, va_rf (some q5))]) hC (nI 1) dX1_fewest_92 3 rfl rfl rfl [2, 0, 1] rfl (g_okS.h rfl rfl rfl) ?_
                  refine j_goto (tgt := 35) hC dX1_fewest_95 rfl ?_
                  exact j_sub [2, 3, 1, 0] rfl (ih39 (x33 + (nI 1)) st53 cb54 sb55 hvc)
                refine j_icmp_ge (tgt := 92) hC dX1_fewest_62 rfl (fun c58 => ?_) (fun c58 => ?_)
                · replace hvc := hvc.1 c58
                  exact j_sub [0, 1, 2, 3] rfl (kh57 st34 cb35 sb36 hvc)
                · replace hvc := hvc.2 c58
                  refine j_aload_n hC dX1_fewest_65 rfl 0 rfl ?_
                  obtain ⟨o59, ⟨fs, hr, hv⟩, hvc⟩ := hvc
                  refine j_get hC fkX1_19_X1 dX1_fewest_66 hr hv ?_
                  clear hv hr fs
                  refine j_aload_n hC dX1_fewest_69 rfl 0 rfl ?_
                  obtain ⟨o60, ⟨fs, hr, hv⟩, hvc⟩ := hvc
                  refine j_get hC fkX1_10_X1 dX1_fewest_70 hr hv ?_
                  clear hv hr fs
                  refine j_iload_n hC dX1_fewest_73 rfl 2 rfl ?_
                  refine j_iload_n hC dX1_fewest_74 rfl 3 rfl ?_
                  obtain ⟨a61, rfl, hvc⟩ := hvc
                  obtain ⟨mc64, ms65, h1, h2, hvc⟩ := hvc
                  obtain ⟨⟨fs, hr⟩, hvc⟩ := hvc
                  refine j_callV (As := [.int x10, .int x33]) (rest := [va_rf o59]) (n := 2) (ci := 0) hC hvc (lw_V q1592 q1573 q2467 q43 q1574) (by decide +kernel) (g_rm hR rfl rfl) rfl hr rfl rfl (g_sum rfl) dX1_fewest_75 h1 h2 (g_Ka fun o62 st63 hv2 hx => ?_)
                  replace hvc := hv2 hx; clear hx hv2
                  clear hr fs
                  obtain ⟨a66, rfl, hvc⟩ := hvc
                  obtain ⟨⟨fs, hr⟩, hvc⟩ := hvc
                  refine j_callV (As := [va_rf o62]) (rest := []) (n := 1) (ci := 3) hC hvc (lw_V q1593 q1594 q1595 q47 q1596) (by decide +kernel) (g_rm hR rfl rfl) rfl hr rfl rfl (g_sum rfl) dX1_fewest_78 (Nat.zero_le _) (Nat.zero_le _) (g_Kip fun x67 hv2 => ?_)
                  replace hvc := hv2; clear hv2
                  clear hr fs
                  refine j_if_eq (tgt := 92) hC dX1_fewest_81 rfl (fun c68 => ?_) (fun c68 => ?_)
                  · replace hvc := hvc.1 c68
                    exact j_sub [0, 1, 2, 3] rfl (kh57 st63 (cb35 - mc64) (sb36 - ms65) hvc)
                  · replace hvc := hvc.2 c68
                    refine j_aload_n hC dX1_fewest_84 rfl 1 rfl ?_
                    refine j_iload_n hC dX1_fewest_85 rfl 2 rfl ?_
                    refine j_aload_n hC dX1_fewest_86 rfl 1 rfl ?_
                    refine j_iload_n hC dX1_fewest_87 rfl 3 rfl ?_
                    obtain ⟨n69, f70, j71, hr, hi, hj, hJ, hvc⟩ := hvc
                    refine j_ix hi ?_
                    refine j_iald hC hr hj hJ dX1_fewest_88 ?_
                    clear hr hi hj hJ
                    refine j_iconst hC (nI 1) dX1_fewest_89 rfl ?_
                    refine j_iadd hC dX1_fewest_90 ?_
                    obtain ⟨n72, f73, j74, hm, hi, hj, hJ, hvc⟩ := hvc
                    refine j_ix1 hi ?_
                    refine j_sti hC hm hj hJ dX1_fewest_91 (fun st75 e1 => ?_)
                    replace hvc := hvc st75 e1; clear hm hi hj hJ e1
                    exact j_sub [0, 1, 2, 3] rfl (kh57 st75 (cb35 - mc64) (sb36 - ms65) hvc)
        exact j_sub [2, 3, 1, 0] rfl (kh38 n80 (x10 + (nI 1)) st32 cb12 sb13 hvc)
  exact j_sub [2, 1, 0] rfl (kh15 n83 (x9 - (nI 1)) st6 (cb - 1) (sb - n4) hvc)
theorem wk_X1_fewest {l : Launch} {E : g_E} {a0 : Nat} {st : g_St} {mc ms : Nat} {Q : Int32 → g_St → Prop} (hvc : vc_X1_fewest l E a0 st mc ms Q) : wp_X1_fewest l E mc ms [va_rf (some a0)] st Q :=
  g_enter (lv0 := [(0, va_rf (some a0))]) (plainFor_of_name (by decide +kernel)) (by simp [lv_args, g_c1, g_ci, g_cL]) (by simp [lg_sl, g_c1, g_ci, g_cL]) (fun p e s m args below meth c hC => wb_X1_fewest hC ⟨Nat.le_refl _, Nat.le_refl _⟩ (fun pc lv v st1 cb sb hd hn hq => j_ireturn hC rfl hn hd (g_iv hq)) hvc)
abbrev wp_X1_all (l : Launch) (E : g_E) (mc ms : Nat) (av : List Value) (st : g_St) (Q : Option Nat → g_St → Prop) : Prop := g_WPa l E yX1_all cX1_all 5 (some (.array (.object "java/lang/String"))) 6 142 mc ms av st Q
def vc_X1_all (l : Launch) (E : g_E) (a0 : Nat) (st : g_St) (cb sb : Nat) (Q : Option Nat → g_St → Prop) : Prop :=
  ∃ o1 : Option Nat, g_gr st a0 15 1 o1 ∧ ∃ a2 : Nat, o1 = some a2 ∧ g_is st a2 3 ∧ wp_J5_size l E 0 0 [va_rf (some a2)] st (fun x3 stx => stx = st ∧ ∃ n4 : Nat, x3 = nI n4 ∧ n4 ≤ 67108864 ∧ 1 ≤ cb ∧ n4 ≤ sb ∧ ∀ (q5 : Nat) (st6 : g_St), q5 = st.2.2 → st6 = g_new st (.inl (4, n4, .inr (.inr (.inr (.inr fun _ => none))))) → ∃ o7 : Option Nat, g_gr st6 a0 15 1 o7 ∧ ∃ a8 : Nat, o7 = some a8 ∧ ∃ mc11 ms12 : Nat, mc11 ≤ (cb - 1) ∧ ms12 ≤ (sb - n4) ∧ g_is st6 a8 3 ∧ wp_J5_keySet l E mc11 ms12 [va_rf (some a8)] st6 (fun o9 st10 => g_Ext st6 st10 → ∃ a13 : Nat, o9 = some a13 ∧ ∃ mc16 ms17 : Nat, mc16 ≤ ((cb - 1) - mc11) ∧ ms17 ≤ ((sb - n4) - ms12) ∧ g_is st10 a13 8 ∧ wp_J36_iterator l E mc16 ms17 [va_rf (some a13)] st10 (fun o14 st15 => g_Ext st10 st15 → g_lp2 (fun (K20 : Int32 → g_St → Prop) (x18 : Int32) (st19 : g_St) => ∃ a23 : Nat, o14 = some a23 ∧ g_is st19 a23 10 ∧ wp_J37_hasNext_J39 l E 0 0 [va_rf (some a23)] st19 (fun x24 stx => stx = st19 ∧ (x24 = 0 → Q (some q5) st19) ∧ (¬ x24 = 0 → g_is st19 a23 10 ∧ wp_J39_next l E 0 0 [va_rf (some a23)] st19 (fun o26 st27 => g_Ext st19 st27 → g_isN st27 o26 1 ∧ ∃ (n28 : Nat) (f29 : Nat → Option Nat) (j30 : Nat), st27.2.1 q5 = some (.inl (4, n28, .inr (.inr (.inr (.inr (f29)))))) ∧ x18 = nI j30 ∧ j30 < n28 ∧ j30 < 2 ^ 31 ∧ g_isN st27 o26 1 ∧ ∀ st31 : g_St, st31 = g_put st27 q5 (.inl (4, n28, .inr (.inr (.inr (.inr (va_up f29 j30 o26)))))) → K20 (x18 + (nI 1)) st31)))) (nI 0) st15)))
set_option maxHeartbeats 4000000 in
theorem wb_X1_all {p : Program} {l : Launch} {e : Env} {R : Room} {s : State} {m : MethodId} {args : Array Value} {below : List Frame} {meth : Method} {c : Code} {E : g_E} {st0 : g_St} {Z : State → Prop} (hC : g_Cx p s m args meth c cX1_all 5 "Stemspan" (some (.array (.object "java/lang/String"))) "all" E st0) (hR : g_Rm 6 142 R) {a0 : Nat} {st : g_St} {cb sb : Nat} {Q : Option Nat → g_St → Prop} (hret : ∀ (pc : Nat) (lv : List (Nat × Value)) (v : Option Nat) (st1 : g_St) (cb sb : Nat), decode cX1_all pc = .ok (.areturn, 1) → Q v st1 → g_J p l e R s m args below meth c 5 E st0 Z pc lv [va_rf v] st1 cb sb) (hvc : vc_X1_all l E a0 st cb sb Q) : g_J p l e R s m args below meth c 5 E st0 Z 0 [(0, va_rf (some a0))] [] st cb sb := by
  unfold vc_X1_all at hvc
  refine j_aload_n hC dX1_all_0 rfl 0 rfl ?_
  obtain ⟨o1, ⟨fs, hr, hv⟩, hvc⟩ := hvc
  refine j_get hC fkX1_19_X1 dX1_all_1 hr hv ?_
  clear hv hr fs
  obtain ⟨a2, rfl, hvc⟩ := hvc
  obtain ⟨⟨fs, hr⟩, hvc⟩ := hvc
  refine j_callV (As := []) (rest := []) (n := 0) (ci := 3) hC hvc (lw_V q614 q615 q616 q47 q617) (by decide +kernel) (g_rm hR rfl rfl) rfl hr rfl rfl (g_sum rfl) dX1_all_4 (Nat.zero_le _) (Nat.zero_le _) (g_Kip fun x3 hv2 => ?_)
  replace hvc := hv2; clear hv2
  clear hr fs
  obtain ⟨n4, hi, hn, h1, h2, hvc⟩ := hvc
  refine j_ix hi ?_
  refine j_newS hC q174 ge_92 hn h1 h2 dX1_all_7 (fun q5 st6 e1 e2 => ?_)
  replace hvc := hvc q5 st6 e1 e2; clear hi hn h1 h2 e1 e2
  refine j_astore_n (lv0 := [(0, va_rf (some a0))]) hC dX1_all_10 rfl rfl [0] rfl (g_okS.h rfl g_c1 rfl) ?_
  refine j_iconst hC (nI 0) dX1_all_11 rfl ?_
  refine j_istore_n (lv0 := [(1, va_rf (some q5)), (0, va_rf (some a0))]) hC dX1_all_12 rfl rfl [0, 1] rfl (g_okS.h rfl g_c1 rfl) ?_
  refine j_aload_n hC dX1_all_13 rfl 2 rfl ?_
  obtain ⟨o7, ⟨fs, hr, hv⟩, hvc⟩ := hvc
  refine j_get hC fkX1_19_X1 dX1_all_14 hr hv ?_
  clear hv hr fs
  obtain ⟨a8, rfl, hvc⟩ := hvc
  obtain ⟨mc11, ms12, h1, h2, hvc⟩ := hvc
  obtain ⟨⟨fs, hr⟩, hvc⟩ := hvc
  refine j_callV (As := []) (rest := []) (n := 0) (ci := 3) hC hvc (lw_V q1622 q1623 q1624 q47 q1625) (by decide +kernel) (g_rm hR rfl rfl) rfl hr rfl rfl (g_sum rfl) dX1_all_17 h1 h2 (g_Ka fun o9 st10 hv2 hx => ?_)
  replace hvc := hv2 hx; clear hx hv2
  clear hr fs
  obtain ⟨a13, rfl, hvc⟩ := hvc
  obtain ⟨mc16, ms17, h1, h2, hvc⟩ := hvc
  obtain ⟨⟨fs, hr⟩, hvc⟩ := hvc
  refine j_callF (As := []) (rest := []) (n := 0) (x := ⟨"java/util/Set", "iterator", "()Ljava/util/Iterator;"⟩) (C := "java/util/TreeMap$KeySet") (ci := 8) hC hvc (lw_F q1641 q1304 q1306 q82 q1308) gf_17 (by decide +kernel) (g_rm hR rfl rfl) rfl hr rfl rfl (g_sum rfl) dX1_all_20 h1 h2 (g_Ka fun o14 st15 hv2 hx => ?_)
  replace hvc := hv2 hx; clear hx hv2
  clear hr fs
  refine j_astore_n (lv0 := [(2, .int (nI 0)), (1, va_rf (some q5)), (0, va_rf (some a0))]) hC dX1_all_25 rfl rfl [0, 1, 2] rfl (g_okS.h rfl rfl rfl) ?_
  replace hvc := g_lp2_o hvc
  obtain ⟨K20, hz32, hs33, n34, hvc⟩ := hvc
  have kh21 : ∀ (n : Nat) (x18 : Int32) (st19 : g_St), K20 n x18 st19 → g_J p l e R s m args below meth c 5 E st0 Z 26 [(1, va_rf (some q5)), (2, .int x18), (3, va_rf o14)] [] st19 (((cb - 1) - mc11) - mc16) (((sb - n4) - ms12) - ms17) := by
    clear hvc
    intro n
    induction n with
    | zero => intro x18 st19 hvc; exact absurd hvc (hz32 _ _)
    | succ n ih22 =>
      intro x18 st19 hvc
      replace hvc := hs33 n _ _ hvc
      refine j_aload_n hC dX1_all_26 rfl 2 rfl ?_
      obtain ⟨a23, rfl, hvc⟩ := hvc
      obtain ⟨⟨fs, hr⟩, hvc⟩ := hvc
      refine j_callF (As := []) (rest := []) (n := 0) (x := ⟨"java/util/Iterator", "hasNext", "()Z"⟩) (C := "java/util/TreeMap$KeyIterator") (ci := 10) hC hvc (lw_F q1382 q1020 q1016 q83 q1018) gf_23 (by decide +kernel) (g_rm hR rfl rfl) rfl hr rfl rfl (g_sum rfl) dX1_all_27 (Nat.zero_le _) (Nat.zero_le _) (g_Kip fun x24 hv2 => ?_)
      replace hvc := hv2; clear hv2
      clear hr fs
      refine j_if_eq (tgt := 57) hC dX1_all_32 rfl (fun c25 => ?_) (fun c25 => ?_)
      · replace hvc := hvc.1 c25
        refine j_aload_n hC dX1_all_57 rfl 0 rfl ?_
        exact hret _ _ _ _ _ _ dX1_all_58 hvc
      · replace hvc := hvc.2 c25
        refine j_aload_n hC dX1_all_35 rfl 2 rfl ?_
        obtain ⟨⟨fs, hr⟩, hvc⟩ := hvc
        refine j_callF (As := []) (rest := []) (n := 0) (x := ⟨"java/util/Iterator", "next", "()Ljava/lang/Object;"⟩) (C := "java/util/TreeMap$KeyIterator") (ci := 10) hC hvc (lw_F q1384 q1084 q1086 q85 q1088) gf_24 (by decide +kernel) (g_rm hR rfl rfl) rfl hr rfl rfl (g_sum rfl) dX1_all_36 (Nat.zero_le _) (Nat.zero_le _) (g_Ka fun o26 st27 hv2 hx => ?_)
        replace hvc := hv2 hx; clear hx hv2
        clear hr fs
        obtain ⟨hv, hvc⟩ := hvc
        refine j_cast hC (C := "java/lang/String") (ci := 1) q174 rfl (Or.inl rfl) hv dX1_all_41 ?_
        clear hv
        refine j_astore (lv0 := [(3, va_rf (some a23)), (1, va_rf (some q5)), (2, .int x18)]) hC dX1_all_44 rfl [2, 0, 1] rfl (g_okS.h rfl g_c1 rfl) ?_
        refine j_aload_n hC dX1_all_46 rfl 2 rfl ?_
        refine j_iload_n hC dX1_all_47 rfl 3 rfl ?_
        refine j_aload hC dX1_all_48 0 rfl ?_
        obtain ⟨n28, f29, j30, hm, hi, hj, hJ, hv, hvc⟩ := hvc
        refine j_ix1 hi ?_
        refine j_aast hC hm hj hJ (ci := 1) rfl hv dX1_all_50 (fun st31 e1 => ?_)
        replace hvc := hvc st31 e1; clear hm hi hj hJ hv e1
        refine j_iinc (lv0 := [(1, va_rf (some q5)), (4, va_rf o26), (3, va_rf (some a23))]) hC (nI 1) dX1_all_51 3 rfl rfl rfl [2, 0, 1] rfl (g_okS.h rfl g_c1 rfl) ?_
        refine j_goto (tgt := 26) hC dX1_all_54 rfl ?_
        exact j_sub [1, 0, 3] rfl (ih22 (x18 + (nI 1)) st31 hvc)
  exact j_sub [2, 1, 0] rfl (kh21 n34 (nI 0) st15 hvc)
theorem wk_X1_all {l : Launch} {E : g_E} {a0 : Nat} {st : g_St} {mc ms : Nat} {Q : Option Nat → g_St → Prop} (hvc : vc_X1_all l E a0 st mc ms Q) : wp_X1_all l E mc ms [va_rf (some a0)] st Q :=
  g_enter (lv0 := [(0, va_rf (some a0))]) (plainFor_of_name (by decide +kernel)) (by simp [lv_args, g_c1, g_ci, g_cL]) (by simp [lg_sl, g_c1, g_ci, g_cL]) (fun p e s m args below meth c hC => wb_X1_all hC ⟨Nat.le_refl _, Nat.le_refl _⟩ (fun pc lv v st1 cb sb hd hq => j_areturn hC rfl (by first | exact Or.inl ⟨_, rfl⟩ | exact Or.inr ⟨_, rfl⟩) hd (g_av hq)) hvc)
abbrev wp_X1_isOrderly (l : Launch) (E : g_E) (mc ms : Nat) (av : List Value) (st : g_St) (Q : Int32 → g_St → Prop) : Prop := g_WPi l E yX1_isOrderly cX1_isOrderly 2 (some .boolean) 8 216 mc ms av st Q
def vc_X1_isOrderly (l : Launch) (E : g_E) (a0 : Nat) (st : g_St) (Q : Int32 → g_St → Prop) : Prop :=
  g_lp1 (fun (K2 : Int32 → Prop) (x1 : Int32) => ((nI 6) ≤ x1 → Q (nI 1) st) ∧ (¬ (nI 6) ≤ x1 → ∃ o6 : Option Nat, g_gr st a0 15 2 o6 ∧ ∃ a7 : Nat, o6 = some a7 ∧ ∃ (n8 : Nat) (f9 : Nat → Option Nat) (j10 : Nat), g_ar st a7 4 n8 f9 ∧ (x1 - (nI 1)) = nI j10 ∧ j10 < n8 ∧ j10 < 2 ^ 31 ∧ ∀ o11 : Option Nat, o11 = f9 j10 → ∃ o12 : Option Nat, g_gr st a0 15 2 o12 ∧ ∃ a13 : Nat, o12 = some a13 ∧ ∃ (n14 : Nat) (f15 : Nat → Option Nat) (j16 : Nat), g_ar st a13 4 n14 f15 ∧ x1 = nI j16 ∧ j16 < n14 ∧ j16 < 2 ^ 31 ∧ ∀ o17 : Option Nat, o17 = f15 j16 → ∃ a18 : Nat, o11 = some a18 ∧ g_is st a18 1 ∧ wp_J2_compareTo_2 l E 0 0 [va_rf (some a18), va_rf o17] st (fun x19 stx => stx = st ∧ g_jn0 (fun (K20 : Prop) => (0 ≤ x19 → K20) ∧ (¬ 0 ≤ x19 → ∃ o23 : Option Nat, g_gr st a0 15 2 o23 ∧ ∃ a24 : Nat, o23 = some a24 ∧ ∃ (n25 : Nat) (f26 : Nat → Option Nat) (j27 : Nat), g_ar st a24 4 n25 f26 ∧ (x1 - (nI 1)) = nI j27 ∧ j27 < n25 ∧ j27 < 2 ^ 31 ∧ ∀ o28 : Option Nat, o28 = f26 j27 → ∃ o29 : Option Nat, g_gr st a0 15 2 o29 ∧ ∃ a30 : Nat, o29 = some a30 ∧ ∃ (n31 : Nat) (f32 : Nat → Option Nat) (j33 : Nat), g_ar st a30 4 n31 f32 ∧ x1 = nI j33 ∧ j33 < n31 ∧ j33 < 2 ^ 31 ∧ ∀ o34 : Option Nat, o34 = f32 j33 → wp_X1_common l E 0 0 [va_rf o28, va_rf o34] st (fun x35 stx => stx = st ∧ ∃ o36 : Option Nat, g_gr st a0 15 2 o36 ∧ ∃ a37 : Nat, o36 = some a37 ∧ ∃ (n38 : Nat) (f39 : Nat → Option Nat) (j40 : Nat), g_ar st a37 4 n38 f39 ∧ (x1 - (nI 1)) = nI j40 ∧ j40 < n38 ∧ j40 < 2 ^ 31 ∧ ∀ o41 : Option Nat, o41 = f39 j40 → ∃ a42 : Nat, o41 = some a42 ∧ g_is st a42 1 ∧ wp_J2_length l E 0 0 [va_rf (some a42)] st (fun x43 stx => stx = st ∧ (¬ x35 = x43 → K2 (x1 + (nI 1))) ∧ (x35 = x43 → K20))))) (Q (nI 0) st)))) (nI 1)
set_option maxHeartbeats 4000000 in
theorem wb_X1_isOrderly {p : Program} {l : Launch} {e : Env} {R : Room} {s : State} {m : MethodId} {args : Array Value} {below : List Frame} {meth : Method} {c : Code} {E : g_E} {st0 : g_St} {Z : State → Prop} (hC : g_Cx p s m args meth c cX1_isOrderly 2 "Stemspan" (some .boolean) "isOrderly" E st0) (hR : g_Rm 8 216 R) {a0 : Nat} {st : g_St} {cb sb : Nat} {Q : Int32 → g_St → Prop} (hret : ∀ (pc : Nat) (lv : List (Nat × Value)) (v : Int32) (st1 : g_St) (cb sb : Nat), decode cX1_isOrderly pc = .ok (.ireturn, 1) → narrow .boolean (.int v) = .int v → Q v st1 → g_J p l e R s m args below meth c 2 E st0 Z pc lv [.int v] st1 cb sb) (hvc : vc_X1_isOrderly l E a0 st Q) : g_J p l e R s m args below meth c 2 E st0 Z 0 [(0, va_rf (some a0))] [] st cb sb := by
  unfold vc_X1_isOrderly at hvc
  refine j_iconst hC (nI 1) dX1_isOrderly_0 rfl ?_
  refine j_istore_n (lv0 := [(0, va_rf (some a0))]) hC dX1_isOrderly_1 rfl rfl [0] rfl (g_okS.h rfl g_c1 rfl) ?_
  replace hvc := g_lp1_o hvc
  obtain ⟨K2, hz46, hs47, n48, hvc⟩ := hvc
  have kh3 : ∀ (n : Nat) (x1 : Int32), K2 n x1 → g_J p l e R s m args below meth c 2 E st0 Z 2 [(0, va_rf (some a0)), (1, .int x1)] [] st cb sb := by
    clear hvc
    intro n
    induction n with
    | zero => intro x1 hvc; exact absurd hvc (hz46 _)
    | succ n ih4 =>
      intro x1 hvc
      replace hvc := hs47 n _ hvc
      refine j_iload_n hC dX1_isOrderly_2 rfl 1 rfl ?_
      refine j_bipush hC (nI 6) dX1_isOrderly_3 rfl ?_
      refine j_icmp_ge (tgt := 67) hC dX1_isOrderly_5 rfl (fun c5 => ?_) (fun c5 => ?_)
      · replace hvc := hvc.1 c5
        refine j_iconst hC (nI 1) dX1_isOrderly_67 rfl ?_
        exact hret _ _ _ _ _ _ dX1_isOrderly_68 rfl hvc
      · replace hvc := hvc.2 c5
        refine j_aload_n hC dX1_isOrderly_8 rfl 0 rfl ?_
        obtain ⟨o6, ⟨fs, hr, hv⟩, hvc⟩ := hvc
        refine j_get hC fkX1_25_X1 dX1_isOrderly_9 hr hv ?_
        clear hv hr fs
        refine j_iload_n hC dX1_isOrderly_12 rfl 1 rfl ?_
        refine j_iconst hC (nI 1) dX1_isOrderly_13 rfl ?_
        refine j_isub hC dX1_isOrderly_14 ?_
        obtain ⟨a7, rfl, hvc⟩ := hvc
        obtain ⟨n8, f9, j10, hr, hi, hj, hJ, hvc⟩ := hvc
        replace hvc := hvc _ rfl
        refine j_ix hi ?_
        refine j_aald hC (by decide) hr hj hJ dX1_isOrderly_15 ?_
        generalize f9 j10 = o11 at hvc ⊢
        clear hr hi hj hJ
        refine j_aload_n hC dX1_isOrderly_16 rfl 0 rfl ?_
        obtain ⟨o12, ⟨fs, hr, hv⟩, hvc⟩ := hvc
        refine j_get hC fkX1_25_X1 dX1_isOrderly_17 hr hv ?_
        clear hv hr fs
        refine j_iload_n hC dX1_isOrderly_20 rfl 1 rfl ?_
        obtain ⟨a13, rfl, hvc⟩ := hvc
        obtain ⟨n14, f15, j16, hr, hi, hj, hJ, hvc⟩ := hvc
        replace hvc := hvc _ rfl
        refine j_ix hi ?_
        refine j_aald hC (by decide) hr hj hJ dX1_isOrderly_21 ?_
        generalize f15 j16 = o17 at hvc ⊢
        clear hr hi hj hJ
        obtain ⟨a18, rfl, hvc⟩ := hvc
        obtain ⟨⟨fs, hr⟩, hvc⟩ := hvc
        refine j_callV (As := [va_rf o17]) (rest := []) (n := 1) (ci := 1) hC hvc (lw_V q1669 q669 q670 q44 q671) (by decide +kernel) (g_rm hR rfl rfl) rfl hr rfl rfl (g_sum rfl) dX1_isOrderly_22 (Nat.zero_le _) (Nat.zero_le _) (g_Kip fun x19 hv2 => ?_)
        replace hvc := hv2; clear hv2
        clear hr fs
        replace hvc := g_jn0_o hvc
        obtain ⟨K20, hK45, hvc⟩ := hvc
        have kh21 : K20 → g_J p l e R s m args below meth c 2 E st0 Z 59 [] [] st cb sb := by
          clear hvc
          intro hvc
          replace hvc := hK45 hvc
          refine j_iconst hC (nI 0) dX1_isOrderly_59 rfl ?_
          exact hret _ _ _ _ _ _ dX1_isOrderly_60 rfl hvc
        refine j_if_ge (tgt := 59) hC dX1_isOrderly_25 rfl (fun c22 => ?_) (fun c22 => ?_)
        · replace hvc := hvc.1 c22
          exact j_sub [] rfl (kh21 hvc)
        · replace hvc := hvc.2 c22
          refine j_aload_n hC dX1_isOrderly_28 rfl 0 rfl ?_
          obtain ⟨o23, ⟨fs, hr, hv⟩, hvc⟩ := hvc
          refine j_get hC fkX1_25_X1 dX1_isOrderly_29 hr hv ?_
          clear hv hr fs
          refine j_iload_n hC dX1_isOrderly_32 rfl 1 rfl ?_
          refine j_iconst hC (nI 1) dX1_isOrderly_33 rfl ?_
          refine j_isub hC dX1_isOrderly_34 ?_
          obtain ⟨a24, rfl, hvc⟩ := hvc
          obtain ⟨n25, f26, j27, hr, hi, hj, hJ, hvc⟩ := hvc
          replace hvc := hvc _ rfl
          refine j_ix hi ?_
          refine j_aald hC (by decide) hr hj hJ dX1_isOrderly_35 ?_
          generalize f26 j27 = o28 at hvc ⊢
          clear hr hi hj hJ
          refine j_aload_n hC dX1_isOrderly_36 rfl 0 rfl ?_
          obtain ⟨o29, ⟨fs, hr, hv⟩, hvc⟩ := hvc
          refine j_get hC fkX1_25_X1 dX1_isOrderly_37 hr hv ?_
          clear hv hr fs
          refine j_iload_n hC dX1_isOrderly_40 rfl 1 rfl ?_
          obtain ⟨a30, rfl, hvc⟩ := hvc
          obtain ⟨n31, f32, j33, hr, hi, hj, hJ, hvc⟩ := hvc
          replace hvc := hvc _ rfl
          refine j_ix hi ?_
          refine j_aald hC (by decide) hr hj hJ dX1_isOrderly_41 ?_
          generalize f32 j33 = o34 at hvc ⊢
          clear hr hi hj hJ
          refine j_callS (As := [va_rf o28, va_rf o34]) (rest := []) (n := 2) hC hvc (lw_S q1543 q1544 q41 q1545) (by decide +kernel) (g_rm hR rfl rfl) rfl rfl (g_sum rfl) dX1_isOrderly_42 (Nat.zero_le _) (Nat.zero_le _) (g_Kip fun x35 hv2 => ?_)
          replace hvc := hv2; clear hv2
          refine j_aload_n hC dX1_isOrderly_45 rfl 0 rfl ?_
          obtain ⟨o36, ⟨fs, hr, hv⟩, hvc⟩ := hvc
          refine j_get hC fkX1_25_X1 dX1_isOrderly_46 hr hv ?_
          clear hv hr fs
          refine j_iload_n hC dX1_isOrderly_49 rfl 1 rfl ?_
          refine j_iconst hC (nI 1) dX1_isOrderly_50 rfl ?_
          refine j_isub hC dX1_isOrderly_51 ?_
          obtain ⟨a37, rfl, hvc⟩ := hvc
          obtain ⟨n38, f39, j40, hr, hi, hj, hJ, hvc⟩ := hvc
          replace hvc := hvc _ rfl
          refine j_ix hi ?_
          refine j_aald hC (by decide) hr hj hJ dX1_isOrderly_52 ?_
          generalize f39 j40 = o41 at hvc ⊢
          clear hr hi hj hJ
          obtain ⟨a42, rfl, hvc⟩ := hvc
          obtain ⟨⟨fs, hr⟩, hvc⟩ := hvc
          refine j_callV (As := []) (rest := [.int x35]) (n := 0) (ci := 1) hC hvc (lw_V q1546 q182 q183 q44 q184) (by decide +kernel) (g_rm hR rfl rfl) rfl hr rfl rfl (g_sum rfl) dX1_isOrderly_53 (Nat.zero_le _) (Nat.zero_le _) (g_Kip fun x43 hv2 => ?_)
          replace hvc := hv2; clear hv2
          clear hr fs
          refine j_icmp_ne (tgt := 61) hC dX1_isOrderly_56 rfl (fun c44 => ?_) (fun c44 => ?_)
          · replace hvc := hvc.1 c44
            refine j_iinc (lv0 := [(0, va_rf (some a0))]) hC (nI 1) dX1_isOrderly_61 1 rfl rfl rfl [0] rfl (g_okS.h rfl g_c1 rfl) ?_
            refine j_goto (tgt := 2) hC dX1_isOrderly_64 rfl ?_
            exact j_sub [1, 0] rfl (ih4 (x1 + (nI 1)) hvc)
          · replace hvc := hvc.2 c44
            exact j_sub [] rfl (kh21 hvc)
  exact j_sub [1, 0] rfl (kh3 n48 (nI 1) hvc)
theorem wk_X1_isOrderly {l : Launch} {E : g_E} {a0 : Nat} {st : g_St} {mc ms : Nat} {Q : Int32 → g_St → Prop} (hvc : vc_X1_isOrderly l E a0 st Q) : wp_X1_isOrderly l E mc ms [va_rf (some a0)] st Q :=
  g_enter (lv0 := [(0, va_rf (some a0))]) (plainFor_of_name (by decide +kernel)) (by simp [lv_args, g_c1, g_ci, g_cL]) (by simp [lg_sl, g_c1, g_ci, g_cL]) (fun p e s m args below meth c hC => wb_X1_isOrderly hC ⟨Nat.le_refl _, Nat.le_refl _⟩ (fun pc lv v st1 cb sb hd hn hq => j_ireturn hC rfl hn hd (g_iv hq)) hvc)
abbrev wp_X1_twin (l : Launch) (E : g_E) (mc ms : Nat) (av : List Value) (st : g_St) (Q : Int32 → g_St → Prop) : Prop := g_WPi l E yX1_twin cX1_twin 6 (some .int) 6 147 mc ms av st Q
def vc_X1_twin (l : Launch) (E : g_E) (a0 : Nat) (st : g_St) (cb sb : Nat) (Q : Int32 → g_St → Prop) (X : String → g_St → Prop) : Prop :=
  ∃ o1 : Option Nat, g_gr st a0 15 1 o1 ∧ ∃ a2 : Nat, o1 = some a2 ∧ g_is st a2 3 ∧ wp_J5_size l E 0 0 [va_rf (some a2)] st (fun x3 stx => stx = st ∧ ((nI 2) ≤ x3 → ∀ o5 : Option Nat, o5 = E.2.2.2.2.1 1 → ∃ o6 : Option Nat, g_gr st a0 15 1 o6 ∧ ∃ a7 : Nat, o6 = some a7 ∧ ∃ mc10 ms11 : Nat, mc10 ≤ cb ∧ ms11 ≤ sb ∧ g_is st a7 3 ∧ wp_J5_keySet l E mc10 ms11 [va_rf (some a7)] st (fun o8 st9 => g_Ext st st9 → ∃ a12 : Nat, o8 = some a12 ∧ ∃ mc15 ms16 : Nat, mc15 ≤ (cb - mc10) ∧ ms16 ≤ (sb - ms11) ∧ g_is st9 a12 8 ∧ wp_J36_iterator l E mc15 ms16 [va_rf (some a12)] st9 (fun o13 st14 => g_Ext st9 st14 → g_lp3 (fun (K20 : Int32 → (Option Nat) → g_St → Prop) (x17 : Int32) (o18 : Option Nat) (st19 : g_St) => ∃ a23 : Nat, o13 = some a23 ∧ g_is st19 a23 10 ∧ wp_J37_hasNext_J39 l E 0 0 [va_rf (some a23)] st19 (fun x24 stx => stx = st19 ∧ (x24 = 0 → Q x17 st19) ∧ (¬ x24 = 0 → g_is st19 a23 10 ∧ wp_J39_next l E 0 0 [va_rf (some a23)] st19 (fun o26 st27 => g_Ext st19 st27 → g_isN st27 o26 1 ∧ wp_X1_common l E 0 0 [va_rf o18, va_rf o26] st27 (fun x28 stx => stx = st27 ∧ g_jn1 (fun (K30 : Int32 → Prop) => (x28 ≤ x17 → K30 x17) ∧ (¬ x28 ≤ x17 → K30 x28)) (fun (x29 : Int32) => K20 x29 o26 st27)))))) (nI 0) o5 st14))) ∧ (¬ (nI 2) ≤ x3 → 1 ≤ cb ∧ 6 ≤ sb ∧ X "java/util/NoSuchElementException" st))
set_option maxHeartbeats 4000000 in
theorem wb_X1_twin {p : Program} {l : Launch} {e : Env} {R : Room} {s : State} {m : MethodId} {args : Array Value} {below : List Frame} {meth : Method} {c : Code} {E : g_E} {st0 : g_St} {Z : State → Prop} (hC : g_Cx p s m args meth c cX1_twin 6 "Stemspan" (some .int) "twin" E st0) (hR : g_Rm 6 147 R) {a0 : Nat} {st : g_St} {cb sb : Nat} {Q : Int32 → g_St → Prop} {X : String → g_St → Prop} (hret : ∀ (pc : Nat) (lv : List (Nat × Value)) (v : Int32) (st1 : g_St) (cb sb : Nat), decode cX1_twin pc = .ok (.ireturn, 1) → narrow .int (.int v) = .int v → Q v st1 → g_J p l e R s m args below meth c 6 E st0 Z pc lv [.int v] st1 cb sb) (hthr_11 : ∀ (lv : List (Nat × Value)) (st1 : g_St) (cb sb : Nat), 1 ≤ cb → 6 ≤ sb → X "java/util/NoSuchElementException" st1 → g_J p l e R s m args below meth c 6 E st0 Z 11 lv [] st1 cb sb) (hvc : vc_X1_twin l E a0 st cb sb Q X) : g_J p l e R s m args below meth c 6 E st0 Z 0 [(0, va_rf (some a0))] [] st cb sb := by
  unfold vc_X1_twin at hvc
  refine j_aload_n hC dX1_twin_0 rfl 0 rfl ?_
  obtain ⟨o1, ⟨fs, hr, hv⟩, hvc⟩ := hvc
  refine j_get hC fkX1_19_X1 dX1_twin_1 hr hv ?_
  clear hv hr fs
  obtain ⟨a2, rfl, hvc⟩ := hvc
  obtain ⟨⟨fs, hr⟩, hvc⟩ := hvc
  refine j_callV (As := []) (rest := []) (n := 0) (ci := 3) hC hvc (lw_V q614 q615 q616 q47 q617) (by decide +kernel) (g_rm hR rfl rfl) rfl hr rfl rfl (g_sum rfl) dX1_twin_4 (Nat.zero_le _) (Nat.zero_le _) (g_Kip fun x3 hv2 => ?_)
  replace hvc := hv2; clear hv2
  clear hr fs
  refine j_iconst hC (nI 2) dX1_twin_7 rfl ?_
  refine j_icmp_ge (tgt := 19) hC dX1_twin_8 rfl (fun c4 => ?_) (fun c4 => ?_)
  · replace hvc := hvc.1 c4
    refine j_iconst hC (nI 0) dX1_twin_19 rfl ?_
    refine j_istore_n (lv0 := [(0, va_rf (some a0))]) hC dX1_twin_20 rfl rfl [0] rfl (g_okS.h rfl g_c1 rfl) ?_
    refine j_ldcS hC (tx := "") (k := 1) (List.mem_of_getElem? (i := 1) rfl) dX1_twin_21 ?_
    obtain ⟨o5, ho5⟩ : ∃ z : Option Nat, z = E.2.2.2.2.1 1 := ⟨_, rfl⟩
    rw [← ho5]
    replace hvc := hvc _ ho5
    refine j_astore_n (lv0 := [(1, .int (nI 0)), (0, va_rf (some a0))]) hC dX1_twin_23 rfl rfl [0, 1] rfl (g_okS.h rfl rfl rfl) ?_
    refine j_aload_n hC dX1_twin_24 rfl 2 rfl ?_
    obtain ⟨o6, ⟨fs, hr, hv⟩, hvc⟩ := hvc
    refine j_get hC fkX1_19_X1 dX1_twin_25 hr hv ?_
    clear hv hr fs
    obtain ⟨a7, rfl, hvc⟩ := hvc
    obtain ⟨mc10, ms11, h1, h2, hvc⟩ := hvc
    obtain ⟨⟨fs, hr⟩, hvc⟩ := hvc
    refine j_callV (As := []) (rest := []) (n := 0) (ci := 3) hC hvc (lw_V q1622 q1623 q1624 q47 q1625) (by decide +kernel) (g_rm hR rfl rfl) rfl hr rfl rfl (g_sum rfl) dX1_twin_28 h1 h2 (g_Ka fun o8 st9 hv2 hx => ?_)
    replace hvc := hv2 hx; clear hx hv2
    clear hr fs
    obtain ⟨a12, rfl, hvc⟩ := hvc
    obtain ⟨mc15, ms16, h1, h2, hvc⟩ := hvc
    obtain ⟨⟨fs, hr⟩, hvc⟩ := hvc
    refine j_callF (As := []) (rest := []) (n := 0) (x := ⟨"java/util/Set", "iterator", "()Ljava/util/Iterator;"⟩) (C := "java/util/TreeMap$KeySet") (ci := 8) hC hvc (lw_F q1641 q1304 q1306 q82 q1308) gf_17 (by decide +kernel) (g_rm hR rfl rfl) rfl hr rfl rfl (g_sum rfl) dX1_twin_31 h1 h2 (g_Ka fun o13 st14 hv2 hx => ?_)
    replace hvc := hv2 hx; clear hx hv2
    clear hr fs
    refine j_astore_n (lv0 := [(2, va_rf o5), (1, .int (nI 0)), (0, va_rf (some a0))]) hC dX1_twin_36 rfl rfl [0, 1, 2] rfl (g_okS.h rfl g_c1 rfl) ?_
    replace hvc := g_lp3_o hvc
    obtain ⟨K20, hz34, hs35, n36, hvc⟩ := hvc
    have kh21 : ∀ (n : Nat) (x17 : Int32) (o18 : Option Nat) (st19 : g_St), K20 n x17 o18 st19 → g_J p l e R s m args below meth c 6 E st0 Z 37 [(1, .int x17), (2, va_rf o18), (3, va_rf o13)] [] st19 ((cb - mc10) - mc15) ((sb - ms11) - ms16) := by
      clear hvc
      intro n
      induction n with
      | zero => intro x17 o18 st19 hvc; exact absurd hvc (hz34 _ _ _)
      | succ n ih22 =>
        intro x17 o18 st19 hvc
        replace hvc := hs35 n _ _ _ hvc
        refine j_aload_n hC dX1_twin_37 rfl 2 rfl ?_
        obtain ⟨a23, rfl, hvc⟩ := hvc
        obtain ⟨⟨fs, hr⟩, hvc⟩ := hvc
        refine j_callF (As := []) (rest := []) (n := 0) (x := ⟨"java/util/Iterator", "hasNext", "()Z"⟩) (C := "java/util/TreeMap$KeyIterator") (ci := 10) hC hvc (lw_F q1382 q1020 q1016 q83 q1018) gf_23 (by decide +kernel) (g_rm hR rfl rfl) rfl hr rfl rfl (g_sum rfl) dX1_twin_38 (Nat.zero_le _) (Nat.zero_le _) (g_Kip fun x24 hv2 => ?_)
        replace hvc := hv2; clear hv2
        clear hr fs
        refine j_if_eq (tgt := 84) hC dX1_twin_43 rfl (fun c25 => ?_) (fun c25 => ?_)
        · replace hvc := hvc.1 c25
          refine j_iload_n hC dX1_twin_84 rfl 0 rfl ?_
          exact hret _ _ _ _ _ _ dX1_twin_85 rfl hvc
        · replace hvc := hvc.2 c25
          refine j_aload_n hC dX1_twin_46 rfl 2 rfl ?_
          obtain ⟨⟨fs, hr⟩, hvc⟩ := hvc
          refine j_callF (As := []) (rest := []) (n := 0) (x := ⟨"java/util/Iterator", "next", "()Ljava/lang/Object;"⟩) (C := "java/util/TreeMap$KeyIterator") (ci := 10) hC hvc (lw_F q1384 q1084 q1086 q85 q1088) gf_24 (by decide +kernel) (g_rm hR rfl rfl) rfl hr rfl rfl (g_sum rfl) dX1_twin_47 (Nat.zero_le _) (Nat.zero_le _) (g_Ka fun o26 st27 hv2 hx => ?_)
          replace hvc := hv2 hx; clear hx hv2
          clear hr fs
          obtain ⟨hv, hvc⟩ := hvc
          refine j_cast hC (C := "java/lang/String") (ci := 1) q174 rfl (Or.inl rfl) hv dX1_twin_52 ?_
          clear hv
          refine j_astore (lv0 := [(3, va_rf (some a23)), (1, .int x17), (2, va_rf o18)]) hC dX1_twin_55 rfl [2, 0, 1] rfl (g_okS.h rfl g_c1 rfl) ?_
          refine j_aload_n hC dX1_twin_57 rfl 3 rfl ?_
          refine j_aload hC dX1_twin_58 0 rfl ?_
          refine j_callS (As := [va_rf o18, va_rf o26]) (rest := []) (n := 2) hC hvc (lw_S q1543 q1544 q41 q1545) (by decide +kernel) (g_rm hR rfl rfl) rfl rfl (g_sum rfl) dX1_twin_60 (Nat.zero_le _) (Nat.zero_le _) (g_Kip fun x28 hv2 => ?_)
          replace hvc := hv2; clear hv2
          refine j_istore (lv0 := [(4, va_rf o26), (3, va_rf (some a23)), (1, .int x17), (2, va_rf o18)]) hC dX1_twin_63 rfl [0, 1, 2, 3] rfl (g_okS.h rfl g_c1 rfl) ?_
          refine j_iload hC dX1_twin_65 0 rfl ?_
          refine j_iload_n hC dX1_twin_67 rfl 3 rfl ?_
          replace hvc := g_jn1_o hvc
          obtain ⟨K30, hK33, hvc⟩ := hvc
          have kh31 : ∀ (x29 : Int32), K30 x29 → g_J p l e R s m args below meth c 6 E st0 Z 77 [(3, va_rf (some a23)), (4, va_rf o26)] [.int x29] st27 ((cb - mc10) - mc15) ((sb - ms11) - ms16) := by
            clear hvc
            intro x29 hvc
            replace hvc := hK33 _ hvc
            refine j_istore_n (lv0 := [(3, va_rf (some a23)), (4, va_rf o26)]) hC dX1_twin_77 rfl rfl [0, 1] rfl (g_okS.n rfl) ?_
            refine j_aload hC dX1_twin_78 2 rfl ?_
            refine j_astore_n (lv0 := [(1, .int x29), (3, va_rf (some a23)), (4, va_rf o26)]) hC dX1_twin_80 rfl rfl [0, 1, 2] rfl (g_okS.h rfl rfl rfl) ?_
            refine j_goto (tgt := 37) hC dX1_twin_81 rfl ?_
            exact j_sub [1, 0, 2] rfl (ih22 x29 o26 st27 hvc)
          refine j_icmp_le (tgt := 76) hC dX1_twin_68 rfl (fun c32 => ?_) (fun c32 => ?_)
          · replace hvc := hvc.1 c32
            refine j_iload_n hC dX1_twin_76 rfl 3 rfl ?_
            exact j_sub [2, 1] rfl (kh31 x17 hvc)
          · replace hvc := hvc.2 c32
            refine j_iload hC dX1_twin_71 0 rfl ?_
            refine j_goto (tgt := 77) hC dX1_twin_73 rfl ?_
            exact j_sub [2, 1] rfl (kh31 x28 hvc)
    exact j_sub [2, 1, 0] rfl (kh21 n36 (nI 0) o5 st14 hvc)
  · replace hvc := hvc.2 c4
    exact hthr_11 _ _ _ _ hvc.1 hvc.2.1 hvc.2.2
theorem wk_X1_twin {l : Launch} {E : g_E} {a0 : Nat} {st : g_St} {mc ms : Nat} {Q : Int32 → g_St → Prop} (hvc : vc_X1_twin l E a0 st mc ms Q (fun _ _ => False)) : wp_X1_twin l E mc ms [va_rf (some a0)] st Q :=
  g_enter (lv0 := [(0, va_rf (some a0))]) (plainFor_of_name (by decide +kernel)) (by simp [lv_args, g_c1, g_ci, g_cL]) (by simp [lg_sl, g_c1, g_ci, g_cL]) (fun p e s m args below meth c hC => wb_X1_twin hC ⟨Nat.le_refl _, Nat.le_refl _⟩ (fun pc lv v st1 cb sb hd hn hq => j_ireturn hC rfl hn hd (g_iv hq)) (fun _ _ _ _ _ _ h => h.elim) hvc)
abbrev wpx_X1_twin (l : Launch) (E : g_E) (mc ms : Nat) (av : List Value) (st : g_St) (Q : Int32 → g_St → Prop) (X : String → g_St → Prop) : Prop := g_WPX l E yX1_twin cX1_twin 6 (some .int) 6 147 mc ms av st (fun v st' => ∃ r : Int32, v = some (.int r) ∧ Q r st') X
theorem wkx_X1_twin {l : Launch} (hl : l.stackTraces = false) {E : g_E} {a0 : Nat} {st : g_St} {mc ms : Nat} {Q : Int32 → g_St → Prop} {X : String → g_St → Prop} (hvc : vc_X1_twin l E a0 st mc ms Q X) : wpx_X1_twin l E mc ms [va_rf (some a0)] st Q X :=
  g_enterX (lv0 := [(0, va_rf (some a0))]) (by decide +kernel) (by simp [lv_args, g_c1, g_ci, g_cL]) (by simp [lg_sl, g_c1, g_ci, g_cL]) (fun p e s m args below meth c hC ht => wb_X1_twin hC ⟨Nat.le_refl _, Nat.le_refl _⟩ (fun pc lv v st1 cb sb hd hn hq => j_xret (j_ireturn hC rfl hn hd (g_iv hq))) (fun lv st1 cb sb h1 h2 hx => j_throw0 hC hl ⟨by decide, by decide⟩ q1678 q64 g_thNSE g_toNSE ht dX1_twin_11 dX1_twin_14 dX1_twin_15 dX1_twin_18 (Nat.lt_of_lt_of_le (Nat.lt_succ_self _) (Nat.le_of_ble_eq_true rfl)) (Nat.le_of_ble_eq_true rfl) h1 h2 hx) hvc)
abbrev wp_X1_begins (l : Launch) (E : g_E) (mc ms : Nat) (av : List Value) (st : g_St) (Q : Int32 → g_St → Prop) : Prop := g_WPi l E yX1_begins cX1_begins 2 (some .boolean) 6 147 mc ms av st Q
def vc_X1_begins (l : Launch) (E : g_E) (p0 : Option Nat) (p1 : Option Nat) (st : g_St) (Q : Int32 → g_St → Prop) : Prop :=
  wp_X1_common l E 0 0 [va_rf p0, va_rf p1] st (fun x1 stx => stx = st ∧ ∃ a2 : Nat, p1 = some a2 ∧ g_is st a2 1 ∧ wp_J2_length l E 0 0 [va_rf (some a2)] st (fun x3 stx => stx = st ∧ g_jn1 (fun (K5 : Int32 → Prop) => (¬ x1 = x3 → K5 (nI 0)) ∧ (x1 = x3 → K5 (nI 1))) (fun (x4 : Int32) => narrow .boolean (.int x4) = .int x4 ∧ Q x4 st)))
set_option maxHeartbeats 4000000 in
theorem wb_X1_begins {p : Program} {l : Launch} {e : Env} {R : Room} {s : State} {m : MethodId} {args : Array Value} {below : List Frame} {meth : Method} {c : Code} {E : g_E} {st0 : g_St} {Z : State → Prop} (hC : g_Cx p s m args meth c cX1_begins 2 "Stemspan" (some .boolean) "begins" E st0) (hR : g_Rm 6 147 R) {p0 : Option Nat} {p1 : Option Nat} {st : g_St} {cb sb : Nat} {Q : Int32 → g_St → Prop} (hret : ∀ (pc : Nat) (lv : List (Nat × Value)) (v : Int32) (st1 : g_St) (cb sb : Nat), decode cX1_begins pc = .ok (.ireturn, 1) → narrow .boolean (.int v) = .int v → Q v st1 → g_J p l e R s m args below meth c 2 E st0 Z pc lv [.int v] st1 cb sb) (hvc : vc_X1_begins l E p0 p1 st Q) : g_J p l e R s m args below meth c 2 E st0 Z 0 [(0, va_rf p0), (1, va_rf p1)] [] st cb sb := by
  unfold vc_X1_begins at hvc
  refine j_aload_n hC dX1_begins_0 rfl 0 rfl ?_
  refine j_aload_n hC dX1_begins_1 rfl 1 rfl ?_
  refine j_callS (As := [va_rf p0, va_rf p1]) (rest := []) (n := 2) hC hvc (lw_S q1543 q1544 q41 q1545) (by decide +kernel) (g_rm hR rfl rfl) rfl rfl (g_sum rfl) dX1_begins_2 (Nat.zero_le _) (Nat.zero_le _) (g_Kip fun x1 hv2 => ?_)
  replace hvc := hv2; clear hv2
  refine j_aload_n hC dX1_begins_5 rfl 1 rfl ?_
  obtain ⟨a2, rfl, hvc⟩ := hvc
  obtain ⟨⟨fs, hr⟩, hvc⟩ := hvc
  refine j_callV (As := []) (rest := [.int x1]) (n := 0) (ci := 1) hC hvc (lw_V q1546 q182 q183 q44 q184) (by decide +kernel) (g_rm hR rfl rfl) rfl hr rfl rfl (g_sum rfl) dX1_begins_6 (Nat.zero_le _) (Nat.zero_le _) (g_Kip fun x3 hv2 => ?_)
  replace hvc := hv2; clear hv2
  clear hr fs
  replace hvc := g_jn1_o hvc
  obtain ⟨K5, hK8, hvc⟩ := hvc
  have kh6 : ∀ (x4 : Int32), K5 x4 → g_J p l e R s m args below meth c 2 E st0 Z 17 [] [.int x4] st cb sb := by
    clear hvc
    intro x4 hvc
    replace hvc := hK8 _ hvc
    exact hret _ _ _ _ _ _ dX1_begins_17 hvc.1 hvc.2
  refine j_icmp_ne (tgt := 16) hC dX1_begins_9 rfl (fun c7 => ?_) (fun c7 => ?_)
  · replace hvc := hvc.1 c7
    refine j_iconst hC (nI 0) dX1_begins_16 rfl ?_
    exact j_sub [] rfl (kh6 (nI 0) hvc)
  · replace hvc := hvc.2 c7
    refine j_iconst hC (nI 1) dX1_begins_12 rfl ?_
    refine j_goto (tgt := 17) hC dX1_begins_13 rfl ?_
    exact j_sub [] rfl (kh6 (nI 1) hvc)
theorem wk_X1_begins {l : Launch} {E : g_E} {p0 : Option Nat} {p1 : Option Nat} {st : g_St} {mc ms : Nat} {Q : Int32 → g_St → Prop} (hvc : vc_X1_begins l E p0 p1 st Q) : wp_X1_begins l E mc ms [va_rf p0, va_rf p1] st Q :=
  g_enter (lv0 := [(0, va_rf p0), (1, va_rf p1)]) (plainFor_of_name (by decide +kernel)) (by simp [lv_args, g_c1, g_ci, g_cL]) (by simp [lg_sl, g_c1, g_ci, g_cL]) (fun p e s m args below meth c hC => wb_X1_begins hC ⟨Nat.le_refl _, Nat.le_refl _⟩ (fun pc lv v st1 cb sb hd hn hq => j_ireturn hC rfl hn hd (g_iv hq)) hvc)
abbrev wp_X1_written (l : Launch) (E : g_E) (mc ms : Nat) (av : List Value) (st : g_St) (Q : Option Nat → g_St → Prop) : Prop := g_WPa l E yX1_written cX1_written 4 (some (.object "java/lang/String")) 7 172 mc ms av st Q
def vc_X1_written (l : Launch) (E : g_E) (a0 : Nat) (p0 : Option Nat) (st : g_St) (cb sb : Nat) (Q : Option Nat → g_St → Prop) : Prop :=
  1 ≤ cb ∧ 4 ≤ sb ∧ ∀ (q1 : Nat) (st2 : g_St), q1 = st.2.2 → st2 = g_new st (.inr (0, [va_rf none, .int 0, .int 0, .int 0])) → ∃ mc4 ms5 : Nat, mc4 ≤ (cb - 1) ∧ ms5 ≤ (sb - 4) ∧ wp_J1_init l E mc4 ms5 [va_rf (some q1)] st2 (fun st3 => g_Ext st2 st3 → g_lp4 (fun (K10 : Int32 → g_St → Nat → Nat → Prop) (x6 : Int32) (st7 : g_St) (cb8 : Nat) (sb9 : Nat) => ∃ a13 : Nat, p0 = some a13 ∧ g_is st7 a13 1 ∧ wp_J2_length l E 0 0 [va_rf (some a13)] st7 (fun x14 stx => stx = st7 ∧ (x14 ≤ x6 → ∃ mc18 ms19 : Nat, mc18 ≤ cb8 ∧ ms19 ≤ sb9 ∧ g_is st7 q1 0 ∧ wp_J1_toString l E mc18 ms19 [va_rf (some q1)] st7 (fun o16 st17 => g_Ext st7 st17 → Q o16 st17)) ∧ (¬ x14 ≤ x6 → ∃ o20 : Option Nat, g_gr st7 a0 15 2 o20 ∧ g_is st7 a13 1 ∧ wp_J2_charAt l E 0 0 [va_rf (some a13), .int x6] st7 (fun x21 stx => stx = st7 ∧ ∃ a22 : Nat, o20 = some a22 ∧ ∃ (n23 : Nat) (f24 : Nat → Option Nat) (j25 : Nat), g_ar st7 a22 4 n23 f24 ∧ (x21 - (nI 97)) = nI j25 ∧ j25 < n23 ∧ j25 < 2 ^ 31 ∧ ∀ o26 : Option Nat, o26 = f24 j25 → ∃ mc29 ms30 : Nat, mc29 ≤ cb8 ∧ ms30 ≤ sb9 ∧ g_is st7 q1 0 ∧ wp_J1_append_2 l E mc29 ms30 [va_rf (some q1), va_rf o26] st7 (fun o27 st28 => g_Ext st7 st28 → K10 (x6 + (nI 1)) st28 (cb8 - mc29) (sb9 - ms30)))))) (nI 0) st3 ((cb - 1) - mc4) ((sb - 4) - ms5))
set_option maxHeartbeats 4000000 in
theorem wb_X1_written {p : Program} {l : Launch} {e : Env} {R : Room} {s : State} {m : MethodId} {args : Array Value} {below : List Frame} {meth : Method} {c : Code} {E : g_E} {st0 : g_St} {Z : State → Prop} (hC : g_Cx p s m args meth c cX1_written 4 "Stemspan" (some (.object "java/lang/String")) "written" E st0) (hR : g_Rm 7 172 R) {a0 : Nat} {p0 : Option Nat} {st : g_St} {cb sb : Nat} {Q : Option Nat → g_St → Prop} (hret : ∀ (pc : Nat) (lv : List (Nat × Value)) (v : Option Nat) (st1 : g_St) (cb sb : Nat), decode cX1_written pc = .ok (.areturn, 1) → Q v st1 → g_J p l e R s m args below meth c 4 E st0 Z pc lv [va_rf v] st1 cb sb) (hvc : vc_X1_written l E a0 p0 st cb sb Q) : g_J p l e R s m args below meth c 4 E st0 Z 0 [(0, va_rf (some a0)), (1, va_rf p0)] [] st cb sb := by
  unfold vc_X1_written at hvc
  obtain ⟨h1, h2, hvc⟩ := hvc
  refine j_new hC nwX1_7 dX1_written_0 (n := 4) rfl h1 h2 (fun q1 st2 e1 e2 => ?_)
  replace hvc := hvc q1 st2 e1 e2; clear h1 h2 e1 e2
  refine j_dup hC dX1_written_3 g_c1 ?_
  obtain ⟨mc4, ms5, h1, h2, hvc⟩ := hvc
  refine j_callI (As := []) (rest := [va_rf (some q1)]) (n := 0) hC hvc (lw_meth q105) q43 q103 q104 rfl (by decide +kernel) (g_rm hR rfl rfl) rfl rfl (g_sum rfl) dX1_written_4 h1 h2 (g_Kv fun st3 hv2 hx => ?_)
  replace hvc := hv2 hx; clear hx hv2
  refine j_astore_n (lv0 := [(1, va_rf p0), (0, va_rf (some a0))]) hC dX1_written_7 rfl rfl [1, 0] rfl (g_okS.h rfl g_c1 rfl) ?_
  refine j_iconst hC (nI 0) dX1_written_8 rfl ?_
  refine j_istore_n (lv0 := [(2, va_rf (some q1)), (1, va_rf p0), (0, va_rf (some a0))]) hC dX1_written_9 rfl rfl [0, 1, 2] rfl (g_okS.h rfl g_c1 rfl) ?_
  replace hvc := g_lp4_o hvc
  obtain ⟨K10, hz31, hs32, n33, hvc⟩ := hvc
  have kh11 : ∀ (n : Nat) (x6 : Int32) (st7 : g_St) (cb8 : Nat) (sb9 : Nat), K10 n x6 st7 cb8 sb9 → g_J p l e R s m args below meth c 4 E st0 Z 10 [(0, va_rf (some a0)), (1, va_rf p0), (2, va_rf (some q1)), (3, .int x6)] [] st7 cb8 sb9 := by
    clear hvc
    intro n
    induction n with
    | zero => intro x6 st7 cb8 sb9 hvc; exact absurd hvc (hz31 _ _ _ _)
    | succ n ih12 =>
      intro x6 st7 cb8 sb9 hvc
      replace hvc := hs32 n _ _ _ _ hvc
      refine j_iload_n hC dX1_written_10 rfl 3 rfl ?_
      refine j_aload_n hC dX1_written_11 rfl 1 rfl ?_
      obtain ⟨a13, rfl, hvc⟩ := hvc
      obtain ⟨⟨fs, hr⟩, hvc⟩ := hvc
      refine j_callV (As := []) (rest := [.int x6]) (n := 0) (ci := 1) hC hvc (lw_V q1546 q182 q183 q44 q184) (by decide +kernel) (g_rm hR rfl rfl) rfl hr rfl rfl (g_sum rfl) dX1_written_12 (Nat.zero_le _) (Nat.zero_le _) (g_Kip fun x14 hv2 => ?_)
      replace hvc := hv2; clear hv2
      clear hr fs
      refine j_icmp_ge (tgt := 42) hC dX1_written_15 rfl (fun c15 => ?_) (fun c15 => ?_)
      · replace hvc := hvc.1 c15
        refine j_aload_n hC dX1_written_42 rfl 2 rfl ?_
        obtain ⟨mc18, ms19, h1, h2, hvc⟩ := hvc
        obtain ⟨⟨fs, hr⟩, hvc⟩ := hvc
        refine j_callV (As := []) (rest := []) (n := 0) (ci := 0) hC hvc (lw_V q570 q396 q397 q43 q398) (by decide +kernel) (g_rm hR rfl rfl) rfl hr rfl rfl (g_sum rfl) dX1_written_43 h1 h2 (g_Ka fun o16 st17 hv2 hx => ?_)
        replace hvc := hv2 hx; clear hx hv2
        clear hr fs
        exact hret _ _ _ _ _ _ dX1_written_46 hvc
      · replace hvc := hvc.2 c15
        refine j_aload_n hC dX1_written_18 rfl 2 rfl ?_
        refine j_aload_n hC dX1_written_19 rfl 0 rfl ?_
        obtain ⟨o20, ⟨fs, hr, hv⟩, hvc⟩ := hvc
        refine j_get hC fkX1_25_X1 dX1_written_20 hr hv ?_
        clear hv hr fs
        refine j_aload_n hC dX1_written_23 rfl 1 rfl ?_
        refine j_iload_n hC dX1_written_24 rfl 3 rfl ?_
        obtain ⟨⟨fs, hr⟩, hvc⟩ := hvc
        refine j_callV (As := [.int x6]) (rest := [va_rf o20, va_rf (some q1)]) (n := 1) (ci := 1) hC hvc (lw_V q1547 q1548 q1549 q44 q1550) (by decide +kernel) (g_rm hR rfl rfl) rfl hr rfl rfl (g_sum rfl) dX1_written_25 (Nat.zero_le _) (Nat.zero_le _) (g_Kip fun x21 hv2 => ?_)
        replace hvc := hv2; clear hv2
        clear hr fs
        refine j_bipush hC (nI 97) dX1_written_28 rfl ?_
        refine j_isub hC dX1_written_30 ?_
        obtain ⟨a22, rfl, hvc⟩ := hvc
        obtain ⟨n23, f24, j25, hr, hi, hj, hJ, hvc⟩ := hvc
        replace hvc := hvc _ rfl
        refine j_ix hi ?_
        refine j_aald hC (by decide) hr hj hJ dX1_written_31 ?_
        generalize f24 j25 = o26 at hvc ⊢
        clear hr hi hj hJ
        obtain ⟨mc29, ms30, h1, h2, hvc⟩ := hvc
        obtain ⟨⟨fs, hr⟩, hvc⟩ := hvc
        refine j_callV (As := [va_rf o26]) (rest := []) (n := 1) (ci := 0) hC hvc (lw_V q1170 q347 q348 q43 q349) (by decide +kernel) (g_rm hR rfl rfl) rfl hr rfl rfl (g_sum rfl) dX1_written_32 h1 h2 (g_Ka fun o27 st28 hv2 hx => ?_)
        replace hvc := hv2 hx; clear hx hv2
        clear hr fs
        refine j_pop hC dX1_written_35 g_c1 ?_
        refine j_iinc (lv0 := [(2, va_rf (some q1)), (0, va_rf (some a0)), (1, va_rf (some a13))]) hC (nI 1) dX1_written_36 3 rfl rfl rfl [2, 0, 1] rfl (g_okS.h rfl g_c1 rfl) ?_
        refine j_goto (tgt := 10) hC dX1_written_39 rfl ?_
        exact j_sub [2, 3, 1, 0] rfl (ih12 (x6 + (nI 1)) st28 (cb8 - mc29) (sb9 - ms30) hvc)
  exact j_sub [3, 2, 1, 0] rfl (kh11 n33 (nI 0) st3 ((cb - 1) - mc4) ((sb - 4) - ms5) hvc)
theorem wk_X1_written {l : Launch} {E : g_E} {a0 : Nat} {p0 : Option Nat} {st : g_St} {mc ms : Nat} {Q : Option Nat → g_St → Prop} (hvc : vc_X1_written l E a0 p0 st mc ms Q) : wp_X1_written l E mc ms [va_rf (some a0), va_rf p0] st Q :=
  g_enter (lv0 := [(0, va_rf (some a0)), (1, va_rf p0)]) (plainFor_of_name (by decide +kernel)) (by simp [lv_args, g_c1, g_ci, g_cL]) (by simp [lg_sl, g_c1, g_ci, g_cL]) (fun p e s m args below meth c hC => wb_X1_written hC ⟨Nat.le_refl _, Nat.le_refl _⟩ (fun pc lv v st1 cb sb hd hq => j_areturn hC rfl (by first | exact Or.inl ⟨_, rfl⟩ | exact Or.inr ⟨_, rfl⟩) hd (g_av hq)) hvc)
abbrev wp_X1_arePairs (l : Launch) (E : g_E) (mc ms : Nat) (av : List Value) (st : g_St) (Q : Int32 → g_St → Prop) : Prop := g_WPi l E yX1_arePairs cX1_arePairs 9 (some .boolean) 9 237 mc ms av st Q
def vc_X1_arePairs (l : Launch) (E : g_E) (a0 : Nat) (p0 : Option Nat) (st : g_St) (cb sb : Nat) (Q : Int32 → g_St → Prop) : Prop :=
  g_is st a0 15 ∧ wp_X1_isOrderly l E 0 0 [va_rf (some a0)] st (fun x1 stx => stx = st ∧ ∃ a2 : Nat, p0 = some a2 ∧ ∃ (t3 : Nat) (v4 : vp_A), g_Rd st a2 (.inl (t3, v4)) ∧ ∃ n5 : Nat, (nI v4.1) = nI n5 ∧ n5 ≤ 67108864 ∧ 1 ≤ cb ∧ n5 ≤ sb ∧ ∀ (q6 : Nat) (st7 : g_St), q6 = st.2.2 → st7 = g_new st (.inl (4, n5, .inr (.inr (.inr (.inr fun _ => none))))) → g_lp4 (fun (K12 : Int32 → g_St → Nat → Nat → Prop) (x8 : Int32) (st9 : g_St) (cb10 : Nat) (sb11 : Nat) => ∃ (t15 : Nat) (v16 : vp_A), g_Rd st9 a2 (.inl (t15, v16)) ∧ ((nI v16.1) ≤ x8 → g_lp3 (fun (K21 : Int32 → Int32 → Int32 → Prop) (x18 : Int32) (x19 : Int32) (x20 : Int32) => ∃ (t24 : Nat) (v25 : vp_A), g_Rd st9 a2 (.inl (t24, v25)) ∧ ((nI v25.1) ≤ x20 → g_jn4 (fun (K31 : Int32 → g_St → Nat → Nat → Prop) => g_jn3 (fun (K36 : g_St → Nat → Nat → Prop) => (¬ x18 = x19 → K36 st9 cb10 sb11) ∧ (x18 = x19 → ∃ (t39 : Nat) (v40 : vp_A), g_Rd st9 a2 (.inl (t39, v40)) ∧ g_jn3 (fun (K44 : g_St → Nat → Nat → Prop) => ((nI v40.1) < (nI 2) → K44 st9 cb10 sb11) ∧ (¬ (nI v40.1) < (nI 2) → ∃ mc49 ms50 : Nat, mc49 ≤ cb10 ∧ ms50 ≤ sb11 ∧ g_is st9 a0 15 ∧ wp_X1_twin l E mc49 ms50 [va_rf (some a0)] st9 (fun x47 st48 => g_Ext st9 st48 → (¬ x47 = x18 → K36 st48 (cb10 - mc49) (sb11 - ms50)) ∧ (x47 = x18 → K44 st48 (cb10 - mc49) (sb11 - ms50))))) (fun (st41 : g_St) (cb42 : Nat) (sb43 : Nat) => K31 (nI 1) st41 cb42 sb43))) (fun (st33 : g_St) (cb34 : Nat) (sb35 : Nat) => K31 (nI 0) st33 cb34 sb35)) (fun (x27 : Int32) (st28 : g_St) (cb29 : Nat) (sb30 : Nat) => narrow .boolean (.int x27) = .int x27 ∧ Q x27 st28)) ∧ (¬ (nI v25.1) ≤ x20 → g_lp3 (fun (K58 : Int32 → Int32 → Int32 → Prop) (x55 : Int32) (x56 : Int32) (x57 : Int32) => ∃ (t61 : Nat) (v62 : vp_A), g_Rd st9 a2 (.inl (t61, v62)) ∧ ((nI v62.1) ≤ x57 → K21 x55 x56 (x20 + (nI 1))) ∧ (¬ (nI v62.1) ≤ x57 → ∃ (n64 : Nat) (f65 : Nat → Option Nat) (j66 : Nat), g_ar st9 a2 4 n64 f65 ∧ x20 = nI j66 ∧ j66 < n64 ∧ j66 < 2 ^ 31 ∧ ∀ o67 : Option Nat, o67 = f65 j66 → ∃ (n68 : Nat) (f69 : Nat → Option Nat) (j70 : Nat), g_ar st9 a2 4 n68 f69 ∧ x57 = nI j70 ∧ j70 < n68 ∧ j70 < 2 ^ 31 ∧ ∀ o71 : Option Nat, o71 = f69 j70 → wp_X1_common l E 0 0 [va_rf o67, va_rf o71] st9 (fun x72 stx => stx = st9 ∧ g_jn1 (fun (K74 : Int32 → Prop) => (x72 ≤ x55 → K74 x55) ∧ (¬ x72 ≤ x55 → K74 x72)) (fun (x73 : Int32) => g_jn1 (fun (K77 : Int32 → Prop) => g_jn0 (fun (K122 : Prop) => (¬ x57 = (x20 + (nI 1)) → K122) ∧ (x57 = (x20 + (nI 1)) → (x72 ≤ x56 → K122) ∧ (¬ x72 ≤ x56 → K77 x72))) (K77 x56)) (fun (x76 : Int32) => ∃ (n79 : Nat) (f80 : Nat → Option Nat) (j81 : Nat), g_ar st9 q6 4 n79 f80 ∧ x20 = nI j81 ∧ j81 < n79 ∧ j81 < 2 ^ 31 ∧ ∀ o82 : Option Nat, o82 = f80 j81 → ∃ (n83 : Nat) (f84 : Nat → Option Nat) (j85 : Nat), g_ar st9 q6 4 n83 f84 ∧ x57 = nI j85 ∧ j85 < n83 ∧ j85 < 2 ^ 31 ∧ ∀ o86 : Option Nat, o86 = f84 j85 → ∃ a87 : Nat, o82 = some a87 ∧ g_is st9 a87 1 ∧ wp_J2_compareTo_2 l E 0 0 [va_rf (some a87), va_rf o86] st9 (fun x88 stx => stx = st9 ∧ g_jn0 (fun (K89 : Prop) => (0 ≤ x88 → K89) ∧ (¬ 0 ≤ x88 → ∃ (n92 : Nat) (f93 : Nat → Option Nat) (j94 : Nat), g_ar st9 q6 4 n92 f93 ∧ x57 = nI j94 ∧ j94 < n92 ∧ j94 < 2 ^ 31 ∧ ∀ o95 : Option Nat, o95 = f93 j94 → ∃ (n96 : Nat) (f97 : Nat → Option Nat) (j98 : Nat), g_ar st9 q6 4 n96 f97 ∧ x20 = nI j98 ∧ j98 < n96 ∧ j98 < 2 ^ 31 ∧ ∀ o99 : Option Nat, o99 = f97 j98 → wp_X1_begins l E 0 0 [va_rf o95, va_rf o99] st9 (fun x100 stx => stx = st9 ∧ ∃ (n101 : Nat) (f102 : Nat → Option Nat) (j103 : Nat), g_ar st9 a2 4 n101 f102 ∧ x57 = nI j103 ∧ j103 < n101 ∧ j103 < 2 ^ 31 ∧ ∀ o104 : Option Nat, o104 = f102 j103 → ∃ (n105 : Nat) (f106 : Nat → Option Nat) (j107 : Nat), g_ar st9 a2 4 n105 f106 ∧ x20 = nI j107 ∧ j107 < n105 ∧ j107 < 2 ^ 31 ∧ ∀ o108 : Option Nat, o108 = f106 j107 → wp_X1_begins l E 0 0 [va_rf o104, va_rf o108] st9 (fun x109 stx => stx = st9 ∧ (¬ x100 = x109 → K89) ∧ (x100 = x109 → ∃ (n111 : Nat) (f112 : Nat → Option Nat) (j113 : Nat), g_ar st9 q6 4 n111 f112 ∧ x20 = nI j113 ∧ j113 < n111 ∧ j113 < 2 ^ 31 ∧ ∀ o114 : Option Nat, o114 = f112 j113 → ∃ (n115 : Nat) (f116 : Nat → Option Nat) (j117 : Nat), g_ar st9 q6 4 n115 f116 ∧ x57 = nI j117 ∧ j117 < n115 ∧ j117 < 2 ^ 31 ∧ ∀ o118 : Option Nat, o118 = f116 j117 → wp_X1_begins l E 0 0 [va_rf o114, va_rf o118] st9 (fun x119 stx => stx = st9 ∧ (x119 = 0 → K58 x73 x76 (x57 + (nI 1))) ∧ (¬ x119 = 0 → K89))))))) (Q (nI 0) st9))))))) x18 x19 (x20 + (nI 1)))) (nI 0) (nI 0) (nI 0)) ∧ (¬ (nI v16.1) ≤ x8 → g_jn4 (fun (K140 : (Option Nat) → g_St → Nat → Nat → Prop) => (x1 = 0 → ∃ (n147 : Nat) (f148 : Nat → Option Nat) (j149 : Nat), g_ar st9 a2 4 n147 f148 ∧ x8 = nI j149 ∧ j149 < n147 ∧ j149 < 2 ^ 31 ∧ ∀ o150 : Option Nat, o150 = f148 j149 → K140 o150 st9 cb10 sb11) ∧ (¬ x1 = 0 → ∃ (n151 : Nat) (f152 : Nat → Option Nat) (j153 : Nat), g_ar st9 a2 4 n151 f152 ∧ x8 = nI j153 ∧ j153 < n151 ∧ j153 < 2 ^ 31 ∧ ∀ o154 : Option Nat, o154 = f152 j153 → ∃ mc157 ms158 : Nat, mc157 ≤ cb10 ∧ ms158 ≤ sb11 ∧ g_is st9 a0 15 ∧ wp_X1_written l E mc157 ms158 [va_rf (some a0), va_rf o154] st9 (fun o155 st156 => g_Ext st9 st156 → K140 o155 st156 (cb10 - mc157) (sb11 - ms158)))) (fun (o136 : Option Nat) (st137 : g_St) (cb138 : Nat) (sb139 : Nat) => ∃ (n142 : Nat) (f143 : Nat → Option Nat) (j144 : Nat), st137.2.1 q6 = some (.inl (4, n142, .inr (.inr (.inr (.inr (f143)))))) ∧ x8 = nI j144 ∧ j144 < n142 ∧ j144 < 2 ^ 31 ∧ g_isN st137 o136 1 ∧ ∀ st145 : g_St, st145 = g_put st137 q6 (.inl (4, n142, .inr (.inr (.inr (.inr (va_up f143 j144 o136)))))) → K12 (x8 + (nI 1)) st145 cb138 sb139))) (nI 0) st7 (cb - 1) (sb - n5))
set_option maxHeartbeats 4000000 in
theorem wb_X1_arePairs {p : Program} {l : Launch} {e : Env} {R : Room} {s : State} {m : MethodId} {args : Array Value} {below : List Frame} {meth : Method} {c : Code} {E : g_E} {st0 : g_St} {Z : State → Prop} (hC : g_Cx p s m args meth c cX1_arePairs 9 "Stemspan" (some .boolean) "arePairs" E st0) (hR : g_Rm 9 237 R) {a0 : Nat} {p0 : Option Nat} {st : g_St} {cb sb : Nat} {Q : Int32 → g_St → Prop} (hret : ∀ (pc : Nat) (lv : List (Nat × Value)) (v : Int32) (st1 : g_St) (cb sb : Nat), decode cX1_arePairs pc = .ok (.ireturn, 1) → narrow .boolean (.int v) = .int v → Q v st1 → g_J p l e R s m args below meth c 9 E st0 Z pc lv [.int v] st1 cb sb) (hvc : vc_X1_arePairs l E a0 p0 st cb sb Q) : g_J p l e R s m args below meth c 9 E st0 Z 0 [(0, va_rf (some a0)), (1, va_rf p0)] [] st cb sb := by
  unfold vc_X1_arePairs at hvc
  refine j_aload_n hC dX1_arePairs_0 rfl 0 rfl ?_
  obtain ⟨⟨fs, hr⟩, hvc⟩ := hvc
  refine j_callV (As := []) (rest := []) (n := 0) (ci := 15) hC hvc (lw_V q1665 q1667 qs10 q41 q1668) (by decide +kernel) (g_rm hR rfl rfl) rfl hr rfl rfl (g_sum rfl) dX1_arePairs_1 (Nat.zero_le _) (Nat.zero_le _) (g_Kip fun x1 hv2 => ?_)
  replace hvc := hv2; clear hv2
  clear hr fs
  refine j_istore_n (lv0 := [(1, va_rf p0), (0, va_rf (some a0))]) hC dX1_arePairs_4 rfl rfl [1, 0] rfl (g_okS.h rfl g_c1 rfl) ?_
  refine j_iconst hC (nI 0) dX1_arePairs_5 rfl ?_
  refine j_istore_n (lv0 := [(2, .int x1), (1, va_rf p0), (0, va_rf (some a0))]) hC dX1_arePairs_6 rfl rfl [0, 1, 2] rfl (g_okS.h rfl rfl rfl) ?_
  refine j_iconst hC (nI 0) dX1_arePairs_7 rfl ?_
  refine j_istore (lv0 := [(3, .int (nI 0)), (2, .int x1), (1, va_rf p0), (0, va_rf (some a0))]) hC dX1_arePairs_8 rfl [0, 1, 2, 3] rfl (g_okS.h rfl rfl rfl) ?_
  refine j_aload_n hC dX1_arePairs_10 rfl 3 rfl ?_
  obtain ⟨a2, rfl, hvc⟩ := hvc
  obtain ⟨t3, v4, hr, hvc⟩ := hvc
  refine j_alen hC hr dX1_arePairs_11 ?_
  clear hr
  obtain ⟨n5, hi, hn, h1, h2, hvc⟩ := hvc
  refine j_ix hi ?_
  refine j_newS hC q174 ge_92 hn h1 h2 dX1_arePairs_12 (fun q6 st7 e1 e2 => ?_)
  replace hvc := hvc q6 st7 e1 e2; clear hi hn h1 h2 e1 e2
  refine j_astore (lv0 := [(4, .int (nI 0)), (3, .int (nI 0)), (2, .int x1), (1, va_rf (some a2)), (0, va_rf (some a0))]) hC dX1_arePairs_15 rfl [0, 1, 2, 3, 4] rfl (g_okS.h rfl rfl rfl) ?_
  refine j_iconst hC (nI 0) dX1_arePairs_17 rfl ?_
  refine j_istore (lv0 := [(5, va_rf (some q6)), (4, .int (nI 0)), (3, .int (nI 0)), (2, .int x1), (1, va_rf (some a2)), (0, va_rf (some a0))]) hC dX1_arePairs_18 rfl [0, 1, 2, 3, 4, 5] rfl (g_okS.h rfl g_c1 rfl) ?_
  replace hvc := g_lp4_o hvc
  obtain ⟨K12, hz160, hs161, n162, hvc⟩ := hvc
  have kh13 : ∀ (n : Nat) (x8 : Int32) (st9 : g_St) (cb10 : Nat) (sb11 : Nat), K12 n x8 st9 cb10 sb11 → g_J p l e R s m args below meth c 9 E st0 Z 20 [(0, va_rf (some a0)), (1, va_rf (some a2)), (2, .int x1), (3, .int (nI 0)), (4, .int (nI 0)), (5, va_rf (some q6)), (6, .int x8)] [] st9 cb10 sb11 := by
    clear hvc
    intro n
    induction n with
    | zero => intro x8 st9 cb10 sb11 hvc; exact absurd hvc (hz160 _ _ _ _)
    | succ n ih14 =>
      intro x8 st9 cb10 sb11 hvc
      replace hvc := hs161 n _ _ _ _ hvc
      refine j_iload hC dX1_arePairs_20 6 rfl ?_
      refine j_aload_n hC dX1_arePairs_22 rfl 1 rfl ?_
      obtain ⟨t15, v16, hr, hvc⟩ := hvc
      refine j_alen hC hr dX1_arePairs_23 ?_
      clear hr
      refine j_icmp_ge (tgt := 57) hC dX1_arePairs_24 rfl (fun c17 => ?_) (fun c17 => ?_)
      · replace hvc := hvc.1 c17
        refine j_iconst hC (nI 0) dX1_arePairs_57 rfl ?_
        refine j_istore (lv0 := [(5, va_rf (some q6)), (0, va_rf (some a0)), (1, va_rf (some a2)), (2, .int x1), (3, .int (nI 0)), (4, .int (nI 0))]) hC dX1_arePairs_58 rfl [5, 0, 1, 2, 3, 4] rfl (g_okS.h rfl g_c1 rfl) ?_
        replace hvc := g_lp3_o hvc
        obtain ⟨K21, hz133, hs134, n135, hvc⟩ := hvc
        have kh22 : ∀ (n : Nat) (x18 : Int32) (x19 : Int32) (x20 : Int32), K21 n x18 x19 x20 → g_J p l e R s m args below meth c 9 E st0 Z 60 [(0, va_rf (some a0)), (1, va_rf (some a2)), (3, .int x18), (4, .int x19), (5, va_rf (some q6)), (6, .int x20)] [] st9 cb10 sb11 := by
          clear hvc
          intro n
          induction n with
          | zero => intro x18 x19 x20 hvc; exact absurd hvc (hz133 _ _ _)
          | succ n ih23 =>
            intro x18 x19 x20 hvc
            replace hvc := hs134 n _ _ _ hvc
            refine j_iload hC dX1_arePairs_60 5 rfl ?_
            refine j_aload_n hC dX1_arePairs_62 rfl 1 rfl ?_
            obtain ⟨t24, v25, hr, hvc⟩ := hvc
            refine j_alen hC hr dX1_arePairs_63 ?_
            clear hr
            refine j_icmp_ge (tgt := 204) hC dX1_arePairs_64 rfl (fun c26 => ?_) (fun c26 => ?_)
            · replace hvc := hvc.1 c26
              refine j_iload_n hC dX1_arePairs_204 rfl 2 rfl ?_
              refine j_iload hC dX1_arePairs_205 3 rfl ?_
              replace hvc := g_jn4_o hvc
              obtain ⟨K31, hK54, hvc⟩ := hvc
              have kh32 : ∀ (x27 : Int32) (st28 : g_St) (cb29 : Nat) (sb30 : Nat), K31 x27 st28 cb29 sb30 → g_J p l e R s m args below meth c 9 E st0 Z 229 [] [.int x27] st28 cb29 sb30 := by
                clear hvc
                intro x27 st28 cb29 sb30 hvc
                replace hvc := hK54 _ _ _ _ hvc
                exact hret _ _ _ _ _ _ dX1_arePairs_229 hvc.1 hvc.2
              replace hvc := g_jn3_o hvc
              obtain ⟨K36, hK53, hvc⟩ := hvc
              have kh37 : ∀ (st33 : g_St) (cb34 : Nat) (sb35 : Nat), K36 st33 cb34 sb35 → g_J p l e R s m args below meth c 9 E st0 Z 228 [] [] st33 cb34 sb35 := by
                clear hvc
                intro st33 cb34 sb35 hvc
                replace hvc := hK53 _ _ _ hvc
                refine j_iconst hC (nI 0) dX1_arePairs_228 rfl ?_
                exact j_sub [] rfl (kh32 (nI 0) st33 cb34 sb35 hvc)
              refine j_icmp_ne (tgt := 228) hC dX1_arePairs_207 rfl (fun c38 => ?_) (fun c38 => ?_)
              · replace hvc := hvc.1 c38
                exact j_sub [] rfl (kh37 st9 cb10 sb11 hvc)
              · replace hvc := hvc.2 c38
                refine j_aload_n hC dX1_arePairs_210 rfl 1 rfl ?_
                obtain ⟨t39, v40, hr, hvc⟩ := hvc
                refine j_alen hC hr dX1_arePairs_211 ?_
                clear hr
                refine j_iconst hC (nI 2) dX1_arePairs_212 rfl ?_
                replace hvc := g_jn3_o hvc
                obtain ⟨K44, hK52, hvc⟩ := hvc
                have kh45 : ∀ (st41 : g_St) (cb42 : Nat) (sb43 : Nat), K44 st41 cb42 sb43 → g_J p l e R s m args below meth c 9 E st0 Z 224 [] [] st41 cb42 sb43 := by
                  clear hvc
                  intro st41 cb42 sb43 hvc
                  replace hvc := hK52 _ _ _ hvc
                  refine j_iconst hC (nI 1) dX1_arePairs_224 rfl ?_
                  refine j_goto (tgt := 229) hC dX1_arePairs_225 rfl ?_
                  exact j_sub [] rfl (kh32 (nI 1) st41 cb42 sb43 hvc)
                refine j_icmp_lt (tgt := 224) hC dX1_arePairs_213 rfl (fun c46 => ?_) (fun c46 => ?_)
                · replace hvc := hvc.1 c46
                  exact j_sub [] rfl (kh45 st9 cb10 sb11 hvc)
                · replace hvc := hvc.2 c46
                  refine j_aload_n hC dX1_arePairs_216 rfl 0 rfl ?_
                  obtain ⟨mc49, ms50, h1, h2, hvc⟩ := hvc
                  obtain ⟨⟨fs, hr⟩, hvc⟩ := hvc
                  refine j_callV (As := []) (rest := []) (n := 0) (ci := 15) hC hvc (lw_V q1674 q1675 q1676 q41 q1677) (by decide +kernel) (g_rm hR rfl rfl) rfl hr rfl rfl (g_sum rfl) dX1_arePairs_217 h1 h2 (g_Ki fun x47 st48 hv2 hx => ?_)
                  replace hvc := hv2 hx; clear hx hv2
                  clear hr fs
                  refine j_iload_n hC dX1_arePairs_220 rfl 2 rfl ?_
                  refine j_icmp_ne (tgt := 228) hC dX1_arePairs_221 rfl (fun c51 => ?_) (fun c51 => ?_)
                  · replace hvc := hvc.1 c51
                    exact j_sub [] rfl (kh37 st48 (cb10 - mc49) (sb11 - ms50) hvc)
                  · replace hvc := hvc.2 c51
                    exact j_sub [] rfl (kh45 st48 (cb10 - mc49) (sb11 - ms50) hvc)
            · replace hvc := hvc.2 c26
              refine j_iload hC dX1_arePairs_67 5 rfl ?_
              refine j_iconst hC (nI 1) dX1_arePairs_69 rfl ?_
              refine j_iadd hC dX1_arePairs_70 ?_
              refine j_istore (lv0 := [(6, .int x20), (0, va_rf (some a0)), (1, va_rf (some a2)), (3, .int x18), (4, .int x19), (5, va_rf (some q6))]) hC dX1_arePairs_71 rfl [5, 0, 1, 2, 3, 4] rfl (g_okS.h rfl rfl rfl) ?_
              replace hvc := g_lp3_o hvc
              obtain ⟨K58, hz130, hs131, n132, hvc⟩ := hvc
              have kh59 : ∀ (n : Nat) (x55 : Int32) (x56 : Int32) (x57 : Int32), K58 n x55 x56 x57 → g_J p l e R s m args below meth c 9 E st0 Z 73 [(0, va_rf (some a0)), (1, va_rf (some a2)), (3, .int x55), (4, .int x56), (5, va_rf (some q6)), (6, .int x20), (7, .int x57)] [] st9 cb10 sb11 := by
                clear hvc
                intro n
                induction n with
                | zero => intro x55 x56 x57 hvc; exact absurd hvc (hz130 _ _ _)
                | succ n ih60 =>
                  intro x55 x56 x57 hvc
                  replace hvc := hs131 n _ _ _ hvc
                  refine j_iload hC dX1_arePairs_73 6 rfl ?_
                  refine j_aload_n hC dX1_arePairs_75 rfl 1 rfl ?_
                  obtain ⟨t61, v62, hr, hvc⟩ := hvc
                  refine j_alen hC hr dX1_arePairs_76 ?_
                  clear hr
                  refine j_icmp_ge (tgt := 198) hC dX1_arePairs_77 rfl (fun c63 => ?_) (fun c63 => ?_)
                  · replace hvc := hvc.1 c63
                    refine j_iinc (lv0 := [(5, va_rf (some q6)), (0, va_rf (some a0)), (1, va_rf (some a2)), (3, .int x55), (4, .int x56), (7, .int x57)]) hC (nI 1) dX1_arePairs_198 5 rfl rfl rfl [4, 0, 1, 2, 3, 6] rfl (g_okS.h rfl g_c1 rfl) ?_
                    refine j_goto (tgt := 60) hC dX1_arePairs_201 rfl ?_
                    exact j_sub [2, 3, 4, 5, 1, 0] rfl (ih23 x55 x56 (x20 + (nI 1)) hvc)
                  · replace hvc := hvc.2 c63
                    refine j_aload_n hC dX1_arePairs_80 rfl 1 rfl ?_
                    refine j_iload hC dX1_arePairs_81 5 rfl ?_
                    obtain ⟨n64, f65, j66, hr, hi, hj, hJ, hvc⟩ := hvc
                    replace hvc := hvc _ rfl
                    refine j_ix hi ?_
                    refine j_aald hC (by decide) hr hj hJ dX1_arePairs_83 ?_
                    generalize f65 j66 = o67 at hvc ⊢
                    clear hr hi hj hJ
                    refine j_aload_n hC dX1_arePairs_84 rfl 1 rfl ?_
                    refine j_iload hC dX1_arePairs_85 6 rfl ?_
                    obtain ⟨n68, f69, j70, hr, hi, hj, hJ, hvc⟩ := hvc
                    replace hvc := hvc _ rfl
                    refine j_ix hi ?_
                    refine j_aald hC (by decide) hr hj hJ dX1_arePairs_87 ?_
                    generalize f69 j70 = o71 at hvc ⊢
                    clear hr hi hj hJ
                    refine j_callS (As := [va_rf o67, va_rf o71]) (rest := []) (n := 2) hC hvc (lw_S q1543 q1544 q41 q1545) (by decide +kernel) (g_rm hR rfl rfl) rfl rfl (g_sum rfl) dX1_arePairs_88 (Nat.zero_le _) (Nat.zero_le _) (g_Kip fun x72 hv2 => ?_)
                    replace hvc := hv2; clear hv2
                    refine j_istore (lv0 := [(7, .int x57), (0, va_rf (some a0)), (1, va_rf (some a2)), (3, .int x55), (4, .int x56), (5, va_rf (some q6)), (6, .int x20)]) hC dX1_arePairs_91 rfl [6, 0, 1, 2, 3, 4, 5] rfl (g_okS.h rfl rfl rfl) ?_
                    refine j_iload hC dX1_arePairs_93 0 rfl ?_
                    refine j_iload_n hC dX1_arePairs_95 rfl 4 rfl ?_
                    replace hvc := g_jn1_o hvc
                    obtain ⟨K74, hK129, hvc⟩ := hvc
                    have kh75 : ∀ (x73 : Int32), K74 x73 → g_J p l e R s m args below meth c 9 E st0 Z 105 [(0, va_rf (some a0)), (1, va_rf (some a2)), (4, .int x56), (5, va_rf (some q6)), (6, .int x20), (7, .int x57), (8, .int x72)] [.int x73] st9 cb10 sb11 := by
                      clear hvc
                      intro x73 hvc
                      replace hvc := hK129 _ hvc
                      refine j_istore_n (lv0 := [(0, va_rf (some a0)), (1, va_rf (some a2)), (4, .int x56), (5, va_rf (some q6)), (6, .int x20), (7, .int x57), (8, .int x72)]) hC dX1_arePairs_105 rfl rfl [0, 1, 2, 3, 4, 5, 6] rfl (g_okS.n rfl) ?_
                      refine j_iload hC dX1_arePairs_106 6 rfl ?_
                      refine j_iload hC dX1_arePairs_108 5 rfl ?_
                      refine j_iconst hC (nI 1) dX1_arePairs_110 rfl ?_
                      refine j_iadd hC dX1_arePairs_111 ?_
                      replace hvc := g_jn1_o hvc
                      obtain ⟨K77, hK127, hvc⟩ := hvc
                      have kh78 : ∀ (x76 : Int32), K77 x76 → g_J p l e R s m args below meth c 9 E st0 Z 129 [(0, va_rf (some a0)), (1, va_rf (some a2)), (3, .int x73), (5, va_rf (some q6)), (6, .int x20), (7, .int x57)] [.int x76] st9 cb10 sb11 := by
                        clear hvc
                        intro x76 hvc
                        replace hvc := hK127 _ hvc
                        refine j_istore (lv0 := [(3, .int x73), (0, va_rf (some a0)), (1, va_rf (some a2)), (5, va_rf (some q6)), (6, .int x20), (7, .int x57)]) hC dX1_arePairs_129 rfl [2, 0, 1, 3, 4, 5] rfl (g_okS.h rfl rfl rfl) ?_
                        refine j_aload hC dX1_arePairs_131 4 rfl ?_
                        refine j_iload hC dX1_arePairs_133 5 rfl ?_
                        obtain ⟨n79, f80, j81, hr, hi, hj, hJ, hvc⟩ := hvc
                        replace hvc := hvc _ rfl
                        refine j_ix hi ?_
                        refine j_aald hC (by decide) hr hj hJ dX1_arePairs_135 ?_
                        generalize f80 j81 = o82 at hvc ⊢
                        clear hr hi hj hJ
                        refine j_aload hC dX1_arePairs_136 4 rfl ?_
                        refine j_iload hC dX1_arePairs_138 6 rfl ?_
                        obtain ⟨n83, f84, j85, hr, hi, hj, hJ, hvc⟩ := hvc
                        replace hvc := hvc _ rfl
                        refine j_ix hi ?_
                        refine j_aald hC (by decide) hr hj hJ dX1_arePairs_140 ?_
                        generalize f84 j85 = o86 at hvc ⊢
                        clear hr hi hj hJ
                        obtain ⟨a87, rfl, hvc⟩ := hvc
                        obtain ⟨⟨fs, hr⟩, hvc⟩ := hvc
                        refine j_callV (As := [va_rf o86]) (rest := []) (n := 1) (ci := 1) hC hvc (lw_V q1669 q669 q670 q44 q671) (by decide +kernel) (g_rm hR rfl rfl) rfl hr rfl rfl (g_sum rfl) dX1_arePairs_141 (Nat.zero_le _) (Nat.zero_le _) (g_Kip fun x88 hv2 => ?_)
                        replace hvc := hv2; clear hv2
                        clear hr fs
                        replace hvc := g_jn0_o hvc
                        obtain ⟨K89, hK121, hvc⟩ := hvc
                        have kh90 : K89 → g_J p l e R s m args below meth c 9 E st0 Z 190 [] [] st9 cb10 sb11 := by
                          clear hvc
                          intro hvc
                          replace hvc := hK121 hvc
                          refine j_iconst hC (nI 0) dX1_arePairs_190 rfl ?_
                          exact hret _ _ _ _ _ _ dX1_arePairs_191 rfl hvc
                        refine j_if_ge (tgt := 190) hC dX1_arePairs_144 rfl (fun c91 => ?_) (fun c91 => ?_)
                        · replace hvc := hvc.1 c91
                          exact j_sub [] rfl (kh90 hvc)
                        · replace hvc := hvc.2 c91
                          refine j_aload hC dX1_arePairs_147 4 rfl ?_
                          refine j_iload hC dX1_arePairs_149 6 rfl ?_
                          obtain ⟨n92, f93, j94, hr, hi, hj, hJ, hvc⟩ := hvc
                          replace hvc := hvc _ rfl
                          refine j_ix hi ?_
                          refine j_aald hC (by decide) hr hj hJ dX1_arePairs_151 ?_
                          generalize f93 j94 = o95 at hvc ⊢
                          clear hr hi hj hJ
                          refine j_aload hC dX1_arePairs_152 4 rfl ?_
                          refine j_iload hC dX1_arePairs_154 5 rfl ?_
                          obtain ⟨n96, f97, j98, hr, hi, hj, hJ, hvc⟩ := hvc
                          replace hvc := hvc _ rfl
                          refine j_ix hi ?_
                          refine j_aald hC (by decide) hr hj hJ dX1_arePairs_156 ?_
                          generalize f97 j98 = o99 at hvc ⊢
                          clear hr hi hj hJ
                          refine j_callS (As := [va_rf o95, va_rf o99]) (rest := []) (n := 2) hC hvc (lw_S q1646 q1647 q41 q1648) (by decide +kernel) (g_rm hR rfl rfl) rfl rfl (g_sum rfl) dX1_arePairs_157 (Nat.zero_le _) (Nat.zero_le _) (g_Kip fun x100 hv2 => ?_)
                          replace hvc := hv2; clear hv2
                          refine j_aload_n hC dX1_arePairs_160 rfl 3 rfl ?_
                          refine j_iload hC dX1_arePairs_161 6 rfl ?_
                          obtain ⟨n101, f102, j103, hr, hi, hj, hJ, hvc⟩ := hvc
                          replace hvc := hvc _ rfl
                          refine j_ix hi ?_
                          refine j_aald hC (by decide) hr hj hJ dX1_arePairs_163 ?_
                          generalize f102 j103 = o104 at hvc ⊢
                          clear hr hi hj hJ
                          refine j_aload_n hC dX1_arePairs_164 rfl 3 rfl ?_
                          refine j_iload hC dX1_arePairs_165 5 rfl ?_
                          obtain ⟨n105, f106, j107, hr, hi, hj, hJ, hvc⟩ := hvc
                          replace hvc := hvc _ rfl
                          refine j_ix hi ?_
                          refine j_aald hC (by decide) hr hj hJ dX1_arePairs_167 ?_
                          generalize f106 j107 = o108 at hvc ⊢
                          clear hr hi hj hJ
                          refine j_callS (As := [va_rf o104, va_rf o108]) (rest := [.int x100]) (n := 2) hC hvc (lw_S q1646 q1647 q41 q1648) (by decide +kernel) (g_rm hR rfl rfl) rfl rfl (g_sum rfl) dX1_arePairs_168 (Nat.zero_le _) (Nat.zero_le _) (g_Kip fun x109 hv2 => ?_)
                          replace hvc := hv2; clear hv2
                          refine j_icmp_ne (tgt := 190) hC dX1_arePairs_171 rfl (fun c110 => ?_) (fun c110 => ?_)
                          · replace hvc := hvc.1 c110
                            exact j_sub [] rfl (kh90 hvc)
                          · replace hvc := hvc.2 c110
                            refine j_aload hC dX1_arePairs_174 4 rfl ?_
                            refine j_iload hC dX1_arePairs_176 5 rfl ?_
                            obtain ⟨n111, f112, j113, hr, hi, hj, hJ, hvc⟩ := hvc
                            replace hvc := hvc _ rfl
                            refine j_ix hi ?_
                            refine j_aald hC (by decide) hr hj hJ dX1_arePairs_178 ?_
                            generalize f112 j113 = o114 at hvc ⊢
                            clear hr hi hj hJ
                            refine j_aload hC dX1_arePairs_179 4 rfl ?_
                            refine j_iload hC dX1_arePairs_181 6 rfl ?_
                            obtain ⟨n115, f116, j117, hr, hi, hj, hJ, hvc⟩ := hvc
                            replace hvc := hvc _ rfl
                            refine j_ix hi ?_
                            refine j_aald hC (by decide) hr hj hJ dX1_arePairs_183 ?_
                            generalize f116 j117 = o118 at hvc ⊢
                            clear hr hi hj hJ
                            refine j_callS (As := [va_rf o114, va_rf o118]) (rest := []) (n := 2) hC hvc (lw_S q1646 q1647 q41 q1648) (by decide +kernel) (g_rm hR rfl rfl) rfl rfl (g_sum rfl) dX1_arePairs_184 (Nat.zero_le _) (Nat.zero_le _) (g_Kip fun x119 hv2 => ?_)
                            replace hvc := hv2; clear hv2
                            refine j_if_eq (tgt := 192) hC dX1_arePairs_187 rfl (fun c120 => ?_) (fun c120 => ?_)
                            · replace hvc := hvc.1 c120
                              refine j_iinc (lv0 := [(6, .int x20), (4, .int x76), (3, .int x73), (0, va_rf (some a0)), (1, va_rf (some a2)), (5, va_rf (some q6))]) hC (nI 1) dX1_arePairs_192 6 rfl rfl rfl [5, 0, 1, 2, 3, 4] rfl (g_okS.h rfl rfl rfl) ?_
                              refine j_goto (tgt := 73) hC dX1_arePairs_195 rfl ?_
                              exact j_sub [4, 5, 3, 2, 6, 1, 0] rfl (ih60 x73 x76 (x57 + (nI 1)) hvc)
                            · replace hvc := hvc.2 c120
                              exact j_sub [] rfl (kh90 hvc)
                      replace hvc := g_jn0_o hvc
                      obtain ⟨K122, hK126, hvc⟩ := hvc
                      have kh123 : K122 → g_J p l e R s m args below meth c 9 E st0 Z 127 [(0, va_rf (some a0)), (1, va_rf (some a2)), (3, .int x73), (4, .int x56), (5, va_rf (some q6)), (6, .int x20), (7, .int x57)] [] st9 cb10 sb11 := by
                        clear hvc
                        intro hvc
                        replace hvc := hK126 hvc
                        refine j_iload hC dX1_arePairs_127 3 rfl ?_
                        exact j_sub [0, 1, 2, 4, 5, 6] rfl (kh78 x56 hvc)
                      refine j_icmp_ne (tgt := 127) hC dX1_arePairs_112 rfl (fun c124 => ?_) (fun c124 => ?_)
                      · replace hvc := hvc.1 c124
                        exact j_sub [1, 2, 0, 3, 4, 5, 6] rfl (kh123 hvc)
                      · replace hvc := hvc.2 c124
                        refine j_iload hC dX1_arePairs_115 7 rfl ?_
                        refine j_iload hC dX1_arePairs_117 3 rfl ?_
                        refine j_icmp_le (tgt := 127) hC dX1_arePairs_119 rfl (fun c125 => ?_) (fun c125 => ?_)
                        · replace hvc := hvc.1 c125
                          exact j_sub [1, 2, 0, 3, 4, 5, 6] rfl (kh123 hvc)
                        · replace hvc := hvc.2 c125
                          refine j_iload hC dX1_arePairs_122 7 rfl ?_
                          refine j_goto (tgt := 129) hC dX1_arePairs_124 rfl ?_
                          exact j_sub [1, 2, 0, 4, 5, 6] rfl (kh78 x72 hvc)
                    refine j_icmp_le (tgt := 104) hC dX1_arePairs_96 rfl (fun c128 => ?_) (fun c128 => ?_)
                    · replace hvc := hvc.1 c128
                      refine j_iload_n hC dX1_arePairs_104 rfl 4 rfl ?_
                      exact j_sub [2, 3, 5, 6, 7, 1, 0] rfl (kh75 x55 hvc)
                    · replace hvc := hvc.2 c128
                      refine j_iload hC dX1_arePairs_99 0 rfl ?_
                      refine j_goto (tgt := 105) hC dX1_arePairs_101 rfl ?_
                      exact j_sub [2, 3, 5, 6, 7, 1, 0] rfl (kh75 x72 hvc)
              exact j_sub [2, 3, 4, 5, 6, 1, 0] rfl (kh59 n132 x18 x19 (x20 + (nI 1)) hvc)
        exact j_sub [2, 3, 5, 6, 1, 0] rfl (kh22 n135 (nI 0) (nI 0) (nI 0) hvc)
      · replace hvc := hvc.2 c17
        refine j_aload hC dX1_arePairs_27 5 rfl ?_
        refine j_iload hC dX1_arePairs_29 6 rfl ?_
        refine j_iload_n hC dX1_arePairs_31 rfl 2 rfl ?_
        replace hvc := g_jn4_o hvc
        obtain ⟨K140, hK159, hvc⟩ := hvc
        have kh141 : ∀ (o136 : Option Nat) (st137 : g_St) (cb138 : Nat) (sb139 : Nat), K140 o136 st137 cb138 sb139 → g_J p l e R s m args below meth c 9 E st0 Z 50 [(0, va_rf (some a0)), (1, va_rf (some a2)), (2, .int x1), (3, .int (nI 0)), (4, .int (nI 0)), (5, va_rf (some q6)), (6, .int x8)] [va_rf o136, .int x8, va_rf (some q6)] st137 cb138 sb139 := by
          clear hvc
          intro o136 st137 cb138 sb139 hvc
          replace hvc := hK159 _ _ _ _ hvc
          obtain ⟨n142, f143, j144, hm, hi, hj, hJ, hv, hvc⟩ := hvc
          refine j_ix1 hi ?_
          refine j_aast hC hm hj hJ (ci := 1) rfl hv dX1_arePairs_50 (fun st145 e1 => ?_)
          replace hvc := hvc st145 e1; clear hm hi hj hJ hv e1
          refine j_iinc (lv0 := [(5, va_rf (some q6)), (0, va_rf (some a0)), (1, va_rf (some a2)), (2, .int x1), (3, .int (nI 0)), (4, .int (nI 0))]) hC (nI 1) dX1_arePairs_51 6 rfl rfl rfl [5, 0, 1, 2, 3, 4] rfl (g_okS.h rfl g_c1 rfl) ?_
          refine j_goto (tgt := 20) hC dX1_arePairs_54 rfl ?_
          exact j_sub [2, 3, 4, 5, 6, 1, 0] rfl (ih14 (x8 + (nI 1)) st145 cb138 sb139 hvc)
        refine j_if_eq (tgt := 46) hC dX1_arePairs_32 rfl (fun c146 => ?_) (fun c146 => ?_)
        · replace hvc := hvc.1 c146
          refine j_aload_n hC dX1_arePairs_46 rfl 1 rfl ?_
          refine j_iload hC dX1_arePairs_47 6 rfl ?_
          obtain ⟨n147, f148, j149, hr, hi, hj, hJ, hvc⟩ := hvc
          replace hvc := hvc _ rfl
          refine j_ix hi ?_
          refine j_aald hC (by decide) hr hj hJ dX1_arePairs_49 ?_
          generalize f148 j149 = o150 at hvc ⊢
          clear hr hi hj hJ
          exact j_sub [0, 1, 2, 3, 4, 5, 6] rfl (kh141 o150 st9 cb10 sb11 hvc)
        · replace hvc := hvc.2 c146
          refine j_aload_n hC dX1_arePairs_35 rfl 0 rfl ?_
          refine j_aload_n hC dX1_arePairs_36 rfl 1 rfl ?_
          refine j_iload hC dX1_arePairs_37 6 rfl ?_
          obtain ⟨n151, f152, j153, hr, hi, hj, hJ, hvc⟩ := hvc
          replace hvc := hvc _ rfl
          refine j_ix hi ?_
          refine j_aald hC (by decide) hr hj hJ dX1_arePairs_39 ?_
          generalize f152 j153 = o154 at hvc ⊢
          clear hr hi hj hJ
          obtain ⟨mc157, ms158, h1, h2, hvc⟩ := hvc
          obtain ⟨⟨fs, hr⟩, hvc⟩ := hvc
          refine j_callV (As := [va_rf o154]) (rest := [.int x8, va_rf (some q6)]) (n := 1) (ci := 15) hC hvc (lw_V q1670 q1672 qs11 q41 q1673) (by decide +kernel) (g_rm hR rfl rfl) rfl hr rfl rfl (g_sum rfl) dX1_arePairs_40 h1 h2 (g_Ka fun o155 st156 hv2 hx => ?_)
          replace hvc := hv2 hx; clear hx hv2
          clear hr fs
          refine j_goto (tgt := 50) hC dX1_arePairs_43 rfl ?_
          exact j_sub [0, 1, 2, 3, 4, 5, 6] rfl (kh141 o155 st156 (cb10 - mc157) (sb11 - ms158) hvc)
  exact j_sub [6, 5, 4, 3, 2, 1, 0] rfl (kh13 n162 (nI 0) st7 (cb - 1) (sb - n5) hvc)
theorem wk_X1_arePairs {l : Launch} {E : g_E} {a0 : Nat} {p0 : Option Nat} {st : g_St} {mc ms : Nat} {Q : Int32 → g_St → Prop} (hvc : vc_X1_arePairs l E a0 p0 st mc ms Q) : wp_X1_arePairs l E mc ms [va_rf (some a0), va_rf p0] st Q :=
  g_enter (lv0 := [(0, va_rf (some a0)), (1, va_rf p0)]) (plainFor_of_name (by decide +kernel)) (by simp [lv_args, g_c1, g_ci, g_cL]) (by simp [lg_sl, g_c1, g_ci, g_cL]) (fun p e s m args below meth c hC => wb_X1_arePairs hC ⟨Nat.le_refl _, Nat.le_refl _⟩ (fun pc lv v st1 cb sb hd hn hq => j_ireturn hC rfl hn hd (g_iv hq)) hvc)
abbrev wp_X1_areEnds (l : Launch) (E : g_E) (mc ms : Nat) (av : List Value) (st : g_St) (Q : Int32 → g_St → Prop) : Prop := g_WPi l E yX1_areEnds cX1_areEnds 7 (some .boolean) 11 282 mc ms av st Q
def vc_X1_areEnds (l : Launch) (E : g_E) (a0 : Nat) (p0 : Option Nat) (st : g_St) (cb sb : Nat) (Q : Int32 → g_St → Prop) : Prop :=
  ∃ a1 : Nat, p0 = some a1 ∧ ∃ (t2 : Nat) (v3 : vp_A), g_Rd st a1 (.inl (t2, v3)) ∧ g_lp4 (fun (K8 : Int32 → g_St → Nat → Nat → Prop) (x4 : Int32) (st5 : g_St) (cb6 : Nat) (sb7 : Nat) => ((nI v3.1) ≤ x4 → Q (nI 1) st5) ∧ (¬ (nI v3.1) ≤ x4 → ∃ (n12 : Nat) (f13 : Nat → Option Nat) (j14 : Nat), g_ar st5 a1 4 n12 f13 ∧ x4 = nI j14 ∧ j14 < n12 ∧ j14 < 2 ^ 31 ∧ ∀ o15 : Option Nat, o15 = f13 j14 → g_lp4 (fun (K20 : Int32 → g_St → Nat → Nat → Prop) (x16 : Int32) (st17 : g_St) (cb18 : Nat) (sb19 : Nat) => ∃ a23 : Nat, o15 = some a23 ∧ g_is st17 a23 1 ∧ wp_J2_length l E 0 0 [va_rf (some a23)] st17 (fun x24 stx => stx = st17 ∧ (x24 ≤ x16 → K8 (x4 + (nI 1)) st17 cb18 sb19) ∧ (¬ x24 ≤ x16 → ∃ o26 : Option Nat, g_gr st17 a0 15 1 o26 ∧ ∃ mc29 ms30 : Nat, mc29 ≤ cb18 ∧ ms30 ≤ sb19 ∧ g_is st17 a23 1 ∧ wp_J2_substring_2 l E mc29 ms30 [va_rf (some a23), .int x16] st17 (fun o27 st28 => g_Ext st17 st28 → ∃ a31 : Nat, o26 = some a31 ∧ g_is st28 a31 3 ∧ wp_J5_containsKey l E 0 0 [va_rf (some a31), va_rf o27] st28 (fun x32 stx => stx = st28 ∧ (¬ x32 = 0 → K20 (x16 + (nI 1)) st28 (cb18 - mc29) (sb19 - ms30)) ∧ (x32 = 0 → Q (nI 0) st28)))))) (nI 1) st5 cb6 sb7)) (nI 0) st cb sb
set_option maxHeartbeats 4000000 in
theorem wb_X1_areEnds {p : Program} {l : Launch} {e : Env} {R : Room} {s : State} {m : MethodId} {args : Array Value} {below : List Frame} {meth : Method} {c : Code} {E : g_E} {st0 : g_St} {Z : State → Prop} (hC : g_Cx p s m args meth c cX1_areEnds 7 "Stemspan" (some .boolean) "areEnds" E st0) (hR : g_Rm 11 282 R) {a0 : Nat} {p0 : Option Nat} {st : g_St} {cb sb : Nat} {Q : Int32 → g_St → Prop} (hret : ∀ (pc : Nat) (lv : List (Nat × Value)) (v : Int32) (st1 : g_St) (cb sb : Nat), decode cX1_areEnds pc = .ok (.ireturn, 1) → narrow .boolean (.int v) = .int v → Q v st1 → g_J p l e R s m args below meth c 7 E st0 Z pc lv [.int v] st1 cb sb) (hvc : vc_X1_areEnds l E a0 p0 st cb sb Q) : g_J p l e R s m args below meth c 7 E st0 Z 0 [(0, va_rf (some a0)), (1, va_rf p0)] [] st cb sb := by
  unfold vc_X1_areEnds at hvc
  refine j_aload_n hC dX1_areEnds_0 rfl 1 rfl ?_
  refine j_astore_n (lv0 := [(1, va_rf p0), (0, va_rf (some a0))]) hC dX1_areEnds_1 rfl rfl [1, 0] rfl (g_okS.h rfl g_c1 rfl) ?_
  refine j_aload_n hC dX1_areEnds_2 rfl 0 rfl ?_
  obtain ⟨a1, rfl, hvc⟩ := hvc
  obtain ⟨t2, v3, hr, hvc⟩ := hvc
  refine j_alen hC hr dX1_areEnds_3 ?_
  clear hr
  refine j_istore_n (lv0 := [(2, va_rf (some a1)), (1, va_rf (some a1)), (0, va_rf (some a0))]) hC dX1_areEnds_4 rfl rfl [0, 1, 2] rfl (g_okS.h rfl g_c1 rfl) ?_
  refine j_iconst hC (nI 0) dX1_areEnds_5 rfl ?_
  refine j_istore (lv0 := [(3, .int (nI v3.1)), (2, va_rf (some a1)), (1, va_rf (some a1)), (0, va_rf (some a0))]) hC dX1_areEnds_6 rfl [0, 1, 2, 3] rfl (g_okS.h rfl rfl rfl) ?_
  replace hvc := g_lp4_o hvc
  obtain ⟨K8, hz37, hs38, n39, hvc⟩ := hvc
  have kh9 : ∀ (n : Nat) (x4 : Int32) (st5 : g_St) (cb6 : Nat) (sb7 : Nat), K8 n x4 st5 cb6 sb7 → g_J p l e R s m args below meth c 7 E st0 Z 8 [(0, va_rf (some a0)), (2, va_rf (some a1)), (3, .int (nI v3.1)), (4, .int x4)] [] st5 cb6 sb7 := by
    clear hvc
    intro n
    induction n with
    | zero => intro x4 st5 cb6 sb7 hvc; exact absurd hvc (hz37 _ _ _ _)
    | succ n ih10 =>
      intro x4 st5 cb6 sb7 hvc
      replace hvc := hs38 n _ _ _ _ hvc
      refine j_iload hC dX1_areEnds_8 3 rfl ?_
      refine j_iload_n hC dX1_areEnds_10 rfl 2 rfl ?_
      refine j_icmp_ge (tgt := 64) hC dX1_areEnds_11 rfl (fun c11 => ?_) (fun c11 => ?_)
      · replace hvc := hvc.1 c11
        refine j_iconst hC (nI 1) dX1_areEnds_64 rfl ?_
        exact hret _ _ _ _ _ _ dX1_areEnds_65 rfl hvc
      · replace hvc := hvc.2 c11
        refine j_aload_n hC dX1_areEnds_14 rfl 1 rfl ?_
        refine j_iload hC dX1_areEnds_15 3 rfl ?_
        obtain ⟨n12, f13, j14, hr, hi, hj, hJ, hvc⟩ := hvc
        replace hvc := hvc _ rfl
        refine j_ix hi ?_
        refine j_aald hC (by decide) hr hj hJ dX1_areEnds_17 ?_
        generalize f13 j14 = o15 at hvc ⊢
        clear hr hi hj hJ
        refine j_astore (lv0 := [(4, .int x4), (0, va_rf (some a0)), (2, va_rf (some a1)), (3, .int (nI v3.1))]) hC dX1_areEnds_18 rfl [3, 0, 1, 2] rfl (g_okS.h rfl rfl rfl) ?_
        refine j_iconst hC (nI 1) dX1_areEnds_20 rfl ?_
        refine j_istore (lv0 := [(5, va_rf o15), (4, .int x4), (0, va_rf (some a0)), (2, va_rf (some a1)), (3, .int (nI v3.1))]) hC dX1_areEnds_21 rfl [0, 1, 2, 3, 4] rfl (g_okS.h rfl g_c1 rfl) ?_
        replace hvc := g_lp4_o hvc
        obtain ⟨K20, hz34, hs35, n36, hvc⟩ := hvc
        have kh21 : ∀ (n : Nat) (x16 : Int32) (st17 : g_St) (cb18 : Nat) (sb19 : Nat), K20 n x16 st17 cb18 sb19 → g_J p l e R s m args below meth c 7 E st0 Z 23 [(0, va_rf (some a0)), (2, va_rf (some a1)), (3, .int (nI v3.1)), (4, .int x4), (5, va_rf o15), (6, .int x16)] [] st17 cb18 sb19 := by
          clear hvc
          intro n
          induction n with
          | zero => intro x16 st17 cb18 sb19 hvc; exact absurd hvc (hz34 _ _ _ _)
          | succ n ih22 =>
            intro x16 st17 cb18 sb19 hvc
            replace hvc := hs35 n _ _ _ _ hvc
            refine j_iload hC dX1_areEnds_23 5 rfl ?_
            refine j_aload hC dX1_areEnds_25 4 rfl ?_
            obtain ⟨a23, rfl, hvc⟩ := hvc
            obtain ⟨⟨fs, hr⟩, hvc⟩ := hvc
            refine j_callV (As := []) (rest := [.int x16]) (n := 0) (ci := 1) hC hvc (lw_V q1546 q182 q183 q44 q184) (by decide +kernel) (g_rm hR rfl rfl) rfl hr rfl rfl (g_sum rfl) dX1_areEnds_27 (Nat.zero_le _) (Nat.zero_le _) (g_Kip fun x24 hv2 => ?_)
            replace hvc := hv2; clear hv2
            clear hr fs
            refine j_icmp_ge (tgt := 58) hC dX1_areEnds_30 rfl (fun c25 => ?_) (fun c25 => ?_)
            · replace hvc := hvc.1 c25
              refine j_iinc (lv0 := [(3, .int (nI v3.1)), (0, va_rf (some a0)), (2, va_rf (some a1)), (5, va_rf (some a23)), (6, .int x16)]) hC (nI 1) dX1_areEnds_58 3 rfl rfl rfl [2, 0, 1, 4, 5] rfl (g_okS.h rfl rfl rfl) ?_
              refine j_goto (tgt := 8) hC dX1_areEnds_61 rfl ?_
              exact j_sub [2, 3, 1, 0] rfl (ih10 (x4 + (nI 1)) st17 cb18 sb19 hvc)
            · replace hvc := hvc.2 c25
              refine j_aload_n hC dX1_areEnds_33 rfl 0 rfl ?_
              obtain ⟨o26, ⟨fs, hr, hv⟩, hvc⟩ := hvc
              refine j_get hC fkX1_19_X1 dX1_areEnds_34 hr hv ?_
              clear hv hr fs
              refine j_aload hC dX1_areEnds_37 4 rfl ?_
              refine j_iload hC dX1_areEnds_39 5 rfl ?_
              obtain ⟨mc29, ms30, h1, h2, hvc⟩ := hvc
              obtain ⟨⟨fs, hr⟩, hvc⟩ := hvc
              refine j_callV (As := [.int x16]) (rest := [va_rf o26]) (n := 1) (ci := 1) hC hvc (lw_V q1649 q1650 q1651 q44 q1652) (by decide +kernel) (g_rm hR rfl rfl) rfl hr rfl rfl (g_sum rfl) dX1_areEnds_41 h1 h2 (g_Ka fun o27 st28 hv2 hx => ?_)
              replace hvc := hv2 hx; clear hx hv2
              clear hr fs
              obtain ⟨a31, rfl, hvc⟩ := hvc
              obtain ⟨⟨fs, hr⟩, hvc⟩ := hvc
              refine j_callV (As := [va_rf o27]) (rest := []) (n := 1) (ci := 3) hC hvc (lw_V q1593 q1594 q1595 q47 q1596) (by decide +kernel) (g_rm hR rfl rfl) rfl hr rfl rfl (g_sum rfl) dX1_areEnds_44 (Nat.zero_le _) (Nat.zero_le _) (g_Kip fun x32 hv2 => ?_)
              replace hvc := hv2; clear hv2
              clear hr fs
              refine j_if_ne (tgt := 52) hC dX1_areEnds_47 rfl (fun c33 => ?_) (fun c33 => ?_)
              · replace hvc := hvc.1 c33
                refine j_iinc (lv0 := [(5, va_rf (some a23)), (0, va_rf (some a0)), (2, va_rf (some a1)), (3, .int (nI v3.1)), (4, .int x4)]) hC (nI 1) dX1_areEnds_52 5 rfl rfl rfl [4, 0, 1, 2, 3] rfl (g_okS.h rfl g_c1 rfl) ?_
                refine j_goto (tgt := 23) hC dX1_areEnds_55 rfl ?_
                exact j_sub [2, 3, 4, 5, 1, 0] rfl (ih22 (x16 + (nI 1)) st28 (cb18 - mc29) (sb19 - ms30) hvc)
              · replace hvc := hvc.2 c33
                refine j_iconst hC (nI 0) dX1_areEnds_50 rfl ?_
                exact hret _ _ _ _ _ _ dX1_areEnds_51 rfl hvc
        exact j_sub [3, 4, 5, 2, 1, 0] rfl (kh21 n36 (nI 1) st5 cb6 sb7 hvc)
  exact j_sub [4, 2, 1, 0] rfl (kh9 n39 (nI 0) st cb sb hvc)
theorem wk_X1_areEnds {l : Launch} {E : g_E} {a0 : Nat} {p0 : Option Nat} {st : g_St} {mc ms : Nat} {Q : Int32 → g_St → Prop} (hvc : vc_X1_areEnds l E a0 p0 st mc ms Q) : wp_X1_areEnds l E mc ms [va_rf (some a0), va_rf p0] st Q :=
  g_enter (lv0 := [(0, va_rf (some a0)), (1, va_rf p0)]) (plainFor_of_name (by decide +kernel)) (by simp [lv_args, g_c1, g_ci, g_cL]) (by simp [lg_sl, g_c1, g_ci, g_cL]) (fun p e s m args below meth c hC => wb_X1_areEnds hC ⟨Nat.le_refl _, Nat.le_refl _⟩ (fun pc lv v st1 cb sb hd hn hq => j_ireturn hC rfl hn hd (g_iv hq)) hvc)
abbrev wp_X1_isNear (l : Launch) (E : g_E) (mc ms : Nat) (av : List Value) (st : g_St) (Q : Int32 → g_St → Prop) : Prop := g_WPi l E yX1_isNear cX1_isNear 10 (some .boolean) 13 329 mc ms av st Q
def vc_X1_isNear (l : Launch) (E : g_E) (a0 : Nat) (p0 : Option Nat) (p1 : Option Nat) (st : g_St) (cb sb : Nat) (Q : Int32 → g_St → Prop) : Prop :=
  ∃ a1 : Nat, p0 = some a1 ∧ ∃ (t2 : Nat) (v3 : vp_A), g_Rd st a1 (.inl (t2, v3)) ∧ g_lp3 (fun (K7 : Int32 → Int32 → Int32 → Prop) (x4 : Int32) (x5 : Int32) (x6 : Int32) => ((nI v3.1) ≤ x6 → ∃ o11 : Option Nat, g_gr st a0 15 1 o11 ∧ ∃ a12 : Nat, o11 = some a12 ∧ g_is st a12 3 ∧ wp_J5_floorKey l E 0 0 [va_rf (some a12), va_rf p1] st (fun o13 stx => stx = st ∧ g_isN st o13 1 ∧ ∃ o14 : Option Nat, g_gr st a0 15 1 o14 ∧ ∃ a15 : Nat, o14 = some a15 ∧ g_is st a15 3 ∧ wp_J5_ceilingKey l E 0 0 [va_rf (some a15), va_rf p1] st (fun o16 stx => stx = st ∧ g_isN st o16 1 ∧ g_jn1 (fun (K18 : Int32 → Prop) => (o13 = none → K18 (nI 0)) ∧ (∀ a47 : Nat, o13 = some a47 → wp_X1_common l E 0 0 [va_rf (some a47), va_rf p1] st (fun x48 stx => stx = st ∧ K18 x48))) (fun (x17 : Int32) => g_jn1 (fun (K21 : Int32 → Prop) => (o16 = none → K21 (nI 0)) ∧ (∀ a43 : Nat, o16 = some a43 → wp_X1_common l E 0 0 [va_rf (some a43), va_rf p1] st (fun x44 stx => stx = st ∧ K21 x44))) (fun (x20 : Int32) => ∃ o23 : Option Nat, g_gr st a0 15 1 o23 ∧ ∃ mc26 ms27 : Nat, mc26 ≤ cb ∧ ms27 ≤ sb ∧ wp_X1_longest l E mc26 ms27 [va_rf o23, va_rf p1] st (fun x24 st25 => g_Ext st st25 → g_jn1 (fun (K29 : Int32 → Prop) => g_jn0 (fun (K31 : Prop) => (¬ x24 = x4 → K31) ∧ (x24 = x4 → g_jn1 (fun (K35 : Int32 → Prop) => (x17 ≤ x20 → K35 x20) ∧ (¬ x17 ≤ x20 → K35 x17)) (fun (x34 : Int32) => (¬ x5 = x34 → K31) ∧ (x5 = x34 → K29 (nI 1))))) (K29 (nI 0))) (fun (x28 : Int32) => narrow .boolean (.int x28) = .int x28 ∧ Q x28 st25))))))) ∧ (¬ (nI v3.1) ≤ x6 → ∃ (n50 : Nat) (f51 : Nat → Option Nat) (j52 : Nat), g_ar st a1 4 n50 f51 ∧ x6 = nI j52 ∧ j52 < n50 ∧ j52 < 2 ^ 31 ∧ ∀ o53 : Option Nat, o53 = f51 j52 → wp_X1_common l E 0 0 [va_rf o53, va_rf p1] st (fun x54 stx => stx = st ∧ g_jn1 (fun (K56 : Int32 → Prop) => (x54 ≤ x5 → K56 x5) ∧ (¬ x54 ≤ x5 → K56 x54)) (fun (x55 : Int32) => ∃ a58 : Nat, o53 = some a58 ∧ g_is st a58 1 ∧ wp_J2_length l E 0 0 [va_rf (some a58)] st (fun x59 stx => stx = st ∧ g_jn1 (fun (K61 : Int32 → Prop) => g_jn0 (fun (K63 : Prop) => (¬ x54 = x59 → K63) ∧ (x54 = x59 → (x54 ≤ x4 → K63) ∧ (¬ x54 ≤ x4 → K61 x54))) (K61 x4)) (fun (x60 : Int32) => K7 x60 x55 (x6 + (nI 1)))))))) (nI 0) (nI 0) (nI 0)
set_option maxHeartbeats 4000000 in
theorem wb_X1_isNear {p : Program} {l : Launch} {e : Env} {R : Room} {s : State} {m : MethodId} {args : Array Value} {below : List Frame} {meth : Method} {c : Code} {E : g_E} {st0 : g_St} {Z : State → Prop} (hC : g_Cx p s m args meth c cX1_isNear 10 "Stemspan" (some .boolean) "isNear" E st0) (hR : g_Rm 13 329 R) {a0 : Nat} {p0 : Option Nat} {p1 : Option Nat} {st : g_St} {cb sb : Nat} {Q : Int32 → g_St → Prop} (hret : ∀ (pc : Nat) (lv : List (Nat × Value)) (v : Int32) (st1 : g_St) (cb sb : Nat), decode cX1_isNear pc = .ok (.ireturn, 1) → narrow .boolean (.int v) = .int v → Q v st1 → g_J p l e R s m args below meth c 10 E st0 Z pc lv [.int v] st1 cb sb) (hvc : vc_X1_isNear l E a0 p0 p1 st cb sb Q) : g_J p l e R s m args below meth c 10 E st0 Z 0 [(0, va_rf (some a0)), (1, va_rf p0), (2, va_rf p1)] [] st cb sb := by
  unfold vc_X1_isNear at hvc
  refine j_iconst hC (nI 0) dX1_isNear_0 rfl ?_
  refine j_istore_n (lv0 := [(2, va_rf p1), (0, va_rf (some a0)), (1, va_rf p0)]) hC dX1_isNear_1 rfl rfl [2, 0, 1] rfl (g_okS.h rfl g_c1 rfl) ?_
  refine j_iconst hC (nI 0) dX1_isNear_2 rfl ?_
  refine j_istore (lv0 := [(3, .int (nI 0)), (2, va_rf p1), (0, va_rf (some a0)), (1, va_rf p0)]) hC dX1_isNear_3 rfl [0, 1, 2, 3] rfl (g_okS.h rfl rfl rfl) ?_
  refine j_aload_n hC dX1_isNear_5 rfl 4 rfl ?_
  refine j_astore (lv0 := [(4, .int (nI 0)), (3, .int (nI 0)), (2, va_rf p1), (0, va_rf (some a0)), (1, va_rf p0)]) hC dX1_isNear_6 rfl [0, 1, 2, 3, 4] rfl (g_okS.h rfl rfl rfl) ?_
  refine j_aload hC dX1_isNear_8 0 rfl ?_
  obtain ⟨a1, rfl, hvc⟩ := hvc
  obtain ⟨t2, v3, hr, hvc⟩ := hvc
  refine j_alen hC hr dX1_isNear_10 ?_
  clear hr
  refine j_istore (lv0 := [(5, va_rf (some a1)), (4, .int (nI 0)), (3, .int (nI 0)), (2, va_rf p1), (0, va_rf (some a0)), (1, va_rf (some a1))]) hC dX1_isNear_11 rfl [0, 1, 2, 3, 4, 5] rfl (g_okS.h rfl g_c1 rfl) ?_
  refine j_iconst hC (nI 0) dX1_isNear_13 rfl ?_
  refine j_istore (lv0 := [(6, .int (nI v3.1)), (5, va_rf (some a1)), (4, .int (nI 0)), (3, .int (nI 0)), (2, va_rf p1), (0, va_rf (some a0)), (1, va_rf (some a1))]) hC dX1_isNear_14 rfl [0, 1, 2, 3, 4, 5, 6] rfl (g_okS.h rfl rfl rfl) ?_
  replace hvc := g_lp3_o hvc
  obtain ⟨K7, hz71, hs72, n73, hvc⟩ := hvc
  have kh8 : ∀ (n : Nat) (x4 : Int32) (x5 : Int32) (x6 : Int32), K7 n x4 x5 x6 → g_J p l e R s m args below meth c 10 E st0 Z 16 [(0, va_rf (some a0)), (2, va_rf p1), (3, .int x4), (4, .int x5), (5, va_rf (some a1)), (6, .int (nI v3.1)), (7, .int x6)] [] st cb sb := by
    clear hvc
    intro n
    induction n with
    | zero => intro x4 x5 x6 hvc; exact absurd hvc (hz71 _ _ _)
    | succ n ih9 =>
      intro x4 x5 x6 hvc
      replace hvc := hs72 n _ _ _ hvc
      refine j_iload hC dX1_isNear_16 6 rfl ?_
      refine j_iload hC dX1_isNear_18 5 rfl ?_
      refine j_icmp_ge (tgt := 83) hC dX1_isNear_20 rfl (fun c10 => ?_) (fun c10 => ?_)
      · replace hvc := hvc.1 c10
        refine j_aload_n hC dX1_isNear_83 rfl 0 rfl ?_
        obtain ⟨o11, ⟨fs, hr, hv⟩, hvc⟩ := hvc
        refine j_get hC fkX1_19_X1 dX1_isNear_84 hr hv ?_
        clear hv hr fs
        refine j_aload_n hC dX1_isNear_87 rfl 1 rfl ?_
        obtain ⟨a12, rfl, hvc⟩ := hvc
        obtain ⟨⟨fs, hr⟩, hvc⟩ := hvc
        refine j_callV (As := [va_rf p1]) (rest := []) (n := 1) (ci := 3) hC hvc (lw_V q1527 q1528 q1529 q47 q1530) (by decide +kernel) (g_rm hR rfl rfl) rfl hr rfl rfl (g_sum rfl) dX1_isNear_88 (Nat.zero_le _) (Nat.zero_le _) (g_Kap fun o13 hv2 => ?_)
        replace hvc := hv2; clear hv2
        clear hr fs
        obtain ⟨hv, hvc⟩ := hvc
        refine j_cast hC (C := "java/lang/String") (ci := 1) q174 rfl (Or.inl rfl) hv dX1_isNear_91 ?_
        clear hv
        refine j_astore (lv0 := [(4, .int x5), (0, va_rf (some a0)), (2, va_rf p1), (3, .int x4), (6, .int (nI v3.1)), (7, .int x6)]) hC dX1_isNear_94 rfl [3, 0, 1, 2, 5, 6] rfl (g_okS.h rfl rfl rfl) ?_
        refine j_aload_n hC dX1_isNear_96 rfl 2 rfl ?_
        obtain ⟨o14, ⟨fs, hr, hv⟩, hvc⟩ := hvc
        refine j_get hC fkX1_19_X1 dX1_isNear_97 hr hv ?_
        clear hv hr fs
        refine j_aload_n hC dX1_isNear_100 rfl 3 rfl ?_
        obtain ⟨a15, rfl, hvc⟩ := hvc
        obtain ⟨⟨fs, hr⟩, hvc⟩ := hvc
        refine j_callV (As := [va_rf p1]) (rest := []) (n := 1) (ci := 3) hC hvc (lw_V q1538 q1539 q1540 q47 q1541) (by decide +kernel) (g_rm hR rfl rfl) rfl hr rfl rfl (g_sum rfl) dX1_isNear_101 (Nat.zero_le _) (Nat.zero_le _) (g_Kap fun o16 hv2 => ?_)
        replace hvc := hv2; clear hv2
        clear hr fs
        obtain ⟨hv, hvc⟩ := hvc
        refine j_cast hC (C := "java/lang/String") (ci := 1) q174 rfl (Or.inl rfl) hv dX1_isNear_104 ?_
        clear hv
        refine j_astore (lv0 := [(5, va_rf o13), (4, .int x5), (0, va_rf (some a0)), (2, va_rf p1), (3, .int x4), (7, .int x6)]) hC dX1_isNear_107 rfl [0, 1, 2, 3, 4, 6] rfl (g_okS.h rfl g_c1 rfl) ?_
        refine j_aload hC dX1_isNear_109 1 rfl ?_
        replace hvc := g_jn1_o hvc
        obtain ⟨K18, hK49, hvc⟩ := hvc
        have kh19 : ∀ (x17 : Int32), K18 x17 → g_J p l e R s m args below meth c 10 E st0 Z 124 [(0, va_rf (some a0)), (2, va_rf p1), (3, .int x4), (4, .int x5), (6, va_rf o16)] [.int x17] st cb sb := by
          clear hvc
          intro x17 hvc
          replace hvc := hK49 _ hvc
          refine j_istore (lv0 := [(6, va_rf o16), (0, va_rf (some a0)), (2, va_rf p1), (3, .int x4), (4, .int x5)]) hC dX1_isNear_124 rfl [4, 0, 1, 2, 3] rfl (g_okS.h rfl g_c1 rfl) ?_
          refine j_aload hC dX1_isNear_126 1 rfl ?_
          replace hvc := g_jn1_o hvc
          obtain ⟨K21, hK45, hvc⟩ := hvc
          have kh22 : ∀ (x20 : Int32), K21 x20 → g_J p l e R s m args below meth c 10 E st0 Z 141 [(0, va_rf (some a0)), (2, va_rf p1), (3, .int x4), (4, .int x5), (7, .int x17)] [.int x20] st cb sb := by
            clear hvc
            intro x20 hvc
            replace hvc := hK45 _ hvc
            refine j_istore (lv0 := [(7, .int x17), (0, va_rf (some a0)), (2, va_rf p1), (3, .int x4), (4, .int x5)]) hC dX1_isNear_141 rfl [4, 0, 1, 2, 3] rfl (g_okS.h rfl rfl rfl) ?_
            refine j_aload_n hC dX1_isNear_143 rfl 2 rfl ?_
            obtain ⟨o23, ⟨fs, hr, hv⟩, hvc⟩ := hvc
            refine j_get hC fkX1_19_X1 dX1_isNear_144 hr hv ?_
            clear hv hr fs
            refine j_aload_n hC dX1_isNear_147 rfl 3 rfl ?_
            obtain ⟨mc26, ms27, h1, h2, hvc⟩ := hvc
            refine j_callS (As := [va_rf o23, va_rf p1]) (rest := []) (n := 2) hC hvc (lw_S q1581 q1582 q41 q1583) (by decide +kernel) (g_rm hR rfl rfl) rfl rfl (g_sum rfl) dX1_isNear_148 h1 h2 (g_Ki fun x24 st25 hv2 hx => ?_)
            replace hvc := hv2 hx; clear hx hv2
            refine j_iload_n hC dX1_isNear_151 rfl 4 rfl ?_
            replace hvc := g_jn1_o hvc
            obtain ⟨K29, hK41, hvc⟩ := hvc
            have kh30 : ∀ (x28 : Int32), K29 x28 → g_J p l e R s m args below meth c 10 E st0 Z 179 [] [.int x28] st25 (cb - mc26) (sb - ms27) := by
              clear hvc
              intro x28 hvc
              replace hvc := hK41 _ hvc
              exact hret _ _ _ _ _ _ dX1_isNear_179 hvc.1 hvc.2
            replace hvc := g_jn0_o hvc
            obtain ⟨K31, hK40, hvc⟩ := hvc
            have kh32 : K31 → g_J p l e R s m args below meth c 10 E st0 Z 178 [] [] st25 (cb - mc26) (sb - ms27) := by
              clear hvc
              intro hvc
              replace hvc := hK40 hvc
              refine j_iconst hC (nI 0) dX1_isNear_178 rfl ?_
              exact j_sub [] rfl (kh30 (nI 0) hvc)
            refine j_icmp_ne (tgt := 178) hC dX1_isNear_152 rfl (fun c33 => ?_) (fun c33 => ?_)
            · replace hvc := hvc.1 c33
              exact j_sub [] rfl (kh32 hvc)
            · replace hvc := hvc.2 c33
              refine j_iload hC dX1_isNear_155 5 rfl ?_
              refine j_iload hC dX1_isNear_157 1 rfl ?_
              refine j_iload hC dX1_isNear_159 0 rfl ?_
              replace hvc := g_jn1_o hvc
              obtain ⟨K35, hK39, hvc⟩ := hvc
              have kh36 : ∀ (x34 : Int32), K35 x34 → g_J p l e R s m args below meth c 10 E st0 Z 171 [] [.int x34, .int x5] st25 (cb - mc26) (sb - ms27) := by
                clear hvc
                intro x34 hvc
                replace hvc := hK39 _ hvc
                refine j_icmp_ne (tgt := 178) hC dX1_isNear_171 rfl (fun c37 => ?_) (fun c37 => ?_)
                · replace hvc := hvc.1 c37
                  exact j_sub [] rfl (kh32 hvc)
                · replace hvc := hvc.2 c37
                  refine j_iconst hC (nI 1) dX1_isNear_174 rfl ?_
                  refine j_goto (tgt := 179) hC dX1_isNear_175 rfl ?_
                  exact j_sub [] rfl (kh30 (nI 1) hvc)
              refine j_icmp_le (tgt := 169) hC dX1_isNear_161 rfl (fun c38 => ?_) (fun c38 => ?_)
              · replace hvc := hvc.1 c38
                refine j_iload hC dX1_isNear_169 0 rfl ?_
                exact j_sub [] rfl (kh36 x20 hvc)
              · replace hvc := hvc.2 c38
                refine j_iload hC dX1_isNear_164 1 rfl ?_
                refine j_goto (tgt := 171) hC dX1_isNear_166 rfl ?_
                exact j_sub [] rfl (kh36 x17 hvc)
          refine j_ifnonnull (tgt := 135) hC dX1_isNear_128 rfl (fun a43 c42 => ?_) (fun c42 => ?_)
          · subst c42; replace hvc := hvc.2 a43 rfl
            refine j_aload hC dX1_isNear_135 1 rfl ?_
            refine j_aload_n hC dX1_isNear_137 rfl 3 rfl ?_
            refine j_callS (As := [va_rf (some a43), va_rf p1]) (rest := []) (n := 2) hC hvc (lw_S q1543 q1544 q41 q1545) (by decide +kernel) (g_rm hR rfl rfl) rfl rfl (g_sum rfl) dX1_isNear_138 (Nat.zero_le _) (Nat.zero_le _) (g_Kip fun x44 hv2 => ?_)
            replace hvc := hv2; clear hv2
            exact j_sub [2, 3, 4, 5, 0] rfl (kh22 x44 hvc)
          · subst c42; replace hvc := hvc.1 rfl
            refine j_iconst hC (nI 0) dX1_isNear_131 rfl ?_
            refine j_goto (tgt := 141) hC dX1_isNear_132 rfl ?_
            exact j_sub [2, 3, 4, 5, 0] rfl (kh22 (nI 0) hvc)
        refine j_ifnonnull (tgt := 118) hC dX1_isNear_111 rfl (fun a47 c46 => ?_) (fun c46 => ?_)
        · subst c46; replace hvc := hvc.2 a47 rfl
          refine j_aload hC dX1_isNear_118 1 rfl ?_
          refine j_aload_n hC dX1_isNear_120 rfl 4 rfl ?_
          refine j_callS (As := [va_rf (some a47), va_rf p1]) (rest := []) (n := 2) hC hvc (lw_S q1543 q1544 q41 q1545) (by decide +kernel) (g_rm hR rfl rfl) rfl rfl (g_sum rfl) dX1_isNear_121 (Nat.zero_le _) (Nat.zero_le _) (g_Kip fun x48 hv2 => ?_)
          replace hvc := hv2; clear hv2
          exact j_sub [3, 4, 5, 2, 0] rfl (kh19 x48 hvc)
        · subst c46; replace hvc := hvc.1 rfl
          refine j_iconst hC (nI 0) dX1_isNear_114 rfl ?_
          refine j_goto (tgt := 124) hC dX1_isNear_115 rfl ?_
          exact j_sub [3, 4, 5, 2, 0] rfl (kh19 (nI 0) hvc)
      · replace hvc := hvc.2 c10
        refine j_aload hC dX1_isNear_23 4 rfl ?_
        refine j_iload hC dX1_isNear_25 6 rfl ?_
        obtain ⟨n50, f51, j52, hr, hi, hj, hJ, hvc⟩ := hvc
        replace hvc := hvc _ rfl
        refine j_ix hi ?_
        refine j_aald hC (by decide) hr hj hJ dX1_isNear_27 ?_
        generalize f51 j52 = o53 at hvc ⊢
        clear hr hi hj hJ
        refine j_astore (lv0 := [(7, .int x6), (0, va_rf (some a0)), (2, va_rf p1), (3, .int x4), (4, .int x5), (5, va_rf (some a1)), (6, .int (nI v3.1))]) hC dX1_isNear_28 rfl [6, 0, 1, 2, 3, 4, 5] rfl (g_okS.h rfl rfl rfl) ?_
        refine j_aload hC dX1_isNear_30 0 rfl ?_
        refine j_aload_n hC dX1_isNear_32 rfl 3 rfl ?_
        refine j_callS (As := [va_rf o53, va_rf p1]) (rest := []) (n := 2) hC hvc (lw_S q1543 q1544 q41 q1545) (by decide +kernel) (g_rm hR rfl rfl) rfl rfl (g_sum rfl) dX1_isNear_33 (Nat.zero_le _) (Nat.zero_le _) (g_Kip fun x54 hv2 => ?_)
        replace hvc := hv2; clear hv2
        refine j_istore (lv0 := [(8, va_rf o53), (7, .int x6), (0, va_rf (some a0)), (2, va_rf p1), (3, .int x4), (4, .int x5), (5, va_rf (some a1)), (6, .int (nI v3.1))]) hC dX1_isNear_36 rfl [0, 1, 2, 3, 4, 5, 6, 7] rfl (g_okS.h rfl g_c1 rfl) ?_
        refine j_iload hC dX1_isNear_38 0 rfl ?_
        refine j_iload hC dX1_isNear_40 6 rfl ?_
        replace hvc := g_jn1_o hvc
        obtain ⟨K56, hK70, hvc⟩ := hvc
        have kh57 : ∀ (x55 : Int32), K56 x55 → g_J p l e R s m args below meth c 10 E st0 Z 52 [(0, va_rf (some a0)), (2, va_rf p1), (3, .int x4), (5, va_rf (some a1)), (6, .int (nI v3.1)), (7, .int x6), (8, va_rf o53), (9, .int x54)] [.int x55] st cb sb := by
          clear hvc
          intro x55 hvc
          replace hvc := hK70 _ hvc
          refine j_istore (lv0 := [(3, .int x4), (0, va_rf (some a0)), (2, va_rf p1), (5, va_rf (some a1)), (6, .int (nI v3.1)), (7, .int x6), (8, va_rf o53), (9, .int x54)]) hC dX1_isNear_52 rfl [2, 0, 1, 3, 4, 5, 6, 7] rfl (g_okS.h rfl rfl rfl) ?_
          refine j_iload hC dX1_isNear_54 8 rfl ?_
          refine j_aload hC dX1_isNear_56 7 rfl ?_
          obtain ⟨a58, rfl, hvc⟩ := hvc
          obtain ⟨⟨fs, hr⟩, hvc⟩ := hvc
          refine j_callV (As := []) (rest := [.int x54]) (n := 0) (ci := 1) hC hvc (lw_V q1546 q182 q183 q44 q184) (by decide +kernel) (g_rm hR rfl rfl) rfl hr rfl rfl (g_sum rfl) dX1_isNear_58 (Nat.zero_le _) (Nat.zero_le _) (g_Kip fun x59 hv2 => ?_)
          replace hvc := hv2; clear hv2
          clear hr fs
          replace hvc := g_jn1_o hvc
          obtain ⟨K61, hK68, hvc⟩ := hvc
          have kh62 : ∀ (x60 : Int32), K61 x60 → g_J p l e R s m args below meth c 10 E st0 Z 76 [(0, va_rf (some a0)), (2, va_rf p1), (4, .int x55), (5, va_rf (some a1)), (6, .int (nI v3.1)), (7, .int x6)] [.int x60] st cb sb := by
            clear hvc
            intro x60 hvc
            replace hvc := hK68 _ hvc
            refine j_istore_n (lv0 := [(2, va_rf p1), (0, va_rf (some a0)), (4, .int x55), (5, va_rf (some a1)), (6, .int (nI v3.1)), (7, .int x6)]) hC dX1_isNear_76 rfl rfl [1, 0, 2, 3, 4, 5] rfl (g_okS.h rfl g_c1 rfl) ?_
            refine j_iinc (lv0 := [(6, .int (nI v3.1)), (3, .int x60), (2, va_rf p1), (0, va_rf (some a0)), (4, .int x55), (5, va_rf (some a1))]) hC (nI 1) dX1_isNear_77 6 rfl rfl rfl [5, 0, 1, 2, 3, 4] rfl (g_okS.h rfl rfl rfl) ?_
            refine j_goto (tgt := 16) hC dX1_isNear_80 rfl ?_
            exact j_sub [4, 3, 2, 5, 6, 1, 0] rfl (ih9 x60 x55 (x6 + (nI 1)) hvc)
          replace hvc := g_jn0_o hvc
          obtain ⟨K63, hK67, hvc⟩ := hvc
          have kh64 : K63 → g_J p l e R s m args below meth c 10 E st0 Z 75 [(0, va_rf (some a0)), (2, va_rf p1), (3, .int x4), (4, .int x55), (5, va_rf (some a1)), (6, .int (nI v3.1)), (7, .int x6)] [] st cb sb := by
            clear hvc
            intro hvc
            replace hvc := hK67 hvc
            refine j_iload_n hC dX1_isNear_75 rfl 2 rfl ?_
            exact j_sub [0, 1, 3, 4, 5, 6] rfl (kh62 x4 hvc)
          refine j_icmp_ne (tgt := 75) hC dX1_isNear_61 rfl (fun c65 => ?_) (fun c65 => ?_)
          · replace hvc := hvc.1 c65
            exact j_sub [2, 3, 1, 0, 4, 5, 6] rfl (kh64 hvc)
          · replace hvc := hvc.2 c65
            refine j_iload hC dX1_isNear_64 8 rfl ?_
            refine j_iload_n hC dX1_isNear_66 rfl 1 rfl ?_
            refine j_icmp_le (tgt := 75) hC dX1_isNear_67 rfl (fun c66 => ?_) (fun c66 => ?_)
            · replace hvc := hvc.1 c66
              exact j_sub [2, 3, 1, 0, 4, 5, 6] rfl (kh64 hvc)
            · replace hvc := hvc.2 c66
              refine j_iload hC dX1_isNear_70 8 rfl ?_
              refine j_goto (tgt := 76) hC dX1_isNear_72 rfl ?_
              exact j_sub [2, 3, 0, 4, 5, 6] rfl (kh62 x54 hvc)
        refine j_icmp_le (tgt := 50) hC dX1_isNear_42 rfl (fun c69 => ?_) (fun c69 => ?_)
        · replace hvc := hvc.1 c69
          refine j_iload hC dX1_isNear_50 6 rfl ?_
          exact j_sub [3, 4, 5, 7, 8, 2, 1, 0] rfl (kh57 x5 hvc)
        · replace hvc := hvc.2 c69
          refine j_iload hC dX1_isNear_45 0 rfl ?_
          refine j_goto (tgt := 52) hC dX1_isNear_47 rfl ?_
          exact j_sub [3, 4, 5, 7, 8, 2, 1, 0] rfl (kh57 x54 hvc)
  exact j_sub [6, 5, 4, 3, 2, 1, 0] rfl (kh8 n73 (nI 0) (nI 0) (nI 0) hvc)
theorem wk_X1_isNear {l : Launch} {E : g_E} {a0 : Nat} {p0 : Option Nat} {p1 : Option Nat} {st : g_St} {mc ms : Nat} {Q : Int32 → g_St → Prop} (hvc : vc_X1_isNear l E a0 p0 p1 st mc ms Q) : wp_X1_isNear l E mc ms [va_rf (some a0), va_rf p0, va_rf p1] st Q :=
  g_enter (lv0 := [(0, va_rf (some a0)), (1, va_rf p0), (2, va_rf p1)]) (plainFor_of_name (by decide +kernel)) (by simp [lv_args, g_c1, g_ci, g_cL]) (by simp [lg_sl, g_c1, g_ci, g_cL]) (fun p e s m args below meth c hC => wb_X1_isNear hC ⟨Nat.le_refl _, Nat.le_refl _⟩ (fun pc lv v st1 cb sb hd hn hq => j_ireturn hC rfl hn hd (g_iv hq)) hvc)
abbrev wp_X1_isSpan (l : Launch) (E : g_E) (mc ms : Nat) (av : List Value) (st : g_St) (Q : Int32 → g_St → Prop) : Prop := g_WPi l E yX1_isSpan cX1_isSpan 6 (some .boolean) 16 387 mc ms av st Q
def vc_X1_isSpan (l : Launch) (E : g_E) (a0 : Nat) (p0 : Option Nat) (p1 : Option Nat) (st : g_St) (cb sb : Nat) (Q : Int32 → g_St → Prop) : Prop :=
  ∃ o1 : Option Nat, g_gr st a0 15 1 o1 ∧ ∃ a2 : Nat, o1 = some a2 ∧ ∃ mc5 ms6 : Nat, mc5 ≤ cb ∧ ms6 ≤ sb ∧ g_is st a2 3 ∧ wp_J5_headMap l E mc5 ms6 [va_rf (some a2), va_rf p1] st (fun o3 st4 => g_Ext st st4 → ∃ a7 : Nat, o3 = some a7 ∧ ∃ mc10 ms11 : Nat, mc10 ≤ (cb - mc5) ∧ ms11 ≤ (sb - ms6) ∧ g_is st4 a7 5 ∧ wp_J28_size l E mc10 ms11 [va_rf (some a7)] st4 (fun x8 st9 => g_Ext st4 st9 → ∃ mc14 ms15 : Nat, mc14 ≤ ((cb - mc5) - mc10) ∧ ms15 ≤ ((sb - ms6) - ms11) ∧ g_is st9 a0 15 ∧ wp_X1_span l E mc14 ms15 [va_rf (some a0), va_rf p1] st9 (fun x12 st13 => g_Ext st9 st13 → g_lp1 (fun (K17 : Int32 → Prop) (x16 : Int32) => ∃ a20 : Nat, p0 = some a20 ∧ ∃ (t21 : Nat) (v22 : vp_A), g_Rd st13 a20 (.inl (t21, v22)) ∧ ((nI v22.1) ≤ x16 → Q (nI 1) st13) ∧ (¬ (nI v22.1) ≤ x16 → ∃ (n24 : Nat) (f25 : Nat → Option Nat) (j26 : Nat), g_ar st13 a20 4 n24 f25 ∧ x16 = nI j26 ∧ j26 < n24 ∧ j26 < 2 ^ 31 ∧ ∀ o27 : Option Nat, o27 = f25 j26 → wp_X1_begins l E 0 0 [va_rf o27, va_rf p1] st13 (fun x28 stx => stx = st13 ∧ g_jn1 (fun (K30 : Int32 → Prop) => g_jn0 (fun (K33 : Prop) => (x16 < x8 → K33) ∧ (¬ x16 < x8 → ((x8 + x12) ≤ x16 → K33) ∧ (¬ (x8 + x12) ≤ x16 → K30 (nI 1)))) (K30 (nI 0))) (fun (x29 : Int32) => (x28 = x29 → K17 (x16 + (nI 1))) ∧ (¬ x28 = x29 → Q (nI 0) st13))))) (nI 0))))
set_option maxHeartbeats 4000000 in
theorem wb_X1_isSpan {p : Program} {l : Launch} {e : Env} {R : Room} {s : State} {m : MethodId} {args : Array Value} {below : List Frame} {meth : Method} {c : Code} {E : g_E} {st0 : g_St} {Z : State → Prop} (hC : g_Cx p s m args meth c cX1_isSpan 6 "Stemspan" (some .boolean) "isSpan" E st0) (hR : g_Rm 16 387 R) {a0 : Nat} {p0 : Option Nat} {p1 : Option Nat} {st : g_St} {cb sb : Nat} {Q : Int32 → g_St → Prop} (hret : ∀ (pc : Nat) (lv : List (Nat × Value)) (v : Int32) (st1 : g_St) (cb sb : Nat), decode cX1_isSpan pc = .ok (.ireturn, 1) → narrow .boolean (.int v) = .int v → Q v st1 → g_J p l e R s m args below meth c 6 E st0 Z pc lv [.int v] st1 cb sb) (hvc : vc_X1_isSpan l E a0 p0 p1 st cb sb Q) : g_J p l e R s m args below meth c 6 E st0 Z 0 [(0, va_rf (some a0)), (1, va_rf p0), (2, va_rf p1)] [] st cb sb := by
  unfold vc_X1_isSpan at hvc
  refine j_aload_n hC dX1_isSpan_0 rfl 0 rfl ?_
  obtain ⟨o1, ⟨fs, hr, hv⟩, hvc⟩ := hvc
  refine j_get hC fkX1_19_X1 dX1_isSpan_1 hr hv ?_
  clear hv hr fs
  refine j_aload_n hC dX1_isSpan_4 rfl 2 rfl ?_
  obtain ⟨a2, rfl, hvc⟩ := hvc
  obtain ⟨mc5, ms6, h1, h2, hvc⟩ := hvc
  obtain ⟨⟨fs, hr⟩, hvc⟩ := hvc
  refine j_callV (As := [va_rf p1]) (rest := []) (n := 1) (ci := 3) hC hvc (lw_V q622 q623 q624 q47 q625) (by decide +kernel) (g_rm hR rfl rfl) rfl hr rfl rfl (g_sum rfl) dX1_isSpan_5 h1 h2 (g_Ka fun o3 st4 hv2 hx => ?_)
  replace hvc := hv2 hx; clear hx hv2
  clear hr fs
  obtain ⟨a7, rfl, hvc⟩ := hvc
  obtain ⟨mc10, ms11, h1, h2, hvc⟩ := hvc
  obtain ⟨⟨fs, hr⟩, hvc⟩ := hvc
  refine j_callFX_size (rest := []) hC hvc (g_rm hR rfl rfl) hr rfl (g_sum rfl) dX1_isSpan_8 h1 h2 (g_Ki fun x8 st9 hv2 hx => ?_)
  replace hvc := hv2 hx; clear hx hv2
  clear hr fs
  refine j_istore_n (lv0 := [(2, va_rf p1), (0, va_rf (some a0)), (1, va_rf p0)]) hC dX1_isSpan_13 rfl rfl [2, 0, 1] rfl (g_okS.h rfl g_c1 rfl) ?_
  refine j_aload_n hC dX1_isSpan_14 rfl 2 rfl ?_
  refine j_aload_n hC dX1_isSpan_15 rfl 1 rfl ?_
  obtain ⟨mc14, ms15, h1, h2, hvc⟩ := hvc
  obtain ⟨⟨fs, hr⟩, hvc⟩ := hvc
  refine j_callV (As := [va_rf p1]) (rest := []) (n := 1) (ci := 15) hC hvc (lw_V q1163 q1165 qs1 q41 q1166) (by decide +kernel) (g_rm hR rfl rfl) rfl hr rfl rfl (g_sum rfl) dX1_isSpan_16 h1 h2 (g_Ki fun x12 st13 hv2 hx => ?_)
  replace hvc := hv2 hx; clear hx hv2
  clear hr fs
  refine j_istore (lv0 := [(3, .int x8), (2, va_rf p1), (0, va_rf (some a0)), (1, va_rf p0)]) hC dX1_isSpan_19 rfl [0, 1, 2, 3] rfl (g_okS.h rfl rfl rfl) ?_
  refine j_iconst hC (nI 0) dX1_isSpan_21 rfl ?_
  refine j_istore (lv0 := [(4, .int x12), (3, .int x8), (2, va_rf p1), (0, va_rf (some a0)), (1, va_rf p0)]) hC dX1_isSpan_22 rfl [0, 1, 2, 3, 4] rfl (g_okS.h rfl rfl rfl) ?_
  replace hvc := g_lp1_o hvc
  obtain ⟨K17, hz39, hs40, n41, hvc⟩ := hvc
  have kh18 : ∀ (n : Nat) (x16 : Int32), K17 n x16 → g_J p l e R s m args below meth c 6 E st0 Z 24 [(1, va_rf p0), (2, va_rf p1), (3, .int x8), (4, .int x12), (5, .int x16)] [] st13 (((cb - mc5) - mc10) - mc14) (((sb - ms6) - ms11) - ms15) := by
    clear hvc
    intro n
    induction n with
    | zero => intro x16 hvc; exact absurd hvc (hz39 _)
    | succ n ih19 =>
      intro x16 hvc
      replace hvc := hs40 n _ hvc
      refine j_iload hC dX1_isSpan_24 4 rfl ?_
      refine j_aload_n hC dX1_isSpan_26 rfl 0 rfl ?_
      obtain ⟨a20, rfl, hvc⟩ := hvc
      obtain ⟨t21, v22, hr, hvc⟩ := hvc
      refine j_alen hC hr dX1_isSpan_27 ?_
      clear hr
      refine j_icmp_ge (tgt := 70) hC dX1_isSpan_28 rfl (fun c23 => ?_) (fun c23 => ?_)
      · replace hvc := hvc.1 c23
        refine j_iconst hC (nI 1) dX1_isSpan_70 rfl ?_
        exact hret _ _ _ _ _ _ dX1_isSpan_71 rfl hvc
      · replace hvc := hvc.2 c23
        refine j_aload_n hC dX1_isSpan_31 rfl 0 rfl ?_
        refine j_iload hC dX1_isSpan_32 4 rfl ?_
        obtain ⟨n24, f25, j26, hr, hi, hj, hJ, hvc⟩ := hvc
        replace hvc := hvc _ rfl
        refine j_ix hi ?_
        refine j_aald hC (by decide) hr hj hJ dX1_isSpan_34 ?_
        generalize f25 j26 = o27 at hvc ⊢
        clear hr hi hj hJ
        refine j_aload_n hC dX1_isSpan_35 rfl 1 rfl ?_
        refine j_callS (As := [va_rf o27, va_rf p1]) (rest := []) (n := 2) hC hvc (lw_S q1646 q1647 q41 q1648) (by decide +kernel) (g_rm hR rfl rfl) rfl rfl (g_sum rfl) dX1_isSpan_36 (Nat.zero_le _) (Nat.zero_le _) (g_Kip fun x28 hv2 => ?_)
        replace hvc := hv2; clear hv2
        refine j_iload hC dX1_isSpan_39 4 rfl ?_
        refine j_iload_n hC dX1_isSpan_41 rfl 2 rfl ?_
        replace hvc := g_jn1_o hvc
        obtain ⟨K30, hK38, hvc⟩ := hvc
        have kh31 : ∀ (x29 : Int32), K30 x29 → g_J p l e R s m args below meth c 6 E st0 Z 59 [(1, va_rf (some a20)), (2, va_rf p1), (3, .int x8), (4, .int x12), (5, .int x16)] [.int x29, .int x28] st13 (((cb - mc5) - mc10) - mc14) (((sb - ms6) - ms11) - ms15) := by
          clear hvc
          intro x29 hvc
          replace hvc := hK38 _ hvc
          refine j_icmp_eq (tgt := 64) hC dX1_isSpan_59 rfl (fun c32 => ?_) (fun c32 => ?_)
          · replace hvc := hvc.1 c32
            refine j_iinc (lv0 := [(4, .int x12), (1, va_rf (some a20)), (2, va_rf p1), (3, .int x8)]) hC (nI 1) dX1_isSpan_64 4 rfl rfl rfl [3, 0, 1, 2] rfl (g_okS.h rfl rfl rfl) ?_
            refine j_goto (tgt := 24) hC dX1_isSpan_67 rfl ?_
            exact j_sub [2, 3, 4, 1, 0] rfl (ih19 (x16 + (nI 1)) hvc)
          · replace hvc := hvc.2 c32
            refine j_iconst hC (nI 0) dX1_isSpan_62 rfl ?_
            exact hret _ _ _ _ _ _ dX1_isSpan_63 rfl hvc
        replace hvc := g_jn0_o hvc
        obtain ⟨K33, hK37, hvc⟩ := hvc
        have kh34 : K33 → g_J p l e R s m args below meth c 6 E st0 Z 58 [(1, va_rf (some a20)), (2, va_rf p1), (3, .int x8), (4, .int x12), (5, .int x16)] [.int x28] st13 (((cb - mc5) - mc10) - mc14) (((sb - ms6) - ms11) - ms15) := by
          clear hvc
          intro hvc
          replace hvc := hK37 hvc
          refine j_iconst hC (nI 0) dX1_isSpan_58 rfl ?_
          exact j_sub [0, 1, 2, 3, 4] rfl (kh31 (nI 0) hvc)
        refine j_icmp_lt (tgt := 58) hC dX1_isSpan_42 rfl (fun c35 => ?_) (fun c35 => ?_)
        · replace hvc := hvc.1 c35
          exact j_sub [0, 1, 2, 3, 4] rfl (kh34 hvc)
        · replace hvc := hvc.2 c35
          refine j_iload hC dX1_isSpan_45 4 rfl ?_
          refine j_iload_n hC dX1_isSpan_47 rfl 2 rfl ?_
          refine j_iload hC dX1_isSpan_48 3 rfl ?_
          refine j_iadd hC dX1_isSpan_50 ?_
          refine j_icmp_ge (tgt := 58) hC dX1_isSpan_51 rfl (fun c36 => ?_) (fun c36 => ?_)
          · replace hvc := hvc.1 c36
            exact j_sub [0, 1, 2, 3, 4] rfl (kh34 hvc)
          · replace hvc := hvc.2 c36
            refine j_iconst hC (nI 1) dX1_isSpan_54 rfl ?_
            refine j_goto (tgt := 59) hC dX1_isSpan_55 rfl ?_
            exact j_sub [0, 1, 2, 3, 4] rfl (kh31 (nI 1) hvc)
  exact j_sub [5, 3, 2, 1, 0] rfl (kh18 n41 (nI 0) hvc)
theorem wk_X1_isSpan {l : Launch} {E : g_E} {a0 : Nat} {p0 : Option Nat} {p1 : Option Nat} {st : g_St} {mc ms : Nat} {Q : Int32 → g_St → Prop} (hvc : vc_X1_isSpan l E a0 p0 p1 st mc ms Q) : wp_X1_isSpan l E mc ms [va_rf (some a0), va_rf p0, va_rf p1] st Q :=
  g_enter (lv0 := [(0, va_rf (some a0)), (1, va_rf p0), (2, va_rf p1)]) (plainFor_of_name (by decide +kernel)) (by simp [lv_args, g_c1, g_ci, g_cL]) (by simp [lg_sl, g_c1, g_ci, g_cL]) (fun p e s m args below meth c hC => wb_X1_isSpan hC ⟨Nat.le_refl _, Nat.le_refl _⟩ (fun pc lv v st1 cb sb hd hn hq => j_ireturn hC rfl hn hd (g_iv hq)) hvc)
abbrev wp_X1_isTrue (l : Launch) (E : g_E) (mc ms : Nat) (av : List Value) (st : g_St) (Q : Int32 → g_St → Prop) : Prop := g_WPi l E yX1_isTrue cX1_isTrue 5 (some .boolean) 17 412 mc ms av st Q
def vc_X1_isTrue (l : Launch) (E : g_E) (a0 : Nat) (st : g_St) (cb sb : Nat) (Q : Int32 → g_St → Prop) : Prop :=
  ∃ mc3 ms4 : Nat, mc3 ≤ cb ∧ ms4 ≤ sb ∧ g_is st a0 15 ∧ wp_X1_all l E mc3 ms4 [va_rf (some a0)] st (fun o1 st2 => g_Ext st st2 → ∃ o5 : Option Nat, g_gr st2 a0 15 0 o5 ∧ ∃ a6 : Nat, o5 = some a6 ∧ ∃ mc9 ms10 : Nat, mc9 ≤ (cb - mc3) ∧ ms10 ≤ (sb - ms4) ∧ g_is st2 a6 0 ∧ wp_J1_toString l E mc9 ms10 [va_rf (some a6)] st2 (fun o7 st8 => g_Ext st2 st8 → g_lp4 (fun (K15 : Int32 → g_St → Nat → Nat → Prop) (x11 : Int32) (st12 : g_St) (cb13 : Nat) (sb14 : Nat) => ∃ a18 : Nat, o7 = some a18 ∧ g_is st12 a18 1 ∧ wp_J2_length l E 0 0 [va_rf (some a18)] st12 (fun x19 stx => stx = st12 ∧ g_jn0 (fun (K20 : Prop) => (x19 < x11 → K20) ∧ (¬ x19 < x11 → ((nI 10) < x11 → K20) ∧ (¬ (nI 10) < x11 → ∃ mc110 ms111 : Nat, mc110 ≤ cb13 ∧ ms111 ≤ sb14 ∧ g_is st12 a18 1 ∧ wp_J2_substring l E mc110 ms111 [va_rf (some a18), .int (nI 0), .int x11] st12 (fun o108 st109 => g_Ext st12 st109 → ∃ mc114 ms115 : Nat, mc114 ≤ (cb13 - mc110) ∧ ms115 ≤ (sb14 - ms111) ∧ g_is st109 a0 15 ∧ wp_X1_isSpan l E mc114 ms115 [va_rf (some a0), va_rf o1, va_rf o108] st109 (fun x112 st113 => g_Ext st109 st113 → (¬ x112 = 0 → K15 (x11 + (nI 1)) st113 ((cb13 - mc110) - mc114) ((sb14 - ms111) - ms115)) ∧ (x112 = 0 → Q (nI 0) st113)))))) (g_lp4 (fun (K26 : Int32 → g_St → Nat → Nat → Prop) (x22 : Int32) (st23 : g_St) (cb24 : Nat) (sb25 : Nat) => g_is st23 a18 1 ∧ wp_J2_length l E 0 0 [va_rf (some a18)] st23 (fun x29 stx => stx = st23 ∧ (x29 < x22 → ∃ mc33 ms34 : Nat, mc33 ≤ cb24 ∧ ms34 ≤ sb25 ∧ g_is st23 a0 15 ∧ wp_X1_fewest l E mc33 ms34 [va_rf (some a0)] st23 (fun x31 st32 => g_Ext st23 st32 → ∃ mc37 ms38 : Nat, mc37 ≤ (cb24 - mc33) ∧ ms38 ≤ (sb25 - ms34) ∧ g_is st32 a0 15 ∧ wp_X1_pieces l E mc37 ms38 [va_rf (some a0)] st32 (fun x35 st36 => g_Ext st32 st36 → g_jn1 (fun (K40 : Int32 → Prop) => (0 ≤ x31 → K40 (nI 0)) ∧ (¬ 0 ≤ x31 → K40 (nI 1))) (fun (x39 : Int32) => ∃ mc44 ms45 : Nat, mc44 ≤ ((cb24 - mc33) - mc37) ∧ ms45 ≤ ((sb25 - ms34) - ms38) ∧ g_is st36 a0 15 ∧ wp_X1_cuts l E mc44 ms45 [va_rf (some a0)] st36 (fun y42 st43 => g_Ext st36 st43 → g_jn1 (fun (K47 : Int32 → Prop) => (¬ (lg_cmp y42 0) = 0 → K47 (nI 0)) ∧ ((lg_cmp y42 0) = 0 → K47 (nI 1))) (fun (x46 : Int32) => g_jn0 (fun (K49 : Prop) => (¬ x39 = x46 → K49) ∧ (x39 = x46 → g_jn0 (fun (K52 : Prop) => (x35 < 0 → K52) ∧ (¬ x35 < 0 → (x31 < 0 → K49) ∧ (¬ x31 < 0 → (x31 ≤ x35 → K52) ∧ (¬ x31 ≤ x35 → K49)))) (∃ mc56 ms57 : Nat, mc56 ≤ (((cb24 - mc33) - mc37) - mc44) ∧ ms57 ≤ (((sb25 - ms34) - ms38) - ms45) ∧ g_is st43 a0 15 ∧ wp_X1_arePairs l E mc56 ms57 [va_rf (some a0), va_rf o1] st43 (fun x54 st55 => g_Ext st43 st55 → g_jn4 (fun (K62 : Int32 → g_St → Nat → Nat → Prop) => g_jn3 (fun (K67 : g_St → Nat → Nat → Prop) => (x54 = 0 → K67 st55 ((((cb24 - mc33) - mc37) - mc44) - mc56) ((((sb25 - ms34) - ms38) - ms45) - ms57)) ∧ (¬ x54 = 0 → g_jn3 (fun (K73 : g_St → Nat → Nat → Prop) => (x31 < 0 → K73 st55 ((((cb24 - mc33) - mc37) - mc44) - mc56) ((((sb25 - ms34) - ms38) - ms45) - ms57)) ∧ (¬ x31 < 0 → (x35 = x31 → K73 st55 ((((cb24 - mc33) - mc37) - mc44) - mc56) ((((sb25 - ms34) - ms38) - ms45) - ms57)) ∧ (¬ x35 = x31 → ∃ mc79 ms80 : Nat, mc79 ≤ ((((cb24 - mc33) - mc37) - mc44) - mc56) ∧ ms80 ≤ ((((sb25 - ms34) - ms38) - ms45) - ms57) ∧ g_is st55 a0 15 ∧ wp_X1_areEnds l E mc79 ms80 [va_rf (some a0), va_rf o1] st55 (fun x77 st78 => g_Ext st55 st78 → (¬ x77 = 0 → K67 st78 (((((cb24 - mc33) - mc37) - mc44) - mc56) - mc79) (((((sb25 - ms34) - ms38) - ms45) - ms57) - ms80)) ∧ (x77 = 0 → K73 st78 (((((cb24 - mc33) - mc37) - mc44) - mc56) - mc79) (((((sb25 - ms34) - ms38) - ms45) - ms57) - ms80)))))) (fun (st70 : g_St) (cb71 : Nat) (sb72 : Nat) => K62 (nI 1) st70 cb71 sb72))) (fun (st64 : g_St) (cb65 : Nat) (sb66 : Nat) => K62 (nI 0) st64 cb65 sb66)) (fun (x58 : Int32) (st59 : g_St) (cb60 : Nat) (sb61 : Nat) => narrow .boolean (.int x58) = .int x58 ∧ Q x58 st59))))) (Q (nI 0) st43))))))) ∧ (¬ x29 < x22 → ∃ mc96 ms97 : Nat, mc96 ≤ cb24 ∧ ms97 ≤ sb25 ∧ g_is st23 a18 1 ∧ wp_J2_substring_2 l E mc96 ms97 [va_rf (some a18), .int x22] st23 (fun o94 st95 => g_Ext st23 st95 → ∃ mc100 ms101 : Nat, mc100 ≤ (cb24 - mc96) ∧ ms101 ≤ (sb25 - ms97) ∧ g_is st95 a0 15 ∧ wp_X1_isNear l E mc100 ms101 [va_rf (some a0), va_rf o1, va_rf o94] st95 (fun x98 st99 => g_Ext st95 st99 → (¬ x98 = 0 → K26 (x22 + (nI 1)) st99 ((cb24 - mc96) - mc100) ((sb25 - ms97) - ms101)) ∧ (x98 = 0 → Q (nI 0) st99)))))) (nI 0) st12 cb13 sb14))) (nI 0) st8 ((cb - mc3) - mc9) ((sb - ms4) - ms10)))
set_option maxHeartbeats 4000000 in
theorem wb_X1_isTrue {p : Program} {l : Launch} {e : Env} {R : Room} {s : State} {m : MethodId} {args : Array Value} {below : List Frame} {meth : Method} {c : Code} {E : g_E} {st0 : g_St} {Z : State → Prop} (hC : g_Cx p s m args meth c cX1_isTrue 5 "Stemspan" (some .boolean) "isTrue" E st0) (hR : g_Rm 17 412 R) {a0 : Nat} {st : g_St} {cb sb : Nat} {Q : Int32 → g_St → Prop} (hret : ∀ (pc : Nat) (lv : List (Nat × Value)) (v : Int32) (st1 : g_St) (cb sb : Nat), decode cX1_isTrue pc = .ok (.ireturn, 1) → narrow .boolean (.int v) = .int v → Q v st1 → g_J p l e R s m args below meth c 5 E st0 Z pc lv [.int v] st1 cb sb) (hvc : vc_X1_isTrue l E a0 st cb sb Q) : g_J p l e R s m args below meth c 5 E st0 Z 0 [(0, va_rf (some a0))] [] st cb sb := by
  unfold vc_X1_isTrue at hvc
  refine j_aload_n hC dX1_isTrue_0 rfl 0 rfl ?_
  obtain ⟨mc3, ms4, h1, h2, hvc⟩ := hvc
  obtain ⟨⟨fs, hr⟩, hvc⟩ := hvc
  refine j_callV (As := []) (rest := []) (n := 0) (ci := 15) hC hvc (lw_V q1618 q1620 qs6 q41 q1621) (by decide +kernel) (g_rm hR rfl rfl) rfl hr rfl rfl (g_sum rfl) dX1_isTrue_1 h1 h2 (g_Ka fun o1 st2 hv2 hx => ?_)
  replace hvc := hv2 hx; clear hx hv2
  clear hr fs
  refine j_astore_n (lv0 := [(0, va_rf (some a0))]) hC dX1_isTrue_4 rfl rfl [0] rfl (g_okS.h rfl g_c1 rfl) ?_
  refine j_aload_n hC dX1_isTrue_5 rfl 1 rfl ?_
  obtain ⟨o5, ⟨fs, hr, hv⟩, hvc⟩ := hvc
  refine j_get hC fkX1_10_X1 dX1_isTrue_6 hr hv ?_
  clear hv hr fs
  obtain ⟨a6, rfl, hvc⟩ := hvc
  obtain ⟨mc9, ms10, h1, h2, hvc⟩ := hvc
  obtain ⟨⟨fs, hr⟩, hvc⟩ := hvc
  refine j_callV (As := []) (rest := []) (n := 0) (ci := 0) hC hvc (lw_V q570 q396 q397 q43 q398) (by decide +kernel) (g_rm hR rfl rfl) rfl hr rfl rfl (g_sum rfl) dX1_isTrue_9 h1 h2 (g_Ka fun o7 st8 hv2 hx => ?_)
  replace hvc := hv2 hx; clear hx hv2
  clear hr fs
  refine j_astore_n (lv0 := [(1, va_rf o1), (0, va_rf (some a0))]) hC dX1_isTrue_12 rfl rfl [0, 1] rfl (g_okS.h rfl g_c1 rfl) ?_
  refine j_iconst hC (nI 0) dX1_isTrue_13 rfl ?_
  refine j_istore_n (lv0 := [(2, va_rf o7), (1, va_rf o1), (0, va_rf (some a0))]) hC dX1_isTrue_14 rfl rfl [0, 1, 2] rfl (g_okS.h rfl g_c1 rfl) ?_
  replace hvc := g_lp4_o hvc
  obtain ⟨K15, hz118, hs119, n120, hvc⟩ := hvc
  have kh16 : ∀ (n : Nat) (x11 : Int32) (st12 : g_St) (cb13 : Nat) (sb14 : Nat), K15 n x11 st12 cb13 sb14 → g_J p l e R s m args below meth c 5 E st0 Z 15 [(0, va_rf (some a0)), (1, va_rf o1), (2, va_rf o7), (3, .int x11)] [] st12 cb13 sb14 := by
    clear hvc
    intro n
    induction n with
    | zero => intro x11 st12 cb13 sb14 hvc; exact absurd hvc (hz118 _ _ _ _)
    | succ n ih17 =>
      intro x11 st12 cb13 sb14 hvc
      replace hvc := hs119 n _ _ _ _ hvc
      refine j_iload_n hC dX1_isTrue_15 rfl 3 rfl ?_
      refine j_aload_n hC dX1_isTrue_16 rfl 2 rfl ?_
      obtain ⟨a18, rfl, hvc⟩ := hvc
      obtain ⟨⟨fs, hr⟩, hvc⟩ := hvc
      refine j_callV (As := []) (rest := [.int x11]) (n := 0) (ci := 1) hC hvc (lw_V q1546 q182 q183 q44 q184) (by decide +kernel) (g_rm hR rfl rfl) rfl hr rfl rfl (g_sum rfl) dX1_isTrue_17 (Nat.zero_le _) (Nat.zero_le _) (g_Kip fun x19 hv2 => ?_)
      replace hvc := hv2; clear hv2
      clear hr fs
      replace hvc := g_jn0_o hvc
      obtain ⟨K20, hK117, hvc⟩ := hvc
      have kh21 : K20 → g_J p l e R s m args below meth c 5 E st0 Z 51 [(0, va_rf (some a0)), (1, va_rf o1), (2, va_rf (some a18))] [] st12 cb13 sb14 := by
        clear hvc
        intro hvc
        replace hvc := hK117 hvc
        refine j_iconst hC (nI 0) dX1_isTrue_51 rfl ?_
        refine j_istore_n (lv0 := [(2, va_rf (some a18)), (0, va_rf (some a0)), (1, va_rf o1)]) hC dX1_isTrue_52 rfl rfl [2, 0, 1] rfl (g_okS.h rfl g_c1 rfl) ?_
        replace hvc := g_lp4_o hvc
        obtain ⟨K26, hz103, hs104, n105, hvc⟩ := hvc
        have kh27 : ∀ (n : Nat) (x22 : Int32) (st23 : g_St) (cb24 : Nat) (sb25 : Nat), K26 n x22 st23 cb24 sb25 → g_J p l e R s m args below meth c 5 E st0 Z 53 [(0, va_rf (some a0)), (1, va_rf o1), (2, va_rf (some a18)), (3, .int x22)] [] st23 cb24 sb25 := by
          clear hvc
          intro n
          induction n with
          | zero => intro x22 st23 cb24 sb25 hvc; exact absurd hvc (hz103 _ _ _ _)
          | succ n ih28 =>
            intro x22 st23 cb24 sb25 hvc
            replace hvc := hs104 n _ _ _ _ hvc
            refine j_iload_n hC dX1_isTrue_53 rfl 3 rfl ?_
            refine j_aload_n hC dX1_isTrue_54 rfl 2 rfl ?_
            obtain ⟨⟨fs, hr⟩, hvc⟩ := hvc
            refine j_callV (As := []) (rest := [.int x22]) (n := 0) (ci := 1) hC hvc (lw_V q1546 q182 q183 q44 q184) (by decide +kernel) (g_rm hR rfl rfl) rfl hr rfl rfl (g_sum rfl) dX1_isTrue_55 (Nat.zero_le _) (Nat.zero_le _) (g_Kip fun x29 hv2 => ?_)
            replace hvc := hv2; clear hv2
            clear hr fs
            refine j_icmp_gt (tgt := 82) hC dX1_isTrue_58 rfl (fun c30 => ?_) (fun c30 => ?_)
            · replace hvc := hvc.1 c30
              refine j_aload_n hC dX1_isTrue_82 rfl 0 rfl ?_
              obtain ⟨mc33, ms34, h1, h2, hvc⟩ := hvc
              obtain ⟨⟨fs, hr⟩, hvc⟩ := hvc
              refine j_callV (As := []) (rest := []) (n := 0) (ci := 15) hC hvc (lw_V q1658 q1610 q1611 q41 q1612) (by decide +kernel) (g_rm hR rfl rfl) rfl hr rfl rfl (g_sum rfl) dX1_isTrue_83 h1 h2 (g_Ki fun x31 st32 hv2 hx => ?_)
              replace hvc := hv2 hx; clear hx hv2
              clear hr fs
              refine j_istore_n (lv0 := [(2, va_rf (some a18)), (0, va_rf (some a0)), (1, va_rf o1)]) hC dX1_isTrue_86 rfl rfl [2, 0, 1] rfl (g_okS.h rfl g_c1 rfl) ?_
              refine j_aload_n hC dX1_isTrue_87 rfl 2 rfl ?_
              obtain ⟨mc37, ms38, h1, h2, hvc⟩ := hvc
              obtain ⟨⟨fs, hr⟩, hvc⟩ := hvc
              refine j_callV (As := []) (rest := []) (n := 0) (ci := 15) hC hvc (lw_V q1659 q1559 q1560 q41 q1561) (by decide +kernel) (g_rm hR rfl rfl) rfl hr rfl rfl (g_sum rfl) dX1_isTrue_88 h1 h2 (g_Ki fun x35 st36 hv2 hx => ?_)
              replace hvc := hv2 hx; clear hx hv2
              clear hr fs
              refine j_istore (lv0 := [(3, .int x31), (2, va_rf (some a18)), (0, va_rf (some a0)), (1, va_rf o1)]) hC dX1_isTrue_91 rfl [0, 1, 2, 3] rfl (g_okS.h rfl rfl rfl) ?_
              refine j_iload_n hC dX1_isTrue_93 rfl 1 rfl ?_
              replace hvc := g_jn1_o hvc
              obtain ⟨K40, hK93, hvc⟩ := hvc
              have kh41 : ∀ (x39 : Int32), K40 x39 → g_J p l e R s m args below meth c 5 E st0 Z 102 [(0, va_rf (some a0)), (1, va_rf o1), (3, .int x31), (4, .int x35)] [.int x39] st36 ((cb24 - mc33) - mc37) ((sb25 - ms34) - ms38) := by
                clear hvc
                intro x39 hvc
                replace hvc := hK93 _ hvc
                refine j_aload_n hC dX1_isTrue_102 rfl 0 rfl ?_
                obtain ⟨mc44, ms45, h1, h2, hvc⟩ := hvc
                obtain ⟨⟨fs, hr⟩, hvc⟩ := hvc
                refine j_callV (As := []) (rest := [.int x39]) (n := 0) (ci := 15) hC hvc (lw_V q1660 q1589 q1590 q41 q1591) (by decide +kernel) (g_rm hR rfl rfl) rfl hr rfl rfl (g_sum rfl) dX1_isTrue_103 h1 h2 (g_Kl fun y42 st43 hv2 hx => ?_)
                replace hvc := hv2 hx; clear hx hv2
                clear hr fs
                refine j_lconst hC 0 dX1_isTrue_106 rfl ?_
                refine j_lcmp hC dX1_isTrue_107 ?_
                replace hvc := g_jn1_o hvc
                obtain ⟨K47, hK91, hvc⟩ := hvc
                have kh48 : ∀ (x46 : Int32), K47 x46 → g_J p l e R s m args below meth c 5 E st0 Z 116 [(0, va_rf (some a0)), (1, va_rf o1), (3, .int x31), (4, .int x35)] [.int x46, .int x39] st43 (((cb24 - mc33) - mc37) - mc44) (((sb25 - ms34) - ms38) - ms45) := by
                  clear hvc
                  intro x46 hvc
                  replace hvc := hK91 _ hvc
                  replace hvc := g_jn0_o hvc
                  obtain ⟨K49, hK89, hvc⟩ := hvc
                  have kh50 : K49 → g_J p l e R s m args below meth c 5 E st0 Z 134 [] [] st43 (((cb24 - mc33) - mc37) - mc44) (((sb25 - ms34) - ms38) - ms45) := by
                    clear hvc
                    intro hvc
                    replace hvc := hK89 hvc
                    refine j_iconst hC (nI 0) dX1_isTrue_134 rfl ?_
                    exact hret _ _ _ _ _ _ dX1_isTrue_135 rfl hvc
                  refine j_icmp_ne (tgt := 134) hC dX1_isTrue_116 rfl (fun c51 => ?_) (fun c51 => ?_)
                  · replace hvc := hvc.1 c51
                    exact j_sub [] rfl (kh50 hvc)
                  · replace hvc := hvc.2 c51
                    refine j_iload hC dX1_isTrue_119 3 rfl ?_
                    replace hvc := g_jn0_o hvc
                    obtain ⟨K52, hK88, hvc⟩ := hvc
                    have kh53 : K52 → g_J p l e R s m args below meth c 5 E st0 Z 136 [(0, va_rf (some a0)), (1, va_rf o1), (3, .int x31), (4, .int x35)] [] st43 (((cb24 - mc33) - mc37) - mc44) (((sb25 - ms34) - ms38) - ms45) := by
                      clear hvc
                      intro hvc
                      replace hvc := hK88 hvc
                      refine j_aload_n hC dX1_isTrue_136 rfl 0 rfl ?_
                      refine j_aload_n hC dX1_isTrue_137 rfl 1 rfl ?_
                      obtain ⟨mc56, ms57, h1, h2, hvc⟩ := hvc
                      obtain ⟨⟨fs, hr⟩, hvc⟩ := hvc
                      refine j_callV (As := [va_rf o1]) (rest := []) (n := 1) (ci := 15) hC hvc (lw_V q1661 q1663 qs9 q41 q1664) (by decide +kernel) (g_rm hR rfl rfl) rfl hr rfl rfl (g_sum rfl) dX1_isTrue_138 h1 h2 (g_Ki fun x54 st55 hv2 hx => ?_)
                      replace hvc := hv2 hx; clear hx hv2
                      clear hr fs
                      replace hvc := g_jn4_o hvc
                      obtain ⟨K62, hK84, hvc⟩ := hvc
                      have kh63 : ∀ (x58 : Int32) (st59 : g_St) (cb60 : Nat) (sb61 : Nat), K62 x58 st59 cb60 sb61 → g_J p l e R s m args below meth c 5 E st0 Z 167 [] [.int x58] st59 cb60 sb61 := by
                        clear hvc
                        intro x58 st59 cb60 sb61 hvc
                        replace hvc := hK84 _ _ _ _ hvc
                        exact hret _ _ _ _ _ _ dX1_isTrue_167 hvc.1 hvc.2
                      replace hvc := g_jn3_o hvc
                      obtain ⟨K67, hK83, hvc⟩ := hvc
                      have kh68 : ∀ (st64 : g_St) (cb65 : Nat) (sb66 : Nat), K67 st64 cb65 sb66 → g_J p l e R s m args below meth c 5 E st0 Z 166 [] [] st64 cb65 sb66 := by
                        clear hvc
                        intro st64 cb65 sb66 hvc
                        replace hvc := hK83 _ _ _ hvc
                        refine j_iconst hC (nI 0) dX1_isTrue_166 rfl ?_
                        exact j_sub [] rfl (kh63 (nI 0) st64 cb65 sb66 hvc)
                      refine j_if_eq (tgt := 166) hC dX1_isTrue_141 rfl (fun c69 => ?_) (fun c69 => ?_)
                      · replace hvc := hvc.1 c69
                        exact j_sub [] rfl (kh68 st55 ((((cb24 - mc33) - mc37) - mc44) - mc56) ((((sb25 - ms34) - ms38) - ms45) - ms57) hvc)
                      · replace hvc := hvc.2 c69
                        refine j_iload_n hC dX1_isTrue_144 rfl 2 rfl ?_
                        replace hvc := g_jn3_o hvc
                        obtain ⟨K73, hK82, hvc⟩ := hvc
                        have kh74 : ∀ (st70 : g_St) (cb71 : Nat) (sb72 : Nat), K73 st70 cb71 sb72 → g_J p l e R s m args below meth c 5 E st0 Z 162 [] [] st70 cb71 sb72 := by
                          clear hvc
                          intro st70 cb71 sb72 hvc
                          replace hvc := hK82 _ _ _ hvc
                          refine j_iconst hC (nI 1) dX1_isTrue_162 rfl ?_
                          refine j_goto (tgt := 167) hC dX1_isTrue_163 rfl ?_
                          exact j_sub [] rfl (kh63 (nI 1) st70 cb71 sb72 hvc)
                        refine j_if_lt (tgt := 162) hC dX1_isTrue_145 rfl (fun c75 => ?_) (fun c75 => ?_)
                        · replace hvc := hvc.1 c75
                          exact j_sub [] rfl (kh74 st55 ((((cb24 - mc33) - mc37) - mc44) - mc56) ((((sb25 - ms34) - ms38) - ms45) - ms57) hvc)
                        · replace hvc := hvc.2 c75
                          refine j_iload hC dX1_isTrue_148 3 rfl ?_
                          refine j_iload_n hC dX1_isTrue_150 rfl 2 rfl ?_
                          refine j_icmp_eq (tgt := 162) hC dX1_isTrue_151 rfl (fun c76 => ?_) (fun c76 => ?_)
                          · replace hvc := hvc.1 c76
                            exact j_sub [] rfl (kh74 st55 ((((cb24 - mc33) - mc37) - mc44) - mc56) ((((sb25 - ms34) - ms38) - ms45) - ms57) hvc)
                          · replace hvc := hvc.2 c76
                            refine j_aload_n hC dX1_isTrue_154 rfl 0 rfl ?_
                            refine j_aload_n hC dX1_isTrue_155 rfl 1 rfl ?_
                            obtain ⟨mc79, ms80, h1, h2, hvc⟩ := hvc
                            obtain ⟨⟨fs, hr⟩, hvc⟩ := hvc
                            refine j_callV (As := [va_rf o1]) (rest := []) (n := 1) (ci := 15) hC hvc (lw_V q1681 q1683 qs12 q41 q1684) (by decide +kernel) (g_rm hR rfl rfl) rfl hr rfl rfl (g_sum rfl) dX1_isTrue_156 h1 h2 (g_Ki fun x77 st78 hv2 hx => ?_)
                            replace hvc := hv2 hx; clear hx hv2
                            clear hr fs
                            refine j_if_ne (tgt := 166) hC dX1_isTrue_159 rfl (fun c81 => ?_) (fun c81 => ?_)
                            · replace hvc := hvc.1 c81
                              exact j_sub [] rfl (kh68 st78 (((((cb24 - mc33) - mc37) - mc44) - mc56) - mc79) (((((sb25 - ms34) - ms38) - ms45) - ms57) - ms80) hvc)
                            · replace hvc := hvc.2 c81
                              exact j_sub [] rfl (kh74 st78 (((((cb24 - mc33) - mc37) - mc44) - mc56) - mc79) (((((sb25 - ms34) - ms38) - ms45) - ms57) - ms80) hvc)
                    refine j_if_lt (tgt := 136) hC dX1_isTrue_121 rfl (fun c85 => ?_) (fun c85 => ?_)
                    · replace hvc := hvc.1 c85
                      exact j_sub [0, 1, 2, 3] rfl (kh53 hvc)
                    · replace hvc := hvc.2 c85
                      refine j_iload_n hC dX1_isTrue_124 rfl 2 rfl ?_
                      refine j_if_lt (tgt := 134) hC dX1_isTrue_125 rfl (fun c86 => ?_) (fun c86 => ?_)
                      · replace hvc := hvc.1 c86
                        exact j_sub [] rfl (kh50 hvc)
                      · replace hvc := hvc.2 c86
                        refine j_iload_n hC dX1_isTrue_128 rfl 2 rfl ?_
                        refine j_iload hC dX1_isTrue_129 3 rfl ?_
                        refine j_icmp_le (tgt := 136) hC dX1_isTrue_131 rfl (fun c87 => ?_) (fun c87 => ?_)
                        · replace hvc := hvc.1 c87
                          exact j_sub [0, 1, 2, 3] rfl (kh53 hvc)
                        · replace hvc := hvc.2 c87
                          exact j_sub [] rfl (kh50 hvc)
                refine j_if_ne (tgt := 115) hC dX1_isTrue_108 rfl (fun c90 => ?_) (fun c90 => ?_)
                · replace hvc := hvc.1 c90
                  refine j_iconst hC (nI 0) dX1_isTrue_115 rfl ?_
                  exact j_sub [0, 1, 2, 3] rfl (kh48 (nI 0) hvc)
                · replace hvc := hvc.2 c90
                  refine j_iconst hC (nI 1) dX1_isTrue_111 rfl ?_
                  refine j_goto (tgt := 116) hC dX1_isTrue_112 rfl ?_
                  exact j_sub [0, 1, 2, 3] rfl (kh48 (nI 1) hvc)
              refine j_if_ge (tgt := 101) hC dX1_isTrue_94 rfl (fun c92 => ?_) (fun c92 => ?_)
              · replace hvc := hvc.1 c92
                refine j_iconst hC (nI 0) dX1_isTrue_101 rfl ?_
                exact j_sub [3, 4, 1, 0] rfl (kh41 (nI 0) hvc)
              · replace hvc := hvc.2 c92
                refine j_iconst hC (nI 1) dX1_isTrue_97 rfl ?_
                refine j_goto (tgt := 102) hC dX1_isTrue_98 rfl ?_
                exact j_sub [3, 4, 1, 0] rfl (kh41 (nI 1) hvc)
            · replace hvc := hvc.2 c30
              refine j_aload_n hC dX1_isTrue_61 rfl 0 rfl ?_
              refine j_aload_n hC dX1_isTrue_62 rfl 1 rfl ?_
              refine j_aload_n hC dX1_isTrue_63 rfl 2 rfl ?_
              refine j_iload_n hC dX1_isTrue_64 rfl 3 rfl ?_
              obtain ⟨mc96, ms97, h1, h2, hvc⟩ := hvc
              obtain ⟨⟨fs, hr⟩, hvc⟩ := hvc
              refine j_callV (As := [.int x22]) (rest := [va_rf o1, va_rf (some a0)]) (n := 1) (ci := 1) hC hvc (lw_V q1649 q1650 q1651 q44 q1652) (by decide +kernel) (g_rm hR rfl rfl) rfl hr rfl rfl (g_sum rfl) dX1_isTrue_65 h1 h2 (g_Ka fun o94 st95 hv2 hx => ?_)
              replace hvc := hv2 hx; clear hx hv2
              clear hr fs
              obtain ⟨mc100, ms101, h1, h2, hvc⟩ := hvc
              obtain ⟨⟨fs, hr⟩, hvc⟩ := hvc
              refine j_callV (As := [va_rf o1, va_rf o94]) (rest := []) (n := 2) (ci := 15) hC hvc (lw_V q1654 q1656 qs8 q41 q1657) (by decide +kernel) (g_rm hR rfl rfl) rfl hr rfl rfl (g_sum rfl) dX1_isTrue_68 h1 h2 (g_Ki fun x98 st99 hv2 hx => ?_)
              replace hvc := hv2 hx; clear hx hv2
              clear hr fs
              refine j_if_ne (tgt := 76) hC dX1_isTrue_71 rfl (fun c102 => ?_) (fun c102 => ?_)
              · replace hvc := hvc.1 c102
                refine j_iinc (lv0 := [(2, va_rf (some a18)), (0, va_rf (some a0)), (1, va_rf o1)]) hC (nI 1) dX1_isTrue_76 3 rfl rfl rfl [2, 0, 1] rfl (g_okS.h rfl g_c1 rfl) ?_
                refine j_goto (tgt := 53) hC dX1_isTrue_79 rfl ?_
                exact j_sub [2, 3, 1, 0] rfl (ih28 (x22 + (nI 1)) st99 ((cb24 - mc96) - mc100) ((sb25 - ms97) - ms101) hvc)
              · replace hvc := hvc.2 c102
                refine j_iconst hC (nI 0) dX1_isTrue_74 rfl ?_
                exact hret _ _ _ _ _ _ dX1_isTrue_75 rfl hvc
        exact j_sub [2, 3, 1, 0] rfl (kh27 n105 (nI 0) st12 cb13 sb14 hvc)
      refine j_icmp_gt (tgt := 51) hC dX1_isTrue_20 rfl (fun c106 => ?_) (fun c106 => ?_)
      · replace hvc := hvc.1 c106
        exact j_sub [0, 1, 2] rfl (kh21 hvc)
      · replace hvc := hvc.2 c106
        refine j_iload_n hC dX1_isTrue_23 rfl 3 rfl ?_
        refine j_bipush hC (nI 10) dX1_isTrue_24 rfl ?_
        refine j_icmp_gt (tgt := 51) hC dX1_isTrue_26 rfl (fun c107 => ?_) (fun c107 => ?_)
        · replace hvc := hvc.1 c107
          exact j_sub [0, 1, 2] rfl (kh21 hvc)
        · replace hvc := hvc.2 c107
          refine j_aload_n hC dX1_isTrue_29 rfl 0 rfl ?_
          refine j_aload_n hC dX1_isTrue_30 rfl 1 rfl ?_
          refine j_aload_n hC dX1_isTrue_31 rfl 2 rfl ?_
          refine j_iconst hC (nI 0) dX1_isTrue_32 rfl ?_
          refine j_iload_n hC dX1_isTrue_33 rfl 3 rfl ?_
          obtain ⟨mc110, ms111, h1, h2, hvc⟩ := hvc
          obtain ⟨⟨fs, hr⟩, hvc⟩ := hvc
          refine j_callV (As := [.int (nI 0), .int x11]) (rest := [va_rf o1, va_rf (some a0)]) (n := 2) (ci := 1) hC hvc (lw_V q177 q178 q179 q44 q180) (by decide +kernel) (g_rm hR rfl rfl) rfl hr rfl rfl (g_sum rfl) dX1_isTrue_34 h1 h2 (g_Ka fun o108 st109 hv2 hx => ?_)
          replace hvc := hv2 hx; clear hx hv2
          clear hr fs
          obtain ⟨mc114, ms115, h1, h2, hvc⟩ := hvc
          obtain ⟨⟨fs, hr⟩, hvc⟩ := hvc
          refine j_callV (As := [va_rf o1, va_rf o108]) (rest := []) (n := 2) (ci := 15) hC hvc (lw_V q1642 q1644 qs7 q41 q1645) (by decide +kernel) (g_rm hR rfl rfl) rfl hr rfl rfl (g_sum rfl) dX1_isTrue_37 h1 h2 (g_Ki fun x112 st113 hv2 hx => ?_)
          replace hvc := hv2 hx; clear hx hv2
          clear hr fs
          refine j_if_ne (tgt := 45) hC dX1_isTrue_40 rfl (fun c116 => ?_) (fun c116 => ?_)
          · replace hvc := hvc.1 c116
            refine j_iinc (lv0 := [(2, va_rf (some a18)), (0, va_rf (some a0)), (1, va_rf o1)]) hC (nI 1) dX1_isTrue_45 3 rfl rfl rfl [2, 0, 1] rfl (g_okS.h rfl g_c1 rfl) ?_
            refine j_goto (tgt := 15) hC dX1_isTrue_48 rfl ?_
            exact j_sub [2, 3, 1, 0] rfl (ih17 (x11 + (nI 1)) st113 ((cb13 - mc110) - mc114) ((sb14 - ms111) - ms115) hvc)
          · replace hvc := hvc.2 c116
            refine j_iconst hC (nI 0) dX1_isTrue_43 rfl ?_
            exact hret _ _ _ _ _ _ dX1_isTrue_44 rfl hvc
  exact j_sub [3, 2, 1, 0] rfl (kh16 n120 (nI 0) st8 ((cb - mc3) - mc9) ((sb - ms4) - ms10) hvc)
theorem wk_X1_isTrue {l : Launch} {E : g_E} {a0 : Nat} {st : g_St} {mc ms : Nat} {Q : Int32 → g_St → Prop} (hvc : vc_X1_isTrue l E a0 st mc ms Q) : wp_X1_isTrue l E mc ms [va_rf (some a0)] st Q :=
  g_enter (lv0 := [(0, va_rf (some a0))]) (plainFor_of_name (by decide +kernel)) (by simp [lv_args, g_c1, g_ci, g_cL]) (by simp [lg_sl, g_c1, g_ci, g_cL]) (fun p e s m args below meth c hC => wb_X1_isTrue hC ⟨Nat.le_refl _, Nat.le_refl _⟩ (fun pc lv v st1 cb sb hd hn hq => j_ireturn hC rfl hn hd (g_iv hq)) hvc)
abbrev wp_X1_checksum (l : Launch) (E : g_E) (mc ms : Nat) (av : List Value) (st : g_St) (Q : Int64 → g_St → Prop) : Prop := g_WPl l E yX1_checksum cX1_checksum 8 (some .long) 5 128 mc ms av st Q
def vc_X1_checksum (l : Launch) (E : g_E) (a0 : Nat) (st : g_St) (cb sb : Nat) (Q : Int64 → g_St → Prop) : Prop :=
  g_lp2 (fun (K3 : Int64 → Int32 → Prop) (y1 : Int64) (x2 : Int32) => ∃ o6 : Option Nat, g_gr st a0 15 0 o6 ∧ ∃ a7 : Nat, o6 = some a7 ∧ g_is st a7 0 ∧ wp_J1_length l E 0 0 [va_rf (some a7)] st (fun x8 stx => stx = st ∧ (x8 ≤ x2 → ∃ o10 : Option Nat, g_gr st a0 15 1 o10 ∧ ∃ a11 : Nat, o10 = some a11 ∧ ∃ mc14 ms15 : Nat, mc14 ≤ cb ∧ ms15 ≤ sb ∧ g_is st a11 3 ∧ wp_J5_entrySet l E mc14 ms15 [va_rf (some a11)] st (fun o12 st13 => g_Ext st st13 → ∃ a16 : Nat, o12 = some a16 ∧ ∃ mc19 ms20 : Nat, mc19 ≤ (cb - mc14) ∧ ms20 ≤ (sb - ms15) ∧ g_is st13 a16 14 ∧ wp_J45_iterator l E mc19 ms20 [va_rf (some a16)] st13 (fun o17 st18 => g_Ext st13 st18 → g_lp2 (fun (K23 : Int64 → g_St → Prop) (y21 : Int64) (st22 : g_St) => ∃ a26 : Nat, o17 = some a26 ∧ g_is st22 a26 9 ∧ wp_J37_hasNext_J38 l E 0 0 [va_rf (some a26)] st22 (fun x27 stx => stx = st22 ∧ (x27 = 0 → ∃ o29 : Option Nat, g_gr st22 a0 15 2 o29 ∧ ∃ a30 : Nat, o29 = some a30 ∧ ∃ (t31 : Nat) (v32 : vp_A), g_Rd st22 a30 (.inl (t31, v32)) ∧ g_lp2 (fun (K35 : Int64 → Int32 → Prop) (y33 : Int64) (x34 : Int32) => ((nI v32.1) ≤ x34 → Q y33 st22) ∧ (¬ (nI v32.1) ≤ x34 → ∃ (n39 : Nat) (f40 : Nat → Option Nat) (j41 : Nat), g_ar st22 a30 4 n39 f40 ∧ x34 = nI j41 ∧ j41 < n39 ∧ j41 < 2 ^ 31 ∧ ∀ o42 : Option Nat, o42 = f40 j41 → ∃ a43 : Nat, o42 = some a43 ∧ g_is st22 a43 1 ∧ wp_J2_length l E 0 0 [va_rf (some a43)] st22 (fun x44 stx => stx = st22 ∧ g_lp2 (fun (K47 : Int64 → Int32 → Prop) (y45 : Int64) (x46 : Int32) => g_is st22 a43 1 ∧ wp_J2_length l E 0 0 [va_rf (some a43)] st22 (fun x50 stx => stx = st22 ∧ (x50 ≤ x46 → K35 y45 (x34 + (nI 1))) ∧ (¬ x50 ≤ x46 → g_is st22 a43 1 ∧ wp_J2_charAt l E 0 0 [va_rf (some a43), .int x46] st22 (fun x52 stx => stx = st22 ∧ K47 ((31 * y45) + ((x52).toInt64)) (x46 + (nI 1)))))) ((31 * y33) + ((x44).toInt64)) (nI 0)))) y21 (nI 0)) ∧ (¬ x27 = 0 → g_is st22 a26 9 ∧ wp_J38_next l E 0 0 [va_rf (some a26)] st22 (fun o59 st60 => g_Ext st22 st60 → g_isN st60 o59 4 ∧ ∃ a61 : Nat, o59 = some a61 ∧ g_is st60 a61 4 ∧ wp_J27_getKey l E 0 0 [va_rf (some a61)] st60 (fun o62 stx => stx = st60 ∧ g_isN st60 o62 1 ∧ g_lp2 (fun (K65 : Int64 → Int32 → Prop) (y63 : Int64) (x64 : Int32) => ∃ a68 : Nat, o62 = some a68 ∧ g_is st60 a68 1 ∧ wp_J2_length l E 0 0 [va_rf (some a68)] st60 (fun x69 stx => stx = st60 ∧ (x69 ≤ x64 → g_is st60 a61 4 ∧ wp_J27_getValue l E 0 0 [va_rf (some a61)] st60 (fun o71 stx => stx = st60 ∧ g_isN st60 o71 2 ∧ ∃ a72 : Nat, o71 = some a72 ∧ g_is st60 a72 2 ∧ wp_J14_intValue l E 0 0 [va_rf (some a72)] st60 (fun x73 stx => stx = st60 ∧ K23 ((31 * y63) + ((x73).toInt64)) st60))) ∧ (¬ x69 ≤ x64 → g_is st60 a68 1 ∧ wp_J2_charAt l E 0 0 [va_rf (some a68), .int x64] st60 (fun x74 stx => stx = st60 ∧ K65 ((31 * y63) + ((x74).toInt64)) (x64 + (nI 1)))))) y21 (nI 0)))))) y1 st18))) ∧ (¬ x8 ≤ x2 → ∃ o81 : Option Nat, g_gr st a0 15 0 o81 ∧ ∃ a82 : Nat, o81 = some a82 ∧ g_is st a82 0 ∧ wp_J1_charAt l E 0 0 [va_rf (some a82), .int x2] st (fun x83 stx => stx = st ∧ K3 ((31 * y1) + ((x83).toInt64)) (x2 + (nI 1)))))) 7 (nI 0)
set_option maxHeartbeats 4000000 in
theorem wb_X1_checksum {p : Program} {l : Launch} {e : Env} {R : Room} {s : State} {m : MethodId} {args : Array Value} {below : List Frame} {meth : Method} {c : Code} {E : g_E} {st0 : g_St} {Z : State → Prop} (hC : g_Cx p s m args meth c cX1_checksum 8 "Stemspan" (some .long) "checksum" E st0) (hR : g_Rm 5 128 R) {a0 : Nat} {st : g_St} {cb sb : Nat} {Q : Int64 → g_St → Prop} (hret : ∀ (pc : Nat) (lv : List (Nat × Value)) (v : Int64) (st1 : g_St) (cb sb : Nat), decode cX1_checksum pc = .ok (.lreturn, 1) → Q v st1 → g_J p l e R s m args below meth c 8 E st0 Z pc lv [.long v] st1 cb sb) (hvc : vc_X1_checksum l E a0 st cb sb Q) : g_J p l e R s m args below meth c 8 E st0 Z 0 [(0, va_rf (some a0))] [] st cb sb := by
  unfold vc_X1_checksum at hvc
  refine j_ldc2 hC 7 q1689 dX1_checksum_0 ?_
  refine j_lstore_n (lv0 := [(0, va_rf (some a0))]) hC dX1_checksum_3 rfl rfl [0] rfl (g_okS.h rfl g_c1 rfl) rfl ?_
  refine j_iconst hC (nI 0) dX1_checksum_4 rfl ?_
  refine j_istore_n (lv0 := [(1, .long 7), (0, va_rf (some a0))]) hC dX1_checksum_5 rfl rfl [0, 1] rfl (g_okS.n rfl) ?_
  replace hvc := g_lp2_o hvc
  obtain ⟨K3, hz84, hs85, n86, hvc⟩ := hvc
  have kh4 : ∀ (n : Nat) (y1 : Int64) (x2 : Int32), K3 n y1 x2 → g_J p l e R s m args below meth c 8 E st0 Z 6 [(0, va_rf (some a0)), (1, .long y1), (3, .int x2)] [] st cb sb := by
    clear hvc
    intro n
    induction n with
    | zero => intro y1 x2 hvc; exact absurd hvc (hz84 _ _)
    | succ n ih5 =>
      intro y1 x2 hvc
      replace hvc := hs85 n _ _ hvc
      refine j_iload_n hC dX1_checksum_6 rfl 2 rfl ?_
      refine j_aload_n hC dX1_checksum_7 rfl 0 rfl ?_
      obtain ⟨o6, ⟨fs, hr, hv⟩, hvc⟩ := hvc
      refine j_get hC fkX1_10_X1 dX1_checksum_8 hr hv ?_
      clear hv hr fs
      obtain ⟨a7, rfl, hvc⟩ := hvc
      obtain ⟨⟨fs, hr⟩, hvc⟩ := hvc
      refine j_callV (As := []) (rest := [.int x2]) (n := 0) (ci := 0) hC hvc (lw_V q497 q416 q2451 q43 q417) (by decide +kernel) (g_rm hR rfl rfl) rfl hr rfl rfl (g_sum rfl) dX1_checksum_11 (Nat.zero_le _) (Nat.zero_le _) (g_Kip fun x8 hv2 => ?_)
      replace hvc := hv2; clear hv2
      clear hr fs
      refine j_icmp_ge (tgt := 39) hC dX1_checksum_14 rfl (fun c9 => ?_) (fun c9 => ?_)
      · replace hvc := hvc.1 c9
        refine j_aload_n hC dX1_checksum_39 rfl 0 rfl ?_
        obtain ⟨o10, ⟨fs, hr, hv⟩, hvc⟩ := hvc
        refine j_get hC fkX1_19_X1 dX1_checksum_40 hr hv ?_
        clear hv hr fs
        obtain ⟨a11, rfl, hvc⟩ := hvc
        obtain ⟨mc14, ms15, h1, h2, hvc⟩ := hvc
        obtain ⟨⟨fs, hr⟩, hvc⟩ := hvc
        refine j_callV (As := []) (rest := []) (n := 0) (ci := 3) hC hvc (lw_V q1701 q1257 q2469 q47 q1258) (by decide +kernel) (g_rm hR rfl rfl) rfl hr rfl rfl (g_sum rfl) dX1_checksum_43 h1 h2 (g_Ka fun o12 st13 hv2 hx => ?_)
        replace hvc := hv2 hx; clear hx hv2
        clear hr fs
        obtain ⟨a16, rfl, hvc⟩ := hvc
        obtain ⟨mc19, ms20, h1, h2, hvc⟩ := hvc
        obtain ⟨⟨fs, hr⟩, hvc⟩ := hvc
        refine j_callF (As := []) (rest := []) (n := 0) (x := ⟨"java/util/Set", "iterator", "()Ljava/util/Iterator;"⟩) (C := "java/util/TreeMap$EntrySet") (ci := 14) hC hvc (lw_F q1641 q1276 q1278 q91 q1280) gf_33 (by decide +kernel) (g_rm hR rfl rfl) rfl hr rfl rfl (g_sum rfl) dX1_checksum_46 h1 h2 (g_Ka fun o17 st18 hv2 hx => ?_)
        replace hvc := hv2 hx; clear hx hv2
        clear hr fs
        refine j_astore_n (lv0 := [(0, va_rf (some a0)), (1, .long y1)]) hC dX1_checksum_51 rfl rfl [0, 1] rfl (g_okS.n rfl) ?_
        replace hvc := g_lp2_o hvc
        obtain ⟨K23, hz78, hs79, n80, hvc⟩ := hvc
        have kh24 : ∀ (n : Nat) (y21 : Int64) (st22 : g_St), K23 n y21 st22 → g_J p l e R s m args below meth c 8 E st0 Z 52 [(0, va_rf (some a0)), (1, .long y21), (3, va_rf o17)] [] st22 ((cb - mc14) - mc19) ((sb - ms15) - ms20) := by
          clear hvc
          intro n
          induction n with
          | zero => intro y21 st22 hvc; exact absurd hvc (hz78 _ _)
          | succ n ih25 =>
            intro y21 st22 hvc
            replace hvc := hs79 n _ _ hvc
            refine j_aload_n hC dX1_checksum_52 rfl 2 rfl ?_
            obtain ⟨a26, rfl, hvc⟩ := hvc
            obtain ⟨⟨fs, hr⟩, hvc⟩ := hvc
            refine j_callF (As := []) (rest := []) (n := 0) (x := ⟨"java/util/Iterator", "hasNext", "()Z"⟩) (C := "java/util/TreeMap$EntryIterator") (ci := 9) hC hvc (lw_F q1382 q1014 q1016 q83 q1018) gf_20 (by decide +kernel) (g_rm hR rfl rfl) rfl hr rfl rfl (g_sum rfl) dX1_checksum_53 (Nat.zero_le _) (Nat.zero_le _) (g_Kip fun x27 hv2 => ?_)
            replace hvc := hv2; clear hv2
            clear hr fs
            refine j_if_eq (tgt := 142) hC dX1_checksum_58 rfl (fun c28 => ?_) (fun c28 => ?_)
            · replace hvc := hvc.1 c28
              refine j_aload_n hC dX1_checksum_142 rfl 0 rfl ?_
              obtain ⟨o29, ⟨fs, hr, hv⟩, hvc⟩ := hvc
              refine j_get hC fkX1_25_X1 dX1_checksum_143 hr hv ?_
              clear hv hr fs
              refine j_astore_n (lv0 := [(0, va_rf (some a0)), (1, .long y21)]) hC dX1_checksum_146 rfl rfl [0, 1] rfl (g_okS.n rfl) ?_
              refine j_aload_n hC dX1_checksum_147 rfl 0 rfl ?_
              obtain ⟨a30, rfl, hvc⟩ := hvc
              obtain ⟨t31, v32, hr, hvc⟩ := hvc
              refine j_alen hC hr dX1_checksum_148 ?_
              clear hr
              refine j_istore (lv0 := [(3, va_rf (some a30)), (0, va_rf (some a0)), (1, .long y21)]) hC dX1_checksum_149 rfl [0, 1, 2] rfl (g_okS.h rfl g_c1 rfl) ?_
              refine j_iconst hC (nI 0) dX1_checksum_151 rfl ?_
              refine j_istore (lv0 := [(4, .int (nI v32.1)), (3, va_rf (some a30)), (0, va_rf (some a0)), (1, .long y21)]) hC dX1_checksum_152 rfl [0, 1, 2, 3] rfl (g_okS.h rfl rfl rfl) ?_
              replace hvc := g_lp2_o hvc
              obtain ⟨K35, hz56, hs57, n58, hvc⟩ := hvc
              have kh36 : ∀ (n : Nat) (y33 : Int64) (x34 : Int32), K35 n y33 x34 → g_J p l e R s m args below meth c 8 E st0 Z 154 [(1, .long y33), (3, va_rf (some a30)), (4, .int (nI v32.1)), (5, .int x34)] [] st22 ((cb - mc14) - mc19) ((sb - ms15) - ms20) := by
                clear hvc
                intro n
                induction n with
                | zero => intro y33 x34 hvc; exact absurd hvc (hz56 _ _)
                | succ n ih37 =>
                  intro y33 x34 hvc
                  replace hvc := hs57 n _ _ hvc
                  refine j_iload hC dX1_checksum_154 3 rfl ?_
                  refine j_iload hC dX1_checksum_156 2 rfl ?_
                  refine j_icmp_ge (tgt := 220) hC dX1_checksum_158 rfl (fun c38 => ?_) (fun c38 => ?_)
                  · replace hvc := hvc.1 c38
                    refine j_lload_n hC dX1_checksum_220 rfl 0 rfl ?_
                    exact hret _ _ _ _ _ _ dX1_checksum_221 hvc
                  · replace hvc := hvc.2 c38
                    refine j_aload_n hC dX1_checksum_161 rfl 1 rfl ?_
                    refine j_iload hC dX1_checksum_162 3 rfl ?_
                    obtain ⟨n39, f40, j41, hr, hi, hj, hJ, hvc⟩ := hvc
                    replace hvc := hvc _ rfl
                    refine j_ix hi ?_
                    refine j_aald hC (by decide) hr hj hJ dX1_checksum_164 ?_
                    generalize f40 j41 = o42 at hvc ⊢
                    clear hr hi hj hJ
                    refine j_astore (lv0 := [(5, .int x34), (1, .long y33), (3, va_rf (some a30)), (4, .int (nI v32.1))]) hC dX1_checksum_165 rfl [3, 0, 1, 2] rfl (g_okS.h rfl rfl rfl) ?_
                    refine j_ldc2 hC 31 q1690 dX1_checksum_167 ?_
                    refine j_lload_n hC dX1_checksum_170 rfl 2 rfl ?_
                    refine j_lmul hC dX1_checksum_171 ?_
                    refine j_aload hC dX1_checksum_172 0 rfl ?_
                    obtain ⟨a43, rfl, hvc⟩ := hvc
                    obtain ⟨⟨fs, hr⟩, hvc⟩ := hvc
                    refine j_callV (As := []) (rest := [.long (31 * y33)]) (n := 0) (ci := 1) hC hvc (lw_V q1546 q182 q183 q44 q184) (by decide +kernel) (g_rm hR rfl rfl) rfl hr rfl rfl (g_sum rfl) dX1_checksum_174 (Nat.zero_le _) (Nat.zero_le _) (g_Kip fun x44 hv2 => ?_)
                    replace hvc := hv2; clear hv2
                    clear hr fs
                    refine j_i2l hC dX1_checksum_177 ?_
                    refine j_ladd hC dX1_checksum_178 ?_
                    refine j_lstore_n (lv0 := [(6, va_rf (some a43)), (5, .int x34), (3, va_rf (some a30)), (4, .int (nI v32.1))]) hC dX1_checksum_179 rfl rfl [0, 1, 3, 4] rfl (g_okS.n rfl) rfl ?_
                    refine j_iconst hC (nI 0) dX1_checksum_180 rfl ?_
                    refine j_istore (lv0 := [(6, va_rf (some a43)), (1, .long ((31 * y33) + ((x44).toInt64))), (5, .int x34), (3, va_rf (some a30)), (4, .int (nI v32.1))]) hC dX1_checksum_181 rfl [1, 0, 2, 3, 4] rfl (g_okS.h rfl g_c1 rfl) ?_
                    replace hvc := g_lp2_o hvc
                    obtain ⟨K47, hz53, hs54, n55, hvc⟩ := hvc
                    have kh48 : ∀ (n : Nat) (y45 : Int64) (x46 : Int32), K47 n y45 x46 → g_J p l e R s m args below meth c 8 E st0 Z 183 [(1, .long y45), (3, va_rf (some a30)), (4, .int (nI v32.1)), (5, .int x34), (6, va_rf (some a43)), (7, .int x46)] [] st22 ((cb - mc14) - mc19) ((sb - ms15) - ms20) := by
                      clear hvc
                      intro n
                      induction n with
                      | zero => intro y45 x46 hvc; exact absurd hvc (hz53 _ _)
                      | succ n ih49 =>
                        intro y45 x46 hvc
                        replace hvc := hs54 n _ _ hvc
                        refine j_iload hC dX1_checksum_183 5 rfl ?_
                        refine j_aload hC dX1_checksum_185 4 rfl ?_
                        obtain ⟨⟨fs, hr⟩, hvc⟩ := hvc
                        refine j_callV (As := []) (rest := [.int x46]) (n := 0) (ci := 1) hC hvc (lw_V q1546 q182 q183 q44 q184) (by decide +kernel) (g_rm hR rfl rfl) rfl hr rfl rfl (g_sum rfl) dX1_checksum_187 (Nat.zero_le _) (Nat.zero_le _) (g_Kip fun x50 hv2 => ?_)
                        replace hvc := hv2; clear hv2
                        clear hr fs
                        refine j_icmp_ge (tgt := 214) hC dX1_checksum_190 rfl (fun c51 => ?_) (fun c51 => ?_)
                        · replace hvc := hvc.1 c51
                          refine j_iinc (lv0 := [(4, .int (nI v32.1)), (1, .long y45), (3, va_rf (some a30)), (6, va_rf (some a43)), (7, .int x46)]) hC (nI 1) dX1_checksum_214 3 rfl rfl rfl [2, 0, 1, 4, 5] rfl (g_okS.h rfl rfl rfl) ?_
                          refine j_goto (tgt := 154) hC dX1_checksum_217 rfl ?_
                          exact j_sub [2, 3, 1, 0] rfl (ih37 y45 (x34 + (nI 1)) hvc)
                        · replace hvc := hvc.2 c51
                          refine j_ldc2 hC 31 q1690 dX1_checksum_193 ?_
                          refine j_lload_n hC dX1_checksum_196 rfl 0 rfl ?_
                          refine j_lmul hC dX1_checksum_197 ?_
                          refine j_aload hC dX1_checksum_198 4 rfl ?_
                          refine j_iload hC dX1_checksum_200 5 rfl ?_
                          obtain ⟨⟨fs, hr⟩, hvc⟩ := hvc
                          refine j_callV (As := [.int x46]) (rest := [.long (31 * y45)]) (n := 1) (ci := 1) hC hvc (lw_V q1547 q1548 q1549 q44 q1550) (by decide +kernel) (g_rm hR rfl rfl) rfl hr rfl rfl (g_sum rfl) dX1_checksum_202 (Nat.zero_le _) (Nat.zero_le _) (g_Kip fun x52 hv2 => ?_)
                          replace hvc := hv2; clear hv2
                          clear hr fs
                          refine j_i2l hC dX1_checksum_205 ?_
                          refine j_ladd hC dX1_checksum_206 ?_
                          refine j_lstore_n (lv0 := [(3, va_rf (some a30)), (4, .int (nI v32.1)), (5, .int x34), (6, va_rf (some a43)), (7, .int x46)]) hC dX1_checksum_207 rfl rfl [1, 2, 3, 4, 5] rfl (g_okS.n rfl) rfl ?_
                          refine j_iinc (lv0 := [(6, va_rf (some a43)), (1, .long ((31 * y45) + ((x52).toInt64))), (3, va_rf (some a30)), (4, .int (nI v32.1)), (5, .int x34)]) hC (nI 1) dX1_checksum_208 5 rfl rfl rfl [4, 0, 1, 2, 3] rfl (g_okS.h rfl g_c1 rfl) ?_
                          refine j_goto (tgt := 183) hC dX1_checksum_211 rfl ?_
                          exact j_sub [2, 3, 4, 5, 1, 0] rfl (ih49 ((31 * y45) + ((x52).toInt64)) (x46 + (nI 1)) hvc)
                    exact j_sub [2, 4, 5, 3, 1, 0] rfl (kh48 n55 ((31 * y33) + ((x44).toInt64)) (nI 0) hvc)
              exact j_sub [4, 2, 1, 0] rfl (kh36 n58 y21 (nI 0) hvc)
            · replace hvc := hvc.2 c28
              refine j_aload_n hC dX1_checksum_61 rfl 2 rfl ?_
              obtain ⟨⟨fs, hr⟩, hvc⟩ := hvc
              refine j_callF (As := []) (rest := []) (n := 0) (x := ⟨"java/util/Iterator", "next", "()Ljava/lang/Object;"⟩) (C := "java/util/TreeMap$EntryIterator") (ci := 9) hC hvc (lw_F q1384 q1045 q1047 q84 q1049) gf_21 (by decide +kernel) (g_rm hR rfl rfl) rfl hr rfl rfl (g_sum rfl) dX1_checksum_62 (Nat.zero_le _) (Nat.zero_le _) (g_Ka fun o59 st60 hv2 hx => ?_)
              replace hvc := hv2 hx; clear hx hv2
              clear hr fs
              obtain ⟨hv, hvc⟩ := hvc
              refine j_cast hC (C := "java/util/TreeMap$Entry") (ci := 4) q1702 rfl (Or.inr ge_11) hv dX1_checksum_67 ?_
              clear hv
              refine j_astore (lv0 := [(3, va_rf (some a26)), (0, va_rf (some a0)), (1, .long y21)]) hC dX1_checksum_70 rfl [2, 0, 1] rfl (g_okS.h rfl g_c1 rfl) ?_
              refine j_aload hC dX1_checksum_72 0 rfl ?_
              obtain ⟨a61, rfl, hvc⟩ := hvc
              obtain ⟨⟨fs, hr⟩, hvc⟩ := hvc
              refine j_callF (As := []) (rest := []) (n := 0) (x := ⟨"java/util/Map$Entry", "getKey", "()Ljava/lang/Object;"⟩) (C := "java/util/TreeMap$Entry") (ci := 4) hC hvc (lw_F q1704 q1712 q1714 q73 q1716) gf_4 (by decide +kernel) (g_rm hR rfl rfl) rfl hr rfl rfl (g_sum rfl) dX1_checksum_74 (Nat.zero_le _) (Nat.zero_le _) (g_Kap fun o62 hv2 => ?_)
              replace hvc := hv2; clear hv2
              clear hr fs
              obtain ⟨hv, hvc⟩ := hvc
              refine j_cast hC (C := "java/lang/String") (ci := 1) q174 rfl (Or.inl rfl) hv dX1_checksum_79 ?_
              clear hv
              refine j_astore (lv0 := [(4, va_rf (some a61)), (3, va_rf (some a26)), (0, va_rf (some a0)), (1, .long y21)]) hC dX1_checksum_82 rfl [0, 1, 2, 3] rfl (g_okS.h rfl g_c1 rfl) ?_
              refine j_iconst hC (nI 0) dX1_checksum_84 rfl ?_
              refine j_istore (lv0 := [(5, va_rf o62), (4, va_rf (some a61)), (3, va_rf (some a26)), (0, va_rf (some a0)), (1, .long y21)]) hC dX1_checksum_85 rfl [0, 1, 2, 3, 4] rfl (g_okS.h rfl g_c1 rfl) ?_
              replace hvc := g_lp2_o hvc
              obtain ⟨K65, hz75, hs76, n77, hvc⟩ := hvc
              have kh66 : ∀ (n : Nat) (y63 : Int64) (x64 : Int32), K65 n y63 x64 → g_J p l e R s m args below meth c 8 E st0 Z 87 [(0, va_rf (some a0)), (1, .long y63), (3, va_rf (some a26)), (4, va_rf (some a61)), (5, va_rf o62), (6, .int x64)] [] st60 ((cb - mc14) - mc19) ((sb - ms15) - ms20) := by
                clear hvc
                intro n
                induction n with
                | zero => intro y63 x64 hvc; exact absurd hvc (hz75 _ _)
                | succ n ih67 =>
                  intro y63 x64 hvc
                  replace hvc := hs76 n _ _ hvc
                  refine j_iload hC dX1_checksum_87 5 rfl ?_
                  refine j_aload hC dX1_checksum_89 4 rfl ?_
                  obtain ⟨a68, rfl, hvc⟩ := hvc
                  obtain ⟨⟨fs, hr⟩, hvc⟩ := hvc
                  refine j_callV (As := []) (rest := [.int x64]) (n := 0) (ci := 1) hC hvc (lw_V q1546 q182 q183 q44 q184) (by decide +kernel) (g_rm hR rfl rfl) rfl hr rfl rfl (g_sum rfl) dX1_checksum_91 (Nat.zero_le _) (Nat.zero_le _) (g_Kip fun x69 hv2 => ?_)
                  replace hvc := hv2; clear hv2
                  clear hr fs
                  refine j_icmp_ge (tgt := 118) hC dX1_checksum_94 rfl (fun c70 => ?_) (fun c70 => ?_)
                  · replace hvc := hvc.1 c70
                    refine j_ldc2 hC 31 q1690 dX1_checksum_118 ?_
                    refine j_lload_n hC dX1_checksum_121 rfl 1 rfl ?_
                    refine j_lmul hC dX1_checksum_122 ?_
                    refine j_aload hC dX1_checksum_123 3 rfl ?_
                    obtain ⟨⟨fs, hr⟩, hvc⟩ := hvc
                    refine j_callF (As := []) (rest := [.long (31 * y63)]) (n := 0) (x := ⟨"java/util/Map$Entry", "getValue", "()Ljava/lang/Object;"⟩) (C := "java/util/TreeMap$Entry") (ci := 4) hC hvc (lw_F q1718 q1138 q1140 q73 q1142) gf_3 (by decide +kernel) (g_rm hR rfl rfl) rfl hr rfl rfl (g_sum rfl) dX1_checksum_125 (Nat.zero_le _) (Nat.zero_le _) (g_Kap fun o71 hv2 => ?_)
                    replace hvc := hv2; clear hv2
                    clear hr fs
                    obtain ⟨hv, hvc⟩ := hvc
                    refine j_cast hC (C := "java/lang/Integer") (ci := 2) q1385 rfl (Or.inl rfl) hv dX1_checksum_130 ?_
                    clear hv
                    obtain ⟨a72, rfl, hvc⟩ := hvc
                    obtain ⟨⟨fs, hr⟩, hvc⟩ := hvc
                    refine j_callV (As := []) (rest := [.long (31 * y63)]) (n := 0) (ci := 2) hC hvc (lw_V q1386 q1387 q1388 q56 q1389) (by decide +kernel) (g_rm hR rfl rfl) rfl hr rfl rfl (g_sum rfl) dX1_checksum_133 (Nat.zero_le _) (Nat.zero_le _) (g_Kip fun x73 hv2 => ?_)
                    replace hvc := hv2; clear hv2
                    clear hr fs
                    refine j_i2l hC dX1_checksum_136 ?_
                    refine j_ladd hC dX1_checksum_137 ?_
                    refine j_lstore_n (lv0 := [(0, va_rf (some a0)), (3, va_rf (some a26)), (4, va_rf (some a61)), (5, va_rf (some a68)), (6, .int x64)]) hC dX1_checksum_138 rfl rfl [0, 2, 3, 4, 5] rfl (g_okS.h rfl g_c1 rfl) rfl ?_
                    refine j_goto (tgt := 52) hC dX1_checksum_139 rfl ?_
                    exact j_sub [1, 0, 2] rfl (ih25 ((31 * y63) + ((x73).toInt64)) st60 hvc)
                  · replace hvc := hvc.2 c70
                    refine j_ldc2 hC 31 q1690 dX1_checksum_97 ?_
                    refine j_lload_n hC dX1_checksum_100 rfl 1 rfl ?_
                    refine j_lmul hC dX1_checksum_101 ?_
                    refine j_aload hC dX1_checksum_102 4 rfl ?_
                    refine j_iload hC dX1_checksum_104 5 rfl ?_
                    obtain ⟨⟨fs, hr⟩, hvc⟩ := hvc
                    refine j_callV (As := [.int x64]) (rest := [.long (31 * y63)]) (n := 1) (ci := 1) hC hvc (lw_V q1547 q1548 q1549 q44 q1550) (by decide +kernel) (g_rm hR rfl rfl) rfl hr rfl rfl (g_sum rfl) dX1_checksum_106 (Nat.zero_le _) (Nat.zero_le _) (g_Kip fun x74 hv2 => ?_)
                    replace hvc := hv2; clear hv2
                    clear hr fs
                    refine j_i2l hC dX1_checksum_109 ?_
                    refine j_ladd hC dX1_checksum_110 ?_
                    refine j_lstore_n (lv0 := [(0, va_rf (some a0)), (3, va_rf (some a26)), (4, va_rf (some a61)), (5, va_rf (some a68)), (6, .int x64)]) hC dX1_checksum_111 rfl rfl [0, 2, 3, 4, 5] rfl (g_okS.h rfl g_c1 rfl) rfl ?_
                    refine j_iinc (lv0 := [(5, va_rf (some a68)), (1, .long ((31 * y63) + ((x74).toInt64))), (0, va_rf (some a0)), (3, va_rf (some a26)), (4, va_rf (some a61))]) hC (nI 1) dX1_checksum_112 5 rfl rfl rfl [4, 0, 1, 2, 3] rfl (g_okS.h rfl g_c1 rfl) ?_
                    refine j_goto (tgt := 87) hC dX1_checksum_115 rfl ?_
                    exact j_sub [3, 2, 4, 5, 1, 0] rfl (ih67 ((31 * y63) + ((x74).toInt64)) (x64 + (nI 1)) hvc)
              exact j_sub [4, 5, 3, 2, 1, 0] rfl (kh66 n77 y21 (nI 0) hvc)
        exact j_sub [1, 2, 0] rfl (kh24 n80 y1 st18 hvc)
      · replace hvc := hvc.2 c9
        refine j_ldc2 hC 31 q1690 dX1_checksum_17 ?_
        refine j_lload_n hC dX1_checksum_20 rfl 1 rfl ?_
        refine j_lmul hC dX1_checksum_21 ?_
        refine j_aload_n hC dX1_checksum_22 rfl 0 rfl ?_
        obtain ⟨o81, ⟨fs, hr, hv⟩, hvc⟩ := hvc
        refine j_get hC fkX1_10_X1 dX1_checksum_23 hr hv ?_
        clear hv hr fs
        refine j_iload_n hC dX1_checksum_26 rfl 2 rfl ?_
        obtain ⟨a82, rfl, hvc⟩ := hvc
        obtain ⟨⟨fs, hr⟩, hvc⟩ := hvc
        refine j_callV (As := [.int x2]) (rest := [.long (31 * y1)]) (n := 1) (ci := 0) hC hvc (lw_V q1691 q1692 q1693 q43 q1694) (by decide +kernel) (g_rm hR rfl rfl) rfl hr rfl rfl (g_sum rfl) dX1_checksum_27 (Nat.zero_le _) (Nat.zero_le _) (g_Kip fun x83 hv2 => ?_)
        replace hvc := hv2; clear hv2
        clear hr fs
        refine j_i2l hC dX1_checksum_30 ?_
        refine j_ladd hC dX1_checksum_31 ?_
        refine j_lstore_n (lv0 := [(0, va_rf (some a0)), (3, .int x2)]) hC dX1_checksum_32 rfl rfl [0, 2] rfl (g_okS.h rfl g_c1 rfl) rfl ?_
        refine j_iinc (lv0 := [(1, .long ((31 * y1) + ((x83).toInt64))), (0, va_rf (some a0))]) hC (nI 1) dX1_checksum_33 2 rfl rfl rfl [0, 1] rfl (g_okS.n rfl) ?_
        refine j_goto (tgt := 6) hC dX1_checksum_36 rfl ?_
        exact j_sub [2, 1, 0] rfl (ih5 ((31 * y1) + ((x83).toInt64)) (x2 + (nI 1)) hvc)
  exact j_sub [2, 1, 0] rfl (kh4 n86 7 (nI 0) hvc)
theorem wk_X1_checksum {l : Launch} {E : g_E} {a0 : Nat} {st : g_St} {mc ms : Nat} {Q : Int64 → g_St → Prop} (hvc : vc_X1_checksum l E a0 st mc ms Q) : wp_X1_checksum l E mc ms [va_rf (some a0)] st Q :=
  g_enter (lv0 := [(0, va_rf (some a0))]) (plainFor_of_name (by decide +kernel)) (by simp [lv_args, g_c1, g_ci, g_cL]) (by simp [lg_sl, g_c1, g_ci, g_cL]) (fun p e s m args below meth c hC => wb_X1_checksum hC ⟨Nat.le_refl _, Nat.le_refl _⟩ (fun pc lv v st1 cb sb hd hq => j_lreturn hC rfl hd (g_lvv hq)) hvc)
abbrev wp_X1_isSign (l : Launch) (E : g_E) (mc ms : Nat) (av : List Value) (st : g_St) (Q : Int32 → g_St → Prop) : Prop := g_WPi l E yX1_isSign cX1_isSign 1 (some .boolean) 1 40 mc ms av st Q
def vc_X1_isSign (l : Launch) (E : g_E) (p0 : Int32) (st : g_St) (Q : Int32 → g_St → Prop) : Prop :=
  g_jn1 (fun (K2 : Int32 → Prop) => g_jn0 (fun (K4 : Prop) => (p0 < (nI 97) → K4) ∧ (¬ p0 < (nI 97) → ((nI 103) ≤ p0 → K4) ∧ (¬ (nI 103) ≤ p0 → K2 (nI 1)))) (K2 (nI 0))) (fun (x1 : Int32) => narrow .boolean (.int x1) = .int x1 ∧ Q x1 st)
set_option maxHeartbeats 4000000 in
theorem wb_X1_isSign {p : Program} {l : Launch} {e : Env} {R : Room} {s : State} {m : MethodId} {args : Array Value} {below : List Frame} {meth : Method} {c : Code} {E : g_E} {st0 : g_St} {Z : State → Prop} (hC : g_Cx p s m args meth c cX1_isSign 1 "Stemspan" (some .boolean) "isSign" E st0) (hR : g_Rm 1 40 R) {p0 : Int32} {st : g_St} {cb sb : Nat} {Q : Int32 → g_St → Prop} (hret : ∀ (pc : Nat) (lv : List (Nat × Value)) (v : Int32) (st1 : g_St) (cb sb : Nat), decode cX1_isSign pc = .ok (.ireturn, 1) → narrow .boolean (.int v) = .int v → Q v st1 → g_J p l e R s m args below meth c 1 E st0 Z pc lv [.int v] st1 cb sb) (hvc : vc_X1_isSign l E p0 st Q) : g_J p l e R s m args below meth c 1 E st0 Z 0 [(0, .int p0)] [] st cb sb := by
  unfold vc_X1_isSign at hvc
  refine j_iload_n hC dX1_isSign_0 rfl 0 rfl ?_
  refine j_bipush hC (nI 97) dX1_isSign_1 rfl ?_
  replace hvc := g_jn1_o hvc
  obtain ⟨K2, hK9, hvc⟩ := hvc
  have kh3 : ∀ (x1 : Int32), K2 x1 → g_J p l e R s m args below meth c 1 E st0 Z 17 [] [.int x1] st cb sb := by
    clear hvc
    intro x1 hvc
    replace hvc := hK9 _ hvc
    exact hret _ _ _ _ _ _ dX1_isSign_17 hvc.1 hvc.2
  replace hvc := g_jn0_o hvc
  obtain ⟨K4, hK8, hvc⟩ := hvc
  have kh5 : K4 → g_J p l e R s m args below meth c 1 E st0 Z 16 [] [] st cb sb := by
    clear hvc
    intro hvc
    replace hvc := hK8 hvc
    refine j_iconst hC (nI 0) dX1_isSign_16 rfl ?_
    exact j_sub [] rfl (kh3 (nI 0) hvc)
  refine j_icmp_lt (tgt := 16) hC dX1_isSign_3 rfl (fun c6 => ?_) (fun c6 => ?_)
  · replace hvc := hvc.1 c6
    exact j_sub [] rfl (kh5 hvc)
  · replace hvc := hvc.2 c6
    refine j_iload_n hC dX1_isSign_6 rfl 0 rfl ?_
    refine j_bipush hC (nI 103) dX1_isSign_7 rfl ?_
    refine j_icmp_ge (tgt := 16) hC dX1_isSign_9 rfl (fun c7 => ?_) (fun c7 => ?_)
    · replace hvc := hvc.1 c7
      exact j_sub [] rfl (kh5 hvc)
    · replace hvc := hvc.2 c7
      refine j_iconst hC (nI 1) dX1_isSign_12 rfl ?_
      refine j_goto (tgt := 17) hC dX1_isSign_13 rfl ?_
      exact j_sub [] rfl (kh3 (nI 1) hvc)
theorem wk_X1_isSign {l : Launch} {E : g_E} {p0 : Int32} {st : g_St} {mc ms : Nat} {Q : Int32 → g_St → Prop} (hvc : vc_X1_isSign l E p0 st Q) : wp_X1_isSign l E mc ms [.int p0] st Q :=
  g_enter (lv0 := [(0, .int p0)]) (plainFor_of_name (by decide +kernel)) (by simp [lv_args, g_c1, g_ci, g_cL]) (by simp [lg_sl, g_c1, g_ci, g_cL]) (fun p e s m args below meth c hC => wb_X1_isSign hC ⟨Nat.le_refl _, Nat.le_refl _⟩ (fun pc lv v st1 cb sb hd hn hq => j_ireturn hC rfl hn hd (g_iv hq)) hvc)
abbrev wp_X1_type (l : Launch) (E : g_E) (mc ms : Nat) (av : List Value) (st : g_St) (Q : Int32 → g_St → Prop) : Prop := g_WPi l E yX1_type cX1_type 2 (some .int) 6 152 mc ms av st Q
def vc_X1_type (l : Launch) (E : g_E) (a0 : Nat) (p0 : Int32) (st : g_St) (cb sb : Nat) (Q : Int32 → g_St → Prop) (X : String → g_St → Prop) : Prop :=
  wp_X1_isSign l E 0 0 [.int p0] st (fun x1 stx => stx = st ∧ (¬ x1 = 0 → ∃ o3 : Option Nat, g_gr st a0 15 0 o3 ∧ ∃ a4 : Nat, o3 = some a4 ∧ g_is st a4 0 ∧ wp_J1_length l E 0 0 [va_rf (some a4)] st (fun x5 stx => stx = st ∧ (¬ x5 = (nI 24) → ∃ o7 : Option Nat, g_gr st a0 15 0 o7 ∧ ∃ a8 : Nat, o7 = some a8 ∧ ∃ mc11 ms12 : Nat, mc11 ≤ cb ∧ ms12 ≤ sb ∧ g_is st a8 0 ∧ wp_J1_append_3 l E mc11 ms12 [va_rf (some a8), .int p0] st (fun o9 st10 => g_Ext st st10 → ∃ o13 : Option Nat, g_gr st10 a0 15 0 o13 ∧ ∃ a14 : Nat, o13 = some a14 ∧ g_is st10 a14 0 ∧ wp_J1_length l E 0 0 [va_rf (some a14)] st10 (fun x15 stx => stx = st10 ∧ Q x15 st10))) ∧ (x5 = (nI 24) → 1 ≤ cb ∧ 6 ≤ sb ∧ X "java/lang/IllegalStateException" st))) ∧ (x1 = 0 → 1 ≤ cb ∧ 6 ≤ sb ∧ X "java/lang/IllegalArgumentException" st))
set_option maxHeartbeats 4000000 in
theorem wb_X1_type {p : Program} {l : Launch} {e : Env} {R : Room} {s : State} {m : MethodId} {args : Array Value} {below : List Frame} {meth : Method} {c : Code} {E : g_E} {st0 : g_St} {Z : State → Prop} (hC : g_Cx p s m args meth c cX1_type 2 "Stemspan" (some .int) "type" E st0) (hR : g_Rm 6 152 R) {a0 : Nat} {p0 : Int32} {st : g_St} {cb sb : Nat} {Q : Int32 → g_St → Prop} {X : String → g_St → Prop} (hret : ∀ (pc : Nat) (lv : List (Nat × Value)) (v : Int32) (st1 : g_St) (cb sb : Nat), decode cX1_type pc = .ok (.ireturn, 1) → narrow .int (.int v) = .int v → Q v st1 → g_J p l e R s m args below meth c 2 E st0 Z pc lv [.int v] st1 cb sb) (hthr_7 : ∀ (lv : List (Nat × Value)) (st1 : g_St) (cb sb : Nat), 1 ≤ cb → 6 ≤ sb → X "java/lang/IllegalArgumentException" st1 → g_J p l e R s m args below meth c 2 E st0 Z 7 lv [] st1 cb sb) (hthr_27 : ∀ (lv : List (Nat × Value)) (st1 : g_St) (cb sb : Nat), 1 ≤ cb → 6 ≤ sb → X "java/lang/IllegalStateException" st1 → g_J p l e R s m args below meth c 2 E st0 Z 27 lv [] st1 cb sb) (hvc : vc_X1_type l E a0 p0 st cb sb Q X) : g_J p l e R s m args below meth c 2 E st0 Z 0 [(0, va_rf (some a0)), (1, .int p0)] [] st cb sb := by
  unfold vc_X1_type at hvc
  refine j_iload_n hC dX1_type_0 rfl 1 rfl ?_
  refine j_callS (As := [.int p0]) (rest := []) (n := 1) hC hvc (lw_S q1728 q1729 q41 q1730) (by decide +kernel) (g_rm hR rfl rfl) rfl rfl (g_sum rfl) dX1_type_1 (Nat.zero_le _) (Nat.zero_le _) (g_Kip fun x1 hv2 => ?_)
  replace hvc := hv2; clear hv2
  refine j_if_ne (tgt := 15) hC dX1_type_4 rfl (fun c2 => ?_) (fun c2 => ?_)
  · replace hvc := hvc.1 c2
    refine j_aload_n hC dX1_type_15 rfl 0 rfl ?_
    obtain ⟨o3, ⟨fs, hr, hv⟩, hvc⟩ := hvc
    refine j_get hC fkX1_10_X1 dX1_type_16 hr hv ?_
    clear hv hr fs
    obtain ⟨a4, rfl, hvc⟩ := hvc
    obtain ⟨⟨fs, hr⟩, hvc⟩ := hvc
    refine j_callV (As := []) (rest := []) (n := 0) (ci := 0) hC hvc (lw_V q497 q416 q2451 q43 q417) (by decide +kernel) (g_rm hR rfl rfl) rfl hr rfl rfl (g_sum rfl) dX1_type_19 (Nat.zero_le _) (Nat.zero_le _) (g_Kip fun x5 hv2 => ?_)
    replace hvc := hv2; clear hv2
    clear hr fs
    refine j_bipush hC (nI 24) dX1_type_22 rfl ?_
    refine j_icmp_ne (tgt := 35) hC dX1_type_24 rfl (fun c6 => ?_) (fun c6 => ?_)
    · replace hvc := hvc.1 c6
      refine j_aload_n hC dX1_type_35 rfl 0 rfl ?_
      obtain ⟨o7, ⟨fs, hr, hv⟩, hvc⟩ := hvc
      refine j_get hC fkX1_10_X1 dX1_type_36 hr hv ?_
      clear hv hr fs
      refine j_iload_n hC dX1_type_39 rfl 1 rfl ?_
      obtain ⟨a8, rfl, hvc⟩ := hvc
      obtain ⟨mc11, ms12, h1, h2, hvc⟩ := hvc
      obtain ⟨⟨fs, hr⟩, hvc⟩ := hvc
      refine j_callV (As := [.int p0]) (rest := []) (n := 1) (ci := 0) hC hvc (lw_V q1171 q1172 q1173 q43 q1174) (by decide +kernel) (g_rm hR rfl rfl) rfl hr rfl rfl (g_sum rfl) dX1_type_40 h1 h2 (g_Ka fun o9 st10 hv2 hx => ?_)
      replace hvc := hv2 hx; clear hx hv2
      clear hr fs
      refine j_pop hC dX1_type_43 g_c1 ?_
      refine j_aload_n hC dX1_type_44 rfl 0 rfl ?_
      obtain ⟨o13, ⟨fs, hr, hv⟩, hvc⟩ := hvc
      refine j_get hC fkX1_10_X1 dX1_type_45 hr hv ?_
      clear hv hr fs
      obtain ⟨a14, rfl, hvc⟩ := hvc
      obtain ⟨⟨fs, hr⟩, hvc⟩ := hvc
      refine j_callV (As := []) (rest := []) (n := 0) (ci := 0) hC hvc (lw_V q497 q416 q2451 q43 q417) (by decide +kernel) (g_rm hR rfl rfl) rfl hr rfl rfl (g_sum rfl) dX1_type_48 (Nat.zero_le _) (Nat.zero_le _) (g_Kip fun x15 hv2 => ?_)
      replace hvc := hv2; clear hv2
      clear hr fs
      exact hret _ _ _ _ _ _ dX1_type_51 rfl hvc
    · replace hvc := hvc.2 c6
      exact hthr_27 _ _ _ _ hvc.1 hvc.2.1 hvc.2.2
  · replace hvc := hvc.2 c2
    exact hthr_7 _ _ _ _ hvc.1 hvc.2.1 hvc.2.2
theorem wk_X1_type {l : Launch} {E : g_E} {a0 : Nat} {p0 : Int32} {st : g_St} {mc ms : Nat} {Q : Int32 → g_St → Prop} (hvc : vc_X1_type l E a0 p0 st mc ms Q (fun _ _ => False)) : wp_X1_type l E mc ms [va_rf (some a0), .int p0] st Q :=
  g_enter (lv0 := [(0, va_rf (some a0)), (1, .int p0)]) (plainFor_of_name (by decide +kernel)) (by simp [lv_args, g_c1, g_ci, g_cL]) (by simp [lg_sl, g_c1, g_ci, g_cL]) (fun p e s m args below meth c hC => wb_X1_type hC ⟨Nat.le_refl _, Nat.le_refl _⟩ (fun pc lv v st1 cb sb hd hn hq => j_ireturn hC rfl hn hd (g_iv hq)) (fun _ _ _ _ _ _ h => h.elim) (fun _ _ _ _ _ _ h => h.elim) hvc)
abbrev wpx_X1_type (l : Launch) (E : g_E) (mc ms : Nat) (av : List Value) (st : g_St) (Q : Int32 → g_St → Prop) (X : String → g_St → Prop) : Prop := g_WPX l E yX1_type cX1_type 2 (some .int) 6 152 mc ms av st (fun v st' => ∃ r : Int32, v = some (.int r) ∧ Q r st') X
theorem wkx_X1_type {l : Launch} (hl : l.stackTraces = false) {E : g_E} {a0 : Nat} {p0 : Int32} {st : g_St} {mc ms : Nat} {Q : Int32 → g_St → Prop} {X : String → g_St → Prop} (hvc : vc_X1_type l E a0 p0 st mc ms Q X) : wpx_X1_type l E mc ms [va_rf (some a0), .int p0] st Q X :=
  g_enterX (lv0 := [(0, va_rf (some a0)), (1, .int p0)]) (by decide +kernel) (by simp [lv_args, g_c1, g_ci, g_cL]) (by simp [lg_sl, g_c1, g_ci, g_cL]) (fun p e s m args below meth c hC ht => wb_X1_type hC ⟨Nat.le_refl _, Nat.le_refl _⟩ (fun pc lv v st1 cb sb hd hn hq => j_xret (j_ireturn hC rfl hn hd (g_iv hq))) (fun lv st1 cb sb h1 h2 hx => j_throw0 hC hl ⟨by decide, by decide⟩ q1731 q54 g_thIAE g_toIAE ht dX1_type_7 dX1_type_10 dX1_type_11 dX1_type_14 (Nat.lt_of_lt_of_le (Nat.lt_succ_self _) (Nat.le_of_ble_eq_true rfl)) (Nat.le_of_ble_eq_true rfl) h1 h2 hx) (fun lv st1 cb sb h1 h2 hx => j_throw0 hC hl ⟨by decide, by decide⟩ q1736 q61 g_thISE g_toISE ht dX1_type_27 dX1_type_30 dX1_type_31 dX1_type_34 (Nat.lt_of_lt_of_le (Nat.lt_succ_self _) (Nat.le_of_ble_eq_true rfl)) (Nat.le_of_ble_eq_true rfl) h1 h2 hx) hvc)
abbrev wp_X1_typeMore (l : Launch) (E : g_E) (mc ms : Nat) (av : List Value) (st : g_St) (Q : Int32 → g_St → Prop) : Prop := g_WPi l E yX1_typeMore cX1_typeMore 5 (some .int) 6 152 mc ms av st Q
def vc_X1_typeMore (l : Launch) (E : g_E) (a0 : Nat) (p0 : Int32) (p1 : Int32) (st : g_St) (cb sb : Nat) (Q : Int32 → g_St → Prop) (X : String → g_St → Prop) : Prop :=
  g_jn0 (fun (K1 : Prop) => (p0 < (nI 1) → K1) ∧ (¬ p0 < (nI 1) → ((nI 8) < p0 → K1) ∧ (¬ (nI 8) < p0 → (p1 < 0 → K1) ∧ (¬ p1 < 0 → (p1 ≤ (nI 1679615) → ∃ o7 : Option Nat, g_gr st a0 15 0 o7 ∧ ∃ a8 : Nat, o7 = some a8 ∧ g_is st a8 0 ∧ wp_J1_length l E 0 0 [va_rf (some a8)] st (fun x9 stx => stx = st ∧ ((x9 + p0) ≤ (nI 24) → g_lp5 (fun (K16 : Int32 → Int32 → g_St → Nat → Nat → Prop) (x11 : Int32) (x12 : Int32) (st13 : g_St) (cb14 : Nat) (sb15 : Nat) => (p0 ≤ x12 → ∃ o20 : Option Nat, g_gr st13 a0 15 0 o20 ∧ ∃ a21 : Nat, o20 = some a21 ∧ g_is st13 a21 0 ∧ wp_J1_length l E 0 0 [va_rf (some a21)] st13 (fun x22 stx => stx = st13 ∧ Q x22 st13)) ∧ (¬ p0 ≤ x12 → ∃ o23 : Option Nat, g_gr st13 a0 15 0 o23 ∧ ∃ a24 : Nat, o23 = some a24 ∧ ∃ mc27 ms28 : Nat, mc27 ≤ cb14 ∧ ms28 ≤ sb15 ∧ g_is st13 a24 0 ∧ wp_J1_append_3 l E mc27 ms28 [va_rf (some a24), .int (((((nI 97) + (x11 - x11 / (nI 6) * (nI 6)))).toUInt32 % 65536).toInt32)] st13 (fun o25 st26 => g_Ext st13 st26 → K16 (x11 / (nI 6)) (x12 + (nI 1)) st26 (cb14 - mc27) (sb15 - ms28)))) p1 (nI 0) st cb sb) ∧ (¬ (x9 + p0) ≤ (nI 24) → 1 ≤ cb ∧ 6 ≤ sb ∧ X "java/lang/IllegalStateException" st))) ∧ (¬ p1 ≤ (nI 1679615) → K1))))) (1 ≤ cb ∧ 6 ≤ sb ∧ X "java/lang/IllegalArgumentException" st)
set_option maxHeartbeats 4000000 in
theorem wb_X1_typeMore {p : Program} {l : Launch} {e : Env} {R : Room} {s : State} {m : MethodId} {args : Array Value} {below : List Frame} {meth : Method} {c : Code} {E : g_E} {st0 : g_St} {Z : State → Prop} (hC : g_Cx p s m args meth c cX1_typeMore 5 "Stemspan" (some .int) "typeMore" E st0) (hR : g_Rm 6 152 R) {a0 : Nat} {p0 : Int32} {p1 : Int32} {st : g_St} {cb sb : Nat} {Q : Int32 → g_St → Prop} {X : String → g_St → Prop} (hret : ∀ (pc : Nat) (lv : List (Nat × Value)) (v : Int32) (st1 : g_St) (cb sb : Nat), decode cX1_typeMore pc = .ok (.ireturn, 1) → narrow .int (.int v) = .int v → Q v st1 → g_J p l e R s m args below meth c 5 E st0 Z pc lv [.int v] st1 cb sb) (hthr_21 : ∀ (lv : List (Nat × Value)) (st1 : g_St) (cb sb : Nat), 1 ≤ cb → 6 ≤ sb → X "java/lang/IllegalArgumentException" st1 → g_J p l e R s m args below meth c 5 E st0 Z 21 lv [] st1 cb sb) (hthr_43 : ∀ (lv : List (Nat × Value)) (st1 : g_St) (cb sb : Nat), 1 ≤ cb → 6 ≤ sb → X "java/lang/IllegalStateException" st1 → g_J p l e R s m args below meth c 5 E st0 Z 43 lv [] st1 cb sb) (hvc : vc_X1_typeMore l E a0 p0 p1 st cb sb Q X) : g_J p l e R s m args below meth c 5 E st0 Z 0 [(0, va_rf (some a0)), (1, .int p0), (2, .int p1)] [] st cb sb := by
  unfold vc_X1_typeMore at hvc
  refine j_iload_n hC dX1_typeMore_0 rfl 1 rfl ?_
  refine j_iconst hC (nI 1) dX1_typeMore_1 rfl ?_
  replace hvc := g_jn0_o hvc
  obtain ⟨K1, hK32, hvc⟩ := hvc
  have kh2 : K1 → g_J p l e R s m args below meth c 5 E st0 Z 21 [] [] st cb sb := by
    clear hvc
    intro hvc
    replace hvc := hK32 hvc
    exact hthr_21 _ _ _ _ hvc.1 hvc.2.1 hvc.2.2
  refine j_icmp_lt (tgt := 21) hC dX1_typeMore_2 rfl (fun c3 => ?_) (fun c3 => ?_)
  · replace hvc := hvc.1 c3
    exact j_sub [] rfl (kh2 hvc)
  · replace hvc := hvc.2 c3
    refine j_iload_n hC dX1_typeMore_5 rfl 1 rfl ?_
    refine j_bipush hC (nI 8) dX1_typeMore_6 rfl ?_
    refine j_icmp_gt (tgt := 21) hC dX1_typeMore_8 rfl (fun c4 => ?_) (fun c4 => ?_)
    · replace hvc := hvc.1 c4
      exact j_sub [] rfl (kh2 hvc)
    · replace hvc := hvc.2 c4
      refine j_iload_n hC dX1_typeMore_11 rfl 2 rfl ?_
      refine j_if_lt (tgt := 21) hC dX1_typeMore_12 rfl (fun c5 => ?_) (fun c5 => ?_)
      · replace hvc := hvc.1 c5
        exact j_sub [] rfl (kh2 hvc)
      · replace hvc := hvc.2 c5
        refine j_iload_n hC dX1_typeMore_15 rfl 2 rfl ?_
        refine j_ldc hC (nI 1679615) q1745 dX1_typeMore_16 ?_
        refine j_icmp_le (tgt := 29) hC dX1_typeMore_18 rfl (fun c6 => ?_) (fun c6 => ?_)
        · replace hvc := hvc.1 c6
          refine j_aload_n hC dX1_typeMore_29 rfl 0 rfl ?_
          obtain ⟨o7, ⟨fs, hr, hv⟩, hvc⟩ := hvc
          refine j_get hC fkX1_10_X1 dX1_typeMore_30 hr hv ?_
          clear hv hr fs
          obtain ⟨a8, rfl, hvc⟩ := hvc
          obtain ⟨⟨fs, hr⟩, hvc⟩ := hvc
          refine j_callV (As := []) (rest := []) (n := 0) (ci := 0) hC hvc (lw_V q497 q416 q2451 q43 q417) (by decide +kernel) (g_rm hR rfl rfl) rfl hr rfl rfl (g_sum rfl) dX1_typeMore_33 (Nat.zero_le _) (Nat.zero_le _) (g_Kip fun x9 hv2 => ?_)
          replace hvc := hv2; clear hv2
          clear hr fs
          refine j_iload_n hC dX1_typeMore_36 rfl 1 rfl ?_
          refine j_iadd hC dX1_typeMore_37 ?_
          refine j_bipush hC (nI 24) dX1_typeMore_38 rfl ?_
          refine j_icmp_le (tgt := 51) hC dX1_typeMore_40 rfl (fun c10 => ?_) (fun c10 => ?_)
          · replace hvc := hvc.1 c10
            refine j_iload_n hC dX1_typeMore_51 rfl 2 rfl ?_
            refine j_istore_n (lv0 := [(2, .int p1), (0, va_rf (some a0)), (1, .int p0)]) hC dX1_typeMore_52 rfl rfl [2, 0, 1] rfl (g_okS.h rfl rfl rfl) ?_
            refine j_iconst hC (nI 0) dX1_typeMore_53 rfl ?_
            refine j_istore (lv0 := [(3, .int p1), (2, .int p1), (0, va_rf (some a0)), (1, .int p0)]) hC dX1_typeMore_54 rfl [0, 1, 2, 3] rfl (g_okS.h rfl rfl rfl) ?_
            replace hvc := g_lp5_o hvc
            obtain ⟨K16, hz29, hs30, n31, hvc⟩ := hvc
            have kh17 : ∀ (n : Nat) (x11 : Int32) (x12 : Int32) (st13 : g_St) (cb14 : Nat) (sb15 : Nat), K16 n x11 x12 st13 cb14 sb15 → g_J p l e R s m args below meth c 5 E st0 Z 56 [(0, va_rf (some a0)), (1, .int p0), (3, .int x11), (4, .int x12)] [] st13 cb14 sb15 := by
              clear hvc
              intro n
              induction n with
              | zero => intro x11 x12 st13 cb14 sb15 hvc; exact absurd hvc (hz29 _ _ _ _ _)
              | succ n ih18 =>
                intro x11 x12 st13 cb14 sb15 hvc
                replace hvc := hs30 n _ _ _ _ _ hvc
                refine j_iload hC dX1_typeMore_56 3 rfl ?_
                refine j_iload_n hC dX1_typeMore_58 rfl 1 rfl ?_
                refine j_icmp_ge (tgt := 89) hC dX1_typeMore_59 rfl (fun c19 => ?_) (fun c19 => ?_)
                · replace hvc := hvc.1 c19
                  refine j_aload_n hC dX1_typeMore_89 rfl 0 rfl ?_
                  obtain ⟨o20, ⟨fs, hr, hv⟩, hvc⟩ := hvc
                  refine j_get hC fkX1_10_X1 dX1_typeMore_90 hr hv ?_
                  clear hv hr fs
                  obtain ⟨a21, rfl, hvc⟩ := hvc
                  obtain ⟨⟨fs, hr⟩, hvc⟩ := hvc
                  refine j_callV (As := []) (rest := []) (n := 0) (ci := 0) hC hvc (lw_V q497 q416 q2451 q43 q417) (by decide +kernel) (g_rm hR rfl rfl) rfl hr rfl rfl (g_sum rfl) dX1_typeMore_93 (Nat.zero_le _) (Nat.zero_le _) (g_Kip fun x22 hv2 => ?_)
                  replace hvc := hv2; clear hv2
                  clear hr fs
                  exact hret _ _ _ _ _ _ dX1_typeMore_96 rfl hvc
                · replace hvc := hvc.2 c19
                  refine j_aload_n hC dX1_typeMore_62 rfl 0 rfl ?_
                  obtain ⟨o23, ⟨fs, hr, hv⟩, hvc⟩ := hvc
                  refine j_get hC fkX1_10_X1 dX1_typeMore_63 hr hv ?_
                  clear hv hr fs
                  refine j_bipush hC (nI 97) dX1_typeMore_66 rfl ?_
                  refine j_iload_n hC dX1_typeMore_68 rfl 2 rfl ?_
                  refine j_bipush hC (nI 6) dX1_typeMore_69 rfl ?_
                  refine j_irem hC dX1_typeMore_71 (by decide) ?_
                  refine j_iadd hC dX1_typeMore_72 ?_
                  refine j_i2c hC dX1_typeMore_73 ?_
                  obtain ⟨a24, rfl, hvc⟩ := hvc
                  obtain ⟨mc27, ms28, h1, h2, hvc⟩ := hvc
                  obtain ⟨⟨fs, hr⟩, hvc⟩ := hvc
                  refine j_callV (As := [.int (((((nI 97) + (x11 - x11 / (nI 6) * (nI 6)))).toUInt32 % 65536).toInt32)]) (rest := []) (n := 1) (ci := 0) hC hvc (lw_V q1171 q1172 q1173 q43 q1174) (by decide +kernel) (g_rm hR rfl rfl) rfl hr rfl rfl (g_sum rfl) dX1_typeMore_74 h1 h2 (g_Ka fun o25 st26 hv2 hx => ?_)
                  replace hvc := hv2 hx; clear hx hv2
                  clear hr fs
                  refine j_pop hC dX1_typeMore_77 g_c1 ?_
                  refine j_iload_n hC dX1_typeMore_78 rfl 2 rfl ?_
                  refine j_bipush hC (nI 6) dX1_typeMore_79 rfl ?_
                  refine j_idiv hC dX1_typeMore_81 (by decide) ?_
                  refine j_istore_n (lv0 := [(0, va_rf (some a0)), (1, .int p0), (4, .int x12)]) hC dX1_typeMore_82 rfl rfl [0, 1, 3] rfl (g_okS.n rfl) ?_
                  refine j_iinc (lv0 := [(3, .int (x11 / (nI 6))), (0, va_rf (some a0)), (1, .int p0)]) hC (nI 1) dX1_typeMore_83 3 rfl rfl rfl [0, 1, 2] rfl (g_okS.h rfl rfl rfl) ?_
                  refine j_goto (tgt := 56) hC dX1_typeMore_86 rfl ?_
                  exact j_sub [2, 3, 1, 0] rfl (ih18 (x11 / (nI 6)) (x12 + (nI 1)) st26 (cb14 - mc27) (sb15 - ms28) hvc)
            exact j_sub [3, 4, 1, 0] rfl (kh17 n31 p1 (nI 0) st cb sb hvc)
          · replace hvc := hvc.2 c10
            exact hthr_43 _ _ _ _ hvc.1 hvc.2.1 hvc.2.2
        · replace hvc := hvc.2 c6
          exact j_sub [] rfl (kh2 hvc)
theorem wk_X1_typeMore {l : Launch} {E : g_E} {a0 : Nat} {p0 : Int32} {p1 : Int32} {st : g_St} {mc ms : Nat} {Q : Int32 → g_St → Prop} (hvc : vc_X1_typeMore l E a0 p0 p1 st mc ms Q (fun _ _ => False)) : wp_X1_typeMore l E mc ms [va_rf (some a0), .int p0, .int p1] st Q :=
  g_enter (lv0 := [(0, va_rf (some a0)), (1, .int p0), (2, .int p1)]) (plainFor_of_name (by decide +kernel)) (by simp [lv_args, g_c1, g_ci, g_cL]) (by simp [lg_sl, g_c1, g_ci, g_cL]) (fun p e s m args below meth c hC => wb_X1_typeMore hC ⟨Nat.le_refl _, Nat.le_refl _⟩ (fun pc lv v st1 cb sb hd hn hq => j_ireturn hC rfl hn hd (g_iv hq)) (fun _ _ _ _ _ _ h => h.elim) (fun _ _ _ _ _ _ h => h.elim) hvc)
abbrev wpx_X1_typeMore (l : Launch) (E : g_E) (mc ms : Nat) (av : List Value) (st : g_St) (Q : Int32 → g_St → Prop) (X : String → g_St → Prop) : Prop := g_WPX l E yX1_typeMore cX1_typeMore 5 (some .int) 6 152 mc ms av st (fun v st' => ∃ r : Int32, v = some (.int r) ∧ Q r st') X
theorem wkx_X1_typeMore {l : Launch} (hl : l.stackTraces = false) {E : g_E} {a0 : Nat} {p0 : Int32} {p1 : Int32} {st : g_St} {mc ms : Nat} {Q : Int32 → g_St → Prop} {X : String → g_St → Prop} (hvc : vc_X1_typeMore l E a0 p0 p1 st mc ms Q X) : wpx_X1_typeMore l E mc ms [va_rf (some a0), .int p0, .int p1] st Q X :=
  g_enterX (lv0 := [(0, va_rf (some a0)), (1, .int p0), (2, .int p1)]) (by decide +kernel) (by simp [lv_args, g_c1, g_ci, g_cL]) (by simp [lg_sl, g_c1, g_ci, g_cL]) (fun p e s m args below meth c hC ht => wb_X1_typeMore hC ⟨Nat.le_refl _, Nat.le_refl _⟩ (fun pc lv v st1 cb sb hd hn hq => j_xret (j_ireturn hC rfl hn hd (g_iv hq))) (fun lv st1 cb sb h1 h2 hx => j_throw0 hC hl ⟨by decide, by decide⟩ q1731 q54 g_thIAE g_toIAE ht dX1_typeMore_21 dX1_typeMore_24 dX1_typeMore_25 dX1_typeMore_28 (Nat.lt_of_lt_of_le (Nat.lt_succ_self _) (Nat.le_of_ble_eq_true rfl)) (Nat.le_of_ble_eq_true rfl) h1 h2 hx) (fun lv st1 cb sb h1 h2 hx => j_throw0 hC hl ⟨by decide, by decide⟩ q1736 q61 g_thISE g_toISE ht dX1_typeMore_43 dX1_typeMore_46 dX1_typeMore_47 dX1_typeMore_50 (Nat.lt_of_lt_of_le (Nat.lt_succ_self _) (Nat.le_of_ble_eq_true rfl)) (Nat.le_of_ble_eq_true rfl) h1 h2 hx) hvc)
abbrev wp_X1_typeAt (l : Launch) (E : g_E) (mc ms : Nat) (av : List Value) (st : g_St) (Q : Int32 → g_St → Prop) : Prop := g_WPi l E yX1_typeAt cX1_typeAt 3 (some .int) 6 154 mc ms av st Q
def vc_X1_typeAt (l : Launch) (E : g_E) (a0 : Nat) (p0 : Int32) (p1 : Int32) (st : g_St) (cb sb : Nat) (Q : Int32 → g_St → Prop) (X : String → g_St → Prop) : Prop :=
  g_jn0 (fun (K1 : Prop) => (p0 < 0 → K1) ∧ (¬ p0 < 0 → ∃ o4 : Option Nat, g_gr st a0 15 0 o4 ∧ ∃ a5 : Nat, o4 = some a5 ∧ g_is st a5 0 ∧ wp_J1_length l E 0 0 [va_rf (some a5)] st (fun x6 stx => stx = st ∧ (p0 ≤ x6 → wp_X1_isSign l E 0 0 [.int p1] st (fun x8 stx => stx = st ∧ (¬ x8 = 0 → ∃ o10 : Option Nat, g_gr st a0 15 0 o10 ∧ ∃ a11 : Nat, o10 = some a11 ∧ g_is st a11 0 ∧ wp_J1_length l E 0 0 [va_rf (some a11)] st (fun x12 stx => stx = st ∧ (¬ x12 = (nI 24) → ∃ o14 : Option Nat, g_gr st a0 15 0 o14 ∧ ∃ a15 : Nat, o14 = some a15 ∧ ∃ mc18 ms19 : Nat, mc18 ≤ cb ∧ ms19 ≤ sb ∧ g_is st a15 0 ∧ wp_J1_insert l E mc18 ms19 [va_rf (some a15), .int p0, .int p1] st (fun o16 st17 => g_Ext st st17 → ∃ o20 : Option Nat, g_gr st17 a0 15 0 o20 ∧ ∃ a21 : Nat, o20 = some a21 ∧ g_is st17 a21 0 ∧ wp_J1_length l E 0 0 [va_rf (some a21)] st17 (fun x22 stx => stx = st17 ∧ Q x22 st17))) ∧ (x12 = (nI 24) → 1 ≤ cb ∧ 6 ≤ sb ∧ X "java/lang/IllegalStateException" st))) ∧ (x8 = 0 → 1 ≤ cb ∧ 6 ≤ sb ∧ X "java/lang/IllegalArgumentException" st))) ∧ (¬ p0 ≤ x6 → K1)))) (1 ≤ cb ∧ 6 ≤ sb ∧ X "java/lang/IndexOutOfBoundsException" st)
set_option maxHeartbeats 4000000 in
theorem wb_X1_typeAt {p : Program} {l : Launch} {e : Env} {R : Room} {s : State} {m : MethodId} {args : Array Value} {below : List Frame} {meth : Method} {c : Code} {E : g_E} {st0 : g_St} {Z : State → Prop} (hC : g_Cx p s m args meth c cX1_typeAt 3 "Stemspan" (some .int) "typeAt" E st0) (hR : g_Rm 6 154 R) {a0 : Nat} {p0 : Int32} {p1 : Int32} {st : g_St} {cb sb : Nat} {Q : Int32 → g_St → Prop} {X : String → g_St → Prop} (hret : ∀ (pc : Nat) (lv : List (Nat × Value)) (v : Int32) (st1 : g_St) (cb sb : Nat), decode cX1_typeAt pc = .ok (.ireturn, 1) → narrow .int (.int v) = .int v → Q v st1 → g_J p l e R s m args below meth c 3 E st0 Z pc lv [.int v] st1 cb sb) (hthr_15 : ∀ (lv : List (Nat × Value)) (st1 : g_St) (cb sb : Nat), 1 ≤ cb → 6 ≤ sb → X "java/lang/IndexOutOfBoundsException" st1 → g_J p l e R s m args below meth c 3 E st0 Z 15 lv [] st1 cb sb) (hthr_30 : ∀ (lv : List (Nat × Value)) (st1 : g_St) (cb sb : Nat), 1 ≤ cb → 6 ≤ sb → X "java/lang/IllegalArgumentException" st1 → g_J p l e R s m args below meth c 3 E st0 Z 30 lv [] st1 cb sb) (hthr_50 : ∀ (lv : List (Nat × Value)) (st1 : g_St) (cb sb : Nat), 1 ≤ cb → 6 ≤ sb → X "java/lang/IllegalStateException" st1 → g_J p l e R s m args below meth c 3 E st0 Z 50 lv [] st1 cb sb) (hvc : vc_X1_typeAt l E a0 p0 p1 st cb sb Q X) : g_J p l e R s m args below meth c 3 E st0 Z 0 [(0, va_rf (some a0)), (1, .int p0), (2, .int p1)] [] st cb sb := by
  unfold vc_X1_typeAt at hvc
  refine j_iload_n hC dX1_typeAt_0 rfl 1 rfl ?_
  replace hvc := g_jn0_o hvc
  obtain ⟨K1, hK23, hvc⟩ := hvc
  have kh2 : K1 → g_J p l e R s m args below meth c 3 E st0 Z 15 [] [] st cb sb := by
    clear hvc
    intro hvc
    replace hvc := hK23 hvc
    exact hthr_15 _ _ _ _ hvc.1 hvc.2.1 hvc.2.2
  refine j_if_lt (tgt := 15) hC dX1_typeAt_1 rfl (fun c3 => ?_) (fun c3 => ?_)
  · replace hvc := hvc.1 c3
    exact j_sub [] rfl (kh2 hvc)
  · replace hvc := hvc.2 c3
    refine j_iload_n hC dX1_typeAt_4 rfl 1 rfl ?_
    refine j_aload_n hC dX1_typeAt_5 rfl 0 rfl ?_
    obtain ⟨o4, ⟨fs, hr, hv⟩, hvc⟩ := hvc
    refine j_get hC fkX1_10_X1 dX1_typeAt_6 hr hv ?_
    clear hv hr fs
    obtain ⟨a5, rfl, hvc⟩ := hvc
    obtain ⟨⟨fs, hr⟩, hvc⟩ := hvc
    refine j_callV (As := []) (rest := [.int p0]) (n := 0) (ci := 0) hC hvc (lw_V q497 q416 q2451 q43 q417) (by decide +kernel) (g_rm hR rfl rfl) rfl hr rfl rfl (g_sum rfl) dX1_typeAt_9 (Nat.zero_le _) (Nat.zero_le _) (g_Kip fun x6 hv2 => ?_)
    replace hvc := hv2; clear hv2
    clear hr fs
    refine j_icmp_le (tgt := 23) hC dX1_typeAt_12 rfl (fun c7 => ?_) (fun c7 => ?_)
    · replace hvc := hvc.1 c7
      refine j_iload_n hC dX1_typeAt_23 rfl 2 rfl ?_
      refine j_callS (As := [.int p1]) (rest := []) (n := 1) hC hvc (lw_S q1728 q1729 q41 q1730) (by decide +kernel) (g_rm hR rfl rfl) rfl rfl (g_sum rfl) dX1_typeAt_24 (Nat.zero_le _) (Nat.zero_le _) (g_Kip fun x8 hv2 => ?_)
      replace hvc := hv2; clear hv2
      refine j_if_ne (tgt := 38) hC dX1_typeAt_27 rfl (fun c9 => ?_) (fun c9 => ?_)
      · replace hvc := hvc.1 c9
        refine j_aload_n hC dX1_typeAt_38 rfl 0 rfl ?_
        obtain ⟨o10, ⟨fs, hr, hv⟩, hvc⟩ := hvc
        refine j_get hC fkX1_10_X1 dX1_typeAt_39 hr hv ?_
        clear hv hr fs
        obtain ⟨a11, rfl, hvc⟩ := hvc
        obtain ⟨⟨fs, hr⟩, hvc⟩ := hvc
        refine j_callV (As := []) (rest := []) (n := 0) (ci := 0) hC hvc (lw_V q497 q416 q2451 q43 q417) (by decide +kernel) (g_rm hR rfl rfl) rfl hr rfl rfl (g_sum rfl) dX1_typeAt_42 (Nat.zero_le _) (Nat.zero_le _) (g_Kip fun x12 hv2 => ?_)
        replace hvc := hv2; clear hv2
        clear hr fs
        refine j_bipush hC (nI 24) dX1_typeAt_45 rfl ?_
        refine j_icmp_ne (tgt := 58) hC dX1_typeAt_47 rfl (fun c13 => ?_) (fun c13 => ?_)
        · replace hvc := hvc.1 c13
          refine j_aload_n hC dX1_typeAt_58 rfl 0 rfl ?_
          obtain ⟨o14, ⟨fs, hr, hv⟩, hvc⟩ := hvc
          refine j_get hC fkX1_10_X1 dX1_typeAt_59 hr hv ?_
          clear hv hr fs
          refine j_iload_n hC dX1_typeAt_62 rfl 1 rfl ?_
          refine j_iload_n hC dX1_typeAt_63 rfl 2 rfl ?_
          obtain ⟨a15, rfl, hvc⟩ := hvc
          obtain ⟨mc18, ms19, h1, h2, hvc⟩ := hvc
          obtain ⟨⟨fs, hr⟩, hvc⟩ := hvc
          refine j_callV (As := [.int p0, .int p1]) (rest := []) (n := 2) (ci := 0) hC hvc (lw_V q1771 q1772 q1773 q43 q1774) (by decide +kernel) (g_rm hR rfl rfl) rfl hr rfl rfl (g_sum rfl) dX1_typeAt_64 h1 h2 (g_Ka fun o16 st17 hv2 hx => ?_)
          replace hvc := hv2 hx; clear hx hv2
          clear hr fs
          refine j_pop hC dX1_typeAt_67 g_c1 ?_
          refine j_aload_n hC dX1_typeAt_68 rfl 0 rfl ?_
          obtain ⟨o20, ⟨fs, hr, hv⟩, hvc⟩ := hvc
          refine j_get hC fkX1_10_X1 dX1_typeAt_69 hr hv ?_
          clear hv hr fs
          obtain ⟨a21, rfl, hvc⟩ := hvc
          obtain ⟨⟨fs, hr⟩, hvc⟩ := hvc
          refine j_callV (As := []) (rest := []) (n := 0) (ci := 0) hC hvc (lw_V q497 q416 q2451 q43 q417) (by decide +kernel) (g_rm hR rfl rfl) rfl hr rfl rfl (g_sum rfl) dX1_typeAt_72 (Nat.zero_le _) (Nat.zero_le _) (g_Kip fun x22 hv2 => ?_)
          replace hvc := hv2; clear hv2
          clear hr fs
          exact hret _ _ _ _ _ _ dX1_typeAt_75 rfl hvc
        · replace hvc := hvc.2 c13
          exact hthr_50 _ _ _ _ hvc.1 hvc.2.1 hvc.2.2
      · replace hvc := hvc.2 c9
        exact hthr_30 _ _ _ _ hvc.1 hvc.2.1 hvc.2.2
    · replace hvc := hvc.2 c7
      exact j_sub [] rfl (kh2 hvc)
theorem wk_X1_typeAt {l : Launch} {E : g_E} {a0 : Nat} {p0 : Int32} {p1 : Int32} {st : g_St} {mc ms : Nat} {Q : Int32 → g_St → Prop} (hvc : vc_X1_typeAt l E a0 p0 p1 st mc ms Q (fun _ _ => False)) : wp_X1_typeAt l E mc ms [va_rf (some a0), .int p0, .int p1] st Q :=
  g_enter (lv0 := [(0, va_rf (some a0)), (1, .int p0), (2, .int p1)]) (plainFor_of_name (by decide +kernel)) (by simp [lv_args, g_c1, g_ci, g_cL]) (by simp [lg_sl, g_c1, g_ci, g_cL]) (fun p e s m args below meth c hC => wb_X1_typeAt hC ⟨Nat.le_refl _, Nat.le_refl _⟩ (fun pc lv v st1 cb sb hd hn hq => j_ireturn hC rfl hn hd (g_iv hq)) (fun _ _ _ _ _ _ h => h.elim) (fun _ _ _ _ _ _ h => h.elim) (fun _ _ _ _ _ _ h => h.elim) hvc)
abbrev wpx_X1_typeAt (l : Launch) (E : g_E) (mc ms : Nat) (av : List Value) (st : g_St) (Q : Int32 → g_St → Prop) (X : String → g_St → Prop) : Prop := g_WPX l E yX1_typeAt cX1_typeAt 3 (some .int) 6 154 mc ms av st (fun v st' => ∃ r : Int32, v = some (.int r) ∧ Q r st') X
theorem wkx_X1_typeAt {l : Launch} (hl : l.stackTraces = false) {E : g_E} {a0 : Nat} {p0 : Int32} {p1 : Int32} {st : g_St} {mc ms : Nat} {Q : Int32 → g_St → Prop} {X : String → g_St → Prop} (hvc : vc_X1_typeAt l E a0 p0 p1 st mc ms Q X) : wpx_X1_typeAt l E mc ms [va_rf (some a0), .int p0, .int p1] st Q X :=
  g_enterX (lv0 := [(0, va_rf (some a0)), (1, .int p0), (2, .int p1)]) (by decide +kernel) (by simp [lv_args, g_c1, g_ci, g_cL]) (by simp [lg_sl, g_c1, g_ci, g_cL]) (fun p e s m args below meth c hC ht => wb_X1_typeAt hC ⟨Nat.le_refl _, Nat.le_refl _⟩ (fun pc lv v st1 cb sb hd hn hq => j_xret (j_ireturn hC rfl hn hd (g_iv hq))) (fun lv st1 cb sb h1 h2 hx => j_throw0 hC hl ⟨by decide, by decide⟩ q1756 q62 g_thIOB g_toIOB ht dX1_typeAt_15 dX1_typeAt_18 dX1_typeAt_19 dX1_typeAt_22 (Nat.lt_of_lt_of_le (Nat.lt_succ_self _) (Nat.le_of_ble_eq_true rfl)) (Nat.le_of_ble_eq_true rfl) h1 h2 hx) (fun lv st1 cb sb h1 h2 hx => j_throw0 hC hl ⟨by decide, by decide⟩ q1731 q54 g_thIAE g_toIAE ht dX1_typeAt_30 dX1_typeAt_33 dX1_typeAt_34 dX1_typeAt_37 (Nat.lt_of_lt_of_le (Nat.lt_succ_self _) (Nat.le_of_ble_eq_true rfl)) (Nat.le_of_ble_eq_true rfl) h1 h2 hx) (fun lv st1 cb sb h1 h2 hx => j_throw0 hC hl ⟨by decide, by decide⟩ q1736 q61 g_thISE g_toISE ht dX1_typeAt_50 dX1_typeAt_53 dX1_typeAt_54 dX1_typeAt_57 (Nat.lt_of_lt_of_le (Nat.lt_succ_self _) (Nat.le_of_ble_eq_true rfl)) (Nat.le_of_ble_eq_true rfl) h1 h2 hx) hvc)
abbrev wp_X1_drop (l : Launch) (E : g_E) (mc ms : Nat) (av : List Value) (st : g_St) (Q : Int32 → g_St → Prop) : Prop := g_WPi l E yX1_drop cX1_drop 1 (some .int) 6 125 mc ms av st Q
def vc_X1_drop (l : Launch) (E : g_E) (a0 : Nat) (st : g_St) (cb sb : Nat) (Q : Int32 → g_St → Prop) (X : String → g_St → Prop) : Prop :=
  ∃ o1 : Option Nat, g_gr st a0 15 0 o1 ∧ ∃ a2 : Nat, o1 = some a2 ∧ g_is st a2 0 ∧ wp_J1_length l E 0 0 [va_rf (some a2)] st (fun x3 stx => stx = st ∧ (¬ x3 = 0 → ∃ o5 : Option Nat, g_gr st a0 15 0 o5 ∧ ∃ o6 : Option Nat, g_gr st a0 15 0 o6 ∧ ∃ a7 : Nat, o6 = some a7 ∧ g_is st a7 0 ∧ wp_J1_length l E 0 0 [va_rf (some a7)] st (fun x8 stx => stx = st ∧ ∃ a9 : Nat, o5 = some a9 ∧ g_is st a9 0 ∧ wp_J1_deleteCharAt l E 0 0 [va_rf (some a9), .int (x8 - (nI 1))] st (fun o10 st11 => g_Ext st st11 → ∃ o12 : Option Nat, g_gr st11 a0 15 0 o12 ∧ ∃ a13 : Nat, o12 = some a13 ∧ g_is st11 a13 0 ∧ wp_J1_length l E 0 0 [va_rf (some a13)] st11 (fun x14 stx => stx = st11 ∧ Q x14 st11)))) ∧ (x3 = 0 → 1 ≤ cb ∧ 6 ≤ sb ∧ X "java/util/NoSuchElementException" st))
set_option maxHeartbeats 4000000 in
theorem wb_X1_drop {p : Program} {l : Launch} {e : Env} {R : Room} {s : State} {m : MethodId} {args : Array Value} {below : List Frame} {meth : Method} {c : Code} {E : g_E} {st0 : g_St} {Z : State → Prop} (hC : g_Cx p s m args meth c cX1_drop 1 "Stemspan" (some .int) "drop" E st0) (hR : g_Rm 6 125 R) {a0 : Nat} {st : g_St} {cb sb : Nat} {Q : Int32 → g_St → Prop} {X : String → g_St → Prop} (hret : ∀ (pc : Nat) (lv : List (Nat × Value)) (v : Int32) (st1 : g_St) (cb sb : Nat), decode cX1_drop pc = .ok (.ireturn, 1) → narrow .int (.int v) = .int v → Q v st1 → g_J p l e R s m args below meth c 1 E st0 Z pc lv [.int v] st1 cb sb) (hthr_10 : ∀ (lv : List (Nat × Value)) (st1 : g_St) (cb sb : Nat), 1 ≤ cb → 6 ≤ sb → X "java/util/NoSuchElementException" st1 → g_J p l e R s m args below meth c 1 E st0 Z 10 lv [] st1 cb sb) (hvc : vc_X1_drop l E a0 st cb sb Q X) : g_J p l e R s m args below meth c 1 E st0 Z 0 [(0, va_rf (some a0))] [] st cb sb := by
  unfold vc_X1_drop at hvc
  refine j_aload_n hC dX1_drop_0 rfl 0 rfl ?_
  obtain ⟨o1, ⟨fs, hr, hv⟩, hvc⟩ := hvc
  refine j_get hC fkX1_10_X1 dX1_drop_1 hr hv ?_
  clear hv hr fs
  obtain ⟨a2, rfl, hvc⟩ := hvc
  obtain ⟨⟨fs, hr⟩, hvc⟩ := hvc
  refine j_callV (As := []) (rest := []) (n := 0) (ci := 0) hC hvc (lw_V q497 q416 q2451 q43 q417) (by decide +kernel) (g_rm hR rfl rfl) rfl hr rfl rfl (g_sum rfl) dX1_drop_4 (Nat.zero_le _) (Nat.zero_le _) (g_Kip fun x3 hv2 => ?_)
  replace hvc := hv2; clear hv2
  clear hr fs
  refine j_if_ne (tgt := 18) hC dX1_drop_7 rfl (fun c4 => ?_) (fun c4 => ?_)
  · replace hvc := hvc.1 c4
    refine j_aload_n hC dX1_drop_18 rfl 0 rfl ?_
    obtain ⟨o5, ⟨fs, hr, hv⟩, hvc⟩ := hvc
    refine j_get hC fkX1_10_X1 dX1_drop_19 hr hv ?_
    clear hv hr fs
    refine j_aload_n hC dX1_drop_22 rfl 0 rfl ?_
    obtain ⟨o6, ⟨fs, hr, hv⟩, hvc⟩ := hvc
    refine j_get hC fkX1_10_X1 dX1_drop_23 hr hv ?_
    clear hv hr fs
    obtain ⟨a7, rfl, hvc⟩ := hvc
    obtain ⟨⟨fs, hr⟩, hvc⟩ := hvc
    refine j_callV (As := []) (rest := [va_rf o5]) (n := 0) (ci := 0) hC hvc (lw_V q497 q416 q2451 q43 q417) (by decide +kernel) (g_rm hR rfl rfl) rfl hr rfl rfl (g_sum rfl) dX1_drop_26 (Nat.zero_le _) (Nat.zero_le _) (g_Kip fun x8 hv2 => ?_)
    replace hvc := hv2; clear hv2
    clear hr fs
    refine j_iconst hC (nI 1) dX1_drop_29 rfl ?_
    refine j_isub hC dX1_drop_30 ?_
    obtain ⟨a9, rfl, hvc⟩ := hvc
    obtain ⟨⟨fs, hr⟩, hvc⟩ := hvc
    refine j_callV (As := [.int (x8 - (nI 1))]) (rest := []) (n := 1) (ci := 0) hC hvc (lw_V q1792 q1793 q1794 q43 q1795) (by decide +kernel) (g_rm hR rfl rfl) rfl hr rfl rfl (g_sum rfl) dX1_drop_31 (Nat.zero_le _) (Nat.zero_le _) (g_Ka fun o10 st11 hv2 hx => ?_)
    replace hvc := hv2 hx; clear hx hv2
    clear hr fs
    refine j_pop hC dX1_drop_34 g_c1 ?_
    refine j_aload_n hC dX1_drop_35 rfl 0 rfl ?_
    obtain ⟨o12, ⟨fs, hr, hv⟩, hvc⟩ := hvc
    refine j_get hC fkX1_10_X1 dX1_drop_36 hr hv ?_
    clear hv hr fs
    obtain ⟨a13, rfl, hvc⟩ := hvc
    obtain ⟨⟨fs, hr⟩, hvc⟩ := hvc
    refine j_callV (As := []) (rest := []) (n := 0) (ci := 0) hC hvc (lw_V q497 q416 q2451 q43 q417) (by decide +kernel) (g_rm hR rfl rfl) rfl hr rfl rfl (g_sum rfl) dX1_drop_39 (Nat.zero_le _) (Nat.zero_le _) (g_Kip fun x14 hv2 => ?_)
    replace hvc := hv2; clear hv2
    clear hr fs
    exact hret _ _ _ _ _ _ dX1_drop_42 rfl hvc
  · replace hvc := hvc.2 c4
    exact hthr_10 _ _ _ _ hvc.1 hvc.2.1 hvc.2.2
theorem wk_X1_drop {l : Launch} {E : g_E} {a0 : Nat} {st : g_St} {mc ms : Nat} {Q : Int32 → g_St → Prop} (hvc : vc_X1_drop l E a0 st mc ms Q (fun _ _ => False)) : wp_X1_drop l E mc ms [va_rf (some a0)] st Q :=
  g_enter (lv0 := [(0, va_rf (some a0))]) (plainFor_of_name (by decide +kernel)) (by simp [lv_args, g_c1, g_ci, g_cL]) (by simp [lg_sl, g_c1, g_ci, g_cL]) (fun p e s m args below meth c hC => wb_X1_drop hC ⟨Nat.le_refl _, Nat.le_refl _⟩ (fun pc lv v st1 cb sb hd hn hq => j_ireturn hC rfl hn hd (g_iv hq)) (fun _ _ _ _ _ _ h => h.elim) hvc)
abbrev wpx_X1_drop (l : Launch) (E : g_E) (mc ms : Nat) (av : List Value) (st : g_St) (Q : Int32 → g_St → Prop) (X : String → g_St → Prop) : Prop := g_WPX l E yX1_drop cX1_drop 1 (some .int) 6 125 mc ms av st (fun v st' => ∃ r : Int32, v = some (.int r) ∧ Q r st') X
theorem wkx_X1_drop {l : Launch} (hl : l.stackTraces = false) {E : g_E} {a0 : Nat} {st : g_St} {mc ms : Nat} {Q : Int32 → g_St → Prop} {X : String → g_St → Prop} (hvc : vc_X1_drop l E a0 st mc ms Q X) : wpx_X1_drop l E mc ms [va_rf (some a0)] st Q X :=
  g_enterX (lv0 := [(0, va_rf (some a0))]) (by decide +kernel) (by simp [lv_args, g_c1, g_ci, g_cL]) (by simp [lg_sl, g_c1, g_ci, g_cL]) (fun p e s m args below meth c hC ht => wb_X1_drop hC ⟨Nat.le_refl _, Nat.le_refl _⟩ (fun pc lv v st1 cb sb hd hn hq => j_xret (j_ireturn hC rfl hn hd (g_iv hq))) (fun lv st1 cb sb h1 h2 hx => j_throw0 hC hl ⟨by decide, by decide⟩ q1678 q64 g_thNSE g_toNSE ht dX1_drop_10 dX1_drop_13 dX1_drop_14 dX1_drop_17 (Nat.lt_of_lt_of_le (Nat.lt_succ_self _) (Nat.le_of_ble_eq_true rfl)) (Nat.le_of_ble_eq_true rfl) h1 h2 hx) hvc)
abbrev wp_X1_clip (l : Launch) (E : g_E) (mc ms : Nat) (av : List Value) (st : g_St) (Q : Int32 → g_St → Prop) : Prop := g_WPi l E yX1_clip cX1_clip 3 (some .int) 6 109 mc ms av st Q
def vc_X1_clip (l : Launch) (E : g_E) (a0 : Nat) (p0 : Int32) (p1 : Int32) (st : g_St) (cb sb : Nat) (Q : Int32 → g_St → Prop) (X : String → g_St → Prop) : Prop :=
  g_jn0 (fun (K1 : Prop) => (p0 < 0 → K1) ∧ (¬ p0 < 0 → (p1 < p0 → K1) ∧ (¬ p1 < p0 → ∃ o5 : Option Nat, g_gr st a0 15 0 o5 ∧ ∃ a6 : Nat, o5 = some a6 ∧ g_is st a6 0 ∧ wp_J1_length l E 0 0 [va_rf (some a6)] st (fun x7 stx => stx = st ∧ (p1 ≤ x7 → ∃ o9 : Option Nat, g_gr st a0 15 0 o9 ∧ ∃ a10 : Nat, o9 = some a10 ∧ g_is st a10 0 ∧ wp_J1_delete l E 0 0 [va_rf (some a10), .int p0, .int p1] st (fun o11 st12 => g_Ext st st12 → ∃ o13 : Option Nat, g_gr st12 a0 15 0 o13 ∧ ∃ a14 : Nat, o13 = some a14 ∧ g_is st12 a14 0 ∧ wp_J1_length l E 0 0 [va_rf (some a14)] st12 (fun x15 stx => stx = st12 ∧ Q x15 st12))) ∧ (¬ p1 ≤ x7 → K1))))) (1 ≤ cb ∧ 6 ≤ sb ∧ X "java/lang/IndexOutOfBoundsException" st)
set_option maxHeartbeats 4000000 in
theorem wb_X1_clip {p : Program} {l : Launch} {e : Env} {R : Room} {s : State} {m : MethodId} {args : Array Value} {below : List Frame} {meth : Method} {c : Code} {E : g_E} {st0 : g_St} {Z : State → Prop} (hC : g_Cx p s m args meth c cX1_clip 3 "Stemspan" (some .int) "clip" E st0) (hR : g_Rm 6 109 R) {a0 : Nat} {p0 : Int32} {p1 : Int32} {st : g_St} {cb sb : Nat} {Q : Int32 → g_St → Prop} {X : String → g_St → Prop} (hret : ∀ (pc : Nat) (lv : List (Nat × Value)) (v : Int32) (st1 : g_St) (cb sb : Nat), decode cX1_clip pc = .ok (.ireturn, 1) → narrow .int (.int v) = .int v → Q v st1 → g_J p l e R s m args below meth c 3 E st0 Z pc lv [.int v] st1 cb sb) (hthr_20 : ∀ (lv : List (Nat × Value)) (st1 : g_St) (cb sb : Nat), 1 ≤ cb → 6 ≤ sb → X "java/lang/IndexOutOfBoundsException" st1 → g_J p l e R s m args below meth c 3 E st0 Z 20 lv [] st1 cb sb) (hvc : vc_X1_clip l E a0 p0 p1 st cb sb Q X) : g_J p l e R s m args below meth c 3 E st0 Z 0 [(0, va_rf (some a0)), (1, .int p0), (2, .int p1)] [] st cb sb := by
  unfold vc_X1_clip at hvc
  refine j_iload_n hC dX1_clip_0 rfl 1 rfl ?_
  replace hvc := g_jn0_o hvc
  obtain ⟨K1, hK16, hvc⟩ := hvc
  have kh2 : K1 → g_J p l e R s m args below meth c 3 E st0 Z 20 [] [] st cb sb := by
    clear hvc
    intro hvc
    replace hvc := hK16 hvc
    exact hthr_20 _ _ _ _ hvc.1 hvc.2.1 hvc.2.2
  refine j_if_lt (tgt := 20) hC dX1_clip_1 rfl (fun c3 => ?_) (fun c3 => ?_)
  · replace hvc := hvc.1 c3
    exact j_sub [] rfl (kh2 hvc)
  · replace hvc := hvc.2 c3
    refine j_iload_n hC dX1_clip_4 rfl 2 rfl ?_
    refine j_iload_n hC dX1_clip_5 rfl 1 rfl ?_
    refine j_icmp_lt (tgt := 20) hC dX1_clip_6 rfl (fun c4 => ?_) (fun c4 => ?_)
    · replace hvc := hvc.1 c4
      exact j_sub [] rfl (kh2 hvc)
    · replace hvc := hvc.2 c4
      refine j_iload_n hC dX1_clip_9 rfl 2 rfl ?_
      refine j_aload_n hC dX1_clip_10 rfl 0 rfl ?_
      obtain ⟨o5, ⟨fs, hr, hv⟩, hvc⟩ := hvc
      refine j_get hC fkX1_10_X1 dX1_clip_11 hr hv ?_
      clear hv hr fs
      obtain ⟨a6, rfl, hvc⟩ := hvc
      obtain ⟨⟨fs, hr⟩, hvc⟩ := hvc
      refine j_callV (As := []) (rest := [.int p1]) (n := 0) (ci := 0) hC hvc (lw_V q497 q416 q2451 q43 q417) (by decide +kernel) (g_rm hR rfl rfl) rfl hr rfl rfl (g_sum rfl) dX1_clip_14 (Nat.zero_le _) (Nat.zero_le _) (g_Kip fun x7 hv2 => ?_)
      replace hvc := hv2; clear hv2
      clear hr fs
      refine j_icmp_le (tgt := 28) hC dX1_clip_17 rfl (fun c8 => ?_) (fun c8 => ?_)
      · replace hvc := hvc.1 c8
        refine j_aload_n hC dX1_clip_28 rfl 0 rfl ?_
        obtain ⟨o9, ⟨fs, hr, hv⟩, hvc⟩ := hvc
        refine j_get hC fkX1_10_X1 dX1_clip_29 hr hv ?_
        clear hv hr fs
        refine j_iload_n hC dX1_clip_32 rfl 1 rfl ?_
        refine j_iload_n hC dX1_clip_33 rfl 2 rfl ?_
        obtain ⟨a10, rfl, hvc⟩ := hvc
        obtain ⟨⟨fs, hr⟩, hvc⟩ := hvc
        refine j_callV (As := [.int p0, .int p1]) (rest := []) (n := 2) (ci := 0) hC hvc (lw_V q1806 q1807 q1808 q43 q1809) (by decide +kernel) (g_rm hR rfl rfl) rfl hr rfl rfl (g_sum rfl) dX1_clip_34 (Nat.zero_le _) (Nat.zero_le _) (g_Ka fun o11 st12 hv2 hx => ?_)
        replace hvc := hv2 hx; clear hx hv2
        clear hr fs
        refine j_pop hC dX1_clip_37 g_c1 ?_
        refine j_aload_n hC dX1_clip_38 rfl 0 rfl ?_
        obtain ⟨o13, ⟨fs, hr, hv⟩, hvc⟩ := hvc
        refine j_get hC fkX1_10_X1 dX1_clip_39 hr hv ?_
        clear hv hr fs
        obtain ⟨a14, rfl, hvc⟩ := hvc
        obtain ⟨⟨fs, hr⟩, hvc⟩ := hvc
        refine j_callV (As := []) (rest := []) (n := 0) (ci := 0) hC hvc (lw_V q497 q416 q2451 q43 q417) (by decide +kernel) (g_rm hR rfl rfl) rfl hr rfl rfl (g_sum rfl) dX1_clip_42 (Nat.zero_le _) (Nat.zero_le _) (g_Kip fun x15 hv2 => ?_)
        replace hvc := hv2; clear hv2
        clear hr fs
        exact hret _ _ _ _ _ _ dX1_clip_45 rfl hvc
      · replace hvc := hvc.2 c8
        exact j_sub [] rfl (kh2 hvc)
theorem wk_X1_clip {l : Launch} {E : g_E} {a0 : Nat} {p0 : Int32} {p1 : Int32} {st : g_St} {mc ms : Nat} {Q : Int32 → g_St → Prop} (hvc : vc_X1_clip l E a0 p0 p1 st mc ms Q (fun _ _ => False)) : wp_X1_clip l E mc ms [va_rf (some a0), .int p0, .int p1] st Q :=
  g_enter (lv0 := [(0, va_rf (some a0)), (1, .int p0), (2, .int p1)]) (plainFor_of_name (by decide +kernel)) (by simp [lv_args, g_c1, g_ci, g_cL]) (by simp [lg_sl, g_c1, g_ci, g_cL]) (fun p e s m args below meth c hC => wb_X1_clip hC ⟨Nat.le_refl _, Nat.le_refl _⟩ (fun pc lv v st1 cb sb hd hn hq => j_ireturn hC rfl hn hd (g_iv hq)) (fun _ _ _ _ _ _ h => h.elim) hvc)
abbrev wpx_X1_clip (l : Launch) (E : g_E) (mc ms : Nat) (av : List Value) (st : g_St) (Q : Int32 → g_St → Prop) (X : String → g_St → Prop) : Prop := g_WPX l E yX1_clip cX1_clip 3 (some .int) 6 109 mc ms av st (fun v st' => ∃ r : Int32, v = some (.int r) ∧ Q r st') X
theorem wkx_X1_clip {l : Launch} (hl : l.stackTraces = false) {E : g_E} {a0 : Nat} {p0 : Int32} {p1 : Int32} {st : g_St} {mc ms : Nat} {Q : Int32 → g_St → Prop} {X : String → g_St → Prop} (hvc : vc_X1_clip l E a0 p0 p1 st mc ms Q X) : wpx_X1_clip l E mc ms [va_rf (some a0), .int p0, .int p1] st Q X :=
  g_enterX (lv0 := [(0, va_rf (some a0)), (1, .int p0), (2, .int p1)]) (by decide +kernel) (by simp [lv_args, g_c1, g_ci, g_cL]) (by simp [lg_sl, g_c1, g_ci, g_cL]) (fun p e s m args below meth c hC ht => wb_X1_clip hC ⟨Nat.le_refl _, Nat.le_refl _⟩ (fun pc lv v st1 cb sb hd hn hq => j_xret (j_ireturn hC rfl hn hd (g_iv hq))) (fun lv st1 cb sb h1 h2 hx => j_throw0 hC hl ⟨by decide, by decide⟩ q1756 q62 g_thIOB g_toIOB ht dX1_clip_20 dX1_clip_23 dX1_clip_24 dX1_clip_27 (Nat.lt_of_lt_of_le (Nat.lt_succ_self _) (Nat.le_of_ble_eq_true rfl)) (Nat.le_of_ble_eq_true rfl) h1 h2 hx) hvc)
abbrev wp_X1_signAt (l : Launch) (E : g_E) (mc ms : Nat) (av : List Value) (st : g_St) (Q : Int32 → g_St → Prop) : Prop := g_WPi l E yX1_signAt cX1_signAt 2 (some .char) 6 128 mc ms av st Q
def vc_X1_signAt (l : Launch) (E : g_E) (a0 : Nat) (p0 : Int32) (st : g_St) (cb sb : Nat) (Q : Int32 → g_St → Prop) (X : String → g_St → Prop) : Prop :=
  g_jn0 (fun (K1 : Prop) => (p0 < 0 → K1) ∧ (¬ p0 < 0 → ∃ o4 : Option Nat, g_gr st a0 15 0 o4 ∧ ∃ a5 : Nat, o4 = some a5 ∧ g_is st a5 0 ∧ wp_J1_length l E 0 0 [va_rf (some a5)] st (fun x6 stx => stx = st ∧ (p0 < x6 → ∃ o8 : Option Nat, g_gr st a0 15 0 o8 ∧ ∃ a9 : Nat, o8 = some a9 ∧ g_is st a9 0 ∧ wp_J1_charAt l E 0 0 [va_rf (some a9), .int p0] st (fun x10 stx => stx = st ∧ narrow .char (.int x10) = .int x10 ∧ Q x10 st)) ∧ (¬ p0 < x6 → K1)))) (1 ≤ cb ∧ 6 ≤ sb ∧ X "java/lang/IndexOutOfBoundsException" st)
set_option maxHeartbeats 4000000 in
theorem wb_X1_signAt {p : Program} {l : Launch} {e : Env} {R : Room} {s : State} {m : MethodId} {args : Array Value} {below : List Frame} {meth : Method} {c : Code} {E : g_E} {st0 : g_St} {Z : State → Prop} (hC : g_Cx p s m args meth c cX1_signAt 2 "Stemspan" (some .char) "signAt" E st0) (hR : g_Rm 6 128 R) {a0 : Nat} {p0 : Int32} {st : g_St} {cb sb : Nat} {Q : Int32 → g_St → Prop} {X : String → g_St → Prop} (hret : ∀ (pc : Nat) (lv : List (Nat × Value)) (v : Int32) (st1 : g_St) (cb sb : Nat), decode cX1_signAt pc = .ok (.ireturn, 1) → narrow .char (.int v) = .int v → Q v st1 → g_J p l e R s m args below meth c 2 E st0 Z pc lv [.int v] st1 cb sb) (hthr_15 : ∀ (lv : List (Nat × Value)) (st1 : g_St) (cb sb : Nat), 1 ≤ cb → 6 ≤ sb → X "java/lang/IndexOutOfBoundsException" st1 → g_J p l e R s m args below meth c 2 E st0 Z 15 lv [] st1 cb sb) (hvc : vc_X1_signAt l E a0 p0 st cb sb Q X) : g_J p l e R s m args below meth c 2 E st0 Z 0 [(0, va_rf (some a0)), (1, .int p0)] [] st cb sb := by
  unfold vc_X1_signAt at hvc
  refine j_iload_n hC dX1_signAt_0 rfl 1 rfl ?_
  replace hvc := g_jn0_o hvc
  obtain ⟨K1, hK11, hvc⟩ := hvc
  have kh2 : K1 → g_J p l e R s m args below meth c 2 E st0 Z 15 [] [] st cb sb := by
    clear hvc
    intro hvc
    replace hvc := hK11 hvc
    exact hthr_15 _ _ _ _ hvc.1 hvc.2.1 hvc.2.2
  refine j_if_lt (tgt := 15) hC dX1_signAt_1 rfl (fun c3 => ?_) (fun c3 => ?_)
  · replace hvc := hvc.1 c3
    exact j_sub [] rfl (kh2 hvc)
  · replace hvc := hvc.2 c3
    refine j_iload_n hC dX1_signAt_4 rfl 1 rfl ?_
    refine j_aload_n hC dX1_signAt_5 rfl 0 rfl ?_
    obtain ⟨o4, ⟨fs, hr, hv⟩, hvc⟩ := hvc
    refine j_get hC fkX1_10_X1 dX1_signAt_6 hr hv ?_
    clear hv hr fs
    obtain ⟨a5, rfl, hvc⟩ := hvc
    obtain ⟨⟨fs, hr⟩, hvc⟩ := hvc
    refine j_callV (As := []) (rest := [.int p0]) (n := 0) (ci := 0) hC hvc (lw_V q497 q416 q2451 q43 q417) (by decide +kernel) (g_rm hR rfl rfl) rfl hr rfl rfl (g_sum rfl) dX1_signAt_9 (Nat.zero_le _) (Nat.zero_le _) (g_Kip fun x6 hv2 => ?_)
    replace hvc := hv2; clear hv2
    clear hr fs
    refine j_icmp_lt (tgt := 23) hC dX1_signAt_12 rfl (fun c7 => ?_) (fun c7 => ?_)
    · replace hvc := hvc.1 c7
      refine j_aload_n hC dX1_signAt_23 rfl 0 rfl ?_
      obtain ⟨o8, ⟨fs, hr, hv⟩, hvc⟩ := hvc
      refine j_get hC fkX1_10_X1 dX1_signAt_24 hr hv ?_
      clear hv hr fs
      refine j_iload_n hC dX1_signAt_27 rfl 1 rfl ?_
      obtain ⟨a9, rfl, hvc⟩ := hvc
      obtain ⟨⟨fs, hr⟩, hvc⟩ := hvc
      refine j_callV (As := [.int p0]) (rest := []) (n := 1) (ci := 0) hC hvc (lw_V q1691 q1692 q1693 q43 q1694) (by decide +kernel) (g_rm hR rfl rfl) rfl hr rfl rfl (g_sum rfl) dX1_signAt_28 (Nat.zero_le _) (Nat.zero_le _) (g_Kip fun x10 hv2 => ?_)
      replace hvc := hv2; clear hv2
      clear hr fs
      exact hret _ _ _ _ _ _ dX1_signAt_31 hvc.1 hvc.2
    · replace hvc := hvc.2 c7
      exact j_sub [] rfl (kh2 hvc)
theorem wk_X1_signAt {l : Launch} {E : g_E} {a0 : Nat} {p0 : Int32} {st : g_St} {mc ms : Nat} {Q : Int32 → g_St → Prop} (hvc : vc_X1_signAt l E a0 p0 st mc ms Q (fun _ _ => False)) : wp_X1_signAt l E mc ms [va_rf (some a0), .int p0] st Q :=
  g_enter (lv0 := [(0, va_rf (some a0)), (1, .int p0)]) (plainFor_of_name (by decide +kernel)) (by simp [lv_args, g_c1, g_ci, g_cL]) (by simp [lg_sl, g_c1, g_ci, g_cL]) (fun p e s m args below meth c hC => wb_X1_signAt hC ⟨Nat.le_refl _, Nat.le_refl _⟩ (fun pc lv v st1 cb sb hd hn hq => j_ireturn hC rfl hn hd (g_iv hq)) (fun _ _ _ _ _ _ h => h.elim) hvc)
abbrev wpx_X1_signAt (l : Launch) (E : g_E) (mc ms : Nat) (av : List Value) (st : g_St) (Q : Int32 → g_St → Prop) (X : String → g_St → Prop) : Prop := g_WPX l E yX1_signAt cX1_signAt 2 (some .char) 6 128 mc ms av st (fun v st' => ∃ r : Int32, v = some (.int r) ∧ Q r st') X
theorem wkx_X1_signAt {l : Launch} (hl : l.stackTraces = false) {E : g_E} {a0 : Nat} {p0 : Int32} {st : g_St} {mc ms : Nat} {Q : Int32 → g_St → Prop} {X : String → g_St → Prop} (hvc : vc_X1_signAt l E a0 p0 st mc ms Q X) : wpx_X1_signAt l E mc ms [va_rf (some a0), .int p0] st Q X :=
  g_enterX (lv0 := [(0, va_rf (some a0)), (1, .int p0)]) (by decide +kernel) (by simp [lv_args, g_c1, g_ci, g_cL]) (by simp [lg_sl, g_c1, g_ci, g_cL]) (fun p e s m args below meth c hC ht => wb_X1_signAt hC ⟨Nat.le_refl _, Nat.le_refl _⟩ (fun pc lv v st1 cb sb hd hn hq => j_xret (j_ireturn hC rfl hn hd (g_iv hq))) (fun lv st1 cb sb h1 h2 hx => j_throw0 hC hl ⟨by decide, by decide⟩ q1756 q62 g_thIOB g_toIOB ht dX1_signAt_15 dX1_signAt_18 dX1_signAt_19 dX1_signAt_22 (Nat.lt_of_lt_of_le (Nat.lt_succ_self _) (Nat.le_of_ble_eq_true rfl)) (Nat.le_of_ble_eq_true rfl) h1 h2 hx) hvc)
abbrev wp_X1_put (l : Launch) (E : g_E) (mc ms : Nat) (av : List Value) (st : g_St) (Q : Int32 → g_St → Prop) : Prop := g_WPi l E yX1_put cX1_put 4 (some .int) 13 332 mc ms av st Q
def vc_X1_put (l : Launch) (E : g_E) (a0 : Nat) (p0 : Int32) (st : g_St) (cb sb : Nat) (Q : Int32 → g_St → Prop) (X : String → g_St → Prop) : Prop :=
  g_jn0 (fun (K1 : Prop) => (p0 < 0 → K1) ∧ (¬ p0 < 0 → (p0 ≤ (nI 999) → ∃ o5 : Option Nat, g_gr st a0 15 0 o5 ∧ ∃ a6 : Nat, o5 = some a6 ∧ g_is st a6 0 ∧ wp_J1_length l E 0 0 [va_rf (some a6)] st (fun x7 stx => stx = st ∧ g_jn0 (fun (K8 : Prop) => (x7 = 0 → K8) ∧ (¬ x7 = 0 → ∃ o11 : Option Nat, g_gr st a0 15 0 o11 ∧ ∃ a12 : Nat, o11 = some a12 ∧ g_is st a12 0 ∧ wp_J1_length l E 0 0 [va_rf (some a12)] st (fun x13 stx => stx = st ∧ (x13 ≤ (nI 10) → ∃ o15 : Option Nat, g_gr st a0 15 0 o15 ∧ ∃ a16 : Nat, o15 = some a16 ∧ ∃ mc19 ms20 : Nat, mc19 ≤ cb ∧ ms20 ≤ sb ∧ g_is st a16 0 ∧ wp_J1_toString l E mc19 ms20 [va_rf (some a16)] st (fun o17 st18 => g_Ext st st18 → ∃ o21 : Option Nat, g_gr st18 a0 15 1 o21 ∧ ∃ a22 : Nat, o21 = some a22 ∧ g_is st18 a22 3 ∧ wp_J5_size l E 0 0 [va_rf (some a22)] st18 (fun x23 stx => stx = st18 ∧ g_jn0 (fun (K24 : Prop) => (¬ x23 = (nI 24) → K24) ∧ (x23 = (nI 24) → ∃ o44 : Option Nat, g_gr st18 a0 15 1 o44 ∧ ∃ a45 : Nat, o44 = some a45 ∧ g_is st18 a45 3 ∧ wp_J5_containsKey l E 0 0 [va_rf (some a45), va_rf o17] st18 (fun x46 stx => stx = st18 ∧ (¬ x46 = 0 → K24) ∧ (x46 = 0 → 1 ≤ (cb - mc19) ∧ 6 ≤ (sb - ms20) ∧ X "java/lang/IllegalStateException" st18)))) (∃ o26 : Option Nat, g_gr st18 a0 15 1 o26 ∧ ∃ mc29 ms30 : Nat, mc29 ≤ (cb - mc19) ∧ ms30 ≤ (sb - ms20) ∧ wp_J14_valueOf l E mc29 ms30 [.int p0] st18 (fun o27 st28 => g_Ext st18 st28 → ∃ a31 : Nat, o26 = some a31 ∧ ∃ mc34 ms35 : Nat, mc34 ≤ ((cb - mc19) - mc29) ∧ ms35 ≤ ((sb - ms20) - ms30) ∧ g_is st28 a31 3 ∧ wp_J5_put l E mc34 ms35 [va_rf (some a31), va_rf o17, va_rf o27] st28 (fun o32 st33 => g_Ext st28 st33 → g_isN st33 o32 2 ∧ g_jn1 (fun (K37 : Int32 → Prop) => (o32 = none → K37 (-1)) ∧ (∀ a40 : Nat, o32 = some a40 → g_is st33 a40 2 ∧ wp_J14_intValue l E 0 0 [va_rf (some a40)] st33 (fun x41 stx => stx = st33 ∧ K37 x41))) (fun (x36 : Int32) => Q x36 st33))))))) ∧ (¬ x13 ≤ (nI 10) → K8)))) (1 ≤ cb ∧ 6 ≤ sb ∧ X "java/lang/UnsupportedOperationException" st))) ∧ (¬ p0 ≤ (nI 999) → K1))) (1 ≤ cb ∧ 6 ≤ sb ∧ X "java/lang/IllegalArgumentException" st)
set_option maxHeartbeats 4000000 in
theorem wb_X1_put {p : Program} {l : Launch} {e : Env} {R : Room} {s : State} {m : MethodId} {args : Array Value} {below : List Frame} {meth : Method} {c : Code} {E : g_E} {st0 : g_St} {Z : State → Prop} (hC : g_Cx p s m args meth c cX1_put 4 "Stemspan" (some .int) "put" E st0) (hR : g_Rm 13 332 R) {a0 : Nat} {p0 : Int32} {st : g_St} {cb sb : Nat} {Q : Int32 → g_St → Prop} {X : String → g_St → Prop} (hret : ∀ (pc : Nat) (lv : List (Nat × Value)) (v : Int32) (st1 : g_St) (cb sb : Nat), decode cX1_put pc = .ok (.ireturn, 1) → narrow .int (.int v) = .int v → Q v st1 → g_J p l e R s m args below meth c 4 E st0 Z pc lv [.int v] st1 cb sb) (hthr_11 : ∀ (lv : List (Nat × Value)) (st1 : g_St) (cb sb : Nat), 1 ≤ cb → 6 ≤ sb → X "java/lang/IllegalArgumentException" st1 → g_J p l e R s m args below meth c 4 E st0 Z 11 lv [] st1 cb sb) (hthr_41 : ∀ (lv : List (Nat × Value)) (st1 : g_St) (cb sb : Nat), 1 ≤ cb → 6 ≤ sb → X "java/lang/UnsupportedOperationException" st1 → g_J p l e R s m args below meth c 4 E st0 Z 41 lv [] st1 cb sb) (hthr_80 : ∀ (lv : List (Nat × Value)) (st1 : g_St) (cb sb : Nat), 1 ≤ cb → 6 ≤ sb → X "java/lang/IllegalStateException" st1 → g_J p l e R s m args below meth c 4 E st0 Z 80 lv [] st1 cb sb) (hvc : vc_X1_put l E a0 p0 st cb sb Q X) : g_J p l e R s m args below meth c 4 E st0 Z 0 [(0, va_rf (some a0)), (1, .int p0)] [] st cb sb := by
  unfold vc_X1_put at hvc
  refine j_iload_n hC dX1_put_0 rfl 1 rfl ?_
  replace hvc := g_jn0_o hvc
  obtain ⟨K1, hK50, hvc⟩ := hvc
  have kh2 : K1 → g_J p l e R s m args below meth c 4 E st0 Z 11 [] [] st cb sb := by
    clear hvc
    intro hvc
    replace hvc := hK50 hvc
    exact hthr_11 _ _ _ _ hvc.1 hvc.2.1 hvc.2.2
  refine j_if_lt (tgt := 11) hC dX1_put_1 rfl (fun c3 => ?_) (fun c3 => ?_)
  · replace hvc := hvc.1 c3
    exact j_sub [] rfl (kh2 hvc)
  · replace hvc := hvc.2 c3
    refine j_iload_n hC dX1_put_4 rfl 1 rfl ?_
    refine j_sipush hC (nI 999) dX1_put_5 rfl ?_
    refine j_icmp_le (tgt := 19) hC dX1_put_8 rfl (fun c4 => ?_) (fun c4 => ?_)
    · replace hvc := hvc.1 c4
      refine j_aload_n hC dX1_put_19 rfl 0 rfl ?_
      obtain ⟨o5, ⟨fs, hr, hv⟩, hvc⟩ := hvc
      refine j_get hC fkX1_10_X1 dX1_put_20 hr hv ?_
      clear hv hr fs
      obtain ⟨a6, rfl, hvc⟩ := hvc
      obtain ⟨⟨fs, hr⟩, hvc⟩ := hvc
      refine j_callV (As := []) (rest := []) (n := 0) (ci := 0) hC hvc (lw_V q497 q416 q2451 q43 q417) (by decide +kernel) (g_rm hR rfl rfl) rfl hr rfl rfl (g_sum rfl) dX1_put_23 (Nat.zero_le _) (Nat.zero_le _) (g_Kip fun x7 hv2 => ?_)
      replace hvc := hv2; clear hv2
      clear hr fs
      replace hvc := g_jn0_o hvc
      obtain ⟨K8, hK49, hvc⟩ := hvc
      have kh9 : K8 → g_J p l e R s m args below meth c 4 E st0 Z 41 [] [] st cb sb := by
        clear hvc
        intro hvc
        replace hvc := hK49 hvc
        exact hthr_41 _ _ _ _ hvc.1 hvc.2.1 hvc.2.2
      refine j_if_eq (tgt := 41) hC dX1_put_26 rfl (fun c10 => ?_) (fun c10 => ?_)
      · replace hvc := hvc.1 c10
        exact j_sub [] rfl (kh9 hvc)
      · replace hvc := hvc.2 c10
        refine j_aload_n hC dX1_put_29 rfl 0 rfl ?_
        obtain ⟨o11, ⟨fs, hr, hv⟩, hvc⟩ := hvc
        refine j_get hC fkX1_10_X1 dX1_put_30 hr hv ?_
        clear hv hr fs
        obtain ⟨a12, rfl, hvc⟩ := hvc
        obtain ⟨⟨fs, hr⟩, hvc⟩ := hvc
        refine j_callV (As := []) (rest := []) (n := 0) (ci := 0) hC hvc (lw_V q497 q416 q2451 q43 q417) (by decide +kernel) (g_rm hR rfl rfl) rfl hr rfl rfl (g_sum rfl) dX1_put_33 (Nat.zero_le _) (Nat.zero_le _) (g_Kip fun x13 hv2 => ?_)
        replace hvc := hv2; clear hv2
        clear hr fs
        refine j_bipush hC (nI 10) dX1_put_36 rfl ?_
        refine j_icmp_le (tgt := 49) hC dX1_put_38 rfl (fun c14 => ?_) (fun c14 => ?_)
        · replace hvc := hvc.1 c14
          refine j_aload_n hC dX1_put_49 rfl 0 rfl ?_
          obtain ⟨o15, ⟨fs, hr, hv⟩, hvc⟩ := hvc
          refine j_get hC fkX1_10_X1 dX1_put_50 hr hv ?_
          clear hv hr fs
          obtain ⟨a16, rfl, hvc⟩ := hvc
          obtain ⟨mc19, ms20, h1, h2, hvc⟩ := hvc
          obtain ⟨⟨fs, hr⟩, hvc⟩ := hvc
          refine j_callV (As := []) (rest := []) (n := 0) (ci := 0) hC hvc (lw_V q570 q396 q397 q43 q398) (by decide +kernel) (g_rm hR rfl rfl) rfl hr rfl rfl (g_sum rfl) dX1_put_53 h1 h2 (g_Ka fun o17 st18 hv2 hx => ?_)
          replace hvc := hv2 hx; clear hx hv2
          clear hr fs
          refine j_astore_n (lv0 := [(1, .int p0), (0, va_rf (some a0))]) hC dX1_put_56 rfl rfl [1, 0] rfl (g_okS.h rfl rfl rfl) ?_
          refine j_aload_n hC dX1_put_57 rfl 2 rfl ?_
          obtain ⟨o21, ⟨fs, hr, hv⟩, hvc⟩ := hvc
          refine j_get hC fkX1_19_X1 dX1_put_58 hr hv ?_
          clear hv hr fs
          obtain ⟨a22, rfl, hvc⟩ := hvc
          obtain ⟨⟨fs, hr⟩, hvc⟩ := hvc
          refine j_callV (As := []) (rest := []) (n := 0) (ci := 3) hC hvc (lw_V q614 q615 q616 q47 q617) (by decide +kernel) (g_rm hR rfl rfl) rfl hr rfl rfl (g_sum rfl) dX1_put_61 (Nat.zero_le _) (Nat.zero_le _) (g_Kip fun x23 hv2 => ?_)
          replace hvc := hv2; clear hv2
          clear hr fs
          refine j_bipush hC (nI 24) dX1_put_64 rfl ?_
          replace hvc := g_jn0_o hvc
          obtain ⟨K24, hK48, hvc⟩ := hvc
          have kh25 : K24 → g_J p l e R s m args below meth c 4 E st0 Z 88 [(0, va_rf (some a0)), (1, .int p0), (2, va_rf o17)] [] st18 (cb - mc19) (sb - ms20) := by
            clear hvc
            intro hvc
            replace hvc := hK48 hvc
            refine j_aload_n hC dX1_put_88 rfl 0 rfl ?_
            obtain ⟨o26, ⟨fs, hr, hv⟩, hvc⟩ := hvc
            refine j_get hC fkX1_19_X1 dX1_put_89 hr hv ?_
            clear hv hr fs
            refine j_aload_n hC dX1_put_92 rfl 2 rfl ?_
            refine j_iload_n hC dX1_put_93 rfl 1 rfl ?_
            obtain ⟨mc29, ms30, h1, h2, hvc⟩ := hvc
            refine j_callS (As := [.int p0]) (rest := [va_rf o17, va_rf o26]) (n := 1) hC hvc (lw_S q1843 q1844 q56 q1845) (by decide +kernel) (g_rm hR rfl rfl) rfl rfl (g_sum rfl) dX1_put_94 h1 h2 (g_Ka fun o27 st28 hv2 hx => ?_)
            replace hvc := hv2 hx; clear hx hv2
            obtain ⟨a31, rfl, hvc⟩ := hvc
            obtain ⟨mc34, ms35, h1, h2, hvc⟩ := hvc
            obtain ⟨⟨fs, hr⟩, hvc⟩ := hvc
            refine j_callV (As := [va_rf o17, va_rf o27]) (rest := []) (n := 2) (ci := 3) hC hvc (lw_V q1862 q1863 q1864 q47 q1865) (by decide +kernel) (g_rm hR rfl rfl) rfl hr rfl rfl (g_sum rfl) dX1_put_97 h1 h2 (g_Ka fun o32 st33 hv2 hx => ?_)
            replace hvc := hv2 hx; clear hx hv2
            clear hr fs
            obtain ⟨hv, hvc⟩ := hvc
            refine j_cast hC (C := "java/lang/Integer") (ci := 2) q1385 rfl (Or.inl rfl) hv dX1_put_100 ?_
            clear hv
            refine j_astore_n (lv0 := [(2, va_rf o17), (0, va_rf (some a0)), (1, .int p0)]) hC dX1_put_103 rfl rfl [2, 0, 1] rfl (g_okS.h rfl g_c1 rfl) ?_
            refine j_aload_n hC dX1_put_104 rfl 0 rfl ?_
            replace hvc := g_jn1_o hvc
            obtain ⟨K37, hK42, hvc⟩ := hvc
            have kh38 : ∀ (x36 : Int32), K37 x36 → g_J p l e R s m args below meth c 4 E st0 Z 116 [] [.int x36] st33 (((cb - mc19) - mc29) - mc34) (((sb - ms20) - ms30) - ms35) := by
              clear hvc
              intro x36 hvc
              replace hvc := hK42 _ hvc
              exact hret _ _ _ _ _ _ dX1_put_116 rfl hvc
            refine j_ifnonnull (tgt := 112) hC dX1_put_105 rfl (fun a40 c39 => ?_) (fun c39 => ?_)
            · subst c39; replace hvc := hvc.2 a40 rfl
              refine j_aload_n hC dX1_put_112 rfl 0 rfl ?_
              obtain ⟨⟨fs, hr⟩, hvc⟩ := hvc
              refine j_callV (As := []) (rest := []) (n := 0) (ci := 2) hC hvc (lw_V q1386 q1387 q1388 q56 q1389) (by decide +kernel) (g_rm hR rfl rfl) rfl hr rfl rfl (g_sum rfl) dX1_put_113 (Nat.zero_le _) (Nat.zero_le _) (g_Kip fun x41 hv2 => ?_)
              replace hvc := hv2; clear hv2
              clear hr fs
              exact j_sub [] rfl (kh38 x41 hvc)
            · subst c39; replace hvc := hvc.1 rfl
              refine j_iconst hC (-1) dX1_put_108 rfl ?_
              refine j_goto (tgt := 116) hC dX1_put_109 rfl ?_
              exact j_sub [] rfl (kh38 (-1) hvc)
          refine j_icmp_ne (tgt := 88) hC dX1_put_66 rfl (fun c43 => ?_) (fun c43 => ?_)
          · replace hvc := hvc.1 c43
            exact j_sub [2, 1, 0] rfl (kh25 hvc)
          · replace hvc := hvc.2 c43
            refine j_aload_n hC dX1_put_69 rfl 2 rfl ?_
            obtain ⟨o44, ⟨fs, hr, hv⟩, hvc⟩ := hvc
            refine j_get hC fkX1_19_X1 dX1_put_70 hr hv ?_
            clear hv hr fs
            refine j_aload_n hC dX1_put_73 rfl 0 rfl ?_
            obtain ⟨a45, rfl, hvc⟩ := hvc
            obtain ⟨⟨fs, hr⟩, hvc⟩ := hvc
            refine j_callV (As := [va_rf o17]) (rest := []) (n := 1) (ci := 3) hC hvc (lw_V q1593 q1594 q1595 q47 q1596) (by decide +kernel) (g_rm hR rfl rfl) rfl hr rfl rfl (g_sum rfl) dX1_put_74 (Nat.zero_le _) (Nat.zero_le _) (g_Kip fun x46 hv2 => ?_)
            replace hvc := hv2; clear hv2
            clear hr fs
            refine j_if_ne (tgt := 88) hC dX1_put_77 rfl (fun c47 => ?_) (fun c47 => ?_)
            · replace hvc := hvc.1 c47
              exact j_sub [2, 1, 0] rfl (kh25 hvc)
            · replace hvc := hvc.2 c47
              exact hthr_80 _ _ _ _ hvc.1 hvc.2.1 hvc.2.2
        · replace hvc := hvc.2 c14
          exact j_sub [] rfl (kh9 hvc)
    · replace hvc := hvc.2 c4
      exact j_sub [] rfl (kh2 hvc)
theorem wk_X1_put {l : Launch} {E : g_E} {a0 : Nat} {p0 : Int32} {st : g_St} {mc ms : Nat} {Q : Int32 → g_St → Prop} (hvc : vc_X1_put l E a0 p0 st mc ms Q (fun _ _ => False)) : wp_X1_put l E mc ms [va_rf (some a0), .int p0] st Q :=
  g_enter (lv0 := [(0, va_rf (some a0)), (1, .int p0)]) (plainFor_of_name (by decide +kernel)) (by simp [lv_args, g_c1, g_ci, g_cL]) (by simp [lg_sl, g_c1, g_ci, g_cL]) (fun p e s m args below meth c hC => wb_X1_put hC ⟨Nat.le_refl _, Nat.le_refl _⟩ (fun pc lv v st1 cb sb hd hn hq => j_ireturn hC rfl hn hd (g_iv hq)) (fun _ _ _ _ _ _ h => h.elim) (fun _ _ _ _ _ _ h => h.elim) (fun _ _ _ _ _ _ h => h.elim) hvc)
abbrev wpx_X1_put (l : Launch) (E : g_E) (mc ms : Nat) (av : List Value) (st : g_St) (Q : Int32 → g_St → Prop) (X : String → g_St → Prop) : Prop := g_WPX l E yX1_put cX1_put 4 (some .int) 13 332 mc ms av st (fun v st' => ∃ r : Int32, v = some (.int r) ∧ Q r st') X
theorem wkx_X1_put {l : Launch} (hl : l.stackTraces = false) {E : g_E} {a0 : Nat} {p0 : Int32} {st : g_St} {mc ms : Nat} {Q : Int32 → g_St → Prop} {X : String → g_St → Prop} (hvc : vc_X1_put l E a0 p0 st mc ms Q X) : wpx_X1_put l E mc ms [va_rf (some a0), .int p0] st Q X :=
  g_enterX (lv0 := [(0, va_rf (some a0)), (1, .int p0)]) (by decide +kernel) (by simp [lv_args, g_c1, g_ci, g_cL]) (by simp [lg_sl, g_c1, g_ci, g_cL]) (fun p e s m args below meth c hC ht => wb_X1_put hC ⟨Nat.le_refl _, Nat.le_refl _⟩ (fun pc lv v st1 cb sb hd hn hq => j_xret (j_ireturn hC rfl hn hd (g_iv hq))) (fun lv st1 cb sb h1 h2 hx => j_throw0 hC hl ⟨by decide, by decide⟩ q1731 q54 g_thIAE g_toIAE ht dX1_put_11 dX1_put_14 dX1_put_15 dX1_put_18 (Nat.lt_of_lt_of_le (Nat.lt_succ_self _) (Nat.le_of_ble_eq_true rfl)) (Nat.le_of_ble_eq_true rfl) h1 h2 hx) (fun lv st1 cb sb h1 h2 hx => j_throw0 hC hl ⟨by decide, by decide⟩ q1828 q67 g_thUOE g_toUOE ht dX1_put_41 dX1_put_44 dX1_put_45 dX1_put_48 (Nat.lt_of_lt_of_le (Nat.lt_succ_self _) (Nat.le_of_ble_eq_true rfl)) (Nat.le_of_ble_eq_true rfl) h1 h2 hx) (fun lv st1 cb sb h1 h2 hx => j_throw0 hC hl ⟨by decide, by decide⟩ q1736 q61 g_thISE g_toISE ht dX1_put_80 dX1_put_83 dX1_put_84 dX1_put_87 (Nat.lt_of_lt_of_le (Nat.lt_succ_self _) (Nat.le_of_ble_eq_true rfl)) (Nat.le_of_ble_eq_true rfl) h1 h2 hx) hvc)
abbrev wp_X1_take (l : Launch) (E : g_E) (mc ms : Nat) (av : List Value) (st : g_St) (Q : Int32 → g_St → Prop) : Prop := g_WPi l E yX1_take cX1_take 2 (some .int) 11 284 mc ms av st Q
def vc_X1_take (l : Launch) (E : g_E) (a0 : Nat) (st : g_St) (cb sb : Nat) (Q : Int32 → g_St → Prop) (X : String → g_St → Prop) : Prop :=
  ∃ o1 : Option Nat, g_gr st a0 15 1 o1 ∧ ∃ o2 : Option Nat, g_gr st a0 15 0 o2 ∧ ∃ a3 : Nat, o2 = some a3 ∧ ∃ mc6 ms7 : Nat, mc6 ≤ cb ∧ ms7 ≤ sb ∧ g_is st a3 0 ∧ wp_J1_toString l E mc6 ms7 [va_rf (some a3)] st (fun o4 st5 => g_Ext st st5 → ∃ a8 : Nat, o1 = some a8 ∧ g_is st5 a8 3 ∧ wp_J5_remove l E 0 0 [va_rf (some a8), va_rf o4] st5 (fun o9 st10 => g_Ext st5 st10 → g_isN st10 o9 2 ∧ (o9 = none → 1 ≤ (cb - mc6) ∧ 6 ≤ (sb - ms7) ∧ X "java/util/NoSuchElementException" st10) ∧ (∀ a12 : Nat, o9 = some a12 → g_is st10 a12 2 ∧ wp_J14_intValue l E 0 0 [va_rf (some a12)] st10 (fun x13 stx => stx = st10 ∧ Q x13 st10))))
set_option maxHeartbeats 4000000 in
theorem wb_X1_take {p : Program} {l : Launch} {e : Env} {R : Room} {s : State} {m : MethodId} {args : Array Value} {below : List Frame} {meth : Method} {c : Code} {E : g_E} {st0 : g_St} {Z : State → Prop} (hC : g_Cx p s m args meth c cX1_take 2 "Stemspan" (some .int) "take" E st0) (hR : g_Rm 11 284 R) {a0 : Nat} {st : g_St} {cb sb : Nat} {Q : Int32 → g_St → Prop} {X : String → g_St → Prop} (hret : ∀ (pc : Nat) (lv : List (Nat × Value)) (v : Int32) (st1 : g_St) (cb sb : Nat), decode cX1_take pc = .ok (.ireturn, 1) → narrow .int (.int v) = .int v → Q v st1 → g_J p l e R s m args below meth c 2 E st0 Z pc lv [.int v] st1 cb sb) (hthr_22 : ∀ (lv : List (Nat × Value)) (st1 : g_St) (cb sb : Nat), 1 ≤ cb → 6 ≤ sb → X "java/util/NoSuchElementException" st1 → g_J p l e R s m args below meth c 2 E st0 Z 22 lv [] st1 cb sb) (hvc : vc_X1_take l E a0 st cb sb Q X) : g_J p l e R s m args below meth c 2 E st0 Z 0 [(0, va_rf (some a0))] [] st cb sb := by
  unfold vc_X1_take at hvc
  refine j_aload_n hC dX1_take_0 rfl 0 rfl ?_
  obtain ⟨o1, ⟨fs, hr, hv⟩, hvc⟩ := hvc
  refine j_get hC fkX1_19_X1 dX1_take_1 hr hv ?_
  clear hv hr fs
  refine j_aload_n hC dX1_take_4 rfl 0 rfl ?_
  obtain ⟨o2, ⟨fs, hr, hv⟩, hvc⟩ := hvc
  refine j_get hC fkX1_10_X1 dX1_take_5 hr hv ?_
  clear hv hr fs
  obtain ⟨a3, rfl, hvc⟩ := hvc
  obtain ⟨mc6, ms7, h1, h2, hvc⟩ := hvc
  obtain ⟨⟨fs, hr⟩, hvc⟩ := hvc
  refine j_callV (As := []) (rest := [va_rf o1]) (n := 0) (ci := 0) hC hvc (lw_V q570 q396 q397 q43 q398) (by decide +kernel) (g_rm hR rfl rfl) rfl hr rfl rfl (g_sum rfl) dX1_take_8 h1 h2 (g_Ka fun o4 st5 hv2 hx => ?_)
  replace hvc := hv2 hx; clear hx hv2
  clear hr fs
  obtain ⟨a8, rfl, hvc⟩ := hvc
  obtain ⟨⟨fs, hr⟩, hvc⟩ := hvc
  refine j_callV (As := [va_rf o4]) (rest := []) (n := 1) (ci := 3) hC hvc (lw_V q1927 q1928 q1929 q47 q1930) (by decide +kernel) (g_rm hR rfl rfl) rfl hr rfl rfl (g_sum rfl) dX1_take_11 (Nat.zero_le _) (Nat.zero_le _) (g_Ka fun o9 st10 hv2 hx => ?_)
  replace hvc := hv2 hx; clear hx hv2
  clear hr fs
  obtain ⟨hv, hvc⟩ := hvc
  refine j_cast hC (C := "java/lang/Integer") (ci := 2) q1385 rfl (Or.inl rfl) hv dX1_take_14 ?_
  clear hv
  refine j_astore_n (lv0 := [(0, va_rf (some a0))]) hC dX1_take_17 rfl rfl [0] rfl (g_okS.h rfl g_c1 rfl) ?_
  refine j_aload_n hC dX1_take_18 rfl 0 rfl ?_
  refine j_ifnonnull (tgt := 30) hC dX1_take_19 rfl (fun a12 c11 => ?_) (fun c11 => ?_)
  · subst c11; replace hvc := hvc.2 a12 rfl
    refine j_aload_n hC dX1_take_30 rfl 0 rfl ?_
    obtain ⟨⟨fs, hr⟩, hvc⟩ := hvc
    refine j_callV (As := []) (rest := []) (n := 0) (ci := 2) hC hvc (lw_V q1386 q1387 q1388 q56 q1389) (by decide +kernel) (g_rm hR rfl rfl) rfl hr rfl rfl (g_sum rfl) dX1_take_31 (Nat.zero_le _) (Nat.zero_le _) (g_Kip fun x13 hv2 => ?_)
    replace hvc := hv2; clear hv2
    clear hr fs
    exact hret _ _ _ _ _ _ dX1_take_34 rfl hvc
  · subst c11; replace hvc := hvc.1 rfl
    exact hthr_22 _ _ _ _ hvc.1 hvc.2.1 hvc.2.2
theorem wk_X1_take {l : Launch} {E : g_E} {a0 : Nat} {st : g_St} {mc ms : Nat} {Q : Int32 → g_St → Prop} (hvc : vc_X1_take l E a0 st mc ms Q (fun _ _ => False)) : wp_X1_take l E mc ms [va_rf (some a0)] st Q :=
  g_enter (lv0 := [(0, va_rf (some a0))]) (plainFor_of_name (by decide +kernel)) (by simp [lv_args, g_c1, g_ci, g_cL]) (by simp [lg_sl, g_c1, g_ci, g_cL]) (fun p e s m args below meth c hC => wb_X1_take hC ⟨Nat.le_refl _, Nat.le_refl _⟩ (fun pc lv v st1 cb sb hd hn hq => j_ireturn hC rfl hn hd (g_iv hq)) (fun _ _ _ _ _ _ h => h.elim) hvc)
abbrev wpx_X1_take (l : Launch) (E : g_E) (mc ms : Nat) (av : List Value) (st : g_St) (Q : Int32 → g_St → Prop) (X : String → g_St → Prop) : Prop := g_WPX l E yX1_take cX1_take 2 (some .int) 11 284 mc ms av st (fun v st' => ∃ r : Int32, v = some (.int r) ∧ Q r st') X
theorem wkx_X1_take {l : Launch} (hl : l.stackTraces = false) {E : g_E} {a0 : Nat} {st : g_St} {mc ms : Nat} {Q : Int32 → g_St → Prop} {X : String → g_St → Prop} (hvc : vc_X1_take l E a0 st mc ms Q X) : wpx_X1_take l E mc ms [va_rf (some a0)] st Q X :=
  g_enterX (lv0 := [(0, va_rf (some a0))]) (by decide +kernel) (by simp [lv_args, g_c1, g_ci, g_cL]) (by simp [lg_sl, g_c1, g_ci, g_cL]) (fun p e s m args below meth c hC ht => wb_X1_take hC ⟨Nat.le_refl _, Nat.le_refl _⟩ (fun pc lv v st1 cb sb hd hn hq => j_xret (j_ireturn hC rfl hn hd (g_iv hq))) (fun lv st1 cb sb h1 h2 hx => j_throw0 hC hl ⟨by decide, by decide⟩ q1678 q64 g_thNSE g_toNSE ht dX1_take_22 dX1_take_25 dX1_take_26 dX1_take_29 (Nat.lt_of_lt_of_le (Nat.lt_succ_self _) (Nat.le_of_ble_eq_true rfl)) (Nat.le_of_ble_eq_true rfl) h1 h2 hx) hvc)
abbrev wp_X1_number (l : Launch) (E : g_E) (mc ms : Nat) (av : List Value) (st : g_St) (Q : Int32 → g_St → Prop) : Prop := g_WPi l E yX1_number cX1_number 2 (some .int) 11 283 mc ms av st Q
def vc_X1_number (l : Launch) (E : g_E) (a0 : Nat) (st : g_St) (cb sb : Nat) (Q : Int32 → g_St → Prop) (X : String → g_St → Prop) : Prop :=
  ∃ o1 : Option Nat, g_gr st a0 15 1 o1 ∧ ∃ o2 : Option Nat, g_gr st a0 15 0 o2 ∧ ∃ a3 : Nat, o2 = some a3 ∧ ∃ mc6 ms7 : Nat, mc6 ≤ cb ∧ ms7 ≤ sb ∧ g_is st a3 0 ∧ wp_J1_toString l E mc6 ms7 [va_rf (some a3)] st (fun o4 st5 => g_Ext st st5 → ∃ a8 : Nat, o1 = some a8 ∧ g_is st5 a8 3 ∧ wp_J5_get l E 0 0 [va_rf (some a8), va_rf o4] st5 (fun o9 stx => stx = st5 ∧ g_isN st5 o9 2 ∧ (o9 = none → 1 ≤ (cb - mc6) ∧ 6 ≤ (sb - ms7) ∧ X "java/util/NoSuchElementException" st5) ∧ (∀ a11 : Nat, o9 = some a11 → g_is st5 a11 2 ∧ wp_J14_intValue l E 0 0 [va_rf (some a11)] st5 (fun x12 stx => stx = st5 ∧ Q x12 st5))))
set_option maxHeartbeats 4000000 in
theorem wb_X1_number {p : Program} {l : Launch} {e : Env} {R : Room} {s : State} {m : MethodId} {args : Array Value} {below : List Frame} {meth : Method} {c : Code} {E : g_E} {st0 : g_St} {Z : State → Prop} (hC : g_Cx p s m args meth c cX1_number 2 "Stemspan" (some .int) "number" E st0) (hR : g_Rm 11 283 R) {a0 : Nat} {st : g_St} {cb sb : Nat} {Q : Int32 → g_St → Prop} {X : String → g_St → Prop} (hret : ∀ (pc : Nat) (lv : List (Nat × Value)) (v : Int32) (st1 : g_St) (cb sb : Nat), decode cX1_number pc = .ok (.ireturn, 1) → narrow .int (.int v) = .int v → Q v st1 → g_J p l e R s m args below meth c 2 E st0 Z pc lv [.int v] st1 cb sb) (hthr_22 : ∀ (lv : List (Nat × Value)) (st1 : g_St) (cb sb : Nat), 1 ≤ cb → 6 ≤ sb → X "java/util/NoSuchElementException" st1 → g_J p l e R s m args below meth c 2 E st0 Z 22 lv [] st1 cb sb) (hvc : vc_X1_number l E a0 st cb sb Q X) : g_J p l e R s m args below meth c 2 E st0 Z 0 [(0, va_rf (some a0))] [] st cb sb := by
  unfold vc_X1_number at hvc
  refine j_aload_n hC dX1_number_0 rfl 0 rfl ?_
  obtain ⟨o1, ⟨fs, hr, hv⟩, hvc⟩ := hvc
  refine j_get hC fkX1_19_X1 dX1_number_1 hr hv ?_
  clear hv hr fs
  refine j_aload_n hC dX1_number_4 rfl 0 rfl ?_
  obtain ⟨o2, ⟨fs, hr, hv⟩, hvc⟩ := hvc
  refine j_get hC fkX1_10_X1 dX1_number_5 hr hv ?_
  clear hv hr fs
  obtain ⟨a3, rfl, hvc⟩ := hvc
  obtain ⟨mc6, ms7, h1, h2, hvc⟩ := hvc
  obtain ⟨⟨fs, hr⟩, hvc⟩ := hvc
  refine j_callV (As := []) (rest := [va_rf o1]) (n := 0) (ci := 0) hC hvc (lw_V q570 q396 q397 q43 q398) (by decide +kernel) (g_rm hR rfl rfl) rfl hr rfl rfl (g_sum rfl) dX1_number_8 h1 h2 (g_Ka fun o4 st5 hv2 hx => ?_)
  replace hvc := hv2 hx; clear hx hv2
  clear hr fs
  obtain ⟨a8, rfl, hvc⟩ := hvc
  obtain ⟨⟨fs, hr⟩, hvc⟩ := hvc
  refine j_callV (As := [va_rf o4]) (rest := []) (n := 1) (ci := 3) hC hvc (lw_V q1939 q1940 q1941 q47 q1942) (by decide +kernel) (g_rm hR rfl rfl) rfl hr rfl rfl (g_sum rfl) dX1_number_11 (Nat.zero_le _) (Nat.zero_le _) (g_Kap fun o9 hv2 => ?_)
  replace hvc := hv2; clear hv2
  clear hr fs
  obtain ⟨hv, hvc⟩ := hvc
  refine j_cast hC (C := "java/lang/Integer") (ci := 2) q1385 rfl (Or.inl rfl) hv dX1_number_14 ?_
  clear hv
  refine j_astore_n (lv0 := [(0, va_rf (some a0))]) hC dX1_number_17 rfl rfl [0] rfl (g_okS.h rfl g_c1 rfl) ?_
  refine j_aload_n hC dX1_number_18 rfl 0 rfl ?_
  refine j_ifnonnull (tgt := 30) hC dX1_number_19 rfl (fun a11 c10 => ?_) (fun c10 => ?_)
  · subst c10; replace hvc := hvc.2 a11 rfl
    refine j_aload_n hC dX1_number_30 rfl 0 rfl ?_
    obtain ⟨⟨fs, hr⟩, hvc⟩ := hvc
    refine j_callV (As := []) (rest := []) (n := 0) (ci := 2) hC hvc (lw_V q1386 q1387 q1388 q56 q1389) (by decide +kernel) (g_rm hR rfl rfl) rfl hr rfl rfl (g_sum rfl) dX1_number_31 (Nat.zero_le _) (Nat.zero_le _) (g_Kip fun x12 hv2 => ?_)
    replace hvc := hv2; clear hv2
    clear hr fs
    exact hret _ _ _ _ _ _ dX1_number_34 rfl hvc
  · subst c10; replace hvc := hvc.1 rfl
    exact hthr_22 _ _ _ _ hvc.1 hvc.2.1 hvc.2.2
theorem wk_X1_number {l : Launch} {E : g_E} {a0 : Nat} {st : g_St} {mc ms : Nat} {Q : Int32 → g_St → Prop} (hvc : vc_X1_number l E a0 st mc ms Q (fun _ _ => False)) : wp_X1_number l E mc ms [va_rf (some a0)] st Q :=
  g_enter (lv0 := [(0, va_rf (some a0))]) (plainFor_of_name (by decide +kernel)) (by simp [lv_args, g_c1, g_ci, g_cL]) (by simp [lg_sl, g_c1, g_ci, g_cL]) (fun p e s m args below meth c hC => wb_X1_number hC ⟨Nat.le_refl _, Nat.le_refl _⟩ (fun pc lv v st1 cb sb hd hn hq => j_ireturn hC rfl hn hd (g_iv hq)) (fun _ _ _ _ _ _ h => h.elim) hvc)
abbrev wpx_X1_number (l : Launch) (E : g_E) (mc ms : Nat) (av : List Value) (st : g_St) (Q : Int32 → g_St → Prop) (X : String → g_St → Prop) : Prop := g_WPX l E yX1_number cX1_number 2 (some .int) 11 283 mc ms av st (fun v st' => ∃ r : Int32, v = some (.int r) ∧ Q r st') X
theorem wkx_X1_number {l : Launch} (hl : l.stackTraces = false) {E : g_E} {a0 : Nat} {st : g_St} {mc ms : Nat} {Q : Int32 → g_St → Prop} {X : String → g_St → Prop} (hvc : vc_X1_number l E a0 st mc ms Q X) : wpx_X1_number l E mc ms [va_rf (some a0)] st Q X :=
  g_enterX (lv0 := [(0, va_rf (some a0))]) (by decide +kernel) (by simp [lv_args, g_c1, g_ci, g_cL]) (by simp [lg_sl, g_c1, g_ci, g_cL]) (fun p e s m args below meth c hC ht => wb_X1_number hC ⟨Nat.le_refl _, Nat.le_refl _⟩ (fun pc lv v st1 cb sb hd hn hq => j_xret (j_ireturn hC rfl hn hd (g_iv hq))) (fun lv st1 cb sb h1 h2 hx => j_throw0 hC hl ⟨by decide, by decide⟩ q1678 q64 g_thNSE g_toNSE ht dX1_number_22 dX1_number_25 dX1_number_26 dX1_number_29 (Nat.lt_of_lt_of_le (Nat.lt_succ_self _) (Nat.le_of_ble_eq_true rfl)) (Nat.le_of_ble_eq_true rfl) h1 h2 hx) hvc)
abbrev wp_X1_become (l : Launch) (E : g_E) (mc ms : Nat) (av : List Value) (st : g_St) (Q : g_St → Prop) : Prop := g_WPv l E yX1_become cX1_become 2 none 6 153 mc ms av st Q
def vc_X1_become (l : Launch) (E : g_E) (a0 : Nat) (p0 : Option Nat) (st : g_St) (cb sb : Nat) (Q : g_St → Prop) : Prop :=
  ∃ o1 : Option Nat, g_gr st a0 15 0 o1 ∧ ∃ a2 : Nat, o1 = some a2 ∧ ∃ mc4 ms5 : Nat, mc4 ≤ cb ∧ ms5 ≤ sb ∧ g_is st a2 0 ∧ wp_J1_setLength l E mc4 ms5 [va_rf (some a2), .int (nI 0)] st (fun st3 => g_Ext st st3 → ∃ o6 : Option Nat, g_gr st3 a0 15 0 o6 ∧ ∃ a7 : Nat, o6 = some a7 ∧ ∃ mc10 ms11 : Nat, mc10 ≤ (cb - mc4) ∧ ms11 ≤ (sb - ms5) ∧ g_is st3 a7 0 ∧ wp_J1_append_2 l E mc10 ms11 [va_rf (some a7), va_rf p0] st3 (fun o8 st9 => g_Ext st3 st9 → Q st9))
set_option maxHeartbeats 4000000 in
theorem wb_X1_become {p : Program} {l : Launch} {e : Env} {R : Room} {s : State} {m : MethodId} {args : Array Value} {below : List Frame} {meth : Method} {c : Code} {E : g_E} {st0 : g_St} {Z : State → Prop} (hC : g_Cx p s m args meth c cX1_become 2 "Stemspan" none "become" E st0) (hR : g_Rm 6 153 R) {a0 : Nat} {p0 : Option Nat} {st : g_St} {cb sb : Nat} {Q : g_St → Prop} (hret : ∀ (pc : Nat) (lv : List (Nat × Value)) (st1 : g_St) (cb sb : Nat), decode cX1_become pc = .ok (.return_, 1) → Q st1 → g_J p l e R s m args below meth c 2 E st0 Z pc lv [] st1 cb sb) (hvc : vc_X1_become l E a0 p0 st cb sb Q) : g_J p l e R s m args below meth c 2 E st0 Z 0 [(0, va_rf (some a0)), (1, va_rf p0)] [] st cb sb := by
  unfold vc_X1_become at hvc
  refine j_aload_n hC dX1_become_0 rfl 0 rfl ?_
  obtain ⟨o1, ⟨fs, hr, hv⟩, hvc⟩ := hvc
  refine j_get hC fkX1_10_X1 dX1_become_1 hr hv ?_
  clear hv hr fs
  refine j_iconst hC (nI 0) dX1_become_4 rfl ?_
  obtain ⟨a2, rfl, hvc⟩ := hvc
  obtain ⟨mc4, ms5, h1, h2, hvc⟩ := hvc
  obtain ⟨⟨fs, hr⟩, hvc⟩ := hvc
  refine j_callV (As := [.int (nI 0)]) (rest := []) (n := 1) (ci := 0) hC hvc (lw_V q498 q499 q500 q43 q501) (by decide +kernel) (g_rm hR rfl rfl) rfl hr rfl rfl (g_sum rfl) dX1_become_5 h1 h2 (g_Kv fun st3 hv2 hx => ?_)
  replace hvc := hv2 hx; clear hx hv2
  clear hr fs
  refine j_aload_n hC dX1_become_8 rfl 0 rfl ?_
  obtain ⟨o6, ⟨fs, hr, hv⟩, hvc⟩ := hvc
  refine j_get hC fkX1_10_X1 dX1_become_9 hr hv ?_
  clear hv hr fs
  refine j_aload_n hC dX1_become_12 rfl 1 rfl ?_
  obtain ⟨a7, rfl, hvc⟩ := hvc
  obtain ⟨mc10, ms11, h1, h2, hvc⟩ := hvc
  obtain ⟨⟨fs, hr⟩, hvc⟩ := hvc
  refine j_callV (As := [va_rf p0]) (rest := []) (n := 1) (ci := 0) hC hvc (lw_V q1170 q347 q348 q43 q349) (by decide +kernel) (g_rm hR rfl rfl) rfl hr rfl rfl (g_sum rfl) dX1_become_13 h1 h2 (g_Ka fun o8 st9 hv2 hx => ?_)
  replace hvc := hv2 hx; clear hx hv2
  clear hr fs
  refine j_pop hC dX1_become_16 g_c1 ?_
  exact hret _ _ _ _ _ dX1_become_17 hvc
theorem wk_X1_become {l : Launch} {E : g_E} {a0 : Nat} {p0 : Option Nat} {st : g_St} {mc ms : Nat} {Q : g_St → Prop} (hvc : vc_X1_become l E a0 p0 st mc ms Q) : wp_X1_become l E mc ms [va_rf (some a0), va_rf p0] st Q :=
  g_enter (lv0 := [(0, va_rf (some a0)), (1, va_rf p0)]) (plainFor_of_name (by decide +kernel)) (by simp [lv_args, g_c1, g_ci, g_cL]) (by simp [lg_sl, g_c1, g_ci, g_cL]) (fun p e s m args below meth c hC => wb_X1_become hC ⟨Nat.le_refl _, Nat.le_refl _⟩ (fun pc lv st1 cb sb hd hq => j_return hC rfl hd ⟨rfl, hq⟩) hvc)
abbrev wp_X1_word (l : Launch) (E : g_E) (mc ms : Nat) (av : List Value) (st : g_St) (Q : Int32 → g_St → Prop) : Prop := g_WPi l E yX1_word cX1_word 5 (some .int) 7 174 mc ms av st Q
def vc_X1_word (l : Launch) (E : g_E) (a0 : Nat) (p0 : Int32) (st : g_St) (cb sb : Nat) (Q : Int32 → g_St → Prop) (X : String → g_St → Prop) : Prop :=
  g_jn0 (fun (K1 : Prop) => (p0 < 0 → K1) ∧ (¬ p0 < 0 → ∃ o4 : Option Nat, g_gr st a0 15 1 o4 ∧ ∃ a5 : Nat, o4 = some a5 ∧ g_is st a5 3 ∧ wp_J5_size l E 0 0 [va_rf (some a5)] st (fun x6 stx => stx = st ∧ (p0 < x6 → ∃ o8 : Option Nat, g_gr st a0 15 1 o8 ∧ ∃ a9 : Nat, o8 = some a9 ∧ ∃ mc12 ms13 : Nat, mc12 ≤ cb ∧ ms13 ≤ sb ∧ g_is st a9 3 ∧ wp_J5_keySet l E mc12 ms13 [va_rf (some a9)] st (fun o10 st11 => g_Ext st st11 → ∃ a14 : Nat, o10 = some a14 ∧ ∃ mc17 ms18 : Nat, mc17 ≤ (cb - mc12) ∧ ms18 ≤ (sb - ms13) ∧ g_is st11 a14 8 ∧ wp_J36_iterator l E mc17 ms18 [va_rf (some a14)] st11 (fun o15 st16 => g_Ext st11 st16 → ∃ a19 : Nat, o15 = some a19 ∧ g_is st16 a19 10 ∧ wp_J39_next l E 0 0 [va_rf (some a19)] st16 (fun o20 st21 => g_Ext st16 st21 → g_isN st21 o20 1 ∧ g_lp3 (fun (K25 : (Option Nat) → Int32 → g_St → Prop) (o22 : Option Nat) (x23 : Int32) (st24 : g_St) => (p0 ≤ x23 → ∃ mc30 ms31 : Nat, mc30 ≤ ((cb - mc12) - mc17) ∧ ms31 ≤ ((sb - ms13) - ms18) ∧ g_is st24 a0 15 ∧ wp_X1_become l E mc30 ms31 [va_rf (some a0), va_rf o22] st24 (fun st29 => g_Ext st24 st29 → ∃ a32 : Nat, o22 = some a32 ∧ g_is st29 a32 1 ∧ wp_J2_length l E 0 0 [va_rf (some a32)] st29 (fun x33 stx => stx = st29 ∧ Q x33 st29))) ∧ (¬ p0 ≤ x23 → g_is st24 a19 10 ∧ wp_J39_next l E 0 0 [va_rf (some a19)] st24 (fun o34 st35 => g_Ext st24 st35 → g_isN st35 o34 1 ∧ K25 o34 (x23 + (nI 1)) st35))) o20 (nI 0) st21)))) ∧ (¬ p0 < x6 → K1)))) (1 ≤ cb ∧ 6 ≤ sb ∧ X "java/lang/IndexOutOfBoundsException" st)
set_option maxHeartbeats 4000000 in
theorem wb_X1_word {p : Program} {l : Launch} {e : Env} {R : Room} {s : State} {m : MethodId} {args : Array Value} {below : List Frame} {meth : Method} {c : Code} {E : g_E} {st0 : g_St} {Z : State → Prop} (hC : g_Cx p s m args meth c cX1_word 5 "Stemspan" (some .int) "word" E st0) (hR : g_Rm 7 174 R) {a0 : Nat} {p0 : Int32} {st : g_St} {cb sb : Nat} {Q : Int32 → g_St → Prop} {X : String → g_St → Prop} (hret : ∀ (pc : Nat) (lv : List (Nat × Value)) (v : Int32) (st1 : g_St) (cb sb : Nat), decode cX1_word pc = .ok (.ireturn, 1) → narrow .int (.int v) = .int v → Q v st1 → g_J p l e R s m args below meth c 5 E st0 Z pc lv [.int v] st1 cb sb) (hthr_15 : ∀ (lv : List (Nat × Value)) (st1 : g_St) (cb sb : Nat), 1 ≤ cb → 6 ≤ sb → X "java/lang/IndexOutOfBoundsException" st1 → g_J p l e R s m args below meth c 5 E st0 Z 15 lv [] st1 cb sb) (hvc : vc_X1_word l E a0 p0 st cb sb Q X) : g_J p l e R s m args below meth c 5 E st0 Z 0 [(0, va_rf (some a0)), (1, .int p0)] [] st cb sb := by
  unfold vc_X1_word at hvc
  refine j_iload_n hC dX1_word_0 rfl 1 rfl ?_
  replace hvc := g_jn0_o hvc
  obtain ⟨K1, hK39, hvc⟩ := hvc
  have kh2 : K1 → g_J p l e R s m args below meth c 5 E st0 Z 15 [] [] st cb sb := by
    clear hvc
    intro hvc
    replace hvc := hK39 hvc
    exact hthr_15 _ _ _ _ hvc.1 hvc.2.1 hvc.2.2
  refine j_if_lt (tgt := 15) hC dX1_word_1 rfl (fun c3 => ?_) (fun c3 => ?_)
  · replace hvc := hvc.1 c3
    exact j_sub [] rfl (kh2 hvc)
  · replace hvc := hvc.2 c3
    refine j_iload_n hC dX1_word_4 rfl 1 rfl ?_
    refine j_aload_n hC dX1_word_5 rfl 0 rfl ?_
    obtain ⟨o4, ⟨fs, hr, hv⟩, hvc⟩ := hvc
    refine j_get hC fkX1_19_X1 dX1_word_6 hr hv ?_
    clear hv hr fs
    obtain ⟨a5, rfl, hvc⟩ := hvc
    obtain ⟨⟨fs, hr⟩, hvc⟩ := hvc
    refine j_callV (As := []) (rest := [.int p0]) (n := 0) (ci := 3) hC hvc (lw_V q614 q615 q616 q47 q617) (by decide +kernel) (g_rm hR rfl rfl) rfl hr rfl rfl (g_sum rfl) dX1_word_9 (Nat.zero_le _) (Nat.zero_le _) (g_Kip fun x6 hv2 => ?_)
    replace hvc := hv2; clear hv2
    clear hr fs
    refine j_icmp_lt (tgt := 23) hC dX1_word_12 rfl (fun c7 => ?_) (fun c7 => ?_)
    · replace hvc := hvc.1 c7
      refine j_aload_n hC dX1_word_23 rfl 0 rfl ?_
      obtain ⟨o8, ⟨fs, hr, hv⟩, hvc⟩ := hvc
      refine j_get hC fkX1_19_X1 dX1_word_24 hr hv ?_
      clear hv hr fs
      obtain ⟨a9, rfl, hvc⟩ := hvc
      obtain ⟨mc12, ms13, h1, h2, hvc⟩ := hvc
      obtain ⟨⟨fs, hr⟩, hvc⟩ := hvc
      refine j_callV (As := []) (rest := []) (n := 0) (ci := 3) hC hvc (lw_V q1622 q1623 q1624 q47 q1625) (by decide +kernel) (g_rm hR rfl rfl) rfl hr rfl rfl (g_sum rfl) dX1_word_27 h1 h2 (g_Ka fun o10 st11 hv2 hx => ?_)
      replace hvc := hv2 hx; clear hx hv2
      clear hr fs
      obtain ⟨a14, rfl, hvc⟩ := hvc
      obtain ⟨mc17, ms18, h1, h2, hvc⟩ := hvc
      obtain ⟨⟨fs, hr⟩, hvc⟩ := hvc
      refine j_callF (As := []) (rest := []) (n := 0) (x := ⟨"java/util/Set", "iterator", "()Ljava/util/Iterator;"⟩) (C := "java/util/TreeMap$KeySet") (ci := 8) hC hvc (lw_F q1641 q1304 q1306 q82 q1308) gf_17 (by decide +kernel) (g_rm hR rfl rfl) rfl hr rfl rfl (g_sum rfl) dX1_word_30 h1 h2 (g_Ka fun o15 st16 hv2 hx => ?_)
      replace hvc := hv2 hx; clear hx hv2
      clear hr fs
      refine j_astore_n (lv0 := [(1, .int p0), (0, va_rf (some a0))]) hC dX1_word_35 rfl rfl [1, 0] rfl (g_okS.h rfl rfl rfl) ?_
      refine j_aload_n hC dX1_word_36 rfl 0 rfl ?_
      obtain ⟨a19, rfl, hvc⟩ := hvc
      obtain ⟨⟨fs, hr⟩, hvc⟩ := hvc
      refine j_callF (As := []) (rest := []) (n := 0) (x := ⟨"java/util/Iterator", "next", "()Ljava/lang/Object;"⟩) (C := "java/util/TreeMap$KeyIterator") (ci := 10) hC hvc (lw_F q1384 q1084 q1086 q85 q1088) gf_24 (by decide +kernel) (g_rm hR rfl rfl) rfl hr rfl rfl (g_sum rfl) dX1_word_37 (Nat.zero_le _) (Nat.zero_le _) (g_Ka fun o20 st21 hv2 hx => ?_)
      replace hvc := hv2 hx; clear hx hv2
      clear hr fs
      obtain ⟨hv, hvc⟩ := hvc
      refine j_cast hC (C := "java/lang/String") (ci := 1) q174 rfl (Or.inl rfl) hv dX1_word_42 ?_
      clear hv
      refine j_astore_n (lv0 := [(2, va_rf (some a19)), (1, .int p0), (0, va_rf (some a0))]) hC dX1_word_45 rfl rfl [0, 1, 2] rfl (g_okS.h rfl g_c1 rfl) ?_
      refine j_iconst hC (nI 0) dX1_word_46 rfl ?_
      refine j_istore (lv0 := [(3, va_rf o20), (2, va_rf (some a19)), (1, .int p0), (0, va_rf (some a0))]) hC dX1_word_47 rfl [0, 1, 2, 3] rfl (g_okS.h rfl g_c1 rfl) ?_
      replace hvc := g_lp3_o hvc
      obtain ⟨K25, hz36, hs37, n38, hvc⟩ := hvc
      have kh26 : ∀ (n : Nat) (o22 : Option Nat) (x23 : Int32) (st24 : g_St), K25 n o22 x23 st24 → g_J p l e R s m args below meth c 5 E st0 Z 49 [(0, va_rf (some a0)), (1, .int p0), (2, va_rf (some a19)), (3, va_rf o22), (4, .int x23)] [] st24 ((cb - mc12) - mc17) ((sb - ms13) - ms18) := by
        clear hvc
        intro n
        induction n with
        | zero => intro o22 x23 st24 hvc; exact absurd hvc (hz36 _ _ _)
        | succ n ih27 =>
          intro o22 x23 st24 hvc
          replace hvc := hs37 n _ _ _ hvc
          refine j_iload hC dX1_word_49 4 rfl ?_
          refine j_iload_n hC dX1_word_51 rfl 1 rfl ?_
          refine j_icmp_ge (tgt := 71) hC dX1_word_52 rfl (fun c28 => ?_) (fun c28 => ?_)
          · replace hvc := hvc.1 c28
            refine j_aload_n hC dX1_word_71 rfl 0 rfl ?_
            refine j_aload_n hC dX1_word_72 rfl 3 rfl ?_
            obtain ⟨mc30, ms31, h1, h2, hvc⟩ := hvc
            obtain ⟨⟨fs, hr⟩, hvc⟩ := hvc
            refine j_callV (As := [va_rf o22]) (rest := []) (n := 1) (ci := 15) hC hvc (lw_V q1950 q1952 qs17 q41 q1953) (by decide +kernel) (g_rm hR rfl rfl) rfl hr rfl rfl (g_sum rfl) dX1_word_73 h1 h2 (g_Kv fun st29 hv2 hx => ?_)
            replace hvc := hv2 hx; clear hx hv2
            clear hr fs
            refine j_aload_n hC dX1_word_76 rfl 3 rfl ?_
            obtain ⟨a32, rfl, hvc⟩ := hvc
            obtain ⟨⟨fs, hr⟩, hvc⟩ := hvc
            refine j_callV (As := []) (rest := []) (n := 0) (ci := 1) hC hvc (lw_V q1546 q182 q183 q44 q184) (by decide +kernel) (g_rm hR rfl rfl) rfl hr rfl rfl (g_sum rfl) dX1_word_77 (Nat.zero_le _) (Nat.zero_le _) (g_Kip fun x33 hv2 => ?_)
            replace hvc := hv2; clear hv2
            clear hr fs
            exact hret _ _ _ _ _ _ dX1_word_80 rfl hvc
          · replace hvc := hvc.2 c28
            refine j_aload_n hC dX1_word_55 rfl 2 rfl ?_
            obtain ⟨⟨fs, hr⟩, hvc⟩ := hvc
            refine j_callF (As := []) (rest := []) (n := 0) (x := ⟨"java/util/Iterator", "next", "()Ljava/lang/Object;"⟩) (C := "java/util/TreeMap$KeyIterator") (ci := 10) hC hvc (lw_F q1384 q1084 q1086 q85 q1088) gf_24 (by decide +kernel) (g_rm hR rfl rfl) rfl hr rfl rfl (g_sum rfl) dX1_word_56 (Nat.zero_le _) (Nat.zero_le _) (g_Ka fun o34 st35 hv2 hx => ?_)
            replace hvc := hv2 hx; clear hx hv2
            clear hr fs
            obtain ⟨hv, hvc⟩ := hvc
            refine j_cast hC (C := "java/lang/String") (ci := 1) q174 rfl (Or.inl rfl) hv dX1_word_61 ?_
            clear hv
            refine j_astore_n (lv0 := [(2, va_rf (some a19)), (0, va_rf (some a0)), (1, .int p0), (4, .int x23)]) hC dX1_word_64 rfl rfl [2, 0, 1, 4] rfl (g_okS.h rfl g_c1 rfl) ?_
            refine j_iinc (lv0 := [(3, va_rf o34), (2, va_rf (some a19)), (0, va_rf (some a0)), (1, .int p0)]) hC (nI 1) dX1_word_65 4 rfl rfl rfl [0, 1, 2, 3] rfl (g_okS.h rfl g_c1 rfl) ?_
            refine j_goto (tgt := 49) hC dX1_word_68 rfl ?_
            exact j_sub [3, 4, 2, 1, 0] rfl (ih27 o34 (x23 + (nI 1)) st35 hvc)
      exact j_sub [4, 3, 2, 1, 0] rfl (kh26 n38 o20 (nI 0) st21 hvc)
    · replace hvc := hvc.2 c7
      exact j_sub [] rfl (kh2 hvc)
theorem wk_X1_word {l : Launch} {E : g_E} {a0 : Nat} {p0 : Int32} {st : g_St} {mc ms : Nat} {Q : Int32 → g_St → Prop} (hvc : vc_X1_word l E a0 p0 st mc ms Q (fun _ _ => False)) : wp_X1_word l E mc ms [va_rf (some a0), .int p0] st Q :=
  g_enter (lv0 := [(0, va_rf (some a0)), (1, .int p0)]) (plainFor_of_name (by decide +kernel)) (by simp [lv_args, g_c1, g_ci, g_cL]) (by simp [lg_sl, g_c1, g_ci, g_cL]) (fun p e s m args below meth c hC => wb_X1_word hC ⟨Nat.le_refl _, Nat.le_refl _⟩ (fun pc lv v st1 cb sb hd hn hq => j_ireturn hC rfl hn hd (g_iv hq)) (fun _ _ _ _ _ _ h => h.elim) hvc)
abbrev wpx_X1_word (l : Launch) (E : g_E) (mc ms : Nat) (av : List Value) (st : g_St) (Q : Int32 → g_St → Prop) (X : String → g_St → Prop) : Prop := g_WPX l E yX1_word cX1_word 5 (some .int) 7 174 mc ms av st (fun v st' => ∃ r : Int32, v = some (.int r) ∧ Q r st') X
theorem wkx_X1_word {l : Launch} (hl : l.stackTraces = false) {E : g_E} {a0 : Nat} {p0 : Int32} {st : g_St} {mc ms : Nat} {Q : Int32 → g_St → Prop} {X : String → g_St → Prop} (hvc : vc_X1_word l E a0 p0 st mc ms Q X) : wpx_X1_word l E mc ms [va_rf (some a0), .int p0] st Q X :=
  g_enterX (lv0 := [(0, va_rf (some a0)), (1, .int p0)]) (by decide +kernel) (by simp [lv_args, g_c1, g_ci, g_cL]) (by simp [lg_sl, g_c1, g_ci, g_cL]) (fun p e s m args below meth c hC ht => wb_X1_word hC ⟨Nat.le_refl _, Nat.le_refl _⟩ (fun pc lv v st1 cb sb hd hn hq => j_xret (j_ireturn hC rfl hn hd (g_iv hq))) (fun lv st1 cb sb h1 h2 hx => j_throw0 hC hl ⟨by decide, by decide⟩ q1756 q62 g_thIOB g_toIOB ht dX1_word_15 dX1_word_18 dX1_word_19 dX1_word_22 (Nat.lt_of_lt_of_le (Nat.lt_succ_self _) (Nat.le_of_ble_eq_true rfl)) (Nat.le_of_ble_eq_true rfl) h1 h2 hx) hvc)
abbrev wp_X1_near (l : Launch) (E : g_E) (mc ms : Nat) (av : List Value) (st : g_St) (Q : Int32 → g_St → Prop) : Prop := g_WPi l E yX1_near cX1_near 4 (some .int) 12 305 mc ms av st Q
def vc_X1_near (l : Launch) (E : g_E) (a0 : Nat) (p0 : Int32) (st : g_St) (cb sb : Nat) (Q : Int32 → g_St → Prop) (X : String → g_St → Prop) : Prop :=
  ∃ o1 : Option Nat, g_gr st a0 15 0 o1 ∧ ∃ a2 : Nat, o1 = some a2 ∧ ∃ mc5 ms6 : Nat, mc5 ≤ cb ∧ ms6 ≤ sb ∧ g_is st a2 0 ∧ wp_J1_toString l E mc5 ms6 [va_rf (some a2)] st (fun o3 st4 => g_Ext st st4 → g_jn0 (fun (K7 : Prop) => g_jn1 (fun (K10 : (Option Nat) → Prop) => ((∀ z : Nat, z ∈ [99, 102, 104, 108] → ¬ p0 = nI z) → K7) ∧ (p0 = nI 99 → ∃ o23 : Option Nat, g_gr st4 a0 15 1 o23 ∧ ∃ a24 : Nat, o23 = some a24 ∧ g_is st4 a24 3 ∧ wp_J5_ceilingKey l E 0 0 [va_rf (some a24), va_rf o3] st4 (fun o25 stx => stx = st4 ∧ g_isN st4 o25 1 ∧ K10 o25)) ∧ (p0 = nI 102 → ∃ o26 : Option Nat, g_gr st4 a0 15 1 o26 ∧ ∃ a27 : Nat, o26 = some a27 ∧ g_is st4 a27 3 ∧ wp_J5_floorKey l E 0 0 [va_rf (some a27), va_rf o3] st4 (fun o28 stx => stx = st4 ∧ g_isN st4 o28 1 ∧ K10 o28)) ∧ (p0 = nI 104 → ∃ o29 : Option Nat, g_gr st4 a0 15 1 o29 ∧ ∃ a30 : Nat, o29 = some a30 ∧ g_is st4 a30 3 ∧ wp_J5_higherKey l E 0 0 [va_rf (some a30), va_rf o3] st4 (fun o31 stx => stx = st4 ∧ g_isN st4 o31 1 ∧ K10 o31)) ∧ (p0 = nI 108 → ∃ o32 : Option Nat, g_gr st4 a0 15 1 o32 ∧ ∃ a33 : Nat, o32 = some a33 ∧ g_is st4 a33 3 ∧ wp_J5_lowerKey l E 0 0 [va_rf (some a33), va_rf o3] st4 (fun o34 stx => stx = st4 ∧ g_isN st4 o34 1 ∧ K10 o34))) (fun (o9 : Option Nat) => (o9 = none → 1 ≤ (cb - mc5) ∧ 6 ≤ (sb - ms6) ∧ X "java/util/NoSuchElementException" st4) ∧ (∀ a13 : Nat, o9 = some a13 → ∃ mc15 ms16 : Nat, mc15 ≤ (cb - mc5) ∧ ms16 ≤ (sb - ms6) ∧ g_is st4 a0 15 ∧ wp_X1_become l E mc15 ms16 [va_rf (some a0), va_rf (some a13)] st4 (fun st14 => g_Ext st4 st14 → ∃ o17 : Option Nat, g_gr st14 a0 15 1 o17 ∧ ∃ a18 : Nat, o17 = some a18 ∧ g_is st14 a18 3 ∧ wp_J5_get l E 0 0 [va_rf (some a18), va_rf (some a13)] st14 (fun o19 stx => stx = st14 ∧ g_isN st14 o19 2 ∧ ∃ a20 : Nat, o19 = some a20 ∧ g_is st14 a20 2 ∧ wp_J14_intValue l E 0 0 [va_rf (some a20)] st14 (fun x21 stx => stx = st14 ∧ Q x21 st14)))))) (1 ≤ (cb - mc5) ∧ 6 ≤ (sb - ms6) ∧ X "java/lang/IllegalArgumentException" st4))
set_option maxHeartbeats 4000000 in
theorem wb_X1_near {p : Program} {l : Launch} {e : Env} {R : Room} {s : State} {m : MethodId} {args : Array Value} {below : List Frame} {meth : Method} {c : Code} {E : g_E} {st0 : g_St} {Z : State → Prop} (hC : g_Cx p s m args meth c cX1_near 4 "Stemspan" (some .int) "near" E st0) (hR : g_Rm 12 305 R) {a0 : Nat} {p0 : Int32} {st : g_St} {cb sb : Nat} {Q : Int32 → g_St → Prop} {X : String → g_St → Prop} (hret : ∀ (pc : Nat) (lv : List (Nat × Value)) (v : Int32) (st1 : g_St) (cb sb : Nat), decode cX1_near pc = .ok (.ireturn, 1) → narrow .int (.int v) = .int v → Q v st1 → g_J p l e R s m args below meth c 4 E st0 Z pc lv [.int v] st1 cb sb) (hthr_124 : ∀ (lv : List (Nat × Value)) (st1 : g_St) (cb sb : Nat), 1 ≤ cb → 6 ≤ sb → X "java/lang/IllegalArgumentException" st1 → g_J p l e R s m args below meth c 4 E st0 Z 124 lv [] st1 cb sb) (hthr_136 : ∀ (lv : List (Nat × Value)) (st1 : g_St) (cb sb : Nat), 1 ≤ cb → 6 ≤ sb → X "java/util/NoSuchElementException" st1 → g_J p l e R s m args below meth c 4 E st0 Z 136 lv [] st1 cb sb) (hvc : vc_X1_near l E a0 p0 st cb sb Q X) : g_J p l e R s m args below meth c 4 E st0 Z 0 [(0, va_rf (some a0)), (1, .int p0)] [] st cb sb := by
  unfold vc_X1_near at hvc
  refine j_aload_n hC dX1_near_0 rfl 0 rfl ?_
  obtain ⟨o1, ⟨fs, hr, hv⟩, hvc⟩ := hvc
  refine j_get hC fkX1_10_X1 dX1_near_1 hr hv ?_
  clear hv hr fs
  obtain ⟨a2, rfl, hvc⟩ := hvc
  obtain ⟨mc5, ms6, h1, h2, hvc⟩ := hvc
  obtain ⟨⟨fs, hr⟩, hvc⟩ := hvc
  refine j_callV (As := []) (rest := []) (n := 0) (ci := 0) hC hvc (lw_V q570 q396 q397 q43 q398) (by decide +kernel) (g_rm hR rfl rfl) rfl hr rfl rfl (g_sum rfl) dX1_near_4 h1 h2 (g_Ka fun o3 st4 hv2 hx => ?_)
  replace hvc := hv2 hx; clear hx hv2
  clear hr fs
  refine j_astore_n (lv0 := [(1, .int p0), (0, va_rf (some a0))]) hC dX1_near_7 rfl rfl [1, 0] rfl (g_okS.h rfl rfl rfl) ?_
  refine j_iload_n hC dX1_near_8 rfl 1 rfl ?_
  replace hvc := g_jn0_o hvc
  obtain ⟨K7, hK36, hvc⟩ := hvc
  have kh8 : K7 → g_J p l e R s m args below meth c 4 E st0 Z 124 [] [] st4 (cb - mc5) (sb - ms6) := by
    clear hvc
    intro hvc
    replace hvc := hK36 hvc
    exact hthr_124 _ _ _ _ hvc.1 hvc.2.1 hvc.2.2
  replace hvc := g_jn1_o hvc
  obtain ⟨K10, hK35, hvc⟩ := hvc
  have kh11 : ∀ (o9 : Option Nat), K10 o9 → g_J p l e R s m args below meth c 4 E st0 Z 132 [(0, va_rf (some a0)), (3, va_rf o9)] [] st4 (cb - mc5) (sb - ms6) := by
    clear hvc
    intro o9 hvc
    replace hvc := hK35 _ hvc
    refine j_aload_n hC dX1_near_132 rfl 1 rfl ?_
    refine j_ifnonnull (tgt := 144) hC dX1_near_133 rfl (fun a13 c12 => ?_) (fun c12 => ?_)
    · subst c12; replace hvc := hvc.2 a13 rfl
      refine j_aload_n hC dX1_near_144 rfl 0 rfl ?_
      refine j_aload_n hC dX1_near_145 rfl 1 rfl ?_
      obtain ⟨mc15, ms16, h1, h2, hvc⟩ := hvc
      obtain ⟨⟨fs, hr⟩, hvc⟩ := hvc
      refine j_callV (As := [va_rf (some a13)]) (rest := []) (n := 1) (ci := 15) hC hvc (lw_V q1950 q1952 qs17 q41 q1953) (by decide +kernel) (g_rm hR rfl rfl) rfl hr rfl rfl (g_sum rfl) dX1_near_146 h1 h2 (g_Kv fun st14 hv2 hx => ?_)
      replace hvc := hv2 hx; clear hx hv2
      clear hr fs
      refine j_aload_n hC dX1_near_149 rfl 0 rfl ?_
      obtain ⟨o17, ⟨fs, hr, hv⟩, hvc⟩ := hvc
      refine j_get hC fkX1_19_X1 dX1_near_150 hr hv ?_
      clear hv hr fs
      refine j_aload_n hC dX1_near_153 rfl 1 rfl ?_
      obtain ⟨a18, rfl, hvc⟩ := hvc
      obtain ⟨⟨fs, hr⟩, hvc⟩ := hvc
      refine j_callV (As := [va_rf (some a13)]) (rest := []) (n := 1) (ci := 3) hC hvc (lw_V q1939 q1940 q1941 q47 q1942) (by decide +kernel) (g_rm hR rfl rfl) rfl hr rfl rfl (g_sum rfl) dX1_near_154 (Nat.zero_le _) (Nat.zero_le _) (g_Kap fun o19 hv2 => ?_)
      replace hvc := hv2; clear hv2
      clear hr fs
      obtain ⟨hv, hvc⟩ := hvc
      refine j_cast hC (C := "java/lang/Integer") (ci := 2) q1385 rfl (Or.inl rfl) hv dX1_near_157 ?_
      clear hv
      obtain ⟨a20, rfl, hvc⟩ := hvc
      obtain ⟨⟨fs, hr⟩, hvc⟩ := hvc
      refine j_callV (As := []) (rest := []) (n := 0) (ci := 2) hC hvc (lw_V q1386 q1387 q1388 q56 q1389) (by decide +kernel) (g_rm hR rfl rfl) rfl hr rfl rfl (g_sum rfl) dX1_near_160 (Nat.zero_le _) (Nat.zero_le _) (g_Kip fun x21 hv2 => ?_)
      replace hvc := hv2; clear hv2
      clear hr fs
      exact hret _ _ _ _ _ _ dX1_near_163 rfl hvc
    · subst c12; replace hvc := hvc.1 rfl
      exact hthr_136 _ _ _ _ hvc.1 hvc.2.1 hvc.2.2
  refine j_tab (vs := [(99, 79), (102, 64), (104, 109), (108, 94)]) hC dX1_near_9 (fun c22 => ?_) ?_
  · replace hvc := hvc.1 c22
    exact j_sub [] rfl (kh8 hvc)
  replace hvc := hvc.2
  refine g_all_c (fun c22 => ?_) ?_
  · replace hvc := hvc.1 c22
    refine j_aload_n hC dX1_near_79 rfl 2 rfl ?_
    obtain ⟨o23, ⟨fs, hr, hv⟩, hvc⟩ := hvc
    refine j_get hC fkX1_19_X1 dX1_near_80 hr hv ?_
    clear hv hr fs
    refine j_aload_n hC dX1_near_83 rfl 0 rfl ?_
    obtain ⟨a24, rfl, hvc⟩ := hvc
    obtain ⟨⟨fs, hr⟩, hvc⟩ := hvc
    refine j_callV (As := [va_rf o3]) (rest := []) (n := 1) (ci := 3) hC hvc (lw_V q1538 q1539 q1540 q47 q1541) (by decide +kernel) (g_rm hR rfl rfl) rfl hr rfl rfl (g_sum rfl) dX1_near_84 (Nat.zero_le _) (Nat.zero_le _) (g_Kap fun o25 hv2 => ?_)
    replace hvc := hv2; clear hv2
    clear hr fs
    obtain ⟨hv, hvc⟩ := hvc
    refine j_cast hC (C := "java/lang/String") (ci := 1) q174 rfl (Or.inl rfl) hv dX1_near_87 ?_
    clear hv
    refine j_astore_n (lv0 := [(2, va_rf o3), (1, .int p0), (0, va_rf (some a0))]) hC dX1_near_90 rfl rfl [0, 1, 2] rfl (g_okS.h rfl g_c1 rfl) ?_
    refine j_goto (tgt := 132) hC dX1_near_91 rfl ?_
    exact j_sub [3, 0] rfl (kh11 o25 hvc)
  replace hvc := hvc.2
  refine g_all_c (fun c22 => ?_) ?_
  · replace hvc := hvc.1 c22
    refine j_aload_n hC dX1_near_64 rfl 2 rfl ?_
    obtain ⟨o26, ⟨fs, hr, hv⟩, hvc⟩ := hvc
    refine j_get hC fkX1_19_X1 dX1_near_65 hr hv ?_
    clear hv hr fs
    refine j_aload_n hC dX1_near_68 rfl 0 rfl ?_
    obtain ⟨a27, rfl, hvc⟩ := hvc
    obtain ⟨⟨fs, hr⟩, hvc⟩ := hvc
    refine j_callV (As := [va_rf o3]) (rest := []) (n := 1) (ci := 3) hC hvc (lw_V q1527 q1528 q1529 q47 q1530) (by decide +kernel) (g_rm hR rfl rfl) rfl hr rfl rfl (g_sum rfl) dX1_near_69 (Nat.zero_le _) (Nat.zero_le _) (g_Kap fun o28 hv2 => ?_)
    replace hvc := hv2; clear hv2
    clear hr fs
    obtain ⟨hv, hvc⟩ := hvc
    refine j_cast hC (C := "java/lang/String") (ci := 1) q174 rfl (Or.inl rfl) hv dX1_near_72 ?_
    clear hv
    refine j_astore_n (lv0 := [(2, va_rf o3), (1, .int p0), (0, va_rf (some a0))]) hC dX1_near_75 rfl rfl [0, 1, 2] rfl (g_okS.h rfl g_c1 rfl) ?_
    refine j_goto (tgt := 132) hC dX1_near_76 rfl ?_
    exact j_sub [3, 0] rfl (kh11 o28 hvc)
  replace hvc := hvc.2
  refine g_all_c (fun c22 => ?_) ?_
  · replace hvc := hvc.1 c22
    refine j_aload_n hC dX1_near_109 rfl 2 rfl ?_
    obtain ⟨o29, ⟨fs, hr, hv⟩, hvc⟩ := hvc
    refine j_get hC fkX1_19_X1 dX1_near_110 hr hv ?_
    clear hv hr fs
    refine j_aload_n hC dX1_near_113 rfl 0 rfl ?_
    obtain ⟨a30, rfl, hvc⟩ := hvc
    obtain ⟨⟨fs, hr⟩, hvc⟩ := hvc
    refine j_callV (As := [va_rf o3]) (rest := []) (n := 1) (ci := 3) hC hvc (lw_V q1969 q1970 q1971 q47 q1972) (by decide +kernel) (g_rm hR rfl rfl) rfl hr rfl rfl (g_sum rfl) dX1_near_114 (Nat.zero_le _) (Nat.zero_le _) (g_Kap fun o31 hv2 => ?_)
    replace hvc := hv2; clear hv2
    clear hr fs
    obtain ⟨hv, hvc⟩ := hvc
    refine j_cast hC (C := "java/lang/String") (ci := 1) q174 rfl (Or.inl rfl) hv dX1_near_117 ?_
    clear hv
    refine j_astore_n (lv0 := [(2, va_rf o3), (1, .int p0), (0, va_rf (some a0))]) hC dX1_near_120 rfl rfl [0, 1, 2] rfl (g_okS.h rfl g_c1 rfl) ?_
    refine j_goto (tgt := 132) hC dX1_near_121 rfl ?_
    exact j_sub [3, 0] rfl (kh11 o31 hvc)
  replace hvc := hvc.2
  refine g_all_c (fun c22 => ?_) g_all_n
  · replace hvc := hvc c22
    refine j_aload_n hC dX1_near_94 rfl 2 rfl ?_
    obtain ⟨o32, ⟨fs, hr, hv⟩, hvc⟩ := hvc
    refine j_get hC fkX1_19_X1 dX1_near_95 hr hv ?_
    clear hv hr fs
    refine j_aload_n hC dX1_near_98 rfl 0 rfl ?_
    obtain ⟨a33, rfl, hvc⟩ := hvc
    obtain ⟨⟨fs, hr⟩, hvc⟩ := hvc
    refine j_callV (As := [va_rf o3]) (rest := []) (n := 1) (ci := 3) hC hvc (lw_V q1961 q1962 q1963 q47 q1964) (by decide +kernel) (g_rm hR rfl rfl) rfl hr rfl rfl (g_sum rfl) dX1_near_99 (Nat.zero_le _) (Nat.zero_le _) (g_Kap fun o34 hv2 => ?_)
    replace hvc := hv2; clear hv2
    clear hr fs
    obtain ⟨hv, hvc⟩ := hvc
    refine j_cast hC (C := "java/lang/String") (ci := 1) q174 rfl (Or.inl rfl) hv dX1_near_102 ?_
    clear hv
    refine j_astore_n (lv0 := [(2, va_rf o3), (1, .int p0), (0, va_rf (some a0))]) hC dX1_near_105 rfl rfl [0, 1, 2] rfl (g_okS.h rfl g_c1 rfl) ?_
    refine j_goto (tgt := 132) hC dX1_near_106 rfl ?_
    exact j_sub [3, 0] rfl (kh11 o34 hvc)
theorem wk_X1_near {l : Launch} {E : g_E} {a0 : Nat} {p0 : Int32} {st : g_St} {mc ms : Nat} {Q : Int32 → g_St → Prop} (hvc : vc_X1_near l E a0 p0 st mc ms Q (fun _ _ => False)) : wp_X1_near l E mc ms [va_rf (some a0), .int p0] st Q :=
  g_enter (lv0 := [(0, va_rf (some a0)), (1, .int p0)]) (plainFor_of_name (by decide +kernel)) (by simp [lv_args, g_c1, g_ci, g_cL]) (by simp [lg_sl, g_c1, g_ci, g_cL]) (fun p e s m args below meth c hC => wb_X1_near hC ⟨Nat.le_refl _, Nat.le_refl _⟩ (fun pc lv v st1 cb sb hd hn hq => j_ireturn hC rfl hn hd (g_iv hq)) (fun _ _ _ _ _ _ h => h.elim) (fun _ _ _ _ _ _ h => h.elim) hvc)
abbrev wpx_X1_near (l : Launch) (E : g_E) (mc ms : Nat) (av : List Value) (st : g_St) (Q : Int32 → g_St → Prop) (X : String → g_St → Prop) : Prop := g_WPX l E yX1_near cX1_near 4 (some .int) 12 305 mc ms av st (fun v st' => ∃ r : Int32, v = some (.int r) ∧ Q r st') X
theorem wkx_X1_near {l : Launch} (hl : l.stackTraces = false) {E : g_E} {a0 : Nat} {p0 : Int32} {st : g_St} {mc ms : Nat} {Q : Int32 → g_St → Prop} {X : String → g_St → Prop} (hvc : vc_X1_near l E a0 p0 st mc ms Q X) : wpx_X1_near l E mc ms [va_rf (some a0), .int p0] st Q X :=
  g_enterX (lv0 := [(0, va_rf (some a0)), (1, .int p0)]) (by decide +kernel) (by simp [lv_args, g_c1, g_ci, g_cL]) (by simp [lg_sl, g_c1, g_ci, g_cL]) (fun p e s m args below meth c hC ht => wb_X1_near hC ⟨Nat.le_refl _, Nat.le_refl _⟩ (fun pc lv v st1 cb sb hd hn hq => j_xret (j_ireturn hC rfl hn hd (g_iv hq))) (fun lv st1 cb sb h1 h2 hx => j_throw0 hC hl ⟨by decide, by decide⟩ q1731 q54 g_thIAE g_toIAE ht dX1_near_124 dX1_near_127 dX1_near_128 dX1_near_131 (Nat.lt_of_lt_of_le (Nat.lt_succ_self _) (Nat.le_of_ble_eq_true rfl)) (Nat.le_of_ble_eq_true rfl) h1 h2 hx) (fun lv st1 cb sb h1 h2 hx => j_throw0 hC hl ⟨by decide, by decide⟩ q1678 q64 g_thNSE g_toNSE ht dX1_near_136 dX1_near_139 dX1_near_140 dX1_near_143 (Nat.lt_of_lt_of_le (Nat.lt_succ_self _) (Nat.le_of_ble_eq_true rfl)) (Nat.le_of_ble_eq_true rfl) h1 h2 hx) hvc)
abbrev wp_X1_begunAt (l : Launch) (E : g_E) (mc ms : Nat) (av : List Value) (st : g_St) (Q : Int32 → g_St → Prop) : Prop := g_WPi l E yX1_begunAt cX1_begunAt 5 (some .int) 16 387 mc ms av st Q
def vc_X1_begunAt (l : Launch) (E : g_E) (a0 : Nat) (p0 : Int32) (st : g_St) (cb sb : Nat) (Q : Int32 → g_St → Prop) (X : String → g_St → Prop) : Prop :=
  ∃ o1 : Option Nat, g_gr st a0 15 0 o1 ∧ ∃ a2 : Nat, o1 = some a2 ∧ ∃ mc5 ms6 : Nat, mc5 ≤ cb ∧ ms6 ≤ sb ∧ g_is st a2 0 ∧ wp_J1_toString l E mc5 ms6 [va_rf (some a2)] st (fun o3 st4 => g_Ext st st4 → g_jn3 (fun (K10 : g_St → Nat → Nat → Prop) => (p0 < 0 → K10 st4 (cb - mc5) (sb - ms6)) ∧ (¬ p0 < 0 → ∃ mc15 ms16 : Nat, mc15 ≤ (cb - mc5) ∧ ms16 ≤ (sb - ms6) ∧ g_is st4 a0 15 ∧ wp_X1_span l E mc15 ms16 [va_rf (some a0), va_rf o3] st4 (fun x13 st14 => g_Ext st4 st14 → (p0 < x13 → ∃ o18 : Option Nat, g_gr st14 a0 15 1 o18 ∧ ∃ a19 : Nat, o18 = some a19 ∧ ∃ mc22 ms23 : Nat, mc22 ≤ ((cb - mc5) - mc15) ∧ ms23 ≤ ((sb - ms6) - ms16) ∧ g_is st14 a19 3 ∧ wp_J5_ceilingEntry l E mc22 ms23 [va_rf (some a19), va_rf o3] st14 (fun o20 st21 => g_Ext st14 st21 → g_lp5 (fun (K29 : (Option Nat) → Int32 → g_St → Nat → Nat → Prop) (o24 : Option Nat) (x25 : Int32) (st26 : g_St) (cb27 : Nat) (sb28 : Nat) => (p0 ≤ x25 → ∃ a33 : Nat, o24 = some a33 ∧ g_is st26 a33 11 ∧ wp_J41_getKey l E 0 0 [va_rf (some a33)] st26 (fun o34 stx => stx = st26 ∧ g_isN st26 o34 1 ∧ ∃ mc36 ms37 : Nat, mc36 ≤ cb27 ∧ ms37 ≤ sb28 ∧ g_is st26 a0 15 ∧ wp_X1_become l E mc36 ms37 [va_rf (some a0), va_rf o34] st26 (fun st35 => g_Ext st26 st35 → g_is st35 a33 11 ∧ wp_J41_getValue l E 0 0 [va_rf (some a33)] st35 (fun o38 stx => stx = st35 ∧ g_isN st35 o38 2 ∧ ∃ a39 : Nat, o38 = some a39 ∧ g_is st35 a39 2 ∧ wp_J14_intValue l E 0 0 [va_rf (some a39)] st35 (fun x40 stx => stx = st35 ∧ Q x40 st35))))) ∧ (¬ p0 ≤ x25 → ∃ o41 : Option Nat, g_gr st26 a0 15 1 o41 ∧ ∃ a42 : Nat, o24 = some a42 ∧ g_is st26 a42 11 ∧ wp_J41_getKey l E 0 0 [va_rf (some a42)] st26 (fun o43 stx => stx = st26 ∧ g_isN st26 o43 1 ∧ ∃ a44 : Nat, o41 = some a44 ∧ ∃ mc47 ms48 : Nat, mc47 ≤ cb27 ∧ ms48 ≤ sb28 ∧ g_is st26 a44 3 ∧ wp_J5_higherEntry l E mc47 ms48 [va_rf (some a44), va_rf o43] st26 (fun o45 st46 => g_Ext st26 st46 → K29 o45 (x25 + (nI 1)) st46 (cb27 - mc47) (sb28 - ms48))))) o20 (nI 0) st21 (((cb - mc5) - mc15) - mc22) (((sb - ms6) - ms16) - ms23))) ∧ (¬ p0 < x13 → K10 st14 ((cb - mc5) - mc15) ((sb - ms6) - ms16))))) (fun (st7 : g_St) (cb8 : Nat) (sb9 : Nat) => 1 ≤ cb8 ∧ 6 ≤ sb9 ∧ X "java/util/NoSuchElementException" st7))
set_option maxHeartbeats 4000000 in
theorem wb_X1_begunAt {p : Program} {l : Launch} {e : Env} {R : Room} {s : State} {m : MethodId} {args : Array Value} {below : List Frame} {meth : Method} {c : Code} {E : g_E} {st0 : g_St} {Z : State → Prop} (hC : g_Cx p s m args meth c cX1_begunAt 5 "Stemspan" (some .int) "begunAt" E st0) (hR : g_Rm 16 387 R) {a0 : Nat} {p0 : Int32} {st : g_St} {cb sb : Nat} {Q : Int32 → g_St → Prop} {X : String → g_St → Prop} (hret : ∀ (pc : Nat) (lv : List (Nat × Value)) (v : Int32) (st1 : g_St) (cb sb : Nat), decode cX1_begunAt pc = .ok (.ireturn, 1) → narrow .int (.int v) = .int v → Q v st1 → g_J p l e R s m args below meth c 5 E st0 Z pc lv [.int v] st1 cb sb) (hthr_21 : ∀ (lv : List (Nat × Value)) (st1 : g_St) (cb sb : Nat), 1 ≤ cb → 6 ≤ sb → X "java/util/NoSuchElementException" st1 → g_J p l e R s m args below meth c 5 E st0 Z 21 lv [] st1 cb sb) (hvc : vc_X1_begunAt l E a0 p0 st cb sb Q X) : g_J p l e R s m args below meth c 5 E st0 Z 0 [(0, va_rf (some a0)), (1, .int p0)] [] st cb sb := by
  unfold vc_X1_begunAt at hvc
  refine j_aload_n hC dX1_begunAt_0 rfl 0 rfl ?_
  obtain ⟨o1, ⟨fs, hr, hv⟩, hvc⟩ := hvc
  refine j_get hC fkX1_10_X1 dX1_begunAt_1 hr hv ?_
  clear hv hr fs
  obtain ⟨a2, rfl, hvc⟩ := hvc
  obtain ⟨mc5, ms6, h1, h2, hvc⟩ := hvc
  obtain ⟨⟨fs, hr⟩, hvc⟩ := hvc
  refine j_callV (As := []) (rest := []) (n := 0) (ci := 0) hC hvc (lw_V q570 q396 q397 q43 q398) (by decide +kernel) (g_rm hR rfl rfl) rfl hr rfl rfl (g_sum rfl) dX1_begunAt_4 h1 h2 (g_Ka fun o3 st4 hv2 hx => ?_)
  replace hvc := hv2 hx; clear hx hv2
  clear hr fs
  refine j_astore_n (lv0 := [(1, .int p0), (0, va_rf (some a0))]) hC dX1_begunAt_7 rfl rfl [1, 0] rfl (g_okS.h rfl rfl rfl) ?_
  refine j_iload_n hC dX1_begunAt_8 rfl 1 rfl ?_
  replace hvc := g_jn3_o hvc
  obtain ⟨K10, hK52, hvc⟩ := hvc
  have kh11 : ∀ (st7 : g_St) (cb8 : Nat) (sb9 : Nat), K10 st7 cb8 sb9 → g_J p l e R s m args below meth c 5 E st0 Z 21 [] [] st7 cb8 sb9 := by
    clear hvc
    intro st7 cb8 sb9 hvc
    replace hvc := hK52 _ _ _ hvc
    exact hthr_21 _ _ _ _ hvc.1 hvc.2.1 hvc.2.2
  refine j_if_lt (tgt := 21) hC dX1_begunAt_9 rfl (fun c12 => ?_) (fun c12 => ?_)
  · replace hvc := hvc.1 c12
    exact j_sub [] rfl (kh11 st4 (cb - mc5) (sb - ms6) hvc)
  · replace hvc := hvc.2 c12
    refine j_iload_n hC dX1_begunAt_12 rfl 1 rfl ?_
    refine j_aload_n hC dX1_begunAt_13 rfl 2 rfl ?_
    refine j_aload_n hC dX1_begunAt_14 rfl 0 rfl ?_
    obtain ⟨mc15, ms16, h1, h2, hvc⟩ := hvc
    obtain ⟨⟨fs, hr⟩, hvc⟩ := hvc
    refine j_callV (As := [va_rf o3]) (rest := [.int p0]) (n := 1) (ci := 15) hC hvc (lw_V q1163 q1165 qs1 q41 q1166) (by decide +kernel) (g_rm hR rfl rfl) rfl hr rfl rfl (g_sum rfl) dX1_begunAt_15 h1 h2 (g_Ki fun x13 st14 hv2 hx => ?_)
    replace hvc := hv2 hx; clear hx hv2
    clear hr fs
    refine j_icmp_lt (tgt := 29) hC dX1_begunAt_18 rfl (fun c17 => ?_) (fun c17 => ?_)
    · replace hvc := hvc.1 c17
      refine j_aload_n hC dX1_begunAt_29 rfl 2 rfl ?_
      obtain ⟨o18, ⟨fs, hr, hv⟩, hvc⟩ := hvc
      refine j_get hC fkX1_19_X1 dX1_begunAt_30 hr hv ?_
      clear hv hr fs
      refine j_aload_n hC dX1_begunAt_33 rfl 0 rfl ?_
      obtain ⟨a19, rfl, hvc⟩ := hvc
      obtain ⟨mc22, ms23, h1, h2, hvc⟩ := hvc
      obtain ⟨⟨fs, hr⟩, hvc⟩ := hvc
      refine j_callV (As := [va_rf o3]) (rest := []) (n := 1) (ci := 3) hC hvc (lw_V q1981 q1982 q1983 q47 q1984) (by decide +kernel) (g_rm hR rfl rfl) rfl hr rfl rfl (g_sum rfl) dX1_begunAt_34 h1 h2 (g_Ka fun o20 st21 hv2 hx => ?_)
      replace hvc := hv2 hx; clear hx hv2
      clear hr fs
      refine j_astore_n (lv0 := [(2, va_rf o3), (1, .int p0), (0, va_rf (some a0))]) hC dX1_begunAt_37 rfl rfl [0, 1, 2] rfl (g_okS.h rfl g_c1 rfl) ?_
      refine j_iconst hC (nI 0) dX1_begunAt_38 rfl ?_
      refine j_istore (lv0 := [(3, va_rf o20), (2, va_rf o3), (1, .int p0), (0, va_rf (some a0))]) hC dX1_begunAt_39 rfl [0, 1, 2, 3] rfl (g_okS.h rfl g_c1 rfl) ?_
      replace hvc := g_lp5_o hvc
      obtain ⟨K29, hz49, hs50, n51, hvc⟩ := hvc
      have kh30 : ∀ (n : Nat) (o24 : Option Nat) (x25 : Int32) (st26 : g_St) (cb27 : Nat) (sb28 : Nat), K29 n o24 x25 st26 cb27 sb28 → g_J p l e R s m args below meth c 5 E st0 Z 41 [(0, va_rf (some a0)), (1, .int p0), (3, va_rf o24), (4, .int x25)] [] st26 cb27 sb28 := by
        clear hvc
        intro n
        induction n with
        | zero => intro o24 x25 st26 cb27 sb28 hvc; exact absurd hvc (hz49 _ _ _ _ _)
        | succ n ih31 =>
          intro o24 x25 st26 cb27 sb28 hvc
          replace hvc := hs50 n _ _ _ _ _ hvc
          refine j_iload hC dX1_begunAt_41 3 rfl ?_
          refine j_iload_n hC dX1_begunAt_43 rfl 1 rfl ?_
          refine j_icmp_ge (tgt := 70) hC dX1_begunAt_44 rfl (fun c32 => ?_) (fun c32 => ?_)
          · replace hvc := hvc.1 c32
            refine j_aload_n hC dX1_begunAt_70 rfl 0 rfl ?_
            refine j_aload_n hC dX1_begunAt_71 rfl 2 rfl ?_
            obtain ⟨a33, rfl, hvc⟩ := hvc
            obtain ⟨⟨fs, hr⟩, hvc⟩ := hvc
            refine j_callF (As := []) (rest := [va_rf (some a0)]) (n := 0) (x := ⟨"java/util/Map$Entry", "getKey", "()Ljava/lang/Object;"⟩) (C := "java/util/AbstractMap$SimpleImmutableEntry") (ci := 11) hC hvc (lw_F q1704 q1707 q1709 q87 q1711) gf_27 (by decide +kernel) (g_rm hR rfl rfl) rfl hr rfl rfl (g_sum rfl) dX1_begunAt_72 (Nat.zero_le _) (Nat.zero_le _) (g_Kap fun o34 hv2 => ?_)
            replace hvc := hv2; clear hv2
            clear hr fs
            obtain ⟨hv, hvc⟩ := hvc
            refine j_cast hC (C := "java/lang/String") (ci := 1) q174 rfl (Or.inl rfl) hv dX1_begunAt_77 ?_
            clear hv
            obtain ⟨mc36, ms37, h1, h2, hvc⟩ := hvc
            obtain ⟨⟨fs, hr⟩, hvc⟩ := hvc
            refine j_callV (As := [va_rf o34]) (rest := []) (n := 1) (ci := 15) hC hvc (lw_V q1950 q1952 qs17 q41 q1953) (by decide +kernel) (g_rm hR rfl rfl) rfl hr rfl rfl (g_sum rfl) dX1_begunAt_80 h1 h2 (g_Kv fun st35 hv2 hx => ?_)
            replace hvc := hv2 hx; clear hx hv2
            clear hr fs
            refine j_aload_n hC dX1_begunAt_83 rfl 2 rfl ?_
            obtain ⟨⟨fs, hr⟩, hvc⟩ := hvc
            refine j_callF (As := []) (rest := []) (n := 0) (x := ⟨"java/util/Map$Entry", "getValue", "()Ljava/lang/Object;"⟩) (C := "java/util/AbstractMap$SimpleImmutableEntry") (ci := 11) hC hvc (lw_F q1718 q1132 q1134 q87 q1136) gf_26 (by decide +kernel) (g_rm hR rfl rfl) rfl hr rfl rfl (g_sum rfl) dX1_begunAt_84 (Nat.zero_le _) (Nat.zero_le _) (g_Kap fun o38 hv2 => ?_)
            replace hvc := hv2; clear hv2
            clear hr fs
            obtain ⟨hv, hvc⟩ := hvc
            refine j_cast hC (C := "java/lang/Integer") (ci := 2) q1385 rfl (Or.inl rfl) hv dX1_begunAt_89 ?_
            clear hv
            obtain ⟨a39, rfl, hvc⟩ := hvc
            obtain ⟨⟨fs, hr⟩, hvc⟩ := hvc
            refine j_callV (As := []) (rest := []) (n := 0) (ci := 2) hC hvc (lw_V q1386 q1387 q1388 q56 q1389) (by decide +kernel) (g_rm hR rfl rfl) rfl hr rfl rfl (g_sum rfl) dX1_begunAt_92 (Nat.zero_le _) (Nat.zero_le _) (g_Kip fun x40 hv2 => ?_)
            replace hvc := hv2; clear hv2
            clear hr fs
            exact hret _ _ _ _ _ _ dX1_begunAt_95 rfl hvc
          · replace hvc := hvc.2 c32
            refine j_aload_n hC dX1_begunAt_47 rfl 0 rfl ?_
            obtain ⟨o41, ⟨fs, hr, hv⟩, hvc⟩ := hvc
            refine j_get hC fkX1_19_X1 dX1_begunAt_48 hr hv ?_
            clear hv hr fs
            refine j_aload_n hC dX1_begunAt_51 rfl 2 rfl ?_
            obtain ⟨a42, rfl, hvc⟩ := hvc
            obtain ⟨⟨fs, hr⟩, hvc⟩ := hvc
            refine j_callF (As := []) (rest := [va_rf o41]) (n := 0) (x := ⟨"java/util/Map$Entry", "getKey", "()Ljava/lang/Object;"⟩) (C := "java/util/AbstractMap$SimpleImmutableEntry") (ci := 11) hC hvc (lw_F q1704 q1707 q1709 q87 q1711) gf_27 (by decide +kernel) (g_rm hR rfl rfl) rfl hr rfl rfl (g_sum rfl) dX1_begunAt_52 (Nat.zero_le _) (Nat.zero_le _) (g_Kap fun o43 hv2 => ?_)
            replace hvc := hv2; clear hv2
            clear hr fs
            obtain ⟨hv, hvc⟩ := hvc
            refine j_cast hC (C := "java/lang/String") (ci := 1) q174 rfl (Or.inl rfl) hv dX1_begunAt_57 ?_
            clear hv
            obtain ⟨a44, rfl, hvc⟩ := hvc
            obtain ⟨mc47, ms48, h1, h2, hvc⟩ := hvc
            obtain ⟨⟨fs, hr⟩, hvc⟩ := hvc
            refine j_callV (As := [va_rf o43]) (rest := []) (n := 1) (ci := 3) hC hvc (lw_V q2005 q2006 q2007 q47 q2008) (by decide +kernel) (g_rm hR rfl rfl) rfl hr rfl rfl (g_sum rfl) dX1_begunAt_60 h1 h2 (g_Ka fun o45 st46 hv2 hx => ?_)
            replace hvc := hv2 hx; clear hx hv2
            clear hr fs
            refine j_astore_n (lv0 := [(0, va_rf (some a0)), (1, .int p0), (4, .int x25)]) hC dX1_begunAt_63 rfl rfl [0, 1, 3] rfl (g_okS.n rfl) ?_
            refine j_iinc (lv0 := [(3, va_rf o45), (0, va_rf (some a0)), (1, .int p0)]) hC (nI 1) dX1_begunAt_64 3 rfl rfl rfl [0, 1, 2] rfl (g_okS.h rfl g_c1 rfl) ?_
            refine j_goto (tgt := 41) hC dX1_begunAt_67 rfl ?_
            exact j_sub [2, 3, 1, 0] rfl (ih31 o45 (x25 + (nI 1)) st46 (cb27 - mc47) (sb28 - ms48) hvc)
      exact j_sub [4, 3, 1, 0] rfl (kh30 n51 o20 (nI 0) st21 (((cb - mc5) - mc15) - mc22) (((sb - ms6) - ms16) - ms23) hvc)
    · replace hvc := hvc.2 c17
      exact j_sub [] rfl (kh11 st14 ((cb - mc5) - mc15) ((sb - ms6) - ms16) hvc)
theorem wk_X1_begunAt {l : Launch} {E : g_E} {a0 : Nat} {p0 : Int32} {st : g_St} {mc ms : Nat} {Q : Int32 → g_St → Prop} (hvc : vc_X1_begunAt l E a0 p0 st mc ms Q (fun _ _ => False)) : wp_X1_begunAt l E mc ms [va_rf (some a0), .int p0] st Q :=
  g_enter (lv0 := [(0, va_rf (some a0)), (1, .int p0)]) (plainFor_of_name (by decide +kernel)) (by simp [lv_args, g_c1, g_ci, g_cL]) (by simp [lg_sl, g_c1, g_ci, g_cL]) (fun p e s m args below meth c hC => wb_X1_begunAt hC ⟨Nat.le_refl _, Nat.le_refl _⟩ (fun pc lv v st1 cb sb hd hn hq => j_ireturn hC rfl hn hd (g_iv hq)) (fun _ _ _ _ _ _ h => h.elim) hvc)
abbrev wpx_X1_begunAt (l : Launch) (E : g_E) (mc ms : Nat) (av : List Value) (st : g_St) (Q : Int32 → g_St → Prop) (X : String → g_St → Prop) : Prop := g_WPX l E yX1_begunAt cX1_begunAt 5 (some .int) 16 387 mc ms av st (fun v st' => ∃ r : Int32, v = some (.int r) ∧ Q r st') X
theorem wkx_X1_begunAt {l : Launch} (hl : l.stackTraces = false) {E : g_E} {a0 : Nat} {p0 : Int32} {st : g_St} {mc ms : Nat} {Q : Int32 → g_St → Prop} {X : String → g_St → Prop} (hvc : vc_X1_begunAt l E a0 p0 st mc ms Q X) : wpx_X1_begunAt l E mc ms [va_rf (some a0), .int p0] st Q X :=
  g_enterX (lv0 := [(0, va_rf (some a0)), (1, .int p0)]) (by decide +kernel) (by simp [lv_args, g_c1, g_ci, g_cL]) (by simp [lg_sl, g_c1, g_ci, g_cL]) (fun p e s m args below meth c hC ht => wb_X1_begunAt hC ⟨Nat.le_refl _, Nat.le_refl _⟩ (fun pc lv v st1 cb sb hd hn hq => j_xret (j_ireturn hC rfl hn hd (g_iv hq))) (fun lv st1 cb sb h1 h2 hx => j_throw0 hC hl ⟨by decide, by decide⟩ q1678 q64 g_thNSE g_toNSE ht dX1_begunAt_21 dX1_begunAt_24 dX1_begunAt_25 dX1_begunAt_28 (Nat.lt_of_lt_of_le (Nat.lt_succ_self _) (Nat.le_of_ble_eq_true rfl)) (Nat.le_of_ble_eq_true rfl) h1 h2 hx) hvc)
abbrev wp_X1_longest_2 (l : Launch) (E : g_E) (mc ms : Nat) (av : List Value) (st : g_St) (Q : Int32 → g_St → Prop) : Prop := g_WPi l E yX1_longest_2 cX1_longest_2 2 (some .int) 13 329 mc ms av st Q
def vc_X1_longest_2 (l : Launch) (E : g_E) (a0 : Nat) (p0 : Int32) (st : g_St) (cb sb : Nat) (Q : Int32 → g_St → Prop) (X : String → g_St → Prop) : Prop :=
  g_jn0 (fun (K1 : Prop) => (p0 < 0 → K1) ∧ (¬ p0 < 0 → ∃ o4 : Option Nat, g_gr st a0 15 0 o4 ∧ ∃ a5 : Nat, o4 = some a5 ∧ g_is st a5 0 ∧ wp_J1_length l E 0 0 [va_rf (some a5)] st (fun x6 stx => stx = st ∧ (p0 ≤ x6 → ∃ o8 : Option Nat, g_gr st a0 15 1 o8 ∧ ∃ o9 : Option Nat, g_gr st a0 15 0 o9 ∧ ∃ a10 : Nat, o9 = some a10 ∧ ∃ mc13 ms14 : Nat, mc13 ≤ cb ∧ ms14 ≤ sb ∧ g_is st a10 0 ∧ wp_J1_substring l E mc13 ms14 [va_rf (some a10), .int p0] st (fun o11 st12 => g_Ext st st12 → ∃ mc17 ms18 : Nat, mc17 ≤ (cb - mc13) ∧ ms18 ≤ (sb - ms14) ∧ wp_X1_longest l E mc17 ms18 [va_rf o8, va_rf o11] st12 (fun x15 st16 => g_Ext st12 st16 → Q x15 st16))) ∧ (¬ p0 ≤ x6 → K1)))) (1 ≤ cb ∧ 6 ≤ sb ∧ X "java/lang/IndexOutOfBoundsException" st)
set_option maxHeartbeats 4000000 in
theorem wb_X1_longest_2 {p : Program} {l : Launch} {e : Env} {R : Room} {s : State} {m : MethodId} {args : Array Value} {below : List Frame} {meth : Method} {c : Code} {E : g_E} {st0 : g_St} {Z : State → Prop} (hC : g_Cx p s m args meth c cX1_longest_2 2 "Stemspan" (some .int) "longest" E st0) (hR : g_Rm 13 329 R) {a0 : Nat} {p0 : Int32} {st : g_St} {cb sb : Nat} {Q : Int32 → g_St → Prop} {X : String → g_St → Prop} (hret : ∀ (pc : Nat) (lv : List (Nat × Value)) (v : Int32) (st1 : g_St) (cb sb : Nat), decode cX1_longest_2 pc = .ok (.ireturn, 1) → narrow .int (.int v) = .int v → Q v st1 → g_J p l e R s m args below meth c 2 E st0 Z pc lv [.int v] st1 cb sb) (hthr_15 : ∀ (lv : List (Nat × Value)) (st1 : g_St) (cb sb : Nat), 1 ≤ cb → 6 ≤ sb → X "java/lang/IndexOutOfBoundsException" st1 → g_J p l e R s m args below meth c 2 E st0 Z 15 lv [] st1 cb sb) (hvc : vc_X1_longest_2 l E a0 p0 st cb sb Q X) : g_J p l e R s m args below meth c 2 E st0 Z 0 [(0, va_rf (some a0)), (1, .int p0)] [] st cb sb := by
  unfold vc_X1_longest_2 at hvc
  refine j_iload_n hC dX1_longest_2_0 rfl 1 rfl ?_
  replace hvc := g_jn0_o hvc
  obtain ⟨K1, hK19, hvc⟩ := hvc
  have kh2 : K1 → g_J p l e R s m args below meth c 2 E st0 Z 15 [] [] st cb sb := by
    clear hvc
    intro hvc
    replace hvc := hK19 hvc
    exact hthr_15 _ _ _ _ hvc.1 hvc.2.1 hvc.2.2
  refine j_if_lt (tgt := 15) hC dX1_longest_2_1 rfl (fun c3 => ?_) (fun c3 => ?_)
  · replace hvc := hvc.1 c3
    exact j_sub [] rfl (kh2 hvc)
  · replace hvc := hvc.2 c3
    refine j_iload_n hC dX1_longest_2_4 rfl 1 rfl ?_
    refine j_aload_n hC dX1_longest_2_5 rfl 0 rfl ?_
    obtain ⟨o4, ⟨fs, hr, hv⟩, hvc⟩ := hvc
    refine j_get hC fkX1_10_X1 dX1_longest_2_6 hr hv ?_
    clear hv hr fs
    obtain ⟨a5, rfl, hvc⟩ := hvc
    obtain ⟨⟨fs, hr⟩, hvc⟩ := hvc
    refine j_callV (As := []) (rest := [.int p0]) (n := 0) (ci := 0) hC hvc (lw_V q497 q416 q2451 q43 q417) (by decide +kernel) (g_rm hR rfl rfl) rfl hr rfl rfl (g_sum rfl) dX1_longest_2_9 (Nat.zero_le _) (Nat.zero_le _) (g_Kip fun x6 hv2 => ?_)
    replace hvc := hv2; clear hv2
    clear hr fs
    refine j_icmp_le (tgt := 23) hC dX1_longest_2_12 rfl (fun c7 => ?_) (fun c7 => ?_)
    · replace hvc := hvc.1 c7
      refine j_aload_n hC dX1_longest_2_23 rfl 0 rfl ?_
      obtain ⟨o8, ⟨fs, hr, hv⟩, hvc⟩ := hvc
      refine j_get hC fkX1_19_X1 dX1_longest_2_24 hr hv ?_
      clear hv hr fs
      refine j_aload_n hC dX1_longest_2_27 rfl 0 rfl ?_
      obtain ⟨o9, ⟨fs, hr, hv⟩, hvc⟩ := hvc
      refine j_get hC fkX1_10_X1 dX1_longest_2_28 hr hv ?_
      clear hv hr fs
      refine j_iload_n hC dX1_longest_2_31 rfl 1 rfl ?_
      obtain ⟨a10, rfl, hvc⟩ := hvc
      obtain ⟨mc13, ms14, h1, h2, hvc⟩ := hvc
      obtain ⟨⟨fs, hr⟩, hvc⟩ := hvc
      refine j_callV (As := [.int p0]) (rest := [va_rf o8]) (n := 1) (ci := 0) hC hvc (lw_V q1562 q1563 q1564 q43 q1565) (by decide +kernel) (g_rm hR rfl rfl) rfl hr rfl rfl (g_sum rfl) dX1_longest_2_32 h1 h2 (g_Ka fun o11 st12 hv2 hx => ?_)
      replace hvc := hv2 hx; clear hx hv2
      clear hr fs
      obtain ⟨mc17, ms18, h1, h2, hvc⟩ := hvc
      refine j_callS (As := [va_rf o8, va_rf o11]) (rest := []) (n := 2) hC hvc (lw_S q1581 q1582 q41 q1583) (by decide +kernel) (g_rm hR rfl rfl) rfl rfl (g_sum rfl) dX1_longest_2_35 h1 h2 (g_Ki fun x15 st16 hv2 hx => ?_)
      replace hvc := hv2 hx; clear hx hv2
      exact hret _ _ _ _ _ _ dX1_longest_2_38 rfl hvc
    · replace hvc := hvc.2 c7
      exact j_sub [] rfl (kh2 hvc)
theorem wk_X1_longest_2 {l : Launch} {E : g_E} {a0 : Nat} {p0 : Int32} {st : g_St} {mc ms : Nat} {Q : Int32 → g_St → Prop} (hvc : vc_X1_longest_2 l E a0 p0 st mc ms Q (fun _ _ => False)) : wp_X1_longest_2 l E mc ms [va_rf (some a0), .int p0] st Q :=
  g_enter (lv0 := [(0, va_rf (some a0)), (1, .int p0)]) (plainFor_of_name (by decide +kernel)) (by simp [lv_args, g_c1, g_ci, g_cL]) (by simp [lg_sl, g_c1, g_ci, g_cL]) (fun p e s m args below meth c hC => wb_X1_longest_2 hC ⟨Nat.le_refl _, Nat.le_refl _⟩ (fun pc lv v st1 cb sb hd hn hq => j_ireturn hC rfl hn hd (g_iv hq)) (fun _ _ _ _ _ _ h => h.elim) hvc)
abbrev wpx_X1_longest_2 (l : Launch) (E : g_E) (mc ms : Nat) (av : List Value) (st : g_St) (Q : Int32 → g_St → Prop) (X : String → g_St → Prop) : Prop := g_WPX l E yX1_longest_2 cX1_longest_2 2 (some .int) 13 329 mc ms av st (fun v st' => ∃ r : Int32, v = some (.int r) ∧ Q r st') X
theorem wkx_X1_longest_2 {l : Launch} (hl : l.stackTraces = false) {E : g_E} {a0 : Nat} {p0 : Int32} {st : g_St} {mc ms : Nat} {Q : Int32 → g_St → Prop} {X : String → g_St → Prop} (hvc : vc_X1_longest_2 l E a0 p0 st mc ms Q X) : wpx_X1_longest_2 l E mc ms [va_rf (some a0), .int p0] st Q X :=
  g_enterX (lv0 := [(0, va_rf (some a0)), (1, .int p0)]) (by decide +kernel) (by simp [lv_args, g_c1, g_ci, g_cL]) (by simp [lg_sl, g_c1, g_ci, g_cL]) (fun p e s m args below meth c hC ht => wb_X1_longest_2 hC ⟨Nat.le_refl _, Nat.le_refl _⟩ (fun pc lv v st1 cb sb hd hn hq => j_xret (j_ireturn hC rfl hn hd (g_iv hq))) (fun lv st1 cb sb h1 h2 hx => j_throw0 hC hl ⟨by decide, by decide⟩ q1756 q62 g_thIOB g_toIOB ht dX1_longest_2_15 dX1_longest_2_18 dX1_longest_2_19 dX1_longest_2_22 (Nat.lt_of_lt_of_le (Nat.lt_succ_self _) (Nat.le_of_ble_eq_true rfl)) (Nat.le_of_ble_eq_true rfl) h1 h2 hx) hvc)
abbrev wp_X1_piece (l : Launch) (E : g_E) (mc ms : Nat) (av : List Value) (st : g_St) (Q : Int32 → g_St → Prop) : Prop := g_WPi l E yX1_piece cX1_piece 5 (some .int) 13 329 mc ms av st Q
def vc_X1_piece (l : Launch) (E : g_E) (a0 : Nat) (p0 : Int32) (st : g_St) (cb sb : Nat) (Q : Int32 → g_St → Prop) (X : String → g_St → Prop) : Prop :=
  (0 ≤ p0 → g_lp5 (fun (K7 : Int32 → Int32 → g_St → Nat → Nat → Prop) (x2 : Int32) (x3 : Int32) (st4 : g_St) (cb5 : Nat) (sb6 : Nat) => ∃ o10 : Option Nat, g_gr st4 a0 15 0 o10 ∧ ∃ a11 : Nat, o10 = some a11 ∧ g_is st4 a11 0 ∧ wp_J1_length l E 0 0 [va_rf (some a11)] st4 (fun x12 stx => stx = st4 ∧ g_jn4 (fun (K17 : Int32 → g_St → Nat → Nat → Prop) => (x12 ≤ x2 → K17 (nI 0) st4 cb5 sb6) ∧ (¬ x12 ≤ x2 → ∃ o22 : Option Nat, g_gr st4 a0 15 1 o22 ∧ ∃ o23 : Option Nat, g_gr st4 a0 15 0 o23 ∧ ∃ a24 : Nat, o23 = some a24 ∧ ∃ mc27 ms28 : Nat, mc27 ≤ cb5 ∧ ms28 ≤ sb6 ∧ g_is st4 a24 0 ∧ wp_J1_substring l E mc27 ms28 [va_rf (some a24), .int x2] st4 (fun o25 st26 => g_Ext st4 st26 → ∃ mc31 ms32 : Nat, mc31 ≤ (cb5 - mc27) ∧ ms32 ≤ (sb6 - ms28) ∧ wp_X1_longest l E mc31 ms32 [va_rf o22, va_rf o25] st26 (fun x29 st30 => g_Ext st26 st30 → K17 x29 st30 ((cb5 - mc27) - mc31) ((sb6 - ms28) - ms32))))) (fun (x13 : Int32) (st14 : g_St) (cb15 : Nat) (sb16 : Nat) => (¬ x13 = 0 → (¬ x3 = 0 → K7 (x2 + x13) (x3 + (-1)) st14 cb15 sb16) ∧ (x3 = 0 → Q x13 st14)) ∧ (x13 = 0 → 1 ≤ cb15 ∧ 6 ≤ sb16 ∧ X "java/util/NoSuchElementException" st14)))) (nI 0) p0 st cb sb) ∧ (¬ 0 ≤ p0 → 1 ≤ cb ∧ 6 ≤ sb ∧ X "java/util/NoSuchElementException" st)
set_option maxHeartbeats 4000000 in
theorem wb_X1_piece {p : Program} {l : Launch} {e : Env} {R : Room} {s : State} {m : MethodId} {args : Array Value} {below : List Frame} {meth : Method} {c : Code} {E : g_E} {st0 : g_St} {Z : State → Prop} (hC : g_Cx p s m args meth c cX1_piece 5 "Stemspan" (some .int) "piece" E st0) (hR : g_Rm 13 329 R) {a0 : Nat} {p0 : Int32} {st : g_St} {cb sb : Nat} {Q : Int32 → g_St → Prop} {X : String → g_St → Prop} (hret : ∀ (pc : Nat) (lv : List (Nat × Value)) (v : Int32) (st1 : g_St) (cb sb : Nat), decode cX1_piece pc = .ok (.ireturn, 1) → narrow .int (.int v) = .int v → Q v st1 → g_J p l e R s m args below meth c 5 E st0 Z pc lv [.int v] st1 cb sb) (hthr_4 : ∀ (lv : List (Nat × Value)) (st1 : g_St) (cb sb : Nat), 1 ≤ cb → 6 ≤ sb → X "java/util/NoSuchElementException" st1 → g_J p l e R s m args below meth c 5 E st0 Z 4 lv [] st1 cb sb) (hthr_53 : ∀ (lv : List (Nat × Value)) (st1 : g_St) (cb sb : Nat), 1 ≤ cb → 6 ≤ sb → X "java/util/NoSuchElementException" st1 → g_J p l e R s m args below meth c 5 E st0 Z 53 lv [] st1 cb sb) (hvc : vc_X1_piece l E a0 p0 st cb sb Q X) : g_J p l e R s m args below meth c 5 E st0 Z 0 [(0, va_rf (some a0)), (1, .int p0)] [] st cb sb := by
  unfold vc_X1_piece at hvc
  refine j_iload_n hC dX1_piece_0 rfl 1 rfl ?_
  refine j_if_ge (tgt := 12) hC dX1_piece_1 rfl (fun c1 => ?_) (fun c1 => ?_)
  · replace hvc := hvc.1 c1
    refine j_iconst hC (nI 0) dX1_piece_12 rfl ?_
    refine j_istore_n (lv0 := [(1, .int p0), (0, va_rf (some a0))]) hC dX1_piece_13 rfl rfl [1, 0] rfl (g_okS.h rfl rfl rfl) ?_
    refine j_iload_n hC dX1_piece_14 rfl 1 rfl ?_
    refine j_istore_n (lv0 := [(2, .int (nI 0)), (1, .int p0), (0, va_rf (some a0))]) hC dX1_piece_15 rfl rfl [0, 1, 2] rfl (g_okS.h rfl rfl rfl) ?_
    replace hvc := g_lp5_o hvc
    obtain ⟨K7, hz34, hs35, n36, hvc⟩ := hvc
    have kh8 : ∀ (n : Nat) (x2 : Int32) (x3 : Int32) (st4 : g_St) (cb5 : Nat) (sb6 : Nat), K7 n x2 x3 st4 cb5 sb6 → g_J p l e R s m args below meth c 5 E st0 Z 16 [(0, va_rf (some a0)), (2, .int x2), (3, .int x3)] [] st4 cb5 sb6 := by
      clear hvc
      intro n
      induction n with
      | zero => intro x2 x3 st4 cb5 sb6 hvc; exact absurd hvc (hz34 _ _ _ _ _)
      | succ n ih9 =>
        intro x2 x3 st4 cb5 sb6 hvc
        replace hvc := hs35 n _ _ _ _ _ hvc
        refine j_iload_n hC dX1_piece_16 rfl 1 rfl ?_
        refine j_aload_n hC dX1_piece_17 rfl 0 rfl ?_
        obtain ⟨o10, ⟨fs, hr, hv⟩, hvc⟩ := hvc
        refine j_get hC fkX1_10_X1 dX1_piece_18 hr hv ?_
        clear hv hr fs
        obtain ⟨a11, rfl, hvc⟩ := hvc
        obtain ⟨⟨fs, hr⟩, hvc⟩ := hvc
        refine j_callV (As := []) (rest := [.int x2]) (n := 0) (ci := 0) hC hvc (lw_V q497 q416 q2451 q43 q417) (by decide +kernel) (g_rm hR rfl rfl) rfl hr rfl rfl (g_sum rfl) dX1_piece_21 (Nat.zero_le _) (Nat.zero_le _) (g_Kip fun x12 hv2 => ?_)
        replace hvc := hv2; clear hv2
        clear hr fs
        replace hvc := g_jn4_o hvc
        obtain ⟨K17, hK33, hvc⟩ := hvc
        have kh18 : ∀ (x13 : Int32) (st14 : g_St) (cb15 : Nat) (sb16 : Nat), K17 x13 st14 cb15 sb16 → g_J p l e R s m args below meth c 5 E st0 Z 46 [(0, va_rf (some a0)), (2, .int x2), (3, .int x3)] [.int x13] st14 cb15 sb16 := by
          clear hvc
          intro x13 st14 cb15 sb16 hvc
          replace hvc := hK33 _ _ _ _ hvc
          refine j_istore (lv0 := [(3, .int x3), (0, va_rf (some a0)), (2, .int x2)]) hC dX1_piece_46 rfl [2, 0, 1] rfl (g_okS.h rfl rfl rfl) ?_
          refine j_iload hC dX1_piece_48 0 rfl ?_
          refine j_if_ne (tgt := 61) hC dX1_piece_50 rfl (fun c19 => ?_) (fun c19 => ?_)
          · replace hvc := hvc.1 c19
            refine j_iload_n hC dX1_piece_61 rfl 1 rfl ?_
            refine j_if_ne (tgt := 68) hC dX1_piece_62 rfl (fun c20 => ?_) (fun c20 => ?_)
            · replace hvc := hvc.1 c20
              refine j_iload_n hC dX1_piece_68 rfl 3 rfl ?_
              refine j_iload hC dX1_piece_69 0 rfl ?_
              refine j_iadd hC dX1_piece_71 ?_
              refine j_istore_n (lv0 := [(4, .int x13), (3, .int x3), (0, va_rf (some a0))]) hC dX1_piece_72 rfl rfl [0, 1, 2] rfl (g_okS.n rfl) ?_
              refine j_iinc (lv0 := [(2, .int (x2 + x13)), (4, .int x13), (0, va_rf (some a0))]) hC (-1) dX1_piece_73 2 rfl rfl rfl [0, 1, 3] rfl (g_okS.h rfl rfl rfl) ?_
              refine j_goto (tgt := 16) hC dX1_piece_76 rfl ?_
              exact j_sub [3, 1, 0] rfl (ih9 (x2 + x13) (x3 + (-1)) st14 cb15 sb16 hvc)
            · replace hvc := hvc.2 c20
              refine j_iload hC dX1_piece_65 0 rfl ?_
              exact hret _ _ _ _ _ _ dX1_piece_67 rfl hvc
          · replace hvc := hvc.2 c19
            exact hthr_53 _ _ _ _ hvc.1 hvc.2.1 hvc.2.2
        refine j_icmp_ge (tgt := 45) hC dX1_piece_24 rfl (fun c21 => ?_) (fun c21 => ?_)
        · replace hvc := hvc.1 c21
          refine j_iconst hC (nI 0) dX1_piece_45 rfl ?_
          exact j_sub [0, 1, 2] rfl (kh18 (nI 0) st4 cb5 sb6 hvc)
        · replace hvc := hvc.2 c21
          refine j_aload_n hC dX1_piece_27 rfl 0 rfl ?_
          obtain ⟨o22, ⟨fs, hr, hv⟩, hvc⟩ := hvc
          refine j_get hC fkX1_19_X1 dX1_piece_28 hr hv ?_
          clear hv hr fs
          refine j_aload_n hC dX1_piece_31 rfl 0 rfl ?_
          obtain ⟨o23, ⟨fs, hr, hv⟩, hvc⟩ := hvc
          refine j_get hC fkX1_10_X1 dX1_piece_32 hr hv ?_
          clear hv hr fs
          refine j_iload_n hC dX1_piece_35 rfl 1 rfl ?_
          obtain ⟨a24, rfl, hvc⟩ := hvc
          obtain ⟨mc27, ms28, h1, h2, hvc⟩ := hvc
          obtain ⟨⟨fs, hr⟩, hvc⟩ := hvc
          refine j_callV (As := [.int x2]) (rest := [va_rf o22]) (n := 1) (ci := 0) hC hvc (lw_V q1562 q1563 q1564 q43 q1565) (by decide +kernel) (g_rm hR rfl rfl) rfl hr rfl rfl (g_sum rfl) dX1_piece_36 h1 h2 (g_Ka fun o25 st26 hv2 hx => ?_)
          replace hvc := hv2 hx; clear hx hv2
          clear hr fs
          obtain ⟨mc31, ms32, h1, h2, hvc⟩ := hvc
          refine j_callS (As := [va_rf o22, va_rf o25]) (rest := []) (n := 2) hC hvc (lw_S q1581 q1582 q41 q1583) (by decide +kernel) (g_rm hR rfl rfl) rfl rfl (g_sum rfl) dX1_piece_39 h1 h2 (g_Ki fun x29 st30 hv2 hx => ?_)
          replace hvc := hv2 hx; clear hx hv2
          refine j_goto (tgt := 46) hC dX1_piece_42 rfl ?_
          exact j_sub [0, 1, 2] rfl (kh18 x29 st30 ((cb5 - mc27) - mc31) ((sb6 - ms28) - ms32) hvc)
    exact j_sub [3, 1, 0] rfl (kh8 n36 (nI 0) p0 st cb sb hvc)
  · replace hvc := hvc.2 c1
    exact hthr_4 _ _ _ _ hvc.1 hvc.2.1 hvc.2.2
theorem wk_X1_piece {l : Launch} {E : g_E} {a0 : Nat} {p0 : Int32} {st : g_St} {mc ms : Nat} {Q : Int32 → g_St → Prop} (hvc : vc_X1_piece l E a0 p0 st mc ms Q (fun _ _ => False)) : wp_X1_piece l E mc ms [va_rf (some a0), .int p0] st Q :=
  g_enter (lv0 := [(0, va_rf (some a0)), (1, .int p0)]) (plainFor_of_name (by decide +kernel)) (by simp [lv_args, g_c1, g_ci, g_cL]) (by simp [lg_sl, g_c1, g_ci, g_cL]) (fun p e s m args below meth c hC => wb_X1_piece hC ⟨Nat.le_refl _, Nat.le_refl _⟩ (fun pc lv v st1 cb sb hd hn hq => j_ireturn hC rfl hn hd (g_iv hq)) (fun _ _ _ _ _ _ h => h.elim) (fun _ _ _ _ _ _ h => h.elim) hvc)
abbrev wpx_X1_piece (l : Launch) (E : g_E) (mc ms : Nat) (av : List Value) (st : g_St) (Q : Int32 → g_St → Prop) (X : String → g_St → Prop) : Prop := g_WPX l E yX1_piece cX1_piece 5 (some .int) 13 329 mc ms av st (fun v st' => ∃ r : Int32, v = some (.int r) ∧ Q r st') X
theorem wkx_X1_piece {l : Launch} (hl : l.stackTraces = false) {E : g_E} {a0 : Nat} {p0 : Int32} {st : g_St} {mc ms : Nat} {Q : Int32 → g_St → Prop} {X : String → g_St → Prop} (hvc : vc_X1_piece l E a0 p0 st mc ms Q X) : wpx_X1_piece l E mc ms [va_rf (some a0), .int p0] st Q X :=
  g_enterX (lv0 := [(0, va_rf (some a0)), (1, .int p0)]) (by decide +kernel) (by simp [lv_args, g_c1, g_ci, g_cL]) (by simp [lg_sl, g_c1, g_ci, g_cL]) (fun p e s m args below meth c hC ht => wb_X1_piece hC ⟨Nat.le_refl _, Nat.le_refl _⟩ (fun pc lv v st1 cb sb hd hn hq => j_xret (j_ireturn hC rfl hn hd (g_iv hq))) (fun lv st1 cb sb h1 h2 hx => j_throw0 hC hl ⟨by decide, by decide⟩ q1678 q64 g_thNSE g_toNSE ht dX1_piece_4 dX1_piece_7 dX1_piece_8 dX1_piece_11 (Nat.lt_of_lt_of_le (Nat.lt_succ_self _) (Nat.le_of_ble_eq_true rfl)) (Nat.le_of_ble_eq_true rfl) h1 h2 hx) (fun lv st1 cb sb h1 h2 hx => j_throw0 hC hl ⟨by decide, by decide⟩ q1678 q64 g_thNSE g_toNSE ht dX1_piece_53 dX1_piece_56 dX1_piece_57 dX1_piece_60 (Nat.lt_of_lt_of_le (Nat.lt_succ_self _) (Nat.le_of_ble_eq_true rfl)) (Nat.le_of_ble_eq_true rfl) h1 h2 hx) hvc)
abbrev wp_X1_code (l : Launch) (E : g_E) (mc ms : Nat) (av : List Value) (st : g_St) (Q : Int32 → g_St → Prop) : Prop := g_WPi l E yX1_code cX1_code 3 (some .int) 7 172 mc ms av st Q
def vc_X1_code (l : Launch) (E : g_E) (a0 : Nat) (p0 : Int32) (st : g_St) (cb sb : Nat) (Q : Int32 → g_St → Prop) (X : String → g_St → Prop) : Prop :=
  wp_X1_isSign l E 0 0 [.int p0] st (fun x1 stx => stx = st ∧ (¬ x1 = 0 → ∃ o3 : Option Nat, g_gr st a0 15 0 o3 ∧ ∃ a4 : Nat, o3 = some a4 ∧ g_is st a4 0 ∧ wp_J1_length l E 0 0 [va_rf (some a4)] st (fun x5 stx => stx = st ∧ g_jn0 (fun (K6 : Prop) => (x5 = 0 → K6) ∧ (¬ x5 = 0 → ∃ o9 : Option Nat, g_gr st a0 15 0 o9 ∧ ∃ a10 : Nat, o9 = some a10 ∧ g_is st a10 0 ∧ wp_J1_length l E 0 0 [va_rf (some a10)] st (fun x11 stx => stx = st ∧ (x11 ≤ (nI 3) → ∃ o13 : Option Nat, g_gr st a0 15 2 o13 ∧ ∃ a14 : Nat, o13 = some a14 ∧ ∃ (n15 : Nat) (f16 : Nat → Option Nat) (j17 : Nat), g_ar st a14 4 n15 f16 ∧ (p0 - (nI 97)) = nI j17 ∧ j17 < n15 ∧ j17 < 2 ^ 31 ∧ ∀ o18 : Option Nat, o18 = f16 j17 → ∃ a19 : Nat, o18 = some a19 ∧ g_is st a19 1 ∧ wp_J2_length l E 0 0 [va_rf (some a19)] st (fun x20 stx => stx = st ∧ ∃ o21 : Option Nat, g_gr st a0 15 2 o21 ∧ ∃ o22 : Option Nat, g_gr st a0 15 0 o22 ∧ ∃ a23 : Nat, o22 = some a23 ∧ ∃ mc26 ms27 : Nat, mc26 ≤ cb ∧ ms27 ≤ sb ∧ g_is st a23 0 ∧ wp_J1_toString l E mc26 ms27 [va_rf (some a23)] st (fun o24 st25 => g_Ext st st25 → ∃ a28 : Nat, o21 = some a28 ∧ ∃ (n29 : Nat) (f30 : Nat → Option Nat) (j31 : Nat), st25.2.1 a28 = some (.inl (4, n29, .inr (.inr (.inr (.inr (f30)))))) ∧ (p0 - (nI 97)) = nI j31 ∧ j31 < n29 ∧ j31 < 2 ^ 31 ∧ g_isN st25 o24 1 ∧ ∀ st32 : g_St, st32 = g_put st25 a28 (.inl (4, n29, .inr (.inr (.inr (.inr (va_up f30 j31 o24)))))) → Q x20 st32))) ∧ (¬ x11 ≤ (nI 3) → K6)))) (1 ≤ cb ∧ 6 ≤ sb ∧ X "java/lang/UnsupportedOperationException" st))) ∧ (x1 = 0 → 1 ≤ cb ∧ 6 ≤ sb ∧ X "java/lang/IllegalArgumentException" st))
set_option maxHeartbeats 4000000 in
theorem wb_X1_code {p : Program} {l : Launch} {e : Env} {R : Room} {s : State} {m : MethodId} {args : Array Value} {below : List Frame} {meth : Method} {c : Code} {E : g_E} {st0 : g_St} {Z : State → Prop} (hC : g_Cx p s m args meth c cX1_code 3 "Stemspan" (some .int) "code" E st0) (hR : g_Rm 7 172 R) {a0 : Nat} {p0 : Int32} {st : g_St} {cb sb : Nat} {Q : Int32 → g_St → Prop} {X : String → g_St → Prop} (hret : ∀ (pc : Nat) (lv : List (Nat × Value)) (v : Int32) (st1 : g_St) (cb sb : Nat), decode cX1_code pc = .ok (.ireturn, 1) → narrow .int (.int v) = .int v → Q v st1 → g_J p l e R s m args below meth c 3 E st0 Z pc lv [.int v] st1 cb sb) (hthr_7 : ∀ (lv : List (Nat × Value)) (st1 : g_St) (cb sb : Nat), 1 ≤ cb → 6 ≤ sb → X "java/lang/IllegalArgumentException" st1 → g_J p l e R s m args below meth c 3 E st0 Z 7 lv [] st1 cb sb) (hthr_36 : ∀ (lv : List (Nat × Value)) (st1 : g_St) (cb sb : Nat), 1 ≤ cb → 6 ≤ sb → X "java/lang/UnsupportedOperationException" st1 → g_J p l e R s m args below meth c 3 E st0 Z 36 lv [] st1 cb sb) (hvc : vc_X1_code l E a0 p0 st cb sb Q X) : g_J p l e R s m args below meth c 3 E st0 Z 0 [(0, va_rf (some a0)), (1, .int p0)] [] st cb sb := by
  unfold vc_X1_code at hvc
  refine j_iload_n hC dX1_code_0 rfl 1 rfl ?_
  refine j_callS (As := [.int p0]) (rest := []) (n := 1) hC hvc (lw_S q1728 q1729 q41 q1730) (by decide +kernel) (g_rm hR rfl rfl) rfl rfl (g_sum rfl) dX1_code_1 (Nat.zero_le _) (Nat.zero_le _) (g_Kip fun x1 hv2 => ?_)
  replace hvc := hv2; clear hv2
  refine j_if_ne (tgt := 15) hC dX1_code_4 rfl (fun c2 => ?_) (fun c2 => ?_)
  · replace hvc := hvc.1 c2
    refine j_aload_n hC dX1_code_15 rfl 0 rfl ?_
    obtain ⟨o3, ⟨fs, hr, hv⟩, hvc⟩ := hvc
    refine j_get hC fkX1_10_X1 dX1_code_16 hr hv ?_
    clear hv hr fs
    obtain ⟨a4, rfl, hvc⟩ := hvc
    obtain ⟨⟨fs, hr⟩, hvc⟩ := hvc
    refine j_callV (As := []) (rest := []) (n := 0) (ci := 0) hC hvc (lw_V q497 q416 q2451 q43 q417) (by decide +kernel) (g_rm hR rfl rfl) rfl hr rfl rfl (g_sum rfl) dX1_code_19 (Nat.zero_le _) (Nat.zero_le _) (g_Kip fun x5 hv2 => ?_)
    replace hvc := hv2; clear hv2
    clear hr fs
    replace hvc := g_jn0_o hvc
    obtain ⟨K6, hK33, hvc⟩ := hvc
    have kh7 : K6 → g_J p l e R s m args below meth c 3 E st0 Z 36 [] [] st cb sb := by
      clear hvc
      intro hvc
      replace hvc := hK33 hvc
      exact hthr_36 _ _ _ _ hvc.1 hvc.2.1 hvc.2.2
    refine j_if_eq (tgt := 36) hC dX1_code_22 rfl (fun c8 => ?_) (fun c8 => ?_)
    · replace hvc := hvc.1 c8
      exact j_sub [] rfl (kh7 hvc)
    · replace hvc := hvc.2 c8
      refine j_aload_n hC dX1_code_25 rfl 0 rfl ?_
      obtain ⟨o9, ⟨fs, hr, hv⟩, hvc⟩ := hvc
      refine j_get hC fkX1_10_X1 dX1_code_26 hr hv ?_
      clear hv hr fs
      obtain ⟨a10, rfl, hvc⟩ := hvc
      obtain ⟨⟨fs, hr⟩, hvc⟩ := hvc
      refine j_callV (As := []) (rest := []) (n := 0) (ci := 0) hC hvc (lw_V q497 q416 q2451 q43 q417) (by decide +kernel) (g_rm hR rfl rfl) rfl hr rfl rfl (g_sum rfl) dX1_code_29 (Nat.zero_le _) (Nat.zero_le _) (g_Kip fun x11 hv2 => ?_)
      replace hvc := hv2; clear hv2
      clear hr fs
      refine j_iconst hC (nI 3) dX1_code_32 rfl ?_
      refine j_icmp_le (tgt := 44) hC dX1_code_33 rfl (fun c12 => ?_) (fun c12 => ?_)
      · replace hvc := hvc.1 c12
        refine j_aload_n hC dX1_code_44 rfl 0 rfl ?_
        obtain ⟨o13, ⟨fs, hr, hv⟩, hvc⟩ := hvc
        refine j_get hC fkX1_25_X1 dX1_code_45 hr hv ?_
        clear hv hr fs
        refine j_iload_n hC dX1_code_48 rfl 1 rfl ?_
        refine j_bipush hC (nI 97) dX1_code_49 rfl ?_
        refine j_isub hC dX1_code_51 ?_
        obtain ⟨a14, rfl, hvc⟩ := hvc
        obtain ⟨n15, f16, j17, hr, hi, hj, hJ, hvc⟩ := hvc
        replace hvc := hvc _ rfl
        refine j_ix hi ?_
        refine j_aald hC (by decide) hr hj hJ dX1_code_52 ?_
        generalize f16 j17 = o18 at hvc ⊢
        clear hr hi hj hJ
        obtain ⟨a19, rfl, hvc⟩ := hvc
        obtain ⟨⟨fs, hr⟩, hvc⟩ := hvc
        refine j_callV (As := []) (rest := []) (n := 0) (ci := 1) hC hvc (lw_V q1546 q182 q183 q44 q184) (by decide +kernel) (g_rm hR rfl rfl) rfl hr rfl rfl (g_sum rfl) dX1_code_53 (Nat.zero_le _) (Nat.zero_le _) (g_Kip fun x20 hv2 => ?_)
        replace hvc := hv2; clear hv2
        clear hr fs
        refine j_istore_n (lv0 := [(1, .int p0), (0, va_rf (some a0))]) hC dX1_code_56 rfl rfl [1, 0] rfl (g_okS.h rfl rfl rfl) ?_
        refine j_aload_n hC dX1_code_57 rfl 2 rfl ?_
        obtain ⟨o21, ⟨fs, hr, hv⟩, hvc⟩ := hvc
        refine j_get hC fkX1_25_X1 dX1_code_58 hr hv ?_
        clear hv hr fs
        refine j_iload_n hC dX1_code_61 rfl 1 rfl ?_
        refine j_bipush hC (nI 97) dX1_code_62 rfl ?_
        refine j_isub hC dX1_code_64 ?_
        refine j_aload_n hC dX1_code_65 rfl 2 rfl ?_
        obtain ⟨o22, ⟨fs, hr, hv⟩, hvc⟩ := hvc
        refine j_get hC fkX1_10_X1 dX1_code_66 hr hv ?_
        clear hv hr fs
        obtain ⟨a23, rfl, hvc⟩ := hvc
        obtain ⟨mc26, ms27, h1, h2, hvc⟩ := hvc
        obtain ⟨⟨fs, hr⟩, hvc⟩ := hvc
        refine j_callV (As := []) (rest := [.int (p0 - (nI 97)), va_rf o21]) (n := 0) (ci := 0) hC hvc (lw_V q570 q396 q397 q43 q398) (by decide +kernel) (g_rm hR rfl rfl) rfl hr rfl rfl (g_sum rfl) dX1_code_69 h1 h2 (g_Ka fun o24 st25 hv2 hx => ?_)
        replace hvc := hv2 hx; clear hx hv2
        clear hr fs
        obtain ⟨a28, rfl, hvc⟩ := hvc
        obtain ⟨n29, f30, j31, hm, hi, hj, hJ, hv, hvc⟩ := hvc
        refine j_ix1 hi ?_
        refine j_aast hC hm hj hJ (ci := 1) rfl hv dX1_code_72 (fun st32 e1 => ?_)
        replace hvc := hvc st32 e1; clear hm hi hj hJ hv e1
        refine j_iload_n hC dX1_code_73 rfl 0 rfl ?_
        exact hret _ _ _ _ _ _ dX1_code_74 rfl hvc
      · replace hvc := hvc.2 c12
        exact j_sub [] rfl (kh7 hvc)
  · replace hvc := hvc.2 c2
    exact hthr_7 _ _ _ _ hvc.1 hvc.2.1 hvc.2.2
theorem wk_X1_code {l : Launch} {E : g_E} {a0 : Nat} {p0 : Int32} {st : g_St} {mc ms : Nat} {Q : Int32 → g_St → Prop} (hvc : vc_X1_code l E a0 p0 st mc ms Q (fun _ _ => False)) : wp_X1_code l E mc ms [va_rf (some a0), .int p0] st Q :=
  g_enter (lv0 := [(0, va_rf (some a0)), (1, .int p0)]) (plainFor_of_name (by decide +kernel)) (by simp [lv_args, g_c1, g_ci, g_cL]) (by simp [lg_sl, g_c1, g_ci, g_cL]) (fun p e s m args below meth c hC => wb_X1_code hC ⟨Nat.le_refl _, Nat.le_refl _⟩ (fun pc lv v st1 cb sb hd hn hq => j_ireturn hC rfl hn hd (g_iv hq)) (fun _ _ _ _ _ _ h => h.elim) (fun _ _ _ _ _ _ h => h.elim) hvc)
abbrev wpx_X1_code (l : Launch) (E : g_E) (mc ms : Nat) (av : List Value) (st : g_St) (Q : Int32 → g_St → Prop) (X : String → g_St → Prop) : Prop := g_WPX l E yX1_code cX1_code 3 (some .int) 7 172 mc ms av st (fun v st' => ∃ r : Int32, v = some (.int r) ∧ Q r st') X
theorem wkx_X1_code {l : Launch} (hl : l.stackTraces = false) {E : g_E} {a0 : Nat} {p0 : Int32} {st : g_St} {mc ms : Nat} {Q : Int32 → g_St → Prop} {X : String → g_St → Prop} (hvc : vc_X1_code l E a0 p0 st mc ms Q X) : wpx_X1_code l E mc ms [va_rf (some a0), .int p0] st Q X :=
  g_enterX (lv0 := [(0, va_rf (some a0)), (1, .int p0)]) (by decide +kernel) (by simp [lv_args, g_c1, g_ci, g_cL]) (by simp [lg_sl, g_c1, g_ci, g_cL]) (fun p e s m args below meth c hC ht => wb_X1_code hC ⟨Nat.le_refl _, Nat.le_refl _⟩ (fun pc lv v st1 cb sb hd hn hq => j_xret (j_ireturn hC rfl hn hd (g_iv hq))) (fun lv st1 cb sb h1 h2 hx => j_throw0 hC hl ⟨by decide, by decide⟩ q1731 q54 g_thIAE g_toIAE ht dX1_code_7 dX1_code_10 dX1_code_11 dX1_code_14 (Nat.lt_of_lt_of_le (Nat.lt_succ_self _) (Nat.le_of_ble_eq_true rfl)) (Nat.le_of_ble_eq_true rfl) h1 h2 hx) (fun lv st1 cb sb h1 h2 hx => j_throw0 hC hl ⟨by decide, by decide⟩ q1828 q67 g_thUOE g_toUOE ht dX1_code_36 dX1_code_39 dX1_code_40 dX1_code_43 (Nat.lt_of_lt_of_le (Nat.lt_succ_self _) (Nat.le_of_ble_eq_true rfl)) (Nat.le_of_ble_eq_true rfl) h1 h2 hx) hvc)
abbrev wp_X1_write (l : Launch) (E : g_E) (mc ms : Nat) (av : List Value) (st : g_St) (Q : Int32 → g_St → Prop) : Prop := g_WPi l E yX1_write cX1_write 2 (some .int) 8 195 mc ms av st Q
def vc_X1_write (l : Launch) (E : g_E) (a0 : Nat) (st : g_St) (cb sb : Nat) (Q : Int32 → g_St → Prop) (X : String → g_St → Prop) : Prop :=
  ∃ o1 : Option Nat, g_gr st a0 15 0 o1 ∧ ∃ a2 : Nat, o1 = some a2 ∧ ∃ mc5 ms6 : Nat, mc5 ≤ cb ∧ ms6 ≤ sb ∧ g_is st a2 0 ∧ wp_J1_toString l E mc5 ms6 [va_rf (some a2)] st (fun o3 st4 => g_Ext st st4 → ∃ mc9 ms10 : Nat, mc9 ≤ (cb - mc5) ∧ ms10 ≤ (sb - ms6) ∧ g_is st4 a0 15 ∧ wp_X1_written l E mc9 ms10 [va_rf (some a0), va_rf o3] st4 (fun o7 st8 => g_Ext st4 st8 → ∃ a11 : Nat, o7 = some a11 ∧ g_is st8 a11 1 ∧ wp_J2_length l E 0 0 [va_rf (some a11)] st8 (fun x12 stx => stx = st8 ∧ (x12 ≤ (nI 24) → ∃ mc15 ms16 : Nat, mc15 ≤ ((cb - mc5) - mc9) ∧ ms16 ≤ ((sb - ms6) - ms10) ∧ g_is st8 a0 15 ∧ wp_X1_become l E mc15 ms16 [va_rf (some a0), va_rf (some a11)] st8 (fun st14 => g_Ext st8 st14 → g_is st14 a11 1 ∧ wp_J2_length l E 0 0 [va_rf (some a11)] st14 (fun x17 stx => stx = st14 ∧ Q x17 st14))) ∧ (¬ x12 ≤ (nI 24) → 1 ≤ ((cb - mc5) - mc9) ∧ 6 ≤ ((sb - ms6) - ms10) ∧ X "java/lang/IllegalStateException" st8))))
set_option maxHeartbeats 4000000 in
theorem wb_X1_write {p : Program} {l : Launch} {e : Env} {R : Room} {s : State} {m : MethodId} {args : Array Value} {below : List Frame} {meth : Method} {c : Code} {E : g_E} {st0 : g_St} {Z : State → Prop} (hC : g_Cx p s m args meth c cX1_write 2 "Stemspan" (some .int) "write" E st0) (hR : g_Rm 8 195 R) {a0 : Nat} {st : g_St} {cb sb : Nat} {Q : Int32 → g_St → Prop} {X : String → g_St → Prop} (hret : ∀ (pc : Nat) (lv : List (Nat × Value)) (v : Int32) (st1 : g_St) (cb sb : Nat), decode cX1_write pc = .ok (.ireturn, 1) → narrow .int (.int v) = .int v → Q v st1 → g_J p l e R s m args below meth c 2 E st0 Z pc lv [.int v] st1 cb sb) (hthr_21 : ∀ (lv : List (Nat × Value)) (st1 : g_St) (cb sb : Nat), 1 ≤ cb → 6 ≤ sb → X "java/lang/IllegalStateException" st1 → g_J p l e R s m args below meth c 2 E st0 Z 21 lv [] st1 cb sb) (hvc : vc_X1_write l E a0 st cb sb Q X) : g_J p l e R s m args below meth c 2 E st0 Z 0 [(0, va_rf (some a0))] [] st cb sb := by
  unfold vc_X1_write at hvc
  refine j_aload_n hC dX1_write_0 rfl 0 rfl ?_
  refine j_aload_n hC dX1_write_1 rfl 0 rfl ?_
  obtain ⟨o1, ⟨fs, hr, hv⟩, hvc⟩ := hvc
  refine j_get hC fkX1_10_X1 dX1_write_2 hr hv ?_
  clear hv hr fs
  obtain ⟨a2, rfl, hvc⟩ := hvc
  obtain ⟨mc5, ms6, h1, h2, hvc⟩ := hvc
  obtain ⟨⟨fs, hr⟩, hvc⟩ := hvc
  refine j_callV (As := []) (rest := [va_rf (some a0)]) (n := 0) (ci := 0) hC hvc (lw_V q570 q396 q397 q43 q398) (by decide +kernel) (g_rm hR rfl rfl) rfl hr rfl rfl (g_sum rfl) dX1_write_5 h1 h2 (g_Ka fun o3 st4 hv2 hx => ?_)
  replace hvc := hv2 hx; clear hx hv2
  clear hr fs
  obtain ⟨mc9, ms10, h1, h2, hvc⟩ := hvc
  obtain ⟨⟨fs, hr⟩, hvc⟩ := hvc
  refine j_callV (As := [va_rf o3]) (rest := []) (n := 1) (ci := 15) hC hvc (lw_V q1670 q1672 qs11 q41 q1673) (by decide +kernel) (g_rm hR rfl rfl) rfl hr rfl rfl (g_sum rfl) dX1_write_8 h1 h2 (g_Ka fun o7 st8 hv2 hx => ?_)
  replace hvc := hv2 hx; clear hx hv2
  clear hr fs
  refine j_astore_n (lv0 := [(0, va_rf (some a0))]) hC dX1_write_11 rfl rfl [0] rfl (g_okS.h rfl g_c1 rfl) ?_
  refine j_aload_n hC dX1_write_12 rfl 0 rfl ?_
  obtain ⟨a11, rfl, hvc⟩ := hvc
  obtain ⟨⟨fs, hr⟩, hvc⟩ := hvc
  refine j_callV (As := []) (rest := []) (n := 0) (ci := 1) hC hvc (lw_V q1546 q182 q183 q44 q184) (by decide +kernel) (g_rm hR rfl rfl) rfl hr rfl rfl (g_sum rfl) dX1_write_13 (Nat.zero_le _) (Nat.zero_le _) (g_Kip fun x12 hv2 => ?_)
  replace hvc := hv2; clear hv2
  clear hr fs
  refine j_bipush hC (nI 24) dX1_write_16 rfl ?_
  refine j_icmp_le (tgt := 29) hC dX1_write_18 rfl (fun c13 => ?_) (fun c13 => ?_)
  · replace hvc := hvc.1 c13
    refine j_aload_n hC dX1_write_29 rfl 1 rfl ?_
    refine j_aload_n hC dX1_write_30 rfl 0 rfl ?_
    obtain ⟨mc15, ms16, h1, h2, hvc⟩ := hvc
    obtain ⟨⟨fs, hr⟩, hvc⟩ := hvc
    refine j_callV (As := [va_rf (some a11)]) (rest := []) (n := 1) (ci := 15) hC hvc (lw_V q1950 q1952 qs17 q41 q1953) (by decide +kernel) (g_rm hR rfl rfl) rfl hr rfl rfl (g_sum rfl) dX1_write_31 h1 h2 (g_Kv fun st14 hv2 hx => ?_)
    replace hvc := hv2 hx; clear hx hv2
    clear hr fs
    refine j_aload_n hC dX1_write_34 rfl 0 rfl ?_
    obtain ⟨⟨fs, hr⟩, hvc⟩ := hvc
    refine j_callV (As := []) (rest := []) (n := 0) (ci := 1) hC hvc (lw_V q1546 q182 q183 q44 q184) (by decide +kernel) (g_rm hR rfl rfl) rfl hr rfl rfl (g_sum rfl) dX1_write_35 (Nat.zero_le _) (Nat.zero_le _) (g_Kip fun x17 hv2 => ?_)
    replace hvc := hv2; clear hv2
    clear hr fs
    exact hret _ _ _ _ _ _ dX1_write_38 rfl hvc
  · replace hvc := hvc.2 c13
    exact hthr_21 _ _ _ _ hvc.1 hvc.2.1 hvc.2.2
theorem wk_X1_write {l : Launch} {E : g_E} {a0 : Nat} {st : g_St} {mc ms : Nat} {Q : Int32 → g_St → Prop} (hvc : vc_X1_write l E a0 st mc ms Q (fun _ _ => False)) : wp_X1_write l E mc ms [va_rf (some a0)] st Q :=
  g_enter (lv0 := [(0, va_rf (some a0))]) (plainFor_of_name (by decide +kernel)) (by simp [lv_args, g_c1, g_ci, g_cL]) (by simp [lg_sl, g_c1, g_ci, g_cL]) (fun p e s m args below meth c hC => wb_X1_write hC ⟨Nat.le_refl _, Nat.le_refl _⟩ (fun pc lv v st1 cb sb hd hn hq => j_ireturn hC rfl hn hd (g_iv hq)) (fun _ _ _ _ _ _ h => h.elim) hvc)
abbrev wpx_X1_write (l : Launch) (E : g_E) (mc ms : Nat) (av : List Value) (st : g_St) (Q : Int32 → g_St → Prop) (X : String → g_St → Prop) : Prop := g_WPX l E yX1_write cX1_write 2 (some .int) 8 195 mc ms av st (fun v st' => ∃ r : Int32, v = some (.int r) ∧ Q r st') X
theorem wkx_X1_write {l : Launch} (hl : l.stackTraces = false) {E : g_E} {a0 : Nat} {st : g_St} {mc ms : Nat} {Q : Int32 → g_St → Prop} {X : String → g_St → Prop} (hvc : vc_X1_write l E a0 st mc ms Q X) : wpx_X1_write l E mc ms [va_rf (some a0)] st Q X :=
  g_enterX (lv0 := [(0, va_rf (some a0))]) (by decide +kernel) (by simp [lv_args, g_c1, g_ci, g_cL]) (by simp [lg_sl, g_c1, g_ci, g_cL]) (fun p e s m args below meth c hC ht => wb_X1_write hC ⟨Nat.le_refl _, Nat.le_refl _⟩ (fun pc lv v st1 cb sb hd hn hq => j_xret (j_ireturn hC rfl hn hd (g_iv hq))) (fun lv st1 cb sb h1 h2 hx => j_throw0 hC hl ⟨by decide, by decide⟩ q1736 q61 g_thISE g_toISE ht dX1_write_21 dX1_write_24 dX1_write_25 dX1_write_28 (Nat.lt_of_lt_of_le (Nat.lt_succ_self _) (Nat.le_of_ble_eq_true rfl)) (Nat.le_of_ble_eq_true rfl) h1 h2 hx) hvc)
abbrev wp_X1_read (l : Launch) (E : g_E) (mc ms : Nat) (av : List Value) (st : g_St) (Q : Int32 → g_St → Prop) : Prop := g_WPi l E yX1_read cX1_read 6 (some .int) 13 332 mc ms av st Q
def vc_X1_read (l : Launch) (E : g_E) (a0 : Nat) (st : g_St) (cb sb : Nat) (Q : Int32 → g_St → Prop) (X : String → g_St → Prop) : Prop :=
  g_is st a0 15 ∧ wp_X1_isOrderly l E 0 0 [va_rf (some a0)] st (fun x1 stx => stx = st ∧ (¬ x1 = 0 → 1 ≤ cb ∧ 9 ≤ sb ∧ ∀ (q3 : Nat) (st4 : g_St), q3 = st.2.2 → st4 = g_new st (.inr (3, [va_rf none, va_rf none, va_rf none, va_rf none, .int 0, .int 0, va_rf none, va_rf none, va_rf none])) → wp_J5_init l E 0 0 [va_rf (some q3)] st4 (fun st5 => g_Ext st4 st5 → g_lp4 (fun (K10 : Int32 → g_St → Nat → Nat → Prop) (x6 : Int32) (st7 : g_St) (cb8 : Nat) (sb9 : Nat) => ((nI 6) ≤ x6 → 1 ≤ cb8 ∧ 4 ≤ sb9 ∧ ∀ (q14 : Nat) (st15 : g_St), q14 = st7.2.2 → st15 = g_new st7 (.inr (0, [va_rf none, .int 0, .int 0, .int 0])) → ∃ mc17 ms18 : Nat, mc17 ≤ (cb8 - 1) ∧ ms18 ≤ (sb9 - 4) ∧ wp_J1_init l E mc17 ms18 [va_rf (some q14)] st15 (fun st16 => g_Ext st15 st16 → g_lp4 (fun (K23 : Int32 → g_St → Nat → Nat → Prop) (x19 : Int32) (st20 : g_St) (cb21 : Nat) (sb22 : Nat) => ∃ o26 : Option Nat, g_gr st20 a0 15 0 o26 ∧ ∃ a27 : Nat, o26 = some a27 ∧ g_is st20 a27 0 ∧ wp_J1_length l E 0 0 [va_rf (some a27)] st20 (fun x28 stx => stx = st20 ∧ (x28 ≤ x19 → ∃ mc32 ms33 : Nat, mc32 ≤ cb21 ∧ ms33 ≤ sb22 ∧ g_is st20 q14 0 ∧ wp_J1_toString l E mc32 ms33 [va_rf (some q14)] st20 (fun o30 st31 => g_Ext st20 st31 → ∃ mc35 ms36 : Nat, mc35 ≤ (cb21 - mc32) ∧ ms36 ≤ (sb22 - ms33) ∧ g_is st31 a0 15 ∧ wp_X1_become l E mc35 ms36 [va_rf (some a0), va_rf o30] st31 (fun st34 => g_Ext st31 st34 → ∃ o37 : Option Nat, g_gr st34 a0 15 0 o37 ∧ ∃ a38 : Nat, o37 = some a38 ∧ g_is st34 a38 0 ∧ wp_J1_length l E 0 0 [va_rf (some a38)] st34 (fun x39 stx => stx = st34 ∧ Q x39 st34)))) ∧ (¬ x28 ≤ x19 → ∃ o40 : Option Nat, g_gr st20 a0 15 0 o40 ∧ ∃ a41 : Nat, o40 = some a41 ∧ ∃ mc44 ms45 : Nat, mc44 ≤ cb21 ∧ ms45 ≤ sb22 ∧ g_is st20 a41 0 ∧ wp_J1_substring l E mc44 ms45 [va_rf (some a41), .int x19] st20 (fun o42 st43 => g_Ext st20 st43 → ∃ mc48 ms49 : Nat, mc48 ≤ (cb21 - mc44) ∧ ms49 ≤ (sb22 - ms45) ∧ wp_X1_longest l E mc48 ms49 [va_rf (some q3), va_rf o42] st43 (fun x46 st47 => g_Ext st43 st47 → (¬ x46 = 0 → ∃ o51 : Option Nat, g_gr st47 a0 15 0 o51 ∧ ∃ a52 : Nat, o51 = some a52 ∧ ∃ mc55 ms56 : Nat, mc55 ≤ ((cb21 - mc44) - mc48) ∧ ms56 ≤ ((sb22 - ms45) - ms49) ∧ g_is st47 a52 0 ∧ wp_J1_substring_2 l E mc55 ms56 [va_rf (some a52), .int x19, .int (x19 + x46)] st47 (fun o53 st54 => g_Ext st47 st54 → g_is st54 q3 3 ∧ wp_J5_get l E 0 0 [va_rf (some q3), va_rf o53] st54 (fun o57 stx => stx = st54 ∧ g_isN st54 o57 2 ∧ ∃ a58 : Nat, o57 = some a58 ∧ g_is st54 a58 2 ∧ wp_J14_intValue l E 0 0 [va_rf (some a58)] st54 (fun x59 stx => stx = st54 ∧ ∃ mc62 ms63 : Nat, mc62 ≤ (((cb21 - mc44) - mc48) - mc55) ∧ ms63 ≤ (((sb22 - ms45) - ms49) - ms56) ∧ g_is st54 q14 0 ∧ wp_J1_append_3 l E mc62 ms63 [va_rf (some q14), .int (((((nI 97) + x59)).toUInt32 % 65536).toInt32)] st54 (fun o60 st61 => g_Ext st54 st61 → K23 (x19 + x46) st61 ((((cb21 - mc44) - mc48) - mc55) - mc62) ((((sb22 - ms45) - ms49) - ms56) - ms63)))))) ∧ (x46 = 0 → 1 ≤ ((cb21 - mc44) - mc48) ∧ 6 ≤ ((sb22 - ms45) - ms49) ∧ X "java/util/NoSuchElementException" st47)))))) (nI 0) st16 ((cb8 - 1) - mc17) ((sb9 - 4) - ms18))) ∧ (¬ (nI 6) ≤ x6 → ∃ o67 : Option Nat, g_gr st7 a0 15 2 o67 ∧ ∃ a68 : Nat, o67 = some a68 ∧ ∃ (n69 : Nat) (f70 : Nat → Option Nat) (j71 : Nat), g_ar st7 a68 4 n69 f70 ∧ x6 = nI j71 ∧ j71 < n69 ∧ j71 < 2 ^ 31 ∧ ∀ o72 : Option Nat, o72 = f70 j71 → ∃ mc75 ms76 : Nat, mc75 ≤ cb8 ∧ ms76 ≤ sb9 ∧ wp_J14_valueOf l E mc75 ms76 [.int x6] st7 (fun o73 st74 => g_Ext st7 st74 → ∃ mc79 ms80 : Nat, mc79 ≤ (cb8 - mc75) ∧ ms80 ≤ (sb9 - ms76) ∧ g_is st74 q3 3 ∧ wp_J5_put l E mc79 ms80 [va_rf (some q3), va_rf o72, va_rf o73] st74 (fun o77 st78 => g_Ext st74 st78 → K10 (x6 + (nI 1)) st78 ((cb8 - mc75) - mc79) ((sb9 - ms76) - ms80))))) (nI 0) st5 (cb - 1) (sb - 9))) ∧ (x1 = 0 → 1 ≤ cb ∧ 6 ≤ sb ∧ X "java/lang/UnsupportedOperationException" st))
set_option maxHeartbeats 4000000 in
theorem wb_X1_read {p : Program} {l : Launch} {e : Env} {R : Room} {s : State} {m : MethodId} {args : Array Value} {below : List Frame} {meth : Method} {c : Code} {E : g_E} {st0 : g_St} {Z : State → Prop} (hC : g_Cx p s m args meth c cX1_read 6 "Stemspan" (some .int) "read" E st0) (hR : g_Rm 13 332 R) {a0 : Nat} {st : g_St} {cb sb : Nat} {Q : Int32 → g_St → Prop} {X : String → g_St → Prop} (hret : ∀ (pc : Nat) (lv : List (Nat × Value)) (v : Int32) (st1 : g_St) (cb sb : Nat), decode cX1_read pc = .ok (.ireturn, 1) → narrow .int (.int v) = .int v → Q v st1 → g_J p l e R s m args below meth c 6 E st0 Z pc lv [.int v] st1 cb sb) (hthr_7 : ∀ (lv : List (Nat × Value)) (st1 : g_St) (cb sb : Nat), 1 ≤ cb → 6 ≤ sb → X "java/lang/UnsupportedOperationException" st1 → g_J p l e R s m args below meth c 6 E st0 Z 7 lv [] st1 cb sb) (hthr_92 : ∀ (lv : List (Nat × Value)) (st1 : g_St) (cb sb : Nat), 1 ≤ cb → 6 ≤ sb → X "java/util/NoSuchElementException" st1 → g_J p l e R s m args below meth c 6 E st0 Z 92 lv [] st1 cb sb) (hvc : vc_X1_read l E a0 st cb sb Q X) : g_J p l e R s m args below meth c 6 E st0 Z 0 [(0, va_rf (some a0))] [] st cb sb := by
  unfold vc_X1_read at hvc
  refine j_aload_n hC dX1_read_0 rfl 0 rfl ?_
  obtain ⟨⟨fs, hr⟩, hvc⟩ := hvc
  refine j_callV (As := []) (rest := []) (n := 0) (ci := 15) hC hvc (lw_V q1665 q1667 qs10 q41 q1668) (by decide +kernel) (g_rm hR rfl rfl) rfl hr rfl rfl (g_sum rfl) dX1_read_1 (Nat.zero_le _) (Nat.zero_le _) (g_Kip fun x1 hv2 => ?_)
  replace hvc := hv2; clear hv2
  clear hr fs
  refine j_if_ne (tgt := 15) hC dX1_read_4 rfl (fun c2 => ?_) (fun c2 => ?_)
  · replace hvc := hvc.1 c2
    obtain ⟨h1, h2, hvc⟩ := hvc
    refine j_new hC nwX1_16 dX1_read_15 (n := 9) rfl h1 h2 (fun q3 st4 e1 e2 => ?_)
    replace hvc := hvc q3 st4 e1 e2; clear h1 h2 e1 e2
    refine j_dup hC dX1_read_18 g_c1 ?_
    refine j_callI (As := []) (rest := [va_rf (some q3)]) (n := 0) hC hvc (lw_meth q138) q47 q136 q137 rfl (by decide +kernel) (g_rm hR rfl rfl) rfl rfl (g_sum rfl) dX1_read_19 (Nat.zero_le _) (Nat.zero_le _) (g_Kv fun st5 hv2 hx => ?_)
    replace hvc := hv2 hx; clear hx hv2
    refine j_astore_n (lv0 := [(0, va_rf (some a0))]) hC dX1_read_22 rfl rfl [0] rfl (g_okS.h rfl g_c1 rfl) ?_
    refine j_iconst hC (nI 0) dX1_read_23 rfl ?_
    refine j_istore_n (lv0 := [(1, va_rf (some q3)), (0, va_rf (some a0))]) hC dX1_read_24 rfl rfl [0, 1] rfl (g_okS.h rfl g_c1 rfl) ?_
    replace hvc := g_lp4_o hvc
    obtain ⟨K10, hz81, hs82, n83, hvc⟩ := hvc
    have kh11 : ∀ (n : Nat) (x6 : Int32) (st7 : g_St) (cb8 : Nat) (sb9 : Nat), K10 n x6 st7 cb8 sb9 → g_J p l e R s m args below meth c 6 E st0 Z 25 [(0, va_rf (some a0)), (1, va_rf (some q3)), (2, .int x6)] [] st7 cb8 sb9 := by
      clear hvc
      intro n
      induction n with
      | zero => intro x6 st7 cb8 sb9 hvc; exact absurd hvc (hz81 _ _ _ _)
      | succ n ih12 =>
        intro x6 st7 cb8 sb9 hvc
        replace hvc := hs82 n _ _ _ _ hvc
        refine j_iload_n hC dX1_read_25 rfl 2 rfl ?_
        refine j_bipush hC (nI 6) dX1_read_26 rfl ?_
        refine j_icmp_ge (tgt := 52) hC dX1_read_28 rfl (fun c13 => ?_) (fun c13 => ?_)
        · replace hvc := hvc.1 c13
          obtain ⟨h1, h2, hvc⟩ := hvc
          refine j_new hC nwX1_7 dX1_read_52 (n := 4) rfl h1 h2 (fun q14 st15 e1 e2 => ?_)
          replace hvc := hvc q14 st15 e1 e2; clear h1 h2 e1 e2
          refine j_dup hC dX1_read_55 g_c1 ?_
          obtain ⟨mc17, ms18, h1, h2, hvc⟩ := hvc
          refine j_callI (As := []) (rest := [va_rf (some q14)]) (n := 0) hC hvc (lw_meth q105) q43 q103 q104 rfl (by decide +kernel) (g_rm hR rfl rfl) rfl rfl (g_sum rfl) dX1_read_56 h1 h2 (g_Kv fun st16 hv2 hx => ?_)
          replace hvc := hv2 hx; clear hx hv2
          refine j_astore_n (lv0 := [(1, va_rf (some q3)), (0, va_rf (some a0))]) hC dX1_read_59 rfl rfl [1, 0] rfl (g_okS.h rfl g_c1 rfl) ?_
          refine j_iconst hC (nI 0) dX1_read_60 rfl ?_
          refine j_istore_n (lv0 := [(2, va_rf (some q14)), (1, va_rf (some q3)), (0, va_rf (some a0))]) hC dX1_read_61 rfl rfl [0, 1, 2] rfl (g_okS.h rfl g_c1 rfl) ?_
          replace hvc := g_lp4_o hvc
          obtain ⟨K23, hz64, hs65, n66, hvc⟩ := hvc
          have kh24 : ∀ (n : Nat) (x19 : Int32) (st20 : g_St) (cb21 : Nat) (sb22 : Nat), K23 n x19 st20 cb21 sb22 → g_J p l e R s m args below meth c 6 E st0 Z 62 [(0, va_rf (some a0)), (1, va_rf (some q3)), (2, va_rf (some q14)), (3, .int x19)] [] st20 cb21 sb22 := by
            clear hvc
            intro n
            induction n with
            | zero => intro x19 st20 cb21 sb22 hvc; exact absurd hvc (hz64 _ _ _ _)
            | succ n ih25 =>
              intro x19 st20 cb21 sb22 hvc
              replace hvc := hs65 n _ _ _ _ hvc
              refine j_iload_n hC dX1_read_62 rfl 3 rfl ?_
              refine j_aload_n hC dX1_read_63 rfl 0 rfl ?_
              obtain ⟨o26, ⟨fs, hr, hv⟩, hvc⟩ := hvc
              refine j_get hC fkX1_10_X1 dX1_read_64 hr hv ?_
              clear hv hr fs
              obtain ⟨a27, rfl, hvc⟩ := hvc
              obtain ⟨⟨fs, hr⟩, hvc⟩ := hvc
              refine j_callV (As := []) (rest := [.int x19]) (n := 0) (ci := 0) hC hvc (lw_V q497 q416 q2451 q43 q417) (by decide +kernel) (g_rm hR rfl rfl) rfl hr rfl rfl (g_sum rfl) dX1_read_67 (Nat.zero_le _) (Nat.zero_le _) (g_Kip fun x28 hv2 => ?_)
              replace hvc := hv2; clear hv2
              clear hr fs
              refine j_icmp_ge (tgt := 143) hC dX1_read_70 rfl (fun c29 => ?_) (fun c29 => ?_)
              · replace hvc := hvc.1 c29
                refine j_aload_n hC dX1_read_143 rfl 0 rfl ?_
                refine j_aload_n hC dX1_read_144 rfl 2 rfl ?_
                obtain ⟨mc32, ms33, h1, h2, hvc⟩ := hvc
                obtain ⟨⟨fs, hr⟩, hvc⟩ := hvc
                refine j_callV (As := []) (rest := [va_rf (some a0)]) (n := 0) (ci := 0) hC hvc (lw_V q570 q396 q397 q43 q398) (by decide +kernel) (g_rm hR rfl rfl) rfl hr rfl rfl (g_sum rfl) dX1_read_145 h1 h2 (g_Ka fun o30 st31 hv2 hx => ?_)
                replace hvc := hv2 hx; clear hx hv2
                clear hr fs
                obtain ⟨mc35, ms36, h1, h2, hvc⟩ := hvc
                obtain ⟨⟨fs, hr⟩, hvc⟩ := hvc
                refine j_callV (As := [va_rf o30]) (rest := []) (n := 1) (ci := 15) hC hvc (lw_V q1950 q1952 qs17 q41 q1953) (by decide +kernel) (g_rm hR rfl rfl) rfl hr rfl rfl (g_sum rfl) dX1_read_148 h1 h2 (g_Kv fun st34 hv2 hx => ?_)
                replace hvc := hv2 hx; clear hx hv2
                clear hr fs
                refine j_aload_n hC dX1_read_151 rfl 0 rfl ?_
                obtain ⟨o37, ⟨fs, hr, hv⟩, hvc⟩ := hvc
                refine j_get hC fkX1_10_X1 dX1_read_152 hr hv ?_
                clear hv hr fs
                obtain ⟨a38, rfl, hvc⟩ := hvc
                obtain ⟨⟨fs, hr⟩, hvc⟩ := hvc
                refine j_callV (As := []) (rest := []) (n := 0) (ci := 0) hC hvc (lw_V q497 q416 q2451 q43 q417) (by decide +kernel) (g_rm hR rfl rfl) rfl hr rfl rfl (g_sum rfl) dX1_read_155 (Nat.zero_le _) (Nat.zero_le _) (g_Kip fun x39 hv2 => ?_)
                replace hvc := hv2; clear hv2
                clear hr fs
                exact hret _ _ _ _ _ _ dX1_read_158 rfl hvc
              · replace hvc := hvc.2 c29
                refine j_aload_n hC dX1_read_73 rfl 1 rfl ?_
                refine j_aload_n hC dX1_read_74 rfl 0 rfl ?_
                obtain ⟨o40, ⟨fs, hr, hv⟩, hvc⟩ := hvc
                refine j_get hC fkX1_10_X1 dX1_read_75 hr hv ?_
                clear hv hr fs
                refine j_iload_n hC dX1_read_78 rfl 3 rfl ?_
                obtain ⟨a41, rfl, hvc⟩ := hvc
                obtain ⟨mc44, ms45, h1, h2, hvc⟩ := hvc
                obtain ⟨⟨fs, hr⟩, hvc⟩ := hvc
                refine j_callV (As := [.int x19]) (rest := [va_rf (some q3)]) (n := 1) (ci := 0) hC hvc (lw_V q1562 q1563 q1564 q43 q1565) (by decide +kernel) (g_rm hR rfl rfl) rfl hr rfl rfl (g_sum rfl) dX1_read_79 h1 h2 (g_Ka fun o42 st43 hv2 hx => ?_)
                replace hvc := hv2 hx; clear hx hv2
                clear hr fs
                obtain ⟨mc48, ms49, h1, h2, hvc⟩ := hvc
                refine j_callS (As := [va_rf (some q3), va_rf o42]) (rest := []) (n := 2) hC hvc (lw_S q1581 q1582 q41 q1583) (by decide +kernel) (g_rm hR rfl rfl) rfl rfl (g_sum rfl) dX1_read_82 h1 h2 (g_Ki fun x46 st47 hv2 hx => ?_)
                replace hvc := hv2 hx; clear hx hv2
                refine j_istore (lv0 := [(3, .int x19), (0, va_rf (some a0)), (1, va_rf (some q3)), (2, va_rf (some q14))]) hC dX1_read_85 rfl [3, 0, 1, 2] rfl (g_okS.h rfl rfl rfl) ?_
                refine j_iload hC dX1_read_87 0 rfl ?_
                refine j_if_ne (tgt := 100) hC dX1_read_89 rfl (fun c50 => ?_) (fun c50 => ?_)
                · replace hvc := hvc.1 c50
                  refine j_aload_n hC dX1_read_100 rfl 3 rfl ?_
                  refine j_aload_n hC dX1_read_101 rfl 2 rfl ?_
                  obtain ⟨o51, ⟨fs, hr, hv⟩, hvc⟩ := hvc
                  refine j_get hC fkX1_10_X1 dX1_read_102 hr hv ?_
                  clear hv hr fs
                  refine j_iload_n hC dX1_read_105 rfl 1 rfl ?_
                  refine j_iload_n hC dX1_read_106 rfl 1 rfl ?_
                  refine j_iload hC dX1_read_107 0 rfl ?_
                  refine j_iadd hC dX1_read_109 ?_
                  obtain ⟨a52, rfl, hvc⟩ := hvc
                  obtain ⟨mc55, ms56, h1, h2, hvc⟩ := hvc
                  obtain ⟨⟨fs, hr⟩, hvc⟩ := hvc
                  refine j_callV (As := [.int x19, .int (x19 + x46)]) (rest := [va_rf (some q3)]) (n := 2) (ci := 0) hC hvc (lw_V q1592 q1573 q2467 q43 q1574) (by decide +kernel) (g_rm hR rfl rfl) rfl hr rfl rfl (g_sum rfl) dX1_read_110 h1 h2 (g_Ka fun o53 st54 hv2 hx => ?_)
                  replace hvc := hv2 hx; clear hx hv2
                  clear hr fs
                  obtain ⟨⟨fs, hr⟩, hvc⟩ := hvc
                  refine j_callV (As := [va_rf o53]) (rest := []) (n := 1) (ci := 3) hC hvc (lw_V q1939 q1940 q1941 q47 q1942) (by decide +kernel) (g_rm hR rfl rfl) rfl hr rfl rfl (g_sum rfl) dX1_read_113 (Nat.zero_le _) (Nat.zero_le _) (g_Kap fun o57 hv2 => ?_)
                  replace hvc := hv2; clear hv2
                  clear hr fs
                  obtain ⟨hv, hvc⟩ := hvc
                  refine j_cast hC (C := "java/lang/Integer") (ci := 2) q1385 rfl (Or.inl rfl) hv dX1_read_116 ?_
                  clear hv
                  obtain ⟨a58, rfl, hvc⟩ := hvc
                  obtain ⟨⟨fs, hr⟩, hvc⟩ := hvc
                  refine j_callV (As := []) (rest := []) (n := 0) (ci := 2) hC hvc (lw_V q1386 q1387 q1388 q56 q1389) (by decide +kernel) (g_rm hR rfl rfl) rfl hr rfl rfl (g_sum rfl) dX1_read_119 (Nat.zero_le _) (Nat.zero_le _) (g_Kip fun x59 hv2 => ?_)
                  replace hvc := hv2; clear hv2
                  clear hr fs
                  refine j_istore (lv0 := [(4, .int x46), (3, .int x19), (0, va_rf (some a0)), (1, va_rf (some q3)), (2, va_rf (some q14))]) hC dX1_read_122 rfl [0, 1, 2, 3, 4] rfl (g_okS.h rfl rfl rfl) ?_
                  refine j_aload_n hC dX1_read_124 rfl 5 rfl ?_
                  refine j_bipush hC (nI 97) dX1_read_125 rfl ?_
                  refine j_iload hC dX1_read_127 0 rfl ?_
                  refine j_iadd hC dX1_read_129 ?_
                  refine j_i2c hC dX1_read_130 ?_
                  obtain ⟨mc62, ms63, h1, h2, hvc⟩ := hvc
                  obtain ⟨⟨fs, hr⟩, hvc⟩ := hvc
                  refine j_callV (As := [.int (((((nI 97) + x59)).toUInt32 % 65536).toInt32)]) (rest := []) (n := 1) (ci := 0) hC hvc (lw_V q1171 q1172 q1173 q43 q1174) (by decide +kernel) (g_rm hR rfl rfl) rfl hr rfl rfl (g_sum rfl) dX1_read_131 h1 h2 (g_Ka fun o60 st61 hv2 hx => ?_)
                  replace hvc := hv2 hx; clear hx hv2
                  clear hr fs
                  refine j_pop hC dX1_read_134 g_c1 ?_
                  refine j_iload_n hC dX1_read_135 rfl 2 rfl ?_
                  refine j_iload hC dX1_read_136 1 rfl ?_
                  refine j_iadd hC dX1_read_138 ?_
                  refine j_istore_n (lv0 := [(2, va_rf (some q14)), (5, .int x59), (4, .int x46), (0, va_rf (some a0)), (1, va_rf (some q3))]) hC dX1_read_139 rfl rfl [5, 0, 1, 3, 4] rfl (g_okS.h rfl g_c1 rfl) ?_
                  refine j_goto (tgt := 62) hC dX1_read_140 rfl ?_
                  exact j_sub [4, 5, 1, 0] rfl (ih25 (x19 + x46) st61 ((((cb21 - mc44) - mc48) - mc55) - mc62) ((((sb22 - ms45) - ms49) - ms56) - ms63) hvc)
                · replace hvc := hvc.2 c50
                  exact hthr_92 _ _ _ _ hvc.1 hvc.2.1 hvc.2.2
          exact j_sub [3, 2, 1, 0] rfl (kh24 n66 (nI 0) st16 ((cb8 - 1) - mc17) ((sb9 - 4) - ms18) hvc)
        · replace hvc := hvc.2 c13
          refine j_aload_n hC dX1_read_31 rfl 1 rfl ?_
          refine j_aload_n hC dX1_read_32 rfl 0 rfl ?_
          obtain ⟨o67, ⟨fs, hr, hv⟩, hvc⟩ := hvc
          refine j_get hC fkX1_25_X1 dX1_read_33 hr hv ?_
          clear hv hr fs
          refine j_iload_n hC dX1_read_36 rfl 2 rfl ?_
          obtain ⟨a68, rfl, hvc⟩ := hvc
          obtain ⟨n69, f70, j71, hr, hi, hj, hJ, hvc⟩ := hvc
          replace hvc := hvc _ rfl
          refine j_ix hi ?_
          refine j_aald hC (by decide) hr hj hJ dX1_read_37 ?_
          generalize f70 j71 = o72 at hvc ⊢
          clear hr hi hj hJ
          refine j_iload_n hC dX1_read_38 rfl 2 rfl ?_
          obtain ⟨mc75, ms76, h1, h2, hvc⟩ := hvc
          refine j_callS (As := [.int x6]) (rest := [va_rf o72, va_rf (some q3)]) (n := 1) hC hvc (lw_S q1843 q1844 q56 q1845) (by decide +kernel) (g_rm hR rfl rfl) rfl rfl (g_sum rfl) dX1_read_39 h1 h2 (g_Ka fun o73 st74 hv2 hx => ?_)
          replace hvc := hv2 hx; clear hx hv2
          obtain ⟨mc79, ms80, h1, h2, hvc⟩ := hvc
          obtain ⟨⟨fs, hr⟩, hvc⟩ := hvc
          refine j_callV (As := [va_rf o72, va_rf o73]) (rest := []) (n := 2) (ci := 3) hC hvc (lw_V q1862 q1863 q1864 q47 q1865) (by decide +kernel) (g_rm hR rfl rfl) rfl hr rfl rfl (g_sum rfl) dX1_read_42 h1 h2 (g_Ka fun o77 st78 hv2 hx => ?_)
          replace hvc := hv2 hx; clear hx hv2
          clear hr fs
          refine j_pop hC dX1_read_45 g_c1 ?_
          refine j_iinc (lv0 := [(1, va_rf (some q3)), (0, va_rf (some a0))]) hC (nI 1) dX1_read_46 2 rfl rfl rfl [1, 0] rfl (g_okS.h rfl g_c1 rfl) ?_
          refine j_goto (tgt := 25) hC dX1_read_49 rfl ?_
          exact j_sub [2, 1, 0] rfl (ih12 (x6 + (nI 1)) st78 ((cb8 - mc75) - mc79) ((sb9 - ms76) - ms80) hvc)
    exact j_sub [2, 1, 0] rfl (kh11 n83 (nI 0) st5 (cb - 1) (sb - 9) hvc)
  · replace hvc := hvc.2 c2
    exact hthr_7 _ _ _ _ hvc.1 hvc.2.1 hvc.2.2
theorem wk_X1_read {l : Launch} {E : g_E} {a0 : Nat} {st : g_St} {mc ms : Nat} {Q : Int32 → g_St → Prop} (hvc : vc_X1_read l E a0 st mc ms Q (fun _ _ => False)) : wp_X1_read l E mc ms [va_rf (some a0)] st Q :=
  g_enter (lv0 := [(0, va_rf (some a0))]) (plainFor_of_name (by decide +kernel)) (by simp [lv_args, g_c1, g_ci, g_cL]) (by simp [lg_sl, g_c1, g_ci, g_cL]) (fun p e s m args below meth c hC => wb_X1_read hC ⟨Nat.le_refl _, Nat.le_refl _⟩ (fun pc lv v st1 cb sb hd hn hq => j_ireturn hC rfl hn hd (g_iv hq)) (fun _ _ _ _ _ _ h => h.elim) (fun _ _ _ _ _ _ h => h.elim) hvc)
abbrev wpx_X1_read (l : Launch) (E : g_E) (mc ms : Nat) (av : List Value) (st : g_St) (Q : Int32 → g_St → Prop) (X : String → g_St → Prop) : Prop := g_WPX l E yX1_read cX1_read 6 (some .int) 13 332 mc ms av st (fun v st' => ∃ r : Int32, v = some (.int r) ∧ Q r st') X
theorem wkx_X1_read {l : Launch} (hl : l.stackTraces = false) {E : g_E} {a0 : Nat} {st : g_St} {mc ms : Nat} {Q : Int32 → g_St → Prop} {X : String → g_St → Prop} (hvc : vc_X1_read l E a0 st mc ms Q X) : wpx_X1_read l E mc ms [va_rf (some a0)] st Q X :=
  g_enterX (lv0 := [(0, va_rf (some a0))]) (by decide +kernel) (by simp [lv_args, g_c1, g_ci, g_cL]) (by simp [lg_sl, g_c1, g_ci, g_cL]) (fun p e s m args below meth c hC ht => wb_X1_read hC ⟨Nat.le_refl _, Nat.le_refl _⟩ (fun pc lv v st1 cb sb hd hn hq => j_xret (j_ireturn hC rfl hn hd (g_iv hq))) (fun lv st1 cb sb h1 h2 hx => j_throw0 hC hl ⟨by decide, by decide⟩ q1828 q67 g_thUOE g_toUOE ht dX1_read_7 dX1_read_10 dX1_read_11 dX1_read_14 (Nat.lt_of_lt_of_le (Nat.lt_succ_self _) (Nat.le_of_ble_eq_true rfl)) (Nat.le_of_ble_eq_true rfl) h1 h2 hx) (fun lv st1 cb sb h1 h2 hx => j_throw0 hC hl ⟨by decide, by decide⟩ q1678 q64 g_thNSE g_toNSE ht dX1_read_92 dX1_read_95 dX1_read_96 dX1_read_99 (Nat.lt_of_lt_of_le (Nat.lt_succ_self _) (Nat.le_of_ble_eq_true rfl)) (Nat.le_of_ble_eq_true rfl) h1 h2 hx) hvc)
abbrev wp_X1_writeAll (l : Launch) (E : g_E) (mc ms : Nat) (av : List Value) (st : g_St) (Q : Int32 → g_St → Prop) : Prop := g_WPi l E yX1_writeAll cX1_writeAll 6 (some .int) 15 434 mc ms av st Q
def vc_X1_writeAll (l : Launch) (E : g_E) (a0 : Nat) (st : g_St) (cb sb : Nat) (Q : Int32 → g_St → Prop) (X : String → g_St → Prop) : Prop :=
  g_is st a0 15 ∧ wp_X1_isOrderly l E 0 0 [va_rf (some a0)] st (fun x1 stx => stx = st ∧ (¬ x1 = 0 → 1 ≤ cb ∧ 9 ≤ sb ∧ ∀ (q3 : Nat) (st4 : g_St), q3 = st.2.2 → st4 = g_new st (.inr (3, [va_rf none, va_rf none, va_rf none, va_rf none, .int 0, .int 0, va_rf none, va_rf none, va_rf none])) → wp_J5_init l E 0 0 [va_rf (some q3)] st4 (fun st5 => g_Ext st4 st5 → ∃ o6 : Option Nat, g_gr st5 a0 15 1 o6 ∧ ∃ a7 : Nat, o6 = some a7 ∧ ∃ mc10 ms11 : Nat, mc10 ≤ (cb - 1) ∧ ms11 ≤ (sb - 9) ∧ g_is st5 a7 3 ∧ wp_J5_entrySet l E mc10 ms11 [va_rf (some a7)] st5 (fun o8 st9 => g_Ext st5 st9 → ∃ a12 : Nat, o8 = some a12 ∧ ∃ mc15 ms16 : Nat, mc15 ≤ ((cb - 1) - mc10) ∧ ms16 ≤ ((sb - 9) - ms11) ∧ g_is st9 a12 14 ∧ wp_J45_iterator l E mc15 ms16 [va_rf (some a12)] st9 (fun o13 st14 => g_Ext st9 st14 → g_lp4 (fun (K21 : Int32 → g_St → Nat → Nat → Prop) (x17 : Int32) (st18 : g_St) (cb19 : Nat) (sb20 : Nat) => ∃ a24 : Nat, o13 = some a24 ∧ g_is st18 a24 9 ∧ wp_J37_hasNext_J38 l E 0 0 [va_rf (some a24)] st18 (fun x25 stx => stx = st18 ∧ (x25 = 0 → ∃ o27 : Option Nat, g_gr st18 a0 15 1 o27 ∧ ∃ a28 : Nat, o27 = some a28 ∧ g_is st18 a28 3 ∧ wp_J5_clear l E 0 0 [va_rf (some a28)] st18 (fun st29 => g_Ext st18 st29 → ∃ o30 : Option Nat, g_gr st29 a0 15 1 o30 ∧ ∃ a31 : Nat, o30 = some a31 ∧ ∃ mc33 ms34 : Nat, mc33 ≤ cb19 ∧ ms34 ≤ sb20 ∧ g_is st29 a31 3 ∧ wp_J5_putAll l E mc33 ms34 [va_rf (some a31), va_rf (some q3)] st29 (fun st32 => g_Ext st29 st32 → Q x17 st32))) ∧ (¬ x25 = 0 → g_is st18 a24 9 ∧ wp_J38_next l E 0 0 [va_rf (some a24)] st18 (fun o35 st36 => g_Ext st18 st36 → g_isN st36 o35 4 ∧ ∃ a37 : Nat, o35 = some a37 ∧ g_is st36 a37 4 ∧ wp_J27_getKey l E 0 0 [va_rf (some a37)] st36 (fun o38 stx => stx = st36 ∧ g_isN st36 o38 1 ∧ ∃ mc41 ms42 : Nat, mc41 ≤ cb19 ∧ ms42 ≤ sb20 ∧ g_is st36 a0 15 ∧ wp_X1_written l E mc41 ms42 [va_rf (some a0), va_rf o38] st36 (fun o39 st40 => g_Ext st36 st40 → ∃ a43 : Nat, o39 = some a43 ∧ g_is st40 a43 1 ∧ wp_J2_length l E 0 0 [va_rf (some a43)] st40 (fun x44 stx => stx = st40 ∧ (x44 ≤ (nI 10) → g_is st40 a43 1 ∧ wp_J2_length l E 0 0 [va_rf (some a43)] st40 (fun x46 stx => stx = st40 ∧ g_is st40 a37 4 ∧ wp_J27_getKey l E 0 0 [va_rf (some a37)] st40 (fun o47 stx => stx = st40 ∧ g_isN st40 o47 1 ∧ ∃ a48 : Nat, o47 = some a48 ∧ g_is st40 a48 1 ∧ wp_J2_length l E 0 0 [va_rf (some a48)] st40 (fun x49 stx => stx = st40 ∧ g_jn1 (fun (K51 : Int32 → Prop) => (x46 ≤ x49 → K51 (nI 0)) ∧ (¬ x46 ≤ x49 → K51 (nI 1))) (fun (x50 : Int32) => g_is st40 a37 4 ∧ wp_J27_getValue l E 0 0 [va_rf (some a37)] st40 (fun o53 stx => stx = st40 ∧ g_isN st40 o53 2 ∧ ∃ mc56 ms57 : Nat, mc56 ≤ (cb19 - mc41) ∧ ms57 ≤ (sb20 - ms42) ∧ g_is st40 q3 3 ∧ wp_J5_put l E mc56 ms57 [va_rf (some q3), va_rf (some a43), va_rf o53] st40 (fun o54 st55 => g_Ext st40 st55 → K21 (x17 + x50) st55 ((cb19 - mc41) - mc56) ((sb20 - ms42) - ms57)))))))) ∧ (¬ x44 ≤ (nI 10) → 1 ≤ (cb19 - mc41) ∧ 6 ≤ (sb20 - ms42) ∧ X "java/lang/IllegalStateException" st40)))))))) (nI 0) st14 (((cb - 1) - mc10) - mc15) (((sb - 9) - ms11) - ms16))))) ∧ (x1 = 0 → 1 ≤ cb ∧ 6 ≤ sb ∧ X "java/lang/UnsupportedOperationException" st))
set_option maxHeartbeats 4000000 in
theorem wb_X1_writeAll {p : Program} {l : Launch} {e : Env} {R : Room} {s : State} {m : MethodId} {args : Array Value} {below : List Frame} {meth : Method} {c : Code} {E : g_E} {st0 : g_St} {Z : State → Prop} (hC : g_Cx p s m args meth c cX1_writeAll 6 "Stemspan" (some .int) "writeAll" E st0) (hR : g_Rm 15 434 R) {a0 : Nat} {st : g_St} {cb sb : Nat} {Q : Int32 → g_St → Prop} {X : String → g_St → Prop} (hret : ∀ (pc : Nat) (lv : List (Nat × Value)) (v : Int32) (st1 : g_St) (cb sb : Nat), decode cX1_writeAll pc = .ok (.ireturn, 1) → narrow .int (.int v) = .int v → Q v st1 → g_J p l e R s m args below meth c 6 E st0 Z pc lv [.int v] st1 cb sb) (hthr_7 : ∀ (lv : List (Nat × Value)) (st1 : g_St) (cb sb : Nat), 1 ≤ cb → 6 ≤ sb → X "java/lang/UnsupportedOperationException" st1 → g_J p l e R s m args below meth c 6 E st0 Z 7 lv [] st1 cb sb) (hthr_84 : ∀ (lv : List (Nat × Value)) (st1 : g_St) (cb sb : Nat), 1 ≤ cb → 6 ≤ sb → X "java/lang/IllegalStateException" st1 → g_J p l e R s m args below meth c 6 E st0 Z 84 lv [] st1 cb sb) (hvc : vc_X1_writeAll l E a0 st cb sb Q X) : g_J p l e R s m args below meth c 6 E st0 Z 0 [(0, va_rf (some a0))] [] st cb sb := by
  unfold vc_X1_writeAll at hvc
  refine j_aload_n hC dX1_writeAll_0 rfl 0 rfl ?_
  obtain ⟨⟨fs, hr⟩, hvc⟩ := hvc
  refine j_callV (As := []) (rest := []) (n := 0) (ci := 15) hC hvc (lw_V q1665 q1667 qs10 q41 q1668) (by decide +kernel) (g_rm hR rfl rfl) rfl hr rfl rfl (g_sum rfl) dX1_writeAll_1 (Nat.zero_le _) (Nat.zero_le _) (g_Kip fun x1 hv2 => ?_)
  replace hvc := hv2; clear hv2
  clear hr fs
  refine j_if_ne (tgt := 15) hC dX1_writeAll_4 rfl (fun c2 => ?_) (fun c2 => ?_)
  · replace hvc := hvc.1 c2
    obtain ⟨h1, h2, hvc⟩ := hvc
    refine j_new hC nwX1_16 dX1_writeAll_15 (n := 9) rfl h1 h2 (fun q3 st4 e1 e2 => ?_)
    replace hvc := hvc q3 st4 e1 e2; clear h1 h2 e1 e2
    refine j_dup hC dX1_writeAll_18 g_c1 ?_
    refine j_callI (As := []) (rest := [va_rf (some q3)]) (n := 0) hC hvc (lw_meth q138) q47 q136 q137 rfl (by decide +kernel) (g_rm hR rfl rfl) rfl rfl (g_sum rfl) dX1_writeAll_19 (Nat.zero_le _) (Nat.zero_le _) (g_Kv fun st5 hv2 hx => ?_)
    replace hvc := hv2 hx; clear hx hv2
    refine j_astore_n (lv0 := [(0, va_rf (some a0))]) hC dX1_writeAll_22 rfl rfl [0] rfl (g_okS.h rfl g_c1 rfl) ?_
    refine j_iconst hC (nI 0) dX1_writeAll_23 rfl ?_
    refine j_istore_n (lv0 := [(1, va_rf (some q3)), (0, va_rf (some a0))]) hC dX1_writeAll_24 rfl rfl [0, 1] rfl (g_okS.h rfl g_c1 rfl) ?_
    refine j_aload_n hC dX1_writeAll_25 rfl 2 rfl ?_
    obtain ⟨o6, ⟨fs, hr, hv⟩, hvc⟩ := hvc
    refine j_get hC fkX1_19_X1 dX1_writeAll_26 hr hv ?_
    clear hv hr fs
    obtain ⟨a7, rfl, hvc⟩ := hvc
    obtain ⟨mc10, ms11, h1, h2, hvc⟩ := hvc
    obtain ⟨⟨fs, hr⟩, hvc⟩ := hvc
    refine j_callV (As := []) (rest := []) (n := 0) (ci := 3) hC hvc (lw_V q1701 q1257 q2469 q47 q1258) (by decide +kernel) (g_rm hR rfl rfl) rfl hr rfl rfl (g_sum rfl) dX1_writeAll_29 h1 h2 (g_Ka fun o8 st9 hv2 hx => ?_)
    replace hvc := hv2 hx; clear hx hv2
    clear hr fs
    obtain ⟨a12, rfl, hvc⟩ := hvc
    obtain ⟨mc15, ms16, h1, h2, hvc⟩ := hvc
    obtain ⟨⟨fs, hr⟩, hvc⟩ := hvc
    refine j_callF (As := []) (rest := []) (n := 0) (x := ⟨"java/util/Set", "iterator", "()Ljava/util/Iterator;"⟩) (C := "java/util/TreeMap$EntrySet") (ci := 14) hC hvc (lw_F q1641 q1276 q1278 q91 q1280) gf_33 (by decide +kernel) (g_rm hR rfl rfl) rfl hr rfl rfl (g_sum rfl) dX1_writeAll_32 h1 h2 (g_Ka fun o13 st14 hv2 hx => ?_)
    replace hvc := hv2 hx; clear hx hv2
    clear hr fs
    refine j_astore_n (lv0 := [(2, .int (nI 0)), (1, va_rf (some q3)), (0, va_rf (some a0))]) hC dX1_writeAll_37 rfl rfl [0, 1, 2] rfl (g_okS.h rfl rfl rfl) ?_
    replace hvc := g_lp4_o hvc
    obtain ⟨K21, hz60, hs61, n62, hvc⟩ := hvc
    have kh22 : ∀ (n : Nat) (x17 : Int32) (st18 : g_St) (cb19 : Nat) (sb20 : Nat), K21 n x17 st18 cb19 sb20 → g_J p l e R s m args below meth c 6 E st0 Z 38 [(0, va_rf (some a0)), (1, va_rf (some q3)), (2, .int x17), (3, va_rf o13)] [] st18 cb19 sb20 := by
      clear hvc
      intro n
      induction n with
      | zero => intro x17 st18 cb19 sb20 hvc; exact absurd hvc (hz60 _ _ _ _)
      | succ n ih23 =>
        intro x17 st18 cb19 sb20 hvc
        replace hvc := hs61 n _ _ _ _ hvc
        refine j_aload_n hC dX1_writeAll_38 rfl 3 rfl ?_
        obtain ⟨a24, rfl, hvc⟩ := hvc
        obtain ⟨⟨fs, hr⟩, hvc⟩ := hvc
        refine j_callF (As := []) (rest := []) (n := 0) (x := ⟨"java/util/Iterator", "hasNext", "()Z"⟩) (C := "java/util/TreeMap$EntryIterator") (ci := 9) hC hvc (lw_F q1382 q1014 q1016 q83 q1018) gf_20 (by decide +kernel) (g_rm hR rfl rfl) rfl hr rfl rfl (g_sum rfl) dX1_writeAll_39 (Nat.zero_le _) (Nat.zero_le _) (g_Kip fun x25 hv2 => ?_)
        replace hvc := hv2; clear hv2
        clear hr fs
        refine j_if_eq (tgt := 141) hC dX1_writeAll_44 rfl (fun c26 => ?_) (fun c26 => ?_)
        · replace hvc := hvc.1 c26
          refine j_aload_n hC dX1_writeAll_141 rfl 0 rfl ?_
          obtain ⟨o27, ⟨fs, hr, hv⟩, hvc⟩ := hvc
          refine j_get hC fkX1_19_X1 dX1_writeAll_142 hr hv ?_
          clear hv hr fs
          obtain ⟨a28, rfl, hvc⟩ := hvc
          obtain ⟨⟨fs, hr⟩, hvc⟩ := hvc
          refine j_callV (As := []) (rest := []) (n := 0) (ci := 3) hC hvc (lw_V q2055 q1399 q2465 q47 q1401) (by decide +kernel) (g_rm hR rfl rfl) rfl hr rfl rfl (g_sum rfl) dX1_writeAll_145 (Nat.zero_le _) (Nat.zero_le _) (g_Kv fun st29 hv2 hx => ?_)
          replace hvc := hv2 hx; clear hx hv2
          clear hr fs
          refine j_aload_n hC dX1_writeAll_148 rfl 0 rfl ?_
          obtain ⟨o30, ⟨fs, hr, hv⟩, hvc⟩ := hvc
          refine j_get hC fkX1_19_X1 dX1_writeAll_149 hr hv ?_
          clear hv hr fs
          refine j_aload_n hC dX1_writeAll_152 rfl 1 rfl ?_
          obtain ⟨a31, rfl, hvc⟩ := hvc
          obtain ⟨mc33, ms34, h1, h2, hvc⟩ := hvc
          obtain ⟨⟨fs, hr⟩, hvc⟩ := hvc
          refine j_callVW (As := [va_rf (some q3)]) (rest := []) (n := 1) (ci := 3) hC hvc (lw_VW q2056 q2057 q2058 q47 q2059) (by decide +kernel) (g_rm hR rfl rfl) rfl hr rfl rfl (g_sum rfl) dX1_writeAll_153 h1 h2 (g_Kv fun st32 hv2 hx => ?_)
          replace hvc := hv2 hx; clear hx hv2
          clear hr fs
          refine j_iload_n hC dX1_writeAll_156 rfl 2 rfl ?_
          exact hret _ _ _ _ _ _ dX1_writeAll_157 rfl hvc
        · replace hvc := hvc.2 c26
          refine j_aload_n hC dX1_writeAll_47 rfl 3 rfl ?_
          obtain ⟨⟨fs, hr⟩, hvc⟩ := hvc
          refine j_callF (As := []) (rest := []) (n := 0) (x := ⟨"java/util/Iterator", "next", "()Ljava/lang/Object;"⟩) (C := "java/util/TreeMap$EntryIterator") (ci := 9) hC hvc (lw_F q1384 q1045 q1047 q84 q1049) gf_21 (by decide +kernel) (g_rm hR rfl rfl) rfl hr rfl rfl (g_sum rfl) dX1_writeAll_48 (Nat.zero_le _) (Nat.zero_le _) (g_Ka fun o35 st36 hv2 hx => ?_)
          replace hvc := hv2 hx; clear hx hv2
          clear hr fs
          obtain ⟨hv, hvc⟩ := hvc
          refine j_cast hC (C := "java/util/TreeMap$Entry") (ci := 4) q1702 rfl (Or.inr ge_11) hv dX1_writeAll_53 ?_
          clear hv
          refine j_astore (lv0 := [(3, va_rf (some a24)), (0, va_rf (some a0)), (1, va_rf (some q3)), (2, .int x17)]) hC dX1_writeAll_56 rfl [3, 0, 1, 2] rfl (g_okS.h rfl g_c1 rfl) ?_
          refine j_aload_n hC dX1_writeAll_58 rfl 2 rfl ?_
          refine j_aload hC dX1_writeAll_59 0 rfl ?_
          obtain ⟨a37, rfl, hvc⟩ := hvc
          obtain ⟨⟨fs, hr⟩, hvc⟩ := hvc
          refine j_callF (As := []) (rest := [va_rf (some a0)]) (n := 0) (x := ⟨"java/util/Map$Entry", "getKey", "()Ljava/lang/Object;"⟩) (C := "java/util/TreeMap$Entry") (ci := 4) hC hvc (lw_F q1704 q1712 q1714 q73 q1716) gf_4 (by decide +kernel) (g_rm hR rfl rfl) rfl hr rfl rfl (g_sum rfl) dX1_writeAll_61 (Nat.zero_le _) (Nat.zero_le _) (g_Kap fun o38 hv2 => ?_)
          replace hvc := hv2; clear hv2
          clear hr fs
          obtain ⟨hv, hvc⟩ := hvc
          refine j_cast hC (C := "java/lang/String") (ci := 1) q174 rfl (Or.inl rfl) hv dX1_writeAll_66 ?_
          clear hv
          obtain ⟨mc41, ms42, h1, h2, hvc⟩ := hvc
          obtain ⟨⟨fs, hr⟩, hvc⟩ := hvc
          refine j_callV (As := [va_rf o38]) (rest := []) (n := 1) (ci := 15) hC hvc (lw_V q1670 q1672 qs11 q41 q1673) (by decide +kernel) (g_rm hR rfl rfl) rfl hr rfl rfl (g_sum rfl) dX1_writeAll_69 h1 h2 (g_Ka fun o39 st40 hv2 hx => ?_)
          replace hvc := hv2 hx; clear hx hv2
          clear hr fs
          refine j_astore (lv0 := [(4, va_rf (some a37)), (3, va_rf (some a24)), (0, va_rf (some a0)), (1, va_rf (some q3)), (2, .int x17)]) hC dX1_writeAll_72 rfl [0, 1, 2, 3, 4] rfl (g_okS.h rfl g_c1 rfl) ?_
          refine j_aload hC dX1_writeAll_74 0 rfl ?_
          obtain ⟨a43, rfl, hvc⟩ := hvc
          obtain ⟨⟨fs, hr⟩, hvc⟩ := hvc
          refine j_callV (As := []) (rest := []) (n := 0) (ci := 1) hC hvc (lw_V q1546 q182 q183 q44 q184) (by decide +kernel) (g_rm hR rfl rfl) rfl hr rfl rfl (g_sum rfl) dX1_writeAll_76 (Nat.zero_le _) (Nat.zero_le _) (g_Kip fun x44 hv2 => ?_)
          replace hvc := hv2; clear hv2
          clear hr fs
          refine j_bipush hC (nI 10) dX1_writeAll_79 rfl ?_
          refine j_icmp_le (tgt := 92) hC dX1_writeAll_81 rfl (fun c45 => ?_) (fun c45 => ?_)
          · replace hvc := hvc.1 c45
            refine j_iload_n hC dX1_writeAll_92 rfl 5 rfl ?_
            refine j_aload hC dX1_writeAll_93 0 rfl ?_
            obtain ⟨⟨fs, hr⟩, hvc⟩ := hvc
            refine j_callV (As := []) (rest := [.int x17]) (n := 0) (ci := 1) hC hvc (lw_V q1546 q182 q183 q44 q184) (by decide +kernel) (g_rm hR rfl rfl) rfl hr rfl rfl (g_sum rfl) dX1_writeAll_95 (Nat.zero_le _) (Nat.zero_le _) (g_Kip fun x46 hv2 => ?_)
            replace hvc := hv2; clear hv2
            clear hr fs
            refine j_aload hC dX1_writeAll_98 1 rfl ?_
            obtain ⟨⟨fs, hr⟩, hvc⟩ := hvc
            refine j_callF (As := []) (rest := [.int x46, .int x17]) (n := 0) (x := ⟨"java/util/Map$Entry", "getKey", "()Ljava/lang/Object;"⟩) (C := "java/util/TreeMap$Entry") (ci := 4) hC hvc (lw_F q1704 q1712 q1714 q73 q1716) gf_4 (by decide +kernel) (g_rm hR rfl rfl) rfl hr rfl rfl (g_sum rfl) dX1_writeAll_100 (Nat.zero_le _) (Nat.zero_le _) (g_Kap fun o47 hv2 => ?_)
            replace hvc := hv2; clear hv2
            clear hr fs
            obtain ⟨hv, hvc⟩ := hvc
            refine j_cast hC (C := "java/lang/String") (ci := 1) q174 rfl (Or.inl rfl) hv dX1_writeAll_105 ?_
            clear hv
            obtain ⟨a48, rfl, hvc⟩ := hvc
            obtain ⟨⟨fs, hr⟩, hvc⟩ := hvc
            refine j_callV (As := []) (rest := [.int x46, .int x17]) (n := 0) (ci := 1) hC hvc (lw_V q1546 q182 q183 q44 q184) (by decide +kernel) (g_rm hR rfl rfl) rfl hr rfl rfl (g_sum rfl) dX1_writeAll_108 (Nat.zero_le _) (Nat.zero_le _) (g_Kip fun x49 hv2 => ?_)
            replace hvc := hv2; clear hv2
            clear hr fs
            replace hvc := g_jn1_o hvc
            obtain ⟨K51, hK59, hvc⟩ := hvc
            have kh52 : ∀ (x50 : Int32), K51 x50 → g_J p l e R s m args below meth c 6 E st0 Z 119 [(0, va_rf (some a0)), (1, va_rf (some q3)), (3, va_rf (some a24)), (4, va_rf (some a37)), (5, va_rf (some a43))] [.int x50, .int x17] st40 (cb19 - mc41) (sb20 - ms42) := by
              clear hvc
              intro x50 hvc
              replace hvc := hK59 _ hvc
              refine j_iadd hC dX1_writeAll_119 ?_
              refine j_istore_n (lv0 := [(1, va_rf (some q3)), (0, va_rf (some a0)), (3, va_rf (some a24)), (4, va_rf (some a37)), (5, va_rf (some a43))]) hC dX1_writeAll_120 rfl rfl [1, 0, 2, 3, 4] rfl (g_okS.h rfl g_c1 rfl) ?_
              refine j_aload_n hC dX1_writeAll_121 rfl 1 rfl ?_
              refine j_aload hC dX1_writeAll_122 5 rfl ?_
              refine j_aload hC dX1_writeAll_124 4 rfl ?_
              obtain ⟨⟨fs, hr⟩, hvc⟩ := hvc
              refine j_callF (As := []) (rest := [va_rf (some a43), va_rf (some q3)]) (n := 0) (x := ⟨"java/util/Map$Entry", "getValue", "()Ljava/lang/Object;"⟩) (C := "java/util/TreeMap$Entry") (ci := 4) hC hvc (lw_F q1718 q1138 q1140 q73 q1142) gf_3 (by decide +kernel) (g_rm hR rfl rfl) rfl hr rfl rfl (g_sum rfl) dX1_writeAll_126 (Nat.zero_le _) (Nat.zero_le _) (g_Kap fun o53 hv2 => ?_)
              replace hvc := hv2; clear hv2
              clear hr fs
              obtain ⟨hv, hvc⟩ := hvc
              refine j_cast hC (C := "java/lang/Integer") (ci := 2) q1385 rfl (Or.inl rfl) hv dX1_writeAll_131 ?_
              clear hv
              obtain ⟨mc56, ms57, h1, h2, hvc⟩ := hvc
              obtain ⟨⟨fs, hr⟩, hvc⟩ := hvc
              refine j_callV (As := [va_rf (some a43), va_rf o53]) (rest := []) (n := 2) (ci := 3) hC hvc (lw_V q1862 q1863 q1864 q47 q1865) (by decide +kernel) (g_rm hR rfl rfl) rfl hr rfl rfl (g_sum rfl) dX1_writeAll_134 h1 h2 (g_Ka fun o54 st55 hv2 hx => ?_)
              replace hvc := hv2 hx; clear hx hv2
              clear hr fs
              refine j_pop hC dX1_writeAll_137 g_c1 ?_
              refine j_goto (tgt := 38) hC dX1_writeAll_138 rfl ?_
              exact j_sub [2, 1, 0, 3] rfl (ih23 (x17 + x50) st55 ((cb19 - mc41) - mc56) ((sb20 - ms42) - ms57) hvc)
            refine j_icmp_le (tgt := 118) hC dX1_writeAll_111 rfl (fun c58 => ?_) (fun c58 => ?_)
            · replace hvc := hvc.1 c58
              refine j_iconst hC (nI 0) dX1_writeAll_118 rfl ?_
              exact j_sub [3, 4, 2, 1, 0] rfl (kh52 (nI 0) hvc)
            · replace hvc := hvc.2 c58
              refine j_iconst hC (nI 1) dX1_writeAll_114 rfl ?_
              refine j_goto (tgt := 119) hC dX1_writeAll_115 rfl ?_
              exact j_sub [3, 4, 2, 1, 0] rfl (kh52 (nI 1) hvc)
          · replace hvc := hvc.2 c45
            exact hthr_84 _ _ _ _ hvc.1 hvc.2.1 hvc.2.2
    exact j_sub [3, 2, 1, 0] rfl (kh22 n62 (nI 0) st14 (((cb - 1) - mc10) - mc15) (((sb - 9) - ms11) - ms16) hvc)
  · replace hvc := hvc.2 c2
    exact hthr_7 _ _ _ _ hvc.1 hvc.2.1 hvc.2.2
theorem wk_X1_writeAll {l : Launch} {E : g_E} {a0 : Nat} {st : g_St} {mc ms : Nat} {Q : Int32 → g_St → Prop} (hvc : vc_X1_writeAll l E a0 st mc ms Q (fun _ _ => False)) : wp_X1_writeAll l E mc ms [va_rf (some a0)] st Q :=
  g_enter (lv0 := [(0, va_rf (some a0))]) (plainFor_of_name (by decide +kernel)) (by simp [lv_args, g_c1, g_ci, g_cL]) (by simp [lg_sl, g_c1, g_ci, g_cL]) (fun p e s m args below meth c hC => wb_X1_writeAll hC ⟨Nat.le_refl _, Nat.le_refl _⟩ (fun pc lv v st1 cb sb hd hn hq => j_ireturn hC rfl hn hd (g_iv hq)) (fun _ _ _ _ _ _ h => h.elim) (fun _ _ _ _ _ _ h => h.elim) hvc)
abbrev wpx_X1_writeAll (l : Launch) (E : g_E) (mc ms : Nat) (av : List Value) (st : g_St) (Q : Int32 → g_St → Prop) (X : String → g_St → Prop) : Prop := g_WPX l E yX1_writeAll cX1_writeAll 6 (some .int) 15 434 mc ms av st (fun v st' => ∃ r : Int32, v = some (.int r) ∧ Q r st') X
theorem wkx_X1_writeAll {l : Launch} (hl : l.stackTraces = false) {E : g_E} {a0 : Nat} {st : g_St} {mc ms : Nat} {Q : Int32 → g_St → Prop} {X : String → g_St → Prop} (hvc : vc_X1_writeAll l E a0 st mc ms Q X) : wpx_X1_writeAll l E mc ms [va_rf (some a0)] st Q X :=
  g_enterX (lv0 := [(0, va_rf (some a0))]) (by decide +kernel) (by simp [lv_args, g_c1, g_ci, g_cL]) (by simp [lg_sl, g_c1, g_ci, g_cL]) (fun p e s m args below meth c hC ht => wb_X1_writeAll hC ⟨Nat.le_refl _, Nat.le_refl _⟩ (fun pc lv v st1 cb sb hd hn hq => j_xret (j_ireturn hC rfl hn hd (g_iv hq))) (fun lv st1 cb sb h1 h2 hx => j_throw0 hC hl ⟨by decide, by decide⟩ q1828 q67 g_thUOE g_toUOE ht dX1_writeAll_7 dX1_writeAll_10 dX1_writeAll_11 dX1_writeAll_14 (Nat.lt_of_lt_of_le (Nat.lt_succ_self _) (Nat.le_of_ble_eq_true rfl)) (Nat.le_of_ble_eq_true rfl) h1 h2 hx) (fun lv st1 cb sb h1 h2 hx => j_throw0 hC hl ⟨by decide, by decide⟩ q1736 q61 g_thISE g_toISE ht dX1_writeAll_84 dX1_writeAll_87 dX1_writeAll_88 dX1_writeAll_91 (Nat.lt_of_lt_of_le (Nat.lt_succ_self _) (Nat.le_of_ble_eq_true rfl)) (Nat.le_of_ble_eq_true rfl) h1 h2 hx) hvc)
