set_option maxRecDepth 100000
theorem fkJ0_15_J1 : g_Fd "java/lang/AbstractStringBuilder" 15 0 0 (.array .byte) false := ⟨RJ1, TJ1, 4, tyJ1, "java/lang/AbstractStringBuilder", rfl, in_J1, by decide, q119, Or.inl rfl, tyJ1_ok, (g_nmL nmJ1), rfl, rfl, fun h => by cases h⟩
theorem fkJ0_22_J1 : g_Fd "java/lang/AbstractStringBuilder" 22 0 1 .byte false := ⟨RJ1, TJ1, 4, tyJ1, "java/lang/AbstractStringBuilder", rfl, in_J1, by decide, q120, Or.inl rfl, tyJ1_ok, (g_nmL nmJ1), rfl, rfl, fun h => by cases h⟩
theorem fkJ2_15_J2 : g_Fd "java/lang/String" 15 1 1 .byte true := ⟨RJ2, TJ2, 4, tyJ2, "java/lang/String", rfl, in_J2, by decide, q436, Or.inl rfl, tyJ2_ok, (g_nmL nmJ2), rfl, rfl, fun _ => rfl⟩
theorem fkJ2_9_J2 : g_Fd "java/lang/String" 9 1 0 (.array .byte) true := ⟨RJ2, TJ2, 4, tyJ2, "java/lang/String", rfl, in_J2, by decide, q435, Or.inl rfl, tyJ2_ok, (g_nmL nmJ2), rfl, rfl, fun _ => rfl⟩
theorem nwJ7_1 : g_Nw "java/lang/StringLatin1" 1 1 [va_rf none, .int 0, .int 0, .int 0] := ⟨RJ2, TJ2, tyJ2, rfl, in_J2, tyJ2_ok, q206, q207, q44, g_dv rfl⟩
theorem fkJ0_79_J1 : g_Fd "java/lang/AbstractStringBuilder" 79 0 3 .int false := ⟨RJ1, TJ1, 4, tyJ1, "java/lang/AbstractStringBuilder", rfl, in_J1, by decide, q123, Or.inl rfl, tyJ1_ok, (g_nmL nmJ1), rfl, rfl, fun h => by cases h⟩
theorem fkJ0_73_J1 : g_Fd "java/lang/AbstractStringBuilder" 73 0 2 .boolean false := ⟨RJ1, TJ1, 4, tyJ1, "java/lang/AbstractStringBuilder", rfl, in_J1, by decide, q121, Or.inl rfl, tyJ1_ok, (g_nmL nmJ1), rfl, rfl, fun h => by cases h⟩
theorem fkJ2_1048_J1 : g_Fd "java/lang/String" 1048 0 2 .boolean false := ⟨RJ1, TJ1, 4, tyJ1, "java/lang/AbstractStringBuilder", rfl, in_J1, by decide, q122, Or.inl rfl, tyJ1_ok, (g_nmL nmJ1), rfl, rfl, fun h => by cases h⟩
theorem nwJ1_18 : g_Nw "java/lang/StringBuilder" 18 1 [va_rf none, .int 0, .int 0, .int 0] := ⟨RJ2, TJ2, tyJ2, rfl, in_J2, tyJ2_ok, q399, q207, q44, g_dv rfl⟩
theorem fkJ14_205_J14 : g_Fd "java/lang/Integer" 205 2 0 .int true := ⟨RJ14, TJ14, 1, tyJ14, "java/lang/Integer", rfl, in_J14, by decide, q1858, Or.inl rfl, tyJ14_ok, (g_nmL nmJ14), rfl, rfl, fun _ => rfl⟩
theorem nwJ14_1 : g_Nw "java/lang/Integer" 1 2 [.int 0] := ⟨RJ14, TJ14, tyJ14, rfl, in_J14, tyJ14_ok, q654, q1850, q56, g_dv rfl⟩
abbrev wp_J0_init (l : Launch) (E : g_E) (mc ms : Nat) (av : List Value) (st : g_St) (Q : g_St → Prop) : Prop := g_WPv l E yJ0_init cJ0_init 2 none 1 40 mc ms av st Q
def vc_J0_init (l : Launch) (E : g_E) (a0 : Nat) (p0 : Int32) (st : g_St) (cb sb : Nat) (Q : g_St → Prop) : Prop :=
  ∃ n1 : Nat, p0 = nI n1 ∧ n1 ≤ 67108864 ∧ 1 ≤ cb ∧ n1 ≤ sb ∧ ∀ (q2 : Nat) (st3 : g_St), q2 = st.2.2 → st3 = g_new st (.inl (1, n1, .inl fun _ => 0)) → ∃ fs4 : List Value, st3.2.1 a0 = some (.inr (0, fs4)) ∧ ∀ st5 : g_St, st5 = g_put st3 a0 (.inr (0, fs4.set 0 (va_rf (some q2)))) → ∃ fs6 : List Value, st5.2.1 a0 = some (.inr (0, fs6)) ∧ ∀ st7 : g_St, st7 = g_put st5 a0 (.inr (0, fs6.set 1 (.int (nI 0)))) → Q st7
set_option maxHeartbeats 4000000 in
theorem wb_J0_init {p : Program} {l : Launch} {e : Env} {R : Room} {s : State} {m : MethodId} {args : Array Value} {below : List Frame} {meth : Method} {c : Code} {E : g_E} {st0 : g_St} {Z : State → Prop} (hC : g_Cx p s m args meth c cJ0_init 2 "java/lang/AbstractStringBuilder" none "<init>" E st0) (hR : g_Rm 1 40 R) {a0 : Nat} {p0 : Int32} {st : g_St} {cb sb : Nat} {Q : g_St → Prop} (hret : ∀ (pc : Nat) (lv : List (Nat × Value)) (st1 : g_St) (cb sb : Nat), decode cJ0_init pc = .ok (.return_, 1) → Q st1 → g_J p l e R s m args below meth c 2 E st0 Z pc lv [] st1 cb sb) (hvc : vc_J0_init l E a0 p0 st cb sb Q) : g_J p l e R s m args below meth c 2 E st0 Z 0 [(0, va_rf (some a0)), (1, .int p0)] [] st cb sb := by
  unfold vc_J0_init at hvc
  refine j_aload_n hC dJ0_init_0 rfl 0 rfl ?_
  refine j_objInit hC q109 q99 q100 (Nat.le_trans (Nat.le_of_ble_eq_true rfl) hR.1) (Nat.le_trans (g_sumO rfl) hR.2) dJ0_init_1 ?_
  refine j_gets (v := .int (nI 1)) hC gs_0 q110 (Or.inl rfl) dJ0_init_4 ?_
  refine j_if_eq (tgt := 25) hC dJ0_init_7 rfl (fun c8 => absurd c8 (by decide)) (fun _ => ?_)
  refine j_aload_n hC dJ0_init_10 rfl 0 rfl ?_
  refine j_iload_n hC dJ0_init_11 rfl 1 rfl ?_
  obtain ⟨n1, hi, hn, h1, h2, hvc⟩ := hvc
  refine j_ix hi ?_
  refine j_newB hC q133 hn h1 h2 dJ0_init_12 (fun q2 st3 e1 e2 => ?_)
  replace hvc := hvc q2 st3 e1 e2; clear hi hn h1 h2 e1 e2
  obtain ⟨fs4, hm, hvc⟩ := hvc
  refine j_put hC fkJ0_15_J1 dJ0_init_14 hm g_noA g_foA (fun st5 e1 => ?_)
  replace hvc := hvc st5 e1; clear hm e1
  refine j_aload_n hC dJ0_init_17 rfl 0 rfl ?_
  refine j_iconst hC (nI 0) dJ0_init_18 rfl ?_
  obtain ⟨fs6, hm, hvc⟩ := hvc
  refine j_put hC fkJ0_22_J1 dJ0_init_19 hm rfl rfl (fun st7 e1 => ?_)
  replace hvc := hvc st7 e1; clear hm e1
  refine j_goto (tgt := 38) hC dJ0_init_22 rfl ?_
  exact hret _ _ _ _ _ dJ0_init_38 hvc
theorem wk_J0_init {l : Launch} {E : g_E} {a0 : Nat} {p0 : Int32} {st : g_St} {mc ms : Nat} {Q : g_St → Prop} (hvc : vc_J0_init l E a0 p0 st mc ms Q) : wp_J0_init l E mc ms [va_rf (some a0), .int p0] st Q :=
  g_enter (lv0 := [(0, va_rf (some a0)), (1, .int p0)]) (plainFor_of_name (by decide +kernel)) (by simp [lv_args, g_c1, g_ci, g_cL]) (by simp [lg_sl, g_c1, g_ci, g_cL]) (fun p e s m args below meth c hC => wb_J0_init hC ⟨Nat.le_refl _, Nat.le_refl _⟩ (fun pc lv st1 cb sb hd hq => j_return hC rfl hd ⟨rfl, hq⟩) hvc)
abbrev wp_J1_init (l : Launch) (E : g_E) (mc ms : Nat) (av : List Value) (st : g_St) (Q : g_St → Prop) : Prop := g_WPv l E yJ1_init cJ1_init 1 none 2 61 mc ms av st Q
def vc_J1_init (l : Launch) (E : g_E) (a0 : Nat) (st : g_St) (cb sb : Nat) (Q : g_St → Prop) : Prop :=
  ∃ mc2 ms3 : Nat, mc2 ≤ cb ∧ ms3 ≤ sb ∧ wp_J0_init l E mc2 ms3 [va_rf (some a0), .int (nI 16)] st (fun st1 => g_Ext st st1 → Q st1)
set_option maxHeartbeats 4000000 in
theorem wb_J1_init {p : Program} {l : Launch} {e : Env} {R : Room} {s : State} {m : MethodId} {args : Array Value} {below : List Frame} {meth : Method} {c : Code} {E : g_E} {st0 : g_St} {Z : State → Prop} (hC : g_Cx p s m args meth c cJ1_init 1 "java/lang/StringBuilder" none "<init>" E st0) (hR : g_Rm 2 61 R) {a0 : Nat} {st : g_St} {cb sb : Nat} {Q : g_St → Prop} (hret : ∀ (pc : Nat) (lv : List (Nat × Value)) (st1 : g_St) (cb sb : Nat), decode cJ1_init pc = .ok (.return_, 1) → Q st1 → g_J p l e R s m args below meth c 1 E st0 Z pc lv [] st1 cb sb) (hvc : vc_J1_init l E a0 st cb sb Q) : g_J p l e R s m args below meth c 1 E st0 Z 0 [(0, va_rf (some a0))] [] st cb sb := by
  unfold vc_J1_init at hvc
  refine j_aload_n hC dJ1_init_0 rfl 0 rfl ?_
  refine j_bipush hC (nI 16) dJ1_init_1 rfl ?_
  obtain ⟨mc2, ms3, h1, h2, hvc⟩ := hvc
  refine j_callI (As := [.int (nI 16)]) (rest := []) (n := 1) hC hvc (lw_meth q108) q42 q106 q107 rfl (by decide +kernel) (g_rm hR rfl rfl) rfl rfl (g_sum rfl) dJ1_init_3 h1 h2 (g_Kv fun st1 hv2 hx => ?_)
  replace hvc := hv2 hx; clear hx hv2
  exact hret _ _ _ _ _ dJ1_init_6 hvc
theorem wk_J1_init {l : Launch} {E : g_E} {a0 : Nat} {st : g_St} {mc ms : Nat} {Q : g_St → Prop} (hvc : vc_J1_init l E a0 st mc ms Q) : wp_J1_init l E mc ms [va_rf (some a0)] st Q :=
  g_enter (lv0 := [(0, va_rf (some a0))]) (plainFor_of_name (by decide +kernel)) (by simp [lv_args, g_c1, g_ci, g_cL]) (by simp [lg_sl, g_c1, g_ci, g_cL]) (fun p e s m args below meth c hC => wb_J1_init hC ⟨Nat.le_refl _, Nat.le_refl _⟩ (fun pc lv st1 cb sb hd hq => j_return hC rfl hd ⟨rfl, hq⟩) hvc)
abbrev wp_J2_coder (l : Launch) (E : g_E) (mc ms : Nat) (av : List Value) (st : g_St) (Q : Int32 → g_St → Prop) : Prop := g_WPi l E yJ2_coder cJ2_coder 1 (some .byte) 1 40 mc ms av st Q
def vc_J2_coder (l : Launch) (E : g_E) (a0 : Nat) (st : g_St) (Q : Int32 → g_St → Prop) : Prop :=
  g_jn1 (fun (K2 : Int32 → Prop) => ∃ x4 : Int32, g_gi st a0 1 1 x4 ∧ K2 x4) (fun (x1 : Int32) => narrow .byte (.int x1) = .int x1 ∧ Q x1 st)
set_option maxHeartbeats 4000000 in
theorem wb_J2_coder {p : Program} {l : Launch} {e : Env} {R : Room} {s : State} {m : MethodId} {args : Array Value} {below : List Frame} {meth : Method} {c : Code} {E : g_E} {st0 : g_St} {Z : State → Prop} (hC : g_Cx p s m args meth c cJ2_coder 1 "java/lang/String" (some .byte) "coder" E st0) (hR : g_Rm 1 40 R) {a0 : Nat} {st : g_St} {cb sb : Nat} {Q : Int32 → g_St → Prop} (hret : ∀ (pc : Nat) (lv : List (Nat × Value)) (v : Int32) (st1 : g_St) (cb sb : Nat), decode cJ2_coder pc = .ok (.ireturn, 1) → narrow .byte (.int v) = .int v → Q v st1 → g_J p l e R s m args below meth c 1 E st0 Z pc lv [.int v] st1 cb sb) (hvc : vc_J2_coder l E a0 st Q) : g_J p l e R s m args below meth c 1 E st0 Z 0 [(0, va_rf (some a0))] [] st cb sb := by
  unfold vc_J2_coder at hvc
  refine j_gets (v := .int (nI 1)) hC gs_0 q189 (Or.inl rfl) dJ2_coder_0 ?_
  replace hvc := g_jn1_o hvc
  obtain ⟨K2, hK6, hvc⟩ := hvc
  have kh3 : ∀ (x1 : Int32), K2 x1 → g_J p l e R s m args below meth c 1 E st0 Z 14 [] [.int x1] st cb sb := by
    clear hvc
    intro x1 hvc
    replace hvc := hK6 _ hvc
    exact hret _ _ _ _ _ _ dJ2_coder_14 hvc.1 hvc.2
  refine j_if_eq (tgt := 13) hC dJ2_coder_3 rfl (fun c5 => absurd c5 (by decide)) (fun _ => ?_)
  refine j_aload_n hC dJ2_coder_6 rfl 0 rfl ?_
  obtain ⟨x4, ⟨fs, hr, hv⟩, hvc⟩ := hvc
  refine j_get hC fkJ2_15_J2 dJ2_coder_7 hr hv ?_
  clear hv hr fs
  refine j_goto (tgt := 14) hC dJ2_coder_10 rfl ?_
  exact j_sub [] rfl (kh3 x4 hvc)
theorem wk_J2_coder {l : Launch} {E : g_E} {a0 : Nat} {st : g_St} {mc ms : Nat} {Q : Int32 → g_St → Prop} (hvc : vc_J2_coder l E a0 st Q) : wp_J2_coder l E mc ms [va_rf (some a0)] st Q :=
  g_enter (lv0 := [(0, va_rf (some a0))]) (plainFor_of_name (by decide +kernel)) (by simp [lv_args, g_c1, g_ci, g_cL]) (by simp [lg_sl, g_c1, g_ci, g_cL]) (fun p e s m args below meth c hC => wb_J2_coder hC ⟨Nat.le_refl _, Nat.le_refl _⟩ (fun pc lv v st1 cb sb hd hn hq => j_ireturn hC rfl hn hd (g_iv hq)) hvc)
abbrev wp_J2_length (l : Launch) (E : g_E) (mc ms : Nat) (av : List Value) (st : g_St) (Q : Int32 → g_St → Prop) : Prop := g_WPi l E yJ2_length cJ2_length 1 (some .int) 2 60 mc ms av st Q
def vc_J2_length (l : Launch) (E : g_E) (a0 : Nat) (st : g_St) (Q : Int32 → g_St → Prop) : Prop :=
  ∃ o1 : Option Nat, g_gr st a0 1 0 o1 ∧ ∃ a2 : Nat, o1 = some a2 ∧ ∃ (t3 : Nat) (v4 : vp_A), g_Rd st a2 (.inl (t3, v4)) ∧ g_is st a0 1 ∧ wp_J2_coder l E 0 0 [va_rf (some a0)] st (fun x5 stx => stx = st ∧ Q ((nI v4.1) >>> (x5 &&& 31)) st)
set_option maxHeartbeats 4000000 in
theorem wb_J2_length {p : Program} {l : Launch} {e : Env} {R : Room} {s : State} {m : MethodId} {args : Array Value} {below : List Frame} {meth : Method} {c : Code} {E : g_E} {st0 : g_St} {Z : State → Prop} (hC : g_Cx p s m args meth c cJ2_length 1 "java/lang/String" (some .int) "length" E st0) (hR : g_Rm 2 60 R) {a0 : Nat} {st : g_St} {cb sb : Nat} {Q : Int32 → g_St → Prop} (hret : ∀ (pc : Nat) (lv : List (Nat × Value)) (v : Int32) (st1 : g_St) (cb sb : Nat), decode cJ2_length pc = .ok (.ireturn, 1) → narrow .int (.int v) = .int v → Q v st1 → g_J p l e R s m args below meth c 1 E st0 Z pc lv [.int v] st1 cb sb) (hvc : vc_J2_length l E a0 st Q) : g_J p l e R s m args below meth c 1 E st0 Z 0 [(0, va_rf (some a0))] [] st cb sb := by
  unfold vc_J2_length at hvc
  refine j_aload_n hC dJ2_length_0 rfl 0 rfl ?_
  obtain ⟨o1, ⟨fs, hr, hv⟩, hvc⟩ := hvc
  refine j_get hC fkJ2_9_J2 dJ2_length_1 hr hv ?_
  clear hv hr fs
  obtain ⟨a2, rfl, hvc⟩ := hvc
  obtain ⟨t3, v4, hr, hvc⟩ := hvc
  refine j_alen hC hr dJ2_length_4 ?_
  clear hr
  refine j_aload_n hC dJ2_length_5 rfl 0 rfl ?_
  obtain ⟨⟨fs, hr⟩, hvc⟩ := hvc
  refine j_callV (As := []) (rest := [.int (nI v4.1)]) (n := 0) (ci := 1) hC hvc (lw_V q185 q186 q187 q44 q188) (by decide +kernel) (g_rm hR rfl rfl) rfl hr rfl rfl (g_sum rfl) dJ2_length_6 (Nat.zero_le _) (Nat.zero_le _) (g_Kip fun x5 hv2 => ?_)
  replace hvc := hv2; clear hv2
  clear hr fs
  refine j_ishr hC dJ2_length_9 ?_
  exact hret _ _ _ _ _ _ dJ2_length_10 rfl hvc
theorem wk_J2_length {l : Launch} {E : g_E} {a0 : Nat} {st : g_St} {mc ms : Nat} {Q : Int32 → g_St → Prop} (hvc : vc_J2_length l E a0 st Q) : wp_J2_length l E mc ms [va_rf (some a0)] st Q :=
  g_enter (lv0 := [(0, va_rf (some a0))]) (plainFor_of_name (by decide +kernel)) (by simp [lv_args, g_c1, g_ci, g_cL]) (by simp [lg_sl, g_c1, g_ci, g_cL]) (fun p e s m args below meth c hC => wb_J2_length hC ⟨Nat.le_refl _, Nat.le_refl _⟩ (fun pc lv v st1 cb sb hd hn hq => j_ireturn hC rfl hn hd (g_iv hq)) hvc)
abbrev wp_J6_checkFromToIndex (l : Launch) (E : g_E) (mc ms : Nat) (av : List Value) (st : g_St) (Q : Int32 → g_St → Prop) : Prop := g_WPi l E yJ6_checkFromToIndex cJ6_checkFromToIndex 4 (some .int) 1 40 mc ms av st Q
def vc_J6_checkFromToIndex (l : Launch) (E : g_E) (p0 : Int32) (p1 : Int32) (p2 : Int32) (p3 : Option Nat) (st : g_St) (Q : Int32 → g_St → Prop) : Prop :=
  g_jn0 (fun (K1 : Prop) => (p0 < 0 → K1) ∧ (¬ p0 < 0 → (p1 < p0 → K1) ∧ (¬ p1 < p0 → (p1 ≤ p2 → Q p0 st) ∧ (¬ p1 ≤ p2 → K1)))) (False)
set_option maxHeartbeats 4000000 in
theorem wb_J6_checkFromToIndex {p : Program} {l : Launch} {e : Env} {R : Room} {s : State} {m : MethodId} {args : Array Value} {below : List Frame} {meth : Method} {c : Code} {E : g_E} {st0 : g_St} {Z : State → Prop} (hC : g_Cx p s m args meth c cJ6_checkFromToIndex 4 "jdk/internal/util/Preconditions" (some .int) "checkFromToIndex" E st0) (hR : g_Rm 1 40 R) {p0 : Int32} {p1 : Int32} {p2 : Int32} {p3 : Option Nat} {st : g_St} {cb sb : Nat} {Q : Int32 → g_St → Prop} (hret : ∀ (pc : Nat) (lv : List (Nat × Value)) (v : Int32) (st1 : g_St) (cb sb : Nat), decode cJ6_checkFromToIndex pc = .ok (.ireturn, 1) → narrow .int (.int v) = .int v → Q v st1 → g_J p l e R s m args below meth c 4 E st0 Z pc lv [.int v] st1 cb sb) (hvc : vc_J6_checkFromToIndex l E p0 p1 p2 p3 st Q) : g_J p l e R s m args below meth c 4 E st0 Z 0 [(0, .int p0), (1, .int p1), (2, .int p2), (3, va_rf p3)] [] st cb sb := by
  unfold vc_J6_checkFromToIndex at hvc
  refine j_iload_n hC dJ6_checkFromToIndex_0 rfl 0 rfl ?_
  replace hvc := g_jn0_o hvc
  obtain ⟨K1, hK6, hvc⟩ := hvc
  have kh2 : K1 → g_J p l e R s m args below meth c 4 E st0 Z 14 [(0, .int p0), (1, .int p1), (2, .int p2), (3, va_rf p3)] [] st cb sb := by
    clear hvc
    intro hvc
    replace hvc := hK6 hvc
    refine j_aload_n hC dJ6_checkFromToIndex_14 rfl 3 rfl ?_
    refine j_iload_n hC dJ6_checkFromToIndex_15 rfl 0 rfl ?_
    refine j_iload_n hC dJ6_checkFromToIndex_16 rfl 1 rfl ?_
    refine j_iload_n hC dJ6_checkFromToIndex_17 rfl 2 rfl ?_
    exact hvc.elim
  refine j_if_lt (tgt := 14) hC dJ6_checkFromToIndex_1 rfl (fun c3 => ?_) (fun c3 => ?_)
  · replace hvc := hvc.1 c3
    exact j_sub [0, 1, 2, 3] rfl (kh2 hvc)
  · replace hvc := hvc.2 c3
    refine j_iload_n hC dJ6_checkFromToIndex_4 rfl 0 rfl ?_
    refine j_iload_n hC dJ6_checkFromToIndex_5 rfl 1 rfl ?_
    refine j_icmp_gt (tgt := 14) hC dJ6_checkFromToIndex_6 rfl (fun c4 => ?_) (fun c4 => ?_)
    · replace hvc := hvc.1 c4
      exact j_sub [0, 1, 2, 3] rfl (kh2 hvc)
    · replace hvc := hvc.2 c4
      refine j_iload_n hC dJ6_checkFromToIndex_9 rfl 1 rfl ?_
      refine j_iload_n hC dJ6_checkFromToIndex_10 rfl 2 rfl ?_
      refine j_icmp_le (tgt := 22) hC dJ6_checkFromToIndex_11 rfl (fun c5 => ?_) (fun c5 => ?_)
      · replace hvc := hvc.1 c5
        refine j_iload_n hC dJ6_checkFromToIndex_22 rfl 0 rfl ?_
        exact hret _ _ _ _ _ _ dJ6_checkFromToIndex_23 rfl hvc
      · replace hvc := hvc.2 c5
        exact j_sub [0, 1, 2, 3] rfl (kh2 hvc)
theorem wk_J6_checkFromToIndex {l : Launch} {E : g_E} {p0 : Int32} {p1 : Int32} {p2 : Int32} {p3 : Option Nat} {st : g_St} {mc ms : Nat} {Q : Int32 → g_St → Prop} (hvc : vc_J6_checkFromToIndex l E p0 p1 p2 p3 st Q) : wp_J6_checkFromToIndex l E mc ms [.int p0, .int p1, .int p2, va_rf p3] st Q :=
  g_enter (lv0 := [(0, .int p0), (1, .int p1), (2, .int p2), (3, va_rf p3)]) (plainFor_of_name (by decide +kernel)) (by simp [lv_args, g_c1, g_ci, g_cL]) (by simp [lg_sl, g_c1, g_ci, g_cL]) (fun p e s m args below meth c hC => wb_J6_checkFromToIndex hC ⟨Nat.le_refl _, Nat.le_refl _⟩ (fun pc lv v st1 cb sb hd hn hq => j_ireturn hC rfl hn hd (g_iv hq)) hvc)
abbrev wp_J2_checkBoundsBeginEnd (l : Launch) (E : g_E) (mc ms : Nat) (av : List Value) (st : g_St) (Q : g_St → Prop) : Prop := g_WPv l E yJ2_checkBoundsBeginEnd cJ2_checkBoundsBeginEnd 3 none 2 63 mc ms av st Q
def vc_J2_checkBoundsBeginEnd (l : Launch) (E : g_E) (p0 : Int32) (p1 : Int32) (p2 : Int32) (st : g_St) (Q : g_St → Prop) : Prop :=
  ∀ o1 : Option Nat, o1 = E.2.2.2.2.1 6 → wp_J6_checkFromToIndex l E 0 0 [.int p0, .int p1, .int p2, va_rf o1] st (fun x2 stx => stx = st ∧ Q st)
set_option maxHeartbeats 4000000 in
theorem wb_J2_checkBoundsBeginEnd {p : Program} {l : Launch} {e : Env} {R : Room} {s : State} {m : MethodId} {args : Array Value} {below : List Frame} {meth : Method} {c : Code} {E : g_E} {st0 : g_St} {Z : State → Prop} (hC : g_Cx p s m args meth c cJ2_checkBoundsBeginEnd 3 "java/lang/String" none "checkBoundsBeginEnd" E st0) (hR : g_Rm 2 63 R) {p0 : Int32} {p1 : Int32} {p2 : Int32} {st : g_St} {cb sb : Nat} {Q : g_St → Prop} (hret : ∀ (pc : Nat) (lv : List (Nat × Value)) (st1 : g_St) (cb sb : Nat), decode cJ2_checkBoundsBeginEnd pc = .ok (.return_, 1) → Q st1 → g_J p l e R s m args below meth c 3 E st0 Z pc lv [] st1 cb sb) (hvc : vc_J2_checkBoundsBeginEnd l E p0 p1 p2 st Q) : g_J p l e R s m args below meth c 3 E st0 Z 0 [(0, .int p0), (1, .int p1), (2, .int p2)] [] st cb sb := by
  unfold vc_J2_checkBoundsBeginEnd at hvc
  refine j_iload_n hC dJ2_checkBoundsBeginEnd_0 rfl 0 rfl ?_
  refine j_iload_n hC dJ2_checkBoundsBeginEnd_1 rfl 1 rfl ?_
  refine j_iload_n hC dJ2_checkBoundsBeginEnd_2 rfl 2 rfl ?_
  refine j_gets hC gs_5 q193 (Or.inl rfl) dJ2_checkBoundsBeginEnd_3 ?_
  obtain ⟨o1, ho1⟩ : ∃ z : Option Nat, z = E.2.2.2.2.1 6 := ⟨_, rfl⟩
  rw [← ho1]
  replace hvc := hvc _ ho1
  refine j_callS (As := [.int p0, .int p1, .int p2, va_rf o1]) (rest := []) (n := 4) hC hvc (lw_S q195 q196 q48 q197) (by decide +kernel) (g_rm hR rfl rfl) rfl rfl (g_sum rfl) dJ2_checkBoundsBeginEnd_6 (Nat.zero_le _) (Nat.zero_le _) (g_Kip fun x2 hv2 => ?_)
  replace hvc := hv2; clear hv2
  refine j_pop hC dJ2_checkBoundsBeginEnd_9 rfl ?_
  exact hret _ _ _ _ _ dJ2_checkBoundsBeginEnd_10 hvc
theorem wk_J2_checkBoundsBeginEnd {l : Launch} {E : g_E} {p0 : Int32} {p1 : Int32} {p2 : Int32} {st : g_St} {mc ms : Nat} {Q : g_St → Prop} (hvc : vc_J2_checkBoundsBeginEnd l E p0 p1 p2 st Q) : wp_J2_checkBoundsBeginEnd l E mc ms [.int p0, .int p1, .int p2] st Q :=
  g_enter (lv0 := [(0, .int p0), (1, .int p1), (2, .int p2)]) (plainFor_of_name (by decide +kernel)) (by simp [lv_args, g_c1, g_ci, g_cL]) (by simp [lg_sl, g_c1, g_ci, g_cL]) (fun p e s m args below meth c hC => wb_J2_checkBoundsBeginEnd hC ⟨Nat.le_refl _, Nat.le_refl _⟩ (fun pc lv st1 cb sb hd hq => j_return hC rfl hd ⟨rfl, hq⟩) hvc)
abbrev wp_J2_isLatin1 (l : Launch) (E : g_E) (mc ms : Nat) (av : List Value) (st : g_St) (Q : Int32 → g_St → Prop) : Prop := g_WPi l E yJ2_isLatin1 cJ2_isLatin1 1 (some .boolean) 1 40 mc ms av st Q
def vc_J2_isLatin1 (l : Launch) (E : g_E) (a0 : Nat) (st : g_St) (Q : Int32 → g_St → Prop) : Prop :=
  g_jn1 (fun (K2 : Int32 → Prop) => g_jn0 (fun (K4 : Prop) => ∃ x6 : Int32, g_gi st a0 1 1 x6 ∧ (¬ x6 = 0 → K4) ∧ (x6 = 0 → K2 (nI 1))) (K2 (nI 0))) (fun (x1 : Int32) => narrow .boolean (.int x1) = .int x1 ∧ Q x1 st)
set_option maxHeartbeats 4000000 in
theorem wb_J2_isLatin1 {p : Program} {l : Launch} {e : Env} {R : Room} {s : State} {m : MethodId} {args : Array Value} {below : List Frame} {meth : Method} {c : Code} {E : g_E} {st0 : g_St} {Z : State → Prop} (hC : g_Cx p s m args meth c cJ2_isLatin1 1 "java/lang/String" (some .boolean) "isLatin1" E st0) (hR : g_Rm 1 40 R) {a0 : Nat} {st : g_St} {cb sb : Nat} {Q : Int32 → g_St → Prop} (hret : ∀ (pc : Nat) (lv : List (Nat × Value)) (v : Int32) (st1 : g_St) (cb sb : Nat), decode cJ2_isLatin1 pc = .ok (.ireturn, 1) → narrow .boolean (.int v) = .int v → Q v st1 → g_J p l e R s m args below meth c 1 E st0 Z pc lv [.int v] st1 cb sb) (hvc : vc_J2_isLatin1 l E a0 st Q) : g_J p l e R s m args below meth c 1 E st0 Z 0 [(0, va_rf (some a0))] [] st cb sb := by
  unfold vc_J2_isLatin1 at hvc
  refine j_gets (v := .int (nI 1)) hC gs_0 q189 (Or.inl rfl) dJ2_isLatin1_0 ?_
  replace hvc := g_jn1_o hvc
  obtain ⟨K2, hK10, hvc⟩ := hvc
  have kh3 : ∀ (x1 : Int32), K2 x1 → g_J p l e R s m args below meth c 1 E st0 Z 18 [] [.int x1] st cb sb := by
    clear hvc
    intro x1 hvc
    replace hvc := hK10 _ hvc
    exact hret _ _ _ _ _ _ dJ2_isLatin1_18 hvc.1 hvc.2
  replace hvc := g_jn0_o hvc
  obtain ⟨K4, hK9, hvc⟩ := hvc
  have kh5 : K4 → g_J p l e R s m args below meth c 1 E st0 Z 17 [] [] st cb sb := by
    clear hvc
    intro hvc
    replace hvc := hK9 hvc
    refine j_iconst hC (nI 0) dJ2_isLatin1_17 rfl ?_
    exact j_sub [] rfl (kh3 (nI 0) hvc)
  refine j_if_eq (tgt := 17) hC dJ2_isLatin1_3 rfl (fun c8 => absurd c8 (by decide)) (fun _ => ?_)
  refine j_aload_n hC dJ2_isLatin1_6 rfl 0 rfl ?_
  obtain ⟨x6, ⟨fs, hr, hv⟩, hvc⟩ := hvc
  refine j_get hC fkJ2_15_J2 dJ2_isLatin1_7 hr hv ?_
  clear hv hr fs
  refine j_if_ne (tgt := 17) hC dJ2_isLatin1_10 rfl (fun c7 => ?_) (fun c7 => ?_)
  · replace hvc := hvc.1 c7
    exact j_sub [] rfl (kh5 hvc)
  · replace hvc := hvc.2 c7
    refine j_iconst hC (nI 1) dJ2_isLatin1_13 rfl ?_
    refine j_goto (tgt := 18) hC dJ2_isLatin1_14 rfl ?_
    exact j_sub [] rfl (kh3 (nI 1) hvc)
theorem wk_J2_isLatin1 {l : Launch} {E : g_E} {a0 : Nat} {st : g_St} {mc ms : Nat} {Q : Int32 → g_St → Prop} (hvc : vc_J2_isLatin1 l E a0 st Q) : wp_J2_isLatin1 l E mc ms [va_rf (some a0)] st Q :=
  g_enter (lv0 := [(0, va_rf (some a0))]) (plainFor_of_name (by decide +kernel)) (by simp [lv_args, g_c1, g_ci, g_cL]) (by simp [lg_sl, g_c1, g_ci, g_cL]) (fun p e s m args below meth c hC => wb_J2_isLatin1 hC ⟨Nat.le_refl _, Nat.le_refl _⟩ (fun pc lv v st1 cb sb hd hn hq => j_ireturn hC rfl hn hd (g_iv hq)) hvc)
abbrev wp_J8_checkLength (l : Launch) (E : g_E) (mc ms : Nat) (av : List Value) (st : g_St) (Q : g_St → Prop) : Prop := g_WPv l E yJ8_checkLength cJ8_checkLength 2 none 1 40 mc ms av st Q
def vc_J8_checkLength (l : Launch) (E : g_E) (p0 : Int32) (p1 : Int32) (st : g_St) (Q : g_St → Prop) : Prop :=
  (p0 ≤ p1 → Q st) ∧ (¬ p0 ≤ p1 → False)
set_option maxHeartbeats 4000000 in
theorem wb_J8_checkLength {p : Program} {l : Launch} {e : Env} {R : Room} {s : State} {m : MethodId} {args : Array Value} {below : List Frame} {meth : Method} {c : Code} {E : g_E} {st0 : g_St} {Z : State → Prop} (hC : g_Cx p s m args meth c cJ8_checkLength 2 "java/util/Arrays" none "checkLength" E st0) (hR : g_Rm 1 40 R) {p0 : Int32} {p1 : Int32} {st : g_St} {cb sb : Nat} {Q : g_St → Prop} (hret : ∀ (pc : Nat) (lv : List (Nat × Value)) (st1 : g_St) (cb sb : Nat), decode cJ8_checkLength pc = .ok (.return_, 1) → Q st1 → g_J p l e R s m args below meth c 2 E st0 Z pc lv [] st1 cb sb) (hvc : vc_J8_checkLength l E p0 p1 st Q) : g_J p l e R s m args below meth c 2 E st0 Z 0 [(0, .int p0), (1, .int p1)] [] st cb sb := by
  unfold vc_J8_checkLength at hvc
  refine j_iload_n hC dJ8_checkLength_0 rfl 1 rfl ?_
  refine j_iload_n hC dJ8_checkLength_1 rfl 0 rfl ?_
  refine j_icmp_ge (tgt := 37) hC dJ8_checkLength_2 rfl (fun c1 => ?_) (fun c1 => ?_)
  · replace hvc := hvc.1 c1
    exact hret _ _ _ _ _ dJ8_checkLength_37 hvc
  · replace hvc := hvc.2 c1
    exact hvc.elim
theorem wk_J8_checkLength {l : Launch} {E : g_E} {p0 : Int32} {p1 : Int32} {st : g_St} {mc ms : Nat} {Q : g_St → Prop} (hvc : vc_J8_checkLength l E p0 p1 st Q) : wp_J8_checkLength l E mc ms [.int p0, .int p1] st Q :=
  g_enter (lv0 := [(0, .int p0), (1, .int p1)]) (plainFor_of_name (by decide +kernel)) (by simp [lv_args, g_c1, g_ci, g_cL]) (by simp [lg_sl, g_c1, g_ci, g_cL]) (fun p e s m args below meth c hC => wb_J8_checkLength hC ⟨Nat.le_refl _, Nat.le_refl _⟩ (fun pc lv st1 cb sb hd hq => j_return hC rfl hd ⟨rfl, hq⟩) hvc)
abbrev wp_J8_copyOfRangeByte (l : Launch) (E : g_E) (mc ms : Nat) (av : List Value) (st : g_St) (Q : Option Nat → g_St → Prop) : Prop := g_WPa l E yJ8_copyOfRangeByte cJ8_copyOfRangeByte 5 (some (.array .byte)) 2 61 mc ms av st Q
def vc_J8_copyOfRangeByte (l : Launch) (E : g_E) (p0 : Option Nat) (p1 : Int32) (p2 : Int32) (st : g_St) (cb sb : Nat) (Q : Option Nat → g_St → Prop) : Prop :=
  wp_J8_checkLength l E 0 0 [.int p1, .int p2] st (fun stx => stx = st ∧ ∃ n1 : Nat, (p2 - p1) = nI n1 ∧ n1 ≤ 67108864 ∧ 1 ≤ cb ∧ n1 ≤ sb ∧ ∀ (q2 : Nat) (st3 : g_St), q2 = st.2.2 → st3 = g_new st (.inl (1, n1, .inl fun _ => 0)) → ∃ a4 : Nat, p0 = some a4 ∧ ∃ (t5 : Nat) (v6 : vp_A), g_Rd st3 a4 (.inl (t5, v6)) ∧ ∀ x7 : Int32, x7 = (if (p2 - p1) < ((nI v6.1) - p1) then (p2 - p1) else ((nI v6.1) - p1)) → ∃ (n8 : Nat) (f9 : Nat → Int32) (m10 : Nat) (h11 : Nat → Int32) (i12 j13 k14 : Nat), g_ai st3 a4 1 n8 f9 ∧ st3.2.1 q2 = some (.inl (1, m10, .inl h11)) ∧ p1 = nI i12 ∧ (nI 0) = nI j13 ∧ x7 = nI k14 ∧ i12 < 2 ^ 31 ∧ j13 < 2 ^ 31 ∧ k14 < 2 ^ 31 ∧ i12 + k14 ≤ n8 ∧ j13 + k14 ≤ m10 ∧ (∀ z : Nat, z < k14 → fits .byte (.int (f9 (i12 + z))) = true) ∧ ∀ st15 : g_St, st15 = g_put st3 q2 (.inl (1, m10, .inl (va_cpy f9 h11 i12 j13 k14))) → Q (some q2) st15)
set_option maxHeartbeats 4000000 in
theorem wb_J8_copyOfRangeByte {p : Program} {l : Launch} {e : Env} {R : Room} {s : State} {m : MethodId} {args : Array Value} {below : List Frame} {meth : Method} {c : Code} {E : g_E} {st0 : g_St} {Z : State → Prop} (hC : g_Cx p s m args meth c cJ8_copyOfRangeByte 5 "java/util/Arrays" (some (.array .byte)) "copyOfRangeByte" E st0) (hR : g_Rm 2 61 R) {p0 : Option Nat} {p1 : Int32} {p2 : Int32} {st : g_St} {cb sb : Nat} {Q : Option Nat → g_St → Prop} (hret : ∀ (pc : Nat) (lv : List (Nat × Value)) (v : Option Nat) (st1 : g_St) (cb sb : Nat), decode cJ8_copyOfRangeByte pc = .ok (.areturn, 1) → Q v st1 → g_J p l e R s m args below meth c 5 E st0 Z pc lv [va_rf v] st1 cb sb) (hvc : vc_J8_copyOfRangeByte l E p0 p1 p2 st cb sb Q) : g_J p l e R s m args below meth c 5 E st0 Z 0 [(0, va_rf p0), (1, .int p1), (2, .int p2)] [] st cb sb := by
  unfold vc_J8_copyOfRangeByte at hvc
  refine j_iload_n hC dJ8_copyOfRangeByte_0 rfl 1 rfl ?_
  refine j_iload_n hC dJ8_copyOfRangeByte_1 rfl 2 rfl ?_
  refine j_callS (As := [.int p1, .int p2]) (rest := []) (n := 2) hC hvc (lw_S q214 q215 q50 q216) (by decide +kernel) (g_rm hR rfl rfl) rfl rfl (g_sum rfl) dJ8_copyOfRangeByte_2 (Nat.zero_le _) (Nat.zero_le _) (g_Kvp fun hv2 => ?_)
  replace hvc := hv2; clear hv2
  refine j_iload_n hC dJ8_copyOfRangeByte_5 rfl 2 rfl ?_
  refine j_iload_n hC dJ8_copyOfRangeByte_6 rfl 1 rfl ?_
  refine j_isub hC dJ8_copyOfRangeByte_7 ?_
  refine j_istore_n (lv0 := [(2, .int p2), (0, va_rf p0), (1, .int p1)]) hC dJ8_copyOfRangeByte_8 rfl rfl [2, 0, 1] rfl (g_okS.h rfl rfl rfl) ?_
  refine j_iload_n hC dJ8_copyOfRangeByte_9 rfl 0 rfl ?_
  obtain ⟨n1, hi, hn, h1, h2, hvc⟩ := hvc
  refine j_ix hi ?_
  refine j_newB hC q133 hn h1 h2 dJ8_copyOfRangeByte_10 (fun q2 st3 e1 e2 => ?_)
  replace hvc := hvc q2 st3 e1 e2; clear hi hn h1 h2 e1 e2
  refine j_astore (lv0 := [(3, .int (p2 - p1)), (2, .int p2), (0, va_rf p0), (1, .int p1)]) hC dJ8_copyOfRangeByte_12 rfl [0, 1, 2, 3] rfl (g_okS.h rfl rfl rfl) ?_
  refine j_aload_n hC dJ8_copyOfRangeByte_14 rfl 3 rfl ?_
  refine j_iload_n hC dJ8_copyOfRangeByte_15 rfl 4 rfl ?_
  refine j_aload hC dJ8_copyOfRangeByte_16 0 rfl ?_
  refine j_iconst hC (nI 0) dJ8_copyOfRangeByte_18 rfl ?_
  refine j_aload_n hC dJ8_copyOfRangeByte_19 rfl 3 rfl ?_
  obtain ⟨a4, rfl, hvc⟩ := hvc
  obtain ⟨t5, v6, hr, hvc⟩ := hvc
  refine j_alen hC hr dJ8_copyOfRangeByte_20 ?_
  clear hr
  refine j_iload_n hC dJ8_copyOfRangeByte_21 rfl 4 rfl ?_
  refine j_isub hC dJ8_copyOfRangeByte_22 ?_
  refine j_iload_n hC dJ8_copyOfRangeByte_23 rfl 1 rfl ?_
  refine j_mmin hC q303 (Nat.le_trans (Nat.le_of_ble_eq_true rfl) hR.1) (Nat.le_trans (g_sumM rfl) hR.2) dJ8_copyOfRangeByte_24 ?_
  replace hvc := hvc _ rfl
  generalize (if (p2 - p1) < ((nI v6.1) - p1) then (p2 - p1) else ((nI v6.1) - p1)) = x7 at hvc ⊢
  obtain ⟨n8, f9, m10, h11, i12, j13, k14, hr, hm, e1, e2, e3, l1, l2, l3, l4, l5, hf, hvc⟩ := hvc
  refine j_copyB hC (by exact q306) (by exact q308) (by exact q307) (by exact q59) hr hm e1 e2 e3 l1 l2 l3 l4 l5 hf (Nat.le_trans (Nat.le_of_ble_eq_true rfl) hR.1) (Nat.le_trans (g_sumN rfl) hR.2) dJ8_copyOfRangeByte_27 (fun st15 e1 => ?_)
  replace hvc := hvc st15 e1; clear hr hm e1 e2 e3 l1 l2 l3 l4 l5 hf
  refine j_aload hC dJ8_copyOfRangeByte_30 0 rfl ?_
  exact hret _ _ _ _ _ _ dJ8_copyOfRangeByte_32 hvc
theorem wk_J8_copyOfRangeByte {l : Launch} {E : g_E} {p0 : Option Nat} {p1 : Int32} {p2 : Int32} {st : g_St} {mc ms : Nat} {Q : Option Nat → g_St → Prop} (hvc : vc_J8_copyOfRangeByte l E p0 p1 p2 st mc ms Q) : wp_J8_copyOfRangeByte l E mc ms [va_rf p0, .int p1, .int p2] st Q :=
  g_enter (lv0 := [(0, va_rf p0), (1, .int p1), (2, .int p2)]) (plainFor_of_name (by decide +kernel)) (by simp [lv_args, g_c1, g_ci, g_cL]) (by simp [lg_sl, g_c1, g_ci, g_cL]) (fun p e s m args below meth c hC => wb_J8_copyOfRangeByte hC ⟨Nat.le_refl _, Nat.le_refl _⟩ (fun pc lv v st1 cb sb hd hq => j_areturn hC rfl (by first | exact Or.inl ⟨_, rfl⟩ | exact Or.inr ⟨_, rfl⟩) hd (g_av hq)) hvc)
abbrev wp_J8_copyOfRange (l : Launch) (E : g_E) (mc ms : Nat) (av : List Value) (st : g_St) (Q : Option Nat → g_St → Prop) : Prop := g_WPa l E yJ8_copyOfRange cJ8_copyOfRange 3 (some (.array .byte)) 3 85 mc ms av st Q
def vc_J8_copyOfRange (l : Launch) (E : g_E) (p0 : Option Nat) (p1 : Int32) (p2 : Int32) (st : g_St) (cb sb : Nat) (Q : Option Nat → g_St → Prop) : Prop :=
  g_jn0 (fun (K1 : Prop) => (¬ p1 = 0 → K1) ∧ (p1 = 0 → ∃ a8 : Nat, p0 = some a8 ∧ ∃ (t9 : Nat) (v10 : vp_A), g_Rd st a8 (.inl (t9, v10)) ∧ (p2 = (nI v10.1) → ∃ (n12 : Nat) (f13 : Nat → Int32), st.2.1 a8 = some (.inl (1, n12, .inl f13)) ∧ (∀ z : Nat, z < n12 → fits .byte (.int (f13 z)) = true) ∧ 1 ≤ cb ∧ n12 ≤ sb ∧ ∀ (q14 : Nat) (st15 : g_St), q14 = st.2.2 → st15 = g_new st (.inl (1, n12, .inl f13)) → ∃ v16 : vp_A, g_Rd st15 q14 (.inl (1, v16)) ∧ Q (some q14) st15) ∧ (¬ p2 = (nI v10.1) → K1))) (∃ mc5 ms6 : Nat, mc5 ≤ cb ∧ ms6 ≤ sb ∧ wp_J8_copyOfRangeByte l E mc5 ms6 [va_rf p0, .int p1, .int p2] st (fun o3 st4 => g_Ext st st4 → Q o3 st4))
set_option maxHeartbeats 4000000 in
theorem wb_J8_copyOfRange {p : Program} {l : Launch} {e : Env} {R : Room} {s : State} {m : MethodId} {args : Array Value} {below : List Frame} {meth : Method} {c : Code} {E : g_E} {st0 : g_St} {Z : State → Prop} (hC : g_Cx p s m args meth c cJ8_copyOfRange 3 "java/util/Arrays" (some (.array .byte)) "copyOfRange" E st0) (hR : g_Rm 3 85 R) {p0 : Option Nat} {p1 : Int32} {p2 : Int32} {st : g_St} {cb sb : Nat} {Q : Option Nat → g_St → Prop} (hret : ∀ (pc : Nat) (lv : List (Nat × Value)) (v : Option Nat) (st1 : g_St) (cb sb : Nat), decode cJ8_copyOfRange pc = .ok (.areturn, 1) → Q v st1 → g_J p l e R s m args below meth c 3 E st0 Z pc lv [va_rf v] st1 cb sb) (hvc : vc_J8_copyOfRange l E p0 p1 p2 st cb sb Q) : g_J p l e R s m args below meth c 3 E st0 Z 0 [(0, va_rf p0), (1, .int p1), (2, .int p2)] [] st cb sb := by
  unfold vc_J8_copyOfRange at hvc
  refine j_iload_n hC dJ8_copyOfRange_0 rfl 1 rfl ?_
  replace hvc := g_jn0_o hvc
  obtain ⟨K1, hK17, hvc⟩ := hvc
  have kh2 : K1 → g_J p l e R s m args below meth c 3 E st0 Z 10 [(0, va_rf p0), (1, .int p1), (2, .int p2)] [] st cb sb := by
    clear hvc
    intro hvc
    replace hvc := hK17 hvc
    refine j_aload_n hC dJ8_copyOfRange_10 rfl 0 rfl ?_
    refine j_iload_n hC dJ8_copyOfRange_11 rfl 1 rfl ?_
    refine j_iload_n hC dJ8_copyOfRange_12 rfl 2 rfl ?_
    obtain ⟨mc5, ms6, h1, h2, hvc⟩ := hvc
    refine j_callS (As := [va_rf p0, .int p1, .int p2]) (rest := []) (n := 3) hC hvc (lw_S q211 q212 q50 q213) (by decide +kernel) (g_rm hR rfl rfl) rfl rfl (g_sum rfl) dJ8_copyOfRange_13 h1 h2 (g_Ka fun o3 st4 hv2 hx => ?_)
    replace hvc := hv2 hx; clear hx hv2
    exact hret _ _ _ _ _ _ dJ8_copyOfRange_16 hvc
  refine j_if_ne (tgt := 10) hC dJ8_copyOfRange_1 rfl (fun c7 => ?_) (fun c7 => ?_)
  · replace hvc := hvc.1 c7
    exact j_sub [0, 1, 2] rfl (kh2 hvc)
  · replace hvc := hvc.2 c7
    refine j_iload_n hC dJ8_copyOfRange_4 rfl 2 rfl ?_
    refine j_aload_n hC dJ8_copyOfRange_5 rfl 0 rfl ?_
    obtain ⟨a8, rfl, hvc⟩ := hvc
    obtain ⟨t9, v10, hr, hvc⟩ := hvc
    refine j_alen hC hr dJ8_copyOfRange_6 ?_
    clear hr
    refine j_icmp_eq (tgt := 17) hC dJ8_copyOfRange_7 rfl (fun c11 => ?_) (fun c11 => ?_)
    · replace hvc := hvc.1 c11
      refine j_aload_n hC dJ8_copyOfRange_17 rfl 0 rfl ?_
      obtain ⟨n12, f13, hr, hf, h1, h2, hvc⟩ := hvc
      refine j_cloneB hC q296 hr hf h1 h2 (Nat.le_trans (Nat.le_of_ble_eq_true rfl) hR.1) (Nat.le_trans (g_sumN rfl) hR.2) dJ8_copyOfRange_18 (fun q14 st15 e1 e2 => ?_)
      replace hvc := hvc q14 st15 e1 e2; clear hr hf h1 h2 e1 e2
      obtain ⟨v16, hr, hvc⟩ := hvc
      refine j_castB hC q302 hr dJ8_copyOfRange_21 ?_
      clear hr
      exact hret _ _ _ _ _ _ dJ8_copyOfRange_24 hvc
    · replace hvc := hvc.2 c11
      exact j_sub [0, 1, 2] rfl (kh2 hvc)
theorem wk_J8_copyOfRange {l : Launch} {E : g_E} {p0 : Option Nat} {p1 : Int32} {p2 : Int32} {st : g_St} {mc ms : Nat} {Q : Option Nat → g_St → Prop} (hvc : vc_J8_copyOfRange l E p0 p1 p2 st mc ms Q) : wp_J8_copyOfRange l E mc ms [va_rf p0, .int p1, .int p2] st Q :=
  g_enter (lv0 := [(0, va_rf p0), (1, .int p1), (2, .int p2)]) (plainFor_of_name (by decide +kernel)) (by simp [lv_args, g_c1, g_ci, g_cL]) (by simp [lg_sl, g_c1, g_ci, g_cL]) (fun p e s m args below meth c hC => wb_J8_copyOfRange hC ⟨Nat.le_refl _, Nat.le_refl _⟩ (fun pc lv v st1 cb sb hd hq => j_areturn hC rfl (by first | exact Or.inl ⟨_, rfl⟩ | exact Or.inr ⟨_, rfl⟩) hd (g_av hq)) hvc)
abbrev wp_J2_init_3 (l : Launch) (E : g_E) (mc ms : Nat) (av : List Value) (st : g_St) (Q : g_St → Prop) : Prop := g_WPv l E yJ2_init_3 cJ2_init_3 3 none 1 40 mc ms av st Q
def vc_J2_init_3 (l : Launch) (E : g_E) (a0 : Nat) (p0 : Option Nat) (p1 : Int32) (st : g_St) (Q : g_St → Prop) : Prop :=
  ∃ fs1 : List Value, st.2.1 a0 = some (.inr (1, fs1)) ∧ ∀ st2 : g_St, st2 = g_put st a0 (.inr (1, fs1.set 0 (va_rf p0))) → g_okf .byte p1 ∧ ∃ fs3 : List Value, st2.2.1 a0 = some (.inr (1, fs3)) ∧ ∀ st4 : g_St, st4 = g_put st2 a0 (.inr (1, fs3.set 1 (.int p1))) → Q st4
set_option maxHeartbeats 4000000 in
theorem wb_J2_init_3 {p : Program} {l : Launch} {e : Env} {R : Room} {s : State} {m : MethodId} {args : Array Value} {below : List Frame} {meth : Method} {c : Code} {E : g_E} {st0 : g_St} {Z : State → Prop} (hC : g_Cx p s m args meth c cJ2_init_3 3 "java/lang/String" none "<init>" E st0) (hR : g_Rm 1 40 R) {a0 : Nat} {p0 : Option Nat} {p1 : Int32} {st : g_St} {cb sb : Nat} {Q : g_St → Prop} (hret : ∀ (pc : Nat) (lv : List (Nat × Value)) (st1 : g_St) (cb sb : Nat), decode cJ2_init_3 pc = .ok (.return_, 1) → Q st1 → g_J p l e R s m args below meth c 3 E st0 Z pc lv [] st1 cb sb) (hvc : vc_J2_init_3 l E a0 p0 p1 st Q) : g_J p l e R s m args below meth c 3 E st0 Z 0 [(0, va_rf (some a0)), (1, va_rf p0), (2, .int p1)] [] st cb sb := by
  unfold vc_J2_init_3 at hvc
  refine j_aload_n hC dJ2_init_3_0 rfl 0 rfl ?_
  refine j_objInit hC q406 q99 q100 (Nat.le_trans (Nat.le_of_ble_eq_true rfl) hR.1) (Nat.le_trans (g_sumO rfl) hR.2) dJ2_init_3_1 ?_
  refine j_aload_n hC dJ2_init_3_4 rfl 0 rfl ?_
  refine j_aload_n hC dJ2_init_3_5 rfl 1 rfl ?_
  obtain ⟨fs1, hm, hvc⟩ := hvc
  refine j_putF hC fkJ2_9_J2 rfl dJ2_init_3_6 hm g_noA g_foA (fun st2 e1 => ?_)
  replace hvc := hvc st2 e1; clear hm e1
  refine j_aload_n hC dJ2_init_3_9 rfl 0 rfl ?_
  refine j_iload_n hC dJ2_init_3_10 rfl 2 rfl ?_
  obtain ⟨⟨hn1, hn2⟩, hvc⟩ := hvc
  obtain ⟨fs3, hm, hvc⟩ := hvc
  refine j_putF hC fkJ2_15_J2 rfl dJ2_init_3_11 hm hn1 hn2 (fun st4 e1 => ?_)
  replace hvc := hvc st4 e1; clear hm e1
  exact hret _ _ _ _ _ dJ2_init_3_14 hvc
theorem wk_J2_init_3 {l : Launch} {E : g_E} {a0 : Nat} {p0 : Option Nat} {p1 : Int32} {st : g_St} {mc ms : Nat} {Q : g_St → Prop} (hvc : vc_J2_init_3 l E a0 p0 p1 st Q) : wp_J2_init_3 l E mc ms [va_rf (some a0), va_rf p0, .int p1] st Q :=
  g_enter (lv0 := [(0, va_rf (some a0)), (1, va_rf p0), (2, .int p1)]) (plainFor_of_name (by decide +kernel)) (by simp [lv_args, g_c1, g_ci, g_cL]) (by simp [lg_sl, g_c1, g_ci, g_cL]) (fun p e s m args below meth c hC => wb_J2_init_3 hC ⟨Nat.le_refl _, Nat.le_refl _⟩ (fun pc lv st1 cb sb hd hq => j_return hC rfl hd ⟨rfl, hq⟩) hvc)
abbrev wp_J7_newString (l : Launch) (E : g_E) (mc ms : Nat) (av : List Value) (st : g_St) (Q : Option Nat → g_St → Prop) : Prop := g_WPa l E yJ7_newString cJ7_newString 3 (some (.object "java/lang/String")) 4 107 mc ms av st Q
def vc_J7_newString (l : Launch) (E : g_E) (p0 : Option Nat) (p1 : Int32) (p2 : Int32) (st : g_St) (cb sb : Nat) (Q : Option Nat → g_St → Prop) : Prop :=
  (¬ p2 = 0 → 1 ≤ cb ∧ 4 ≤ sb ∧ ∀ (q2 : Nat) (st3 : g_St), q2 = st.2.2 → st3 = g_new st (.inr (1, [va_rf none, .int 0, .int 0, .int 0])) → ∃ mc6 ms7 : Nat, mc6 ≤ (cb - 1) ∧ ms7 ≤ (sb - 4) ∧ wp_J8_copyOfRange l E mc6 ms7 [va_rf p0, .int p1, .int (p1 + p2)] st3 (fun o4 st5 => g_Ext st3 st5 → wp_J2_init_3 l E 0 0 [va_rf (some q2), va_rf o4, .int (nI 0)] st5 (fun st8 => g_Ext st5 st8 → Q (some q2) st8))) ∧ (p2 = 0 → ∀ o9 : Option Nat, o9 = E.2.2.2.2.1 2 → Q o9 st)
set_option maxHeartbeats 4000000 in
theorem wb_J7_newString {p : Program} {l : Launch} {e : Env} {R : Room} {s : State} {m : MethodId} {args : Array Value} {below : List Frame} {meth : Method} {c : Code} {E : g_E} {st0 : g_St} {Z : State → Prop} (hC : g_Cx p s m args meth c cJ7_newString 3 "java/lang/StringLatin1" (some (.object "java/lang/String")) "newString" E st0) (hR : g_Rm 4 107 R) {p0 : Option Nat} {p1 : Int32} {p2 : Int32} {st : g_St} {cb sb : Nat} {Q : Option Nat → g_St → Prop} (hret : ∀ (pc : Nat) (lv : List (Nat × Value)) (v : Option Nat) (st1 : g_St) (cb sb : Nat), decode cJ7_newString pc = .ok (.areturn, 1) → Q v st1 → g_J p l e R s m args below meth c 3 E st0 Z pc lv [va_rf v] st1 cb sb) (hvc : vc_J7_newString l E p0 p1 p2 st cb sb Q) : g_J p l e R s m args below meth c 3 E st0 Z 0 [(0, va_rf p0), (1, .int p1), (2, .int p2)] [] st cb sb := by
  unfold vc_J7_newString at hvc
  refine j_iload_n hC dJ7_newString_0 rfl 2 rfl ?_
  refine j_if_ne (tgt := 7) hC dJ7_newString_1 rfl (fun c1 => ?_) (fun c1 => ?_)
  · replace hvc := hvc.1 c1
    obtain ⟨h1, h2, hvc⟩ := hvc
    refine j_new hC nwJ7_1 dJ7_newString_7 (n := 4) rfl h1 h2 (fun q2 st3 e1 e2 => ?_)
    replace hvc := hvc q2 st3 e1 e2; clear h1 h2 e1 e2
    refine j_dup hC dJ7_newString_10 g_c1 ?_
    refine j_aload_n hC dJ7_newString_11 rfl 0 rfl ?_
    refine j_iload_n hC dJ7_newString_12 rfl 1 rfl ?_
    refine j_iload_n hC dJ7_newString_13 rfl 1 rfl ?_
    refine j_iload_n hC dJ7_newString_14 rfl 2 rfl ?_
    refine j_iadd hC dJ7_newString_15 ?_
    obtain ⟨mc6, ms7, h1, h2, hvc⟩ := hvc
    refine j_callS (As := [va_rf p0, .int p1, .int (p1 + p2)]) (rest := [va_rf (some q2), va_rf (some q2)]) (n := 3) hC hvc (lw_S q208 q209 q50 q210) (by decide +kernel) (g_rm hR rfl rfl) rfl rfl (g_sum rfl) dJ7_newString_16 h1 h2 (g_Ka fun o4 st5 hv2 hx => ?_)
    replace hvc := hv2 hx; clear hx hv2
    refine j_iconst hC (nI 0) dJ7_newString_19 rfl ?_
    refine j_callI (As := [va_rf o4, .int (nI 0)]) (rest := [va_rf (some q2)]) (n := 2) hC hvc (lw_meth q473) q44 q471 q472 rfl (by decide +kernel) (g_rm hR rfl rfl) rfl rfl (g_sum rfl) dJ7_newString_20 (Nat.zero_le _) (Nat.zero_le _) (g_Kv fun st8 hv2 hx => ?_)
    replace hvc := hv2 hx; clear hx hv2
    exact hret _ _ _ _ _ _ dJ7_newString_23 hvc
  · replace hvc := hvc.2 c1
    refine j_ldcS hC (tx := "") (k := 2) (List.mem_of_getElem? (i := 2) rfl) dJ7_newString_4 ?_
    obtain ⟨o9, ho9⟩ : ∃ z : Option Nat, z = E.2.2.2.2.1 2 := ⟨_, rfl⟩
    rw [← ho9]
    replace hvc := hvc _ ho9
    exact hret _ _ _ _ _ _ dJ7_newString_6 hvc
theorem wk_J7_newString {l : Launch} {E : g_E} {p0 : Option Nat} {p1 : Int32} {p2 : Int32} {st : g_St} {mc ms : Nat} {Q : Option Nat → g_St → Prop} (hvc : vc_J7_newString l E p0 p1 p2 st mc ms Q) : wp_J7_newString l E mc ms [va_rf p0, .int p1, .int p2] st Q :=
  g_enter (lv0 := [(0, va_rf p0), (1, .int p1), (2, .int p2)]) (plainFor_of_name (by decide +kernel)) (by simp [lv_args, g_c1, g_ci, g_cL]) (by simp [lg_sl, g_c1, g_ci, g_cL]) (fun p e s m args below meth c hC => wb_J7_newString hC ⟨Nat.le_refl _, Nat.le_refl _⟩ (fun pc lv v st1 cb sb hd hq => j_areturn hC rfl (by first | exact Or.inl ⟨_, rfl⟩ | exact Or.inr ⟨_, rfl⟩) hd (g_av hq)) hvc)
abbrev wp_J2_substring (l : Launch) (E : g_E) (mc ms : Nat) (av : List Value) (st : g_St) (Q : Option Nat → g_St → Prop) : Prop := g_WPa l E yJ2_substring cJ2_substring 5 (some (.object "java/lang/String")) 5 129 mc ms av st Q
def vc_J2_substring (l : Launch) (E : g_E) (a0 : Nat) (p0 : Int32) (p1 : Int32) (st : g_St) (cb sb : Nat) (Q : Option Nat → g_St → Prop) : Prop :=
  g_is st a0 1 ∧ wp_J2_length l E 0 0 [va_rf (some a0)] st (fun x1 stx => stx = st ∧ wp_J2_checkBoundsBeginEnd l E 0 0 [.int p0, .int p1, .int x1] st (fun stx => stx = st ∧ g_jn0 (fun (K2 : Prop) => (¬ p0 = 0 → K2) ∧ (p0 = 0 → (¬ p1 = x1 → K2) ∧ (p1 = x1 → Q (some a0) st))) (g_is st a0 1 ∧ wp_J2_isLatin1 l E 0 0 [va_rf (some a0)] st (fun x4 stx => stx = st ∧ (x4 = 0 → ∃ o6 : Option Nat, g_gr st a0 1 0 o6 ∧ False) ∧ (¬ x4 = 0 → ∃ o7 : Option Nat, g_gr st a0 1 0 o7 ∧ ∃ mc10 ms11 : Nat, mc10 ≤ cb ∧ ms11 ≤ sb ∧ wp_J7_newString l E mc10 ms11 [va_rf o7, .int p0, .int (p1 - p0)] st (fun o8 st9 => g_Ext st st9 → Q o8 st9))))))
set_option maxHeartbeats 4000000 in
theorem wb_J2_substring {p : Program} {l : Launch} {e : Env} {R : Room} {s : State} {m : MethodId} {args : Array Value} {below : List Frame} {meth : Method} {c : Code} {E : g_E} {st0 : g_St} {Z : State → Prop} (hC : g_Cx p s m args meth c cJ2_substring 5 "java/lang/String" (some (.object "java/lang/String")) "substring" E st0) (hR : g_Rm 5 129 R) {a0 : Nat} {p0 : Int32} {p1 : Int32} {st : g_St} {cb sb : Nat} {Q : Option Nat → g_St → Prop} (hret : ∀ (pc : Nat) (lv : List (Nat × Value)) (v : Option Nat) (st1 : g_St) (cb sb : Nat), decode cJ2_substring pc = .ok (.areturn, 1) → Q v st1 → g_J p l e R s m args below meth c 5 E st0 Z pc lv [va_rf v] st1 cb sb) (hvc : vc_J2_substring l E a0 p0 p1 st cb sb Q) : g_J p l e R s m args below meth c 5 E st0 Z 0 [(0, va_rf (some a0)), (1, .int p0), (2, .int p1)] [] st cb sb := by
  unfold vc_J2_substring at hvc
  refine j_aload_n hC dJ2_substring_0 rfl 0 rfl ?_
  obtain ⟨⟨fs, hr⟩, hvc⟩ := hvc
  refine j_callV (As := []) (rest := []) (n := 0) (ci := 1) hC hvc (lw_V q181 q182 q183 q44 q184) (by decide +kernel) (g_rm hR rfl rfl) rfl hr rfl rfl (g_sum rfl) dJ2_substring_1 (Nat.zero_le _) (Nat.zero_le _) (g_Kip fun x1 hv2 => ?_)
  replace hvc := hv2; clear hv2
  clear hr fs
  refine j_istore_n (lv0 := [(2, .int p1), (0, va_rf (some a0)), (1, .int p0)]) hC dJ2_substring_4 rfl rfl [2, 0, 1] rfl (g_okS.h rfl rfl rfl) ?_
  refine j_iload_n hC dJ2_substring_5 rfl 3 rfl ?_
  refine j_iload_n hC dJ2_substring_6 rfl 1 rfl ?_
  refine j_iload_n hC dJ2_substring_7 rfl 0 rfl ?_
  refine j_callS (As := [.int p0, .int p1, .int x1]) (rest := []) (n := 3) hC hvc (lw_S q190 q191 q44 q192) (by decide +kernel) (g_rm hR rfl rfl) rfl rfl (g_sum rfl) dJ2_substring_8 (Nat.zero_le _) (Nat.zero_le _) (g_Kvp fun hv2 => ?_)
  replace hvc := hv2; clear hv2
  refine j_iload_n hC dJ2_substring_11 rfl 3 rfl ?_
  replace hvc := g_jn0_o hvc
  obtain ⟨K2, hK14, hvc⟩ := hvc
  have kh3 : K2 → g_J p l e R s m args below meth c 5 E st0 Z 22 [(0, va_rf (some a0)), (1, .int p0), (2, .int p1)] [] st cb sb := by
    clear hvc
    intro hvc
    replace hvc := hK14 hvc
    refine j_iload_n hC dJ2_substring_22 rfl 2 rfl ?_
    refine j_iload_n hC dJ2_substring_23 rfl 1 rfl ?_
    refine j_isub hC dJ2_substring_24 ?_
    refine j_istore (lv0 := [(0, va_rf (some a0)), (1, .int p0), (2, .int p1)]) hC dJ2_substring_25 rfl [0, 1, 2] rfl (g_okS.n rfl) ?_
    refine j_aload_n hC dJ2_substring_27 rfl 1 rfl ?_
    obtain ⟨⟨fs, hr⟩, hvc⟩ := hvc
    refine j_callV (As := []) (rest := []) (n := 0) (ci := 1) hC hvc (lw_V q198 q199 q200 q44 q201) (by decide +kernel) (g_rm hR rfl rfl) rfl hr rfl rfl (g_sum rfl) dJ2_substring_28 (Nat.zero_le _) (Nat.zero_le _) (g_Kip fun x4 hv2 => ?_)
    replace hvc := hv2; clear hv2
    clear hr fs
    refine j_if_eq (tgt := 47) hC dJ2_substring_31 rfl (fun c5 => ?_) (fun c5 => ?_)
    · replace hvc := hvc.1 c5
      refine j_aload_n hC dJ2_substring_47 rfl 1 rfl ?_
      obtain ⟨o6, ⟨fs, hr, hv⟩, hvc⟩ := hvc
      refine j_get hC fkJ2_9_J2 dJ2_substring_48 hr hv ?_
      clear hv hr fs
      refine j_iload_n hC dJ2_substring_51 rfl 2 rfl ?_
      refine j_iload hC dJ2_substring_52 0 rfl ?_
      exact hvc.elim
    · replace hvc := hvc.2 c5
      refine j_aload_n hC dJ2_substring_34 rfl 1 rfl ?_
      obtain ⟨o7, ⟨fs, hr, hv⟩, hvc⟩ := hvc
      refine j_get hC fkJ2_9_J2 dJ2_substring_35 hr hv ?_
      clear hv hr fs
      refine j_iload_n hC dJ2_substring_38 rfl 2 rfl ?_
      refine j_iload hC dJ2_substring_39 0 rfl ?_
      obtain ⟨mc10, ms11, h1, h2, hvc⟩ := hvc
      refine j_callS (As := [va_rf o7, .int p0, .int (p1 - p0)]) (rest := []) (n := 3) hC hvc (lw_S q202 q203 q49 q204) (by decide +kernel) (g_rm hR rfl rfl) rfl rfl (g_sum rfl) dJ2_substring_41 h1 h2 (g_Ka fun o8 st9 hv2 hx => ?_)
      replace hvc := hv2 hx; clear hx hv2
      refine j_goto (tgt := 57) hC dJ2_substring_44 rfl ?_
      exact hret _ _ _ _ _ _ dJ2_substring_57 hvc
  refine j_if_ne (tgt := 22) hC dJ2_substring_12 rfl (fun c12 => ?_) (fun c12 => ?_)
  · replace hvc := hvc.1 c12
    exact j_sub [2, 3, 1] rfl (kh3 hvc)
  · replace hvc := hvc.2 c12
    refine j_iload_n hC dJ2_substring_15 rfl 1 rfl ?_
    refine j_iload_n hC dJ2_substring_16 rfl 0 rfl ?_
    refine j_icmp_ne (tgt := 22) hC dJ2_substring_17 rfl (fun c13 => ?_) (fun c13 => ?_)
    · replace hvc := hvc.1 c13
      exact j_sub [2, 3, 1] rfl (kh3 hvc)
    · replace hvc := hvc.2 c13
      refine j_aload_n hC dJ2_substring_20 rfl 2 rfl ?_
      exact hret _ _ _ _ _ _ dJ2_substring_21 hvc
theorem wk_J2_substring {l : Launch} {E : g_E} {a0 : Nat} {p0 : Int32} {p1 : Int32} {st : g_St} {mc ms : Nat} {Q : Option Nat → g_St → Prop} (hvc : vc_J2_substring l E a0 p0 p1 st mc ms Q) : wp_J2_substring l E mc ms [va_rf (some a0), .int p0, .int p1] st Q :=
  g_enter (lv0 := [(0, va_rf (some a0)), (1, .int p0), (2, .int p1)]) (plainFor_of_name (by decide +kernel)) (by simp [lv_args, g_c1, g_ci, g_cL]) (by simp [lg_sl, g_c1, g_ci, g_cL]) (fun p e s m args below meth c hC => wb_J2_substring hC ⟨Nat.le_refl _, Nat.le_refl _⟩ (fun pc lv v st1 cb sb hd hq => j_areturn hC rfl (by first | exact Or.inl ⟨_, rfl⟩ | exact Or.inr ⟨_, rfl⟩) hd (g_av hq)) hvc)
abbrev wp_J0_length (l : Launch) (E : g_E) (mc ms : Nat) (av : List Value) (st : g_St) (Q : Int32 → g_St → Prop) : Prop := g_WPi l E yJ0_length cJ0_length 1 (some .int) 1 40 mc ms av st Q
def vc_J0_length (l : Launch) (E : g_E) (a0 : Nat) (st : g_St) (Q : Int32 → g_St → Prop) : Prop :=
  ∃ x1 : Int32, g_gi st a0 0 3 x1 ∧ Q x1 st
set_option maxHeartbeats 4000000 in
theorem wb_J0_length {p : Program} {l : Launch} {e : Env} {R : Room} {s : State} {m : MethodId} {args : Array Value} {below : List Frame} {meth : Method} {c : Code} {E : g_E} {st0 : g_St} {Z : State → Prop} (hC : g_Cx p s m args meth c cJ0_length 1 "java/lang/AbstractStringBuilder" (some .int) "length" E st0) (hR : g_Rm 1 40 R) {a0 : Nat} {st : g_St} {cb sb : Nat} {Q : Int32 → g_St → Prop} (hret : ∀ (pc : Nat) (lv : List (Nat × Value)) (v : Int32) (st1 : g_St) (cb sb : Nat), decode cJ0_length pc = .ok (.ireturn, 1) → narrow .int (.int v) = .int v → Q v st1 → g_J p l e R s m args below meth c 1 E st0 Z pc lv [.int v] st1 cb sb) (hvc : vc_J0_length l E a0 st Q) : g_J p l e R s m args below meth c 1 E st0 Z 0 [(0, va_rf (some a0))] [] st cb sb := by
  unfold vc_J0_length at hvc
  refine j_aload_n hC dJ0_length_0 rfl 0 rfl ?_
  obtain ⟨x1, ⟨fs, hr, hv⟩, hvc⟩ := hvc
  refine j_get hC fkJ0_79_J1 dJ0_length_1 hr hv ?_
  clear hv hr fs
  exact hret _ _ _ _ _ _ dJ0_length_4 rfl hvc
theorem wk_J0_length {l : Launch} {E : g_E} {a0 : Nat} {st : g_St} {mc ms : Nat} {Q : Int32 → g_St → Prop} (hvc : vc_J0_length l E a0 st Q) : wp_J0_length l E mc ms [va_rf (some a0)] st Q :=
  g_enter (lv0 := [(0, va_rf (some a0))]) (plainFor_of_name (by decide +kernel)) (by simp [lv_args, g_c1, g_ci, g_cL]) (by simp [lg_sl, g_c1, g_ci, g_cL]) (fun p e s m args below meth c hC => wb_J0_length hC ⟨Nat.le_refl _, Nat.le_refl _⟩ (fun pc lv v st1 cb sb hd hn hq => j_ireturn hC rfl hn hd (g_iv hq)) hvc)
abbrev wp_J1_length (l : Launch) (E : g_E) (mc ms : Nat) (av : List Value) (st : g_St) (Q : Int32 → g_St → Prop) : Prop := g_WPi l E yJ1_length cJ1_length 1 (some .int) 2 60 mc ms av st Q
def vc_J1_length (l : Launch) (E : g_E) (a0 : Nat) (st : g_St) (Q : Int32 → g_St → Prop) : Prop :=
  g_is st a0 0 ∧ wp_J0_length l E 0 0 [va_rf (some a0)] st (fun x1 stx => stx = st ∧ Q x1 st)
set_option maxHeartbeats 4000000 in
theorem wb_J1_length {p : Program} {l : Launch} {e : Env} {R : Room} {s : State} {m : MethodId} {args : Array Value} {below : List Frame} {meth : Method} {c : Code} {E : g_E} {st0 : g_St} {Z : State → Prop} (hC : g_Cx p s m args meth c cJ1_length 1 "java/lang/StringBuilder" (some .int) "length" E st0) (hR : g_Rm 2 60 R) {a0 : Nat} {st : g_St} {cb sb : Nat} {Q : Int32 → g_St → Prop} (hret : ∀ (pc : Nat) (lv : List (Nat × Value)) (v : Int32) (st1 : g_St) (cb sb : Nat), decode cJ1_length pc = .ok (.ireturn, 1) → narrow .int (.int v) = .int v → Q v st1 → g_J p l e R s m args below meth c 1 E st0 Z pc lv [.int v] st1 cb sb) (hvc : vc_J1_length l E a0 st Q) : g_J p l e R s m args below meth c 1 E st0 Z 0 [(0, va_rf (some a0))] [] st cb sb := by
  unfold vc_J1_length at hvc
  refine j_aload_n hC dJ1_length_0 rfl 0 rfl ?_
  obtain ⟨⟨fs, hr⟩, hvc⟩ := hvc
  refine j_callSU (As := []) (rest := []) (n := 0) (ci := 0) hC hvc (lw_SU q418 q414 q132 q413 q42 q419) (by decide +kernel) (g_rm hR rfl rfl) rfl hr rfl rfl (g_sum rfl) dJ1_length_1 (Nat.zero_le _) (Nat.zero_le _) (g_Kip fun x1 hv2 => ?_)
  replace hvc := hv2; clear hv2
  clear hr fs
  exact hret _ _ _ _ _ _ dJ1_length_4 rfl hvc
theorem wk_J1_length {l : Launch} {E : g_E} {a0 : Nat} {st : g_St} {mc ms : Nat} {Q : Int32 → g_St → Prop} (hvc : vc_J1_length l E a0 st Q) : wp_J1_length l E mc ms [va_rf (some a0)] st Q :=
  g_enter (lv0 := [(0, va_rf (some a0))]) (plainFor_of_name (by decide +kernel)) (by simp [lv_args, g_c1, g_ci, g_cL]) (by simp [lg_sl, g_c1, g_ci, g_cL]) (fun p e s m args below meth c hC => wb_J1_length hC ⟨Nat.le_refl _, Nat.le_refl _⟩ (fun pc lv v st1 cb sb hd hn hq => j_ireturn hC rfl hn hd (g_iv hq)) hvc)
abbrev wp_J15_newLength (l : Launch) (E : g_E) (mc ms : Nat) (av : List Value) (st : g_St) (Q : Int32 → g_St → Prop) : Prop := g_WPi l E yJ15_newLength cJ15_newLength 4 (some .int) 1 40 mc ms av st Q
def vc_J15_newLength (l : Launch) (E : g_E) (p0 : Int32) (p1 : Int32) (p2 : Int32) (st : g_St) (Q : Int32 → g_St → Prop) : Prop :=
  ∀ x1 : Int32, x1 = (if p1 < p2 then p2 else p1) → g_jn0 (fun (K2 : Prop) => ((p0 + x1) ≤ (nI 0) → K2) ∧ (¬ (p0 + x1) ≤ (nI 0) → ((nI 2147483639) < (p0 + x1) → K2) ∧ (¬ (nI 2147483639) < (p0 + x1) → Q (p0 + x1) st))) (False)
set_option maxHeartbeats 4000000 in
theorem wb_J15_newLength {p : Program} {l : Launch} {e : Env} {R : Room} {s : State} {m : MethodId} {args : Array Value} {below : List Frame} {meth : Method} {c : Code} {E : g_E} {st0 : g_St} {Z : State → Prop} (hC : g_Cx p s m args meth c cJ15_newLength 4 "jdk/internal/util/ArraysSupport" (some .int) "newLength" E st0) (hR : g_Rm 1 40 R) {p0 : Int32} {p1 : Int32} {p2 : Int32} {st : g_St} {cb sb : Nat} {Q : Int32 → g_St → Prop} (hret : ∀ (pc : Nat) (lv : List (Nat × Value)) (v : Int32) (st1 : g_St) (cb sb : Nat), decode cJ15_newLength pc = .ok (.ireturn, 1) → narrow .int (.int v) = .int v → Q v st1 → g_J p l e R s m args below meth c 4 E st0 Z pc lv [.int v] st1 cb sb) (hvc : vc_J15_newLength l E p0 p1 p2 st Q) : g_J p l e R s m args below meth c 4 E st0 Z 0 [(0, .int p0), (1, .int p1), (2, .int p2)] [] st cb sb := by
  unfold vc_J15_newLength at hvc
  refine j_iload_n hC dJ15_newLength_0 rfl 0 rfl ?_
  refine j_iload_n hC dJ15_newLength_1 rfl 1 rfl ?_
  refine j_iload_n hC dJ15_newLength_2 rfl 2 rfl ?_
  refine j_mmax hC q285 (Nat.le_trans (Nat.le_of_ble_eq_true rfl) hR.1) (Nat.le_trans (g_sumM rfl) hR.2) dJ15_newLength_3 ?_
  replace hvc := hvc _ rfl
  generalize (if p1 < p2 then p2 else p1) = x1 at hvc ⊢
  refine j_iadd hC dJ15_newLength_6 ?_
  refine j_istore_n (lv0 := [(2, .int p2), (0, .int p0), (1, .int p1)]) hC dJ15_newLength_7 rfl rfl [2, 0, 1] rfl (g_okS.h rfl rfl rfl) ?_
  refine j_iconst hC (nI 0) dJ15_newLength_8 rfl ?_
  refine j_iload_n hC dJ15_newLength_9 rfl 0 rfl ?_
  replace hvc := g_jn0_o hvc
  obtain ⟨K2, hK6, hvc⟩ := hvc
  have kh3 : K2 → g_J p l e R s m args below meth c 4 E st0 Z 21 [(0, .int p0), (1, .int p1)] [] st cb sb := by
    clear hvc
    intro hvc
    replace hvc := hK6 hvc
    refine j_iload_n hC dJ15_newLength_21 rfl 0 rfl ?_
    refine j_iload_n hC dJ15_newLength_22 rfl 1 rfl ?_
    exact hvc.elim
  refine j_icmp_ge (tgt := 21) hC dJ15_newLength_10 rfl (fun c4 => ?_) (fun c4 => ?_)
  · replace hvc := hvc.1 c4
    exact j_sub [2, 3] rfl (kh3 hvc)
  · replace hvc := hvc.2 c4
    refine j_iload_n hC dJ15_newLength_13 rfl 0 rfl ?_
    refine j_ldc hC (nI 2147483639) q288 dJ15_newLength_14 ?_
    refine j_icmp_gt (tgt := 21) hC dJ15_newLength_16 rfl (fun c5 => ?_) (fun c5 => ?_)
    · replace hvc := hvc.1 c5
      exact j_sub [2, 3] rfl (kh3 hvc)
    · replace hvc := hvc.2 c5
      refine j_iload_n hC dJ15_newLength_19 rfl 0 rfl ?_
      exact hret _ _ _ _ _ _ dJ15_newLength_20 rfl hvc
theorem wk_J15_newLength {l : Launch} {E : g_E} {p0 : Int32} {p1 : Int32} {p2 : Int32} {st : g_St} {mc ms : Nat} {Q : Int32 → g_St → Prop} (hvc : vc_J15_newLength l E p0 p1 p2 st Q) : wp_J15_newLength l E mc ms [.int p0, .int p1, .int p2] st Q :=
  g_enter (lv0 := [(0, .int p0), (1, .int p1), (2, .int p2)]) (plainFor_of_name (by decide +kernel)) (by simp [lv_args, g_c1, g_ci, g_cL]) (by simp [lg_sl, g_c1, g_ci, g_cL]) (fun p e s m args below meth c hC => wb_J15_newLength hC ⟨Nat.le_refl _, Nat.le_refl _⟩ (fun pc lv v st1 cb sb hd hn hq => j_ireturn hC rfl hn hd (g_iv hq)) hvc)
abbrev wp_J0_newCapacity (l : Launch) (E : g_E) (mc ms : Nat) (av : List Value) (st : g_St) (Q : Int32 → g_St → Prop) : Prop := g_WPi l E yJ0_newCapacity cJ0_newCapacity 6 (some .int) 2 63 mc ms av st Q
def vc_J0_newCapacity (l : Launch) (E : g_E) (a0 : Nat) (p0 : Int32) (st : g_St) (Q : Int32 → g_St → Prop) : Prop :=
  ∃ o1 : Option Nat, g_gr st a0 0 0 o1 ∧ ∃ a2 : Nat, o1 = some a2 ∧ ∃ (t3 : Nat) (v4 : vp_A), g_Rd st a2 (.inl (t3, v4)) ∧ ∃ x5 : Int32, g_gi st a0 0 1 x5 ∧ ∃ x6 : Int32, g_gi st a0 0 1 x6 ∧ wp_J15_newLength l E 0 0 [.int (nI v4.1), .int ((p0 <<< (x5 &&& 31)) - (nI v4.1)), .int ((nI v4.1) + ((nI 2) <<< (x6 &&& 31)))] st (fun x7 stx => stx = st ∧ (¬ x7 = (nI 2147483647) → ∃ x9 : Int32, g_gi st a0 0 1 x9 ∧ Q (x7 >>> (x9 &&& 31)) st) ∧ (x7 = (nI 2147483647) → False))
set_option maxHeartbeats 4000000 in
theorem wb_J0_newCapacity {p : Program} {l : Launch} {e : Env} {R : Room} {s : State} {m : MethodId} {args : Array Value} {below : List Frame} {meth : Method} {c : Code} {E : g_E} {st0 : g_St} {Z : State → Prop} (hC : g_Cx p s m args meth c cJ0_newCapacity 6 "java/lang/AbstractStringBuilder" (some .int) "newCapacity" E st0) (hR : g_Rm 2 63 R) {a0 : Nat} {p0 : Int32} {st : g_St} {cb sb : Nat} {Q : Int32 → g_St → Prop} (hret : ∀ (pc : Nat) (lv : List (Nat × Value)) (v : Int32) (st1 : g_St) (cb sb : Nat), decode cJ0_newCapacity pc = .ok (.ireturn, 1) → narrow .int (.int v) = .int v → Q v st1 → g_J p l e R s m args below meth c 6 E st0 Z pc lv [.int v] st1 cb sb) (hvc : vc_J0_newCapacity l E a0 p0 st Q) : g_J p l e R s m args below meth c 6 E st0 Z 0 [(0, va_rf (some a0)), (1, .int p0)] [] st cb sb := by
  unfold vc_J0_newCapacity at hvc
  refine j_aload_n hC dJ0_newCapacity_0 rfl 0 rfl ?_
  obtain ⟨o1, ⟨fs, hr, hv⟩, hvc⟩ := hvc
  refine j_get hC fkJ0_15_J1 dJ0_newCapacity_1 hr hv ?_
  clear hv hr fs
  obtain ⟨a2, rfl, hvc⟩ := hvc
  obtain ⟨t3, v4, hr, hvc⟩ := hvc
  refine j_alen hC hr dJ0_newCapacity_4 ?_
  clear hr
  refine j_istore_n (lv0 := [(1, .int p0), (0, va_rf (some a0))]) hC dJ0_newCapacity_5 rfl rfl [1, 0] rfl (g_okS.h rfl rfl rfl) ?_
  refine j_iload_n hC dJ0_newCapacity_6 rfl 1 rfl ?_
  refine j_aload_n hC dJ0_newCapacity_7 rfl 2 rfl ?_
  obtain ⟨x5, ⟨fs, hr, hv⟩, hvc⟩ := hvc
  refine j_get hC fkJ0_22_J1 dJ0_newCapacity_8 hr hv ?_
  clear hv hr fs
  refine j_ishl hC dJ0_newCapacity_11 ?_
  refine j_istore_n (lv0 := [(2, .int (nI v4.1)), (1, .int p0), (0, va_rf (some a0))]) hC dJ0_newCapacity_12 rfl rfl [0, 1, 2] rfl (g_okS.h rfl rfl rfl) ?_
  refine j_iload_n hC dJ0_newCapacity_13 rfl 0 rfl ?_
  refine j_iload_n hC dJ0_newCapacity_14 rfl 1 rfl ?_
  refine j_isub hC dJ0_newCapacity_15 ?_
  refine j_istore (lv0 := [(3, .int (p0 <<< (x5 &&& 31))), (2, .int (nI v4.1)), (1, .int p0), (0, va_rf (some a0))]) hC dJ0_newCapacity_16 rfl [0, 1, 2, 3] rfl (g_okS.h rfl rfl rfl) ?_
  refine j_iload_n hC dJ0_newCapacity_18 rfl 2 rfl ?_
  refine j_iload hC dJ0_newCapacity_19 0 rfl ?_
  refine j_iload_n hC dJ0_newCapacity_21 rfl 2 rfl ?_
  refine j_iconst hC (nI 2) dJ0_newCapacity_22 rfl ?_
  refine j_aload_n hC dJ0_newCapacity_23 rfl 4 rfl ?_
  obtain ⟨x6, ⟨fs, hr, hv⟩, hvc⟩ := hvc
  refine j_get hC fkJ0_22_J1 dJ0_newCapacity_24 hr hv ?_
  clear hv hr fs
  refine j_ishl hC dJ0_newCapacity_27 ?_
  refine j_iadd hC dJ0_newCapacity_28 ?_
  refine j_callS (As := [.int (nI v4.1), .int ((p0 <<< (x5 &&& 31)) - (nI v4.1)), .int ((nI v4.1) + ((nI 2) <<< (x6 &&& 31)))]) (rest := []) (n := 3) hC hvc (lw_S q282 q283 q57 q284) (by decide +kernel) (g_rm hR rfl rfl) rfl rfl (g_sum rfl) dJ0_newCapacity_29 (Nat.zero_le _) (Nat.zero_le _) (g_Kip fun x7 hv2 => ?_)
  replace hvc := hv2; clear hv2
  refine j_istore (lv0 := [(4, .int ((p0 <<< (x5 &&& 31)) - (nI v4.1))), (3, .int (p0 <<< (x5 &&& 31))), (2, .int (nI v4.1)), (1, .int p0), (0, va_rf (some a0))]) hC dJ0_newCapacity_32 rfl [0, 1, 2, 3, 4] rfl (g_okS.h rfl rfl rfl) ?_
  refine j_iload hC dJ0_newCapacity_34 0 rfl ?_
  refine j_ldc hC (nI 2147483647) q292 dJ0_newCapacity_36 ?_
  refine j_icmp_ne (tgt := 51) hC dJ0_newCapacity_38 rfl (fun c8 => ?_) (fun c8 => ?_)
  · replace hvc := hvc.1 c8
    refine j_iload hC dJ0_newCapacity_51 0 rfl ?_
    refine j_aload_n hC dJ0_newCapacity_53 rfl 5 rfl ?_
    obtain ⟨x9, ⟨fs, hr, hv⟩, hvc⟩ := hvc
    refine j_get hC fkJ0_22_J1 dJ0_newCapacity_54 hr hv ?_
    clear hv hr fs
    refine j_ishr hC dJ0_newCapacity_57 ?_
    exact hret _ _ _ _ _ _ dJ0_newCapacity_58 rfl hvc
  · replace hvc := hvc.2 c8
    exact hvc.elim
theorem wk_J0_newCapacity {l : Launch} {E : g_E} {a0 : Nat} {p0 : Int32} {st : g_St} {mc ms : Nat} {Q : Int32 → g_St → Prop} (hvc : vc_J0_newCapacity l E a0 p0 st Q) : wp_J0_newCapacity l E mc ms [va_rf (some a0), .int p0] st Q :=
  g_enter (lv0 := [(0, va_rf (some a0)), (1, .int p0)]) (plainFor_of_name (by decide +kernel)) (by simp [lv_args, g_c1, g_ci, g_cL]) (by simp [lg_sl, g_c1, g_ci, g_cL]) (fun p e s m args below meth c hC => wb_J0_newCapacity hC ⟨Nat.le_refl _, Nat.le_refl _⟩ (fun pc lv v st1 cb sb hd hn hq => j_ireturn hC rfl hn hd (g_iv hq)) hvc)
abbrev wp_J8_copyOf (l : Launch) (E : g_E) (mc ms : Nat) (av : List Value) (st : g_St) (Q : Option Nat → g_St → Prop) : Prop := g_WPa l E yJ8_copyOf cJ8_copyOf 3 (some (.array .byte)) 1 40 mc ms av st Q
def vc_J8_copyOf (l : Launch) (E : g_E) (p0 : Option Nat) (p1 : Int32) (st : g_St) (cb sb : Nat) (Q : Option Nat → g_St → Prop) : Prop :=
  ∃ a1 : Nat, p0 = some a1 ∧ ∃ (t2 : Nat) (v3 : vp_A), g_Rd st a1 (.inl (t2, v3)) ∧ (¬ p1 = (nI v3.1) → ∃ n5 : Nat, p1 = nI n5 ∧ n5 ≤ 67108864 ∧ 1 ≤ cb ∧ n5 ≤ sb ∧ ∀ (q6 : Nat) (st7 : g_St), q6 = st.2.2 → st7 = g_new st (.inl (1, n5, .inl fun _ => 0)) → ∃ (t8 : Nat) (v9 : vp_A), g_Rd st7 a1 (.inl (t8, v9)) ∧ ∀ x10 : Int32, x10 = (if p1 < (nI v9.1) then p1 else (nI v9.1)) → ∃ (n11 : Nat) (f12 : Nat → Int32) (m13 : Nat) (h14 : Nat → Int32) (i15 j16 k17 : Nat), g_ai st7 a1 1 n11 f12 ∧ st7.2.1 q6 = some (.inl (1, m13, .inl h14)) ∧ (nI 0) = nI i15 ∧ (nI 0) = nI j16 ∧ x10 = nI k17 ∧ i15 < 2 ^ 31 ∧ j16 < 2 ^ 31 ∧ k17 < 2 ^ 31 ∧ i15 + k17 ≤ n11 ∧ j16 + k17 ≤ m13 ∧ (∀ z : Nat, z < k17 → fits .byte (.int (f12 (i15 + z))) = true) ∧ ∀ st18 : g_St, st18 = g_put st7 q6 (.inl (1, m13, .inl (va_cpy f12 h14 i15 j16 k17))) → Q (some q6) st18) ∧ (p1 = (nI v3.1) → ∃ (n19 : Nat) (f20 : Nat → Int32), st.2.1 a1 = some (.inl (1, n19, .inl f20)) ∧ (∀ z : Nat, z < n19 → fits .byte (.int (f20 z)) = true) ∧ 1 ≤ cb ∧ n19 ≤ sb ∧ ∀ (q21 : Nat) (st22 : g_St), q21 = st.2.2 → st22 = g_new st (.inl (1, n19, .inl f20)) → ∃ v23 : vp_A, g_Rd st22 q21 (.inl (1, v23)) ∧ Q (some q21) st22)
set_option maxHeartbeats 4000000 in
theorem wb_J8_copyOf {p : Program} {l : Launch} {e : Env} {R : Room} {s : State} {m : MethodId} {args : Array Value} {below : List Frame} {meth : Method} {c : Code} {E : g_E} {st0 : g_St} {Z : State → Prop} (hC : g_Cx p s m args meth c cJ8_copyOf 3 "java/util/Arrays" (some (.array .byte)) "copyOf" E st0) (hR : g_Rm 1 40 R) {p0 : Option Nat} {p1 : Int32} {st : g_St} {cb sb : Nat} {Q : Option Nat → g_St → Prop} (hret : ∀ (pc : Nat) (lv : List (Nat × Value)) (v : Option Nat) (st1 : g_St) (cb sb : Nat), decode cJ8_copyOf pc = .ok (.areturn, 1) → Q v st1 → g_J p l e R s m args below meth c 3 E st0 Z pc lv [va_rf v] st1 cb sb) (hvc : vc_J8_copyOf l E p0 p1 st cb sb Q) : g_J p l e R s m args below meth c 3 E st0 Z 0 [(0, va_rf p0), (1, .int p1)] [] st cb sb := by
  unfold vc_J8_copyOf at hvc
  refine j_iload_n hC dJ8_copyOf_0 rfl 1 rfl ?_
  refine j_aload_n hC dJ8_copyOf_1 rfl 0 rfl ?_
  obtain ⟨a1, rfl, hvc⟩ := hvc
  obtain ⟨t2, v3, hr, hvc⟩ := hvc
  refine j_alen hC hr dJ8_copyOf_2 ?_
  clear hr
  refine j_icmp_ne (tgt := 14) hC dJ8_copyOf_3 rfl (fun c4 => ?_) (fun c4 => ?_)
  · replace hvc := hvc.1 c4
    refine j_iload_n hC dJ8_copyOf_14 rfl 1 rfl ?_
    obtain ⟨n5, hi, hn, h1, h2, hvc⟩ := hvc
    refine j_ix hi ?_
    refine j_newB hC q133 hn h1 h2 dJ8_copyOf_15 (fun q6 st7 e1 e2 => ?_)
    replace hvc := hvc q6 st7 e1 e2; clear hi hn h1 h2 e1 e2
    refine j_astore_n (lv0 := [(1, .int p1), (0, va_rf (some a1))]) hC dJ8_copyOf_17 rfl rfl [1, 0] rfl (g_okS.h rfl rfl rfl) ?_
    refine j_aload_n hC dJ8_copyOf_18 rfl 2 rfl ?_
    refine j_iconst hC (nI 0) dJ8_copyOf_19 rfl ?_
    refine j_aload_n hC dJ8_copyOf_20 rfl 0 rfl ?_
    refine j_iconst hC (nI 0) dJ8_copyOf_21 rfl ?_
    refine j_aload_n hC dJ8_copyOf_22 rfl 2 rfl ?_
    obtain ⟨t8, v9, hr, hvc⟩ := hvc
    refine j_alen hC hr dJ8_copyOf_23 ?_
    clear hr
    refine j_iload_n hC dJ8_copyOf_24 rfl 1 rfl ?_
    refine j_mmin hC q303 (Nat.le_trans (Nat.le_of_ble_eq_true rfl) hR.1) (Nat.le_trans (g_sumM rfl) hR.2) dJ8_copyOf_25 ?_
    replace hvc := hvc _ rfl
    generalize (if p1 < (nI v9.1) then p1 else (nI v9.1)) = x10 at hvc ⊢
    obtain ⟨n11, f12, m13, h14, i15, j16, k17, hr, hm, e1, e2, e3, l1, l2, l3, l4, l5, hf, hvc⟩ := hvc
    refine j_copyB hC (by exact q306) (by exact q308) (by exact q307) (by exact q59) hr hm e1 e2 e3 l1 l2 l3 l4 l5 hf (Nat.le_trans (Nat.le_of_ble_eq_true rfl) hR.1) (Nat.le_trans (g_sumN rfl) hR.2) dJ8_copyOf_28 (fun st18 e1 => ?_)
    replace hvc := hvc st18 e1; clear hr hm e1 e2 e3 l1 l2 l3 l4 l5 hf
    refine j_aload_n hC dJ8_copyOf_31 rfl 0 rfl ?_
    exact hret _ _ _ _ _ _ dJ8_copyOf_32 hvc
  · replace hvc := hvc.2 c4
    refine j_aload_n hC dJ8_copyOf_6 rfl 0 rfl ?_
    obtain ⟨n19, f20, hr, hf, h1, h2, hvc⟩ := hvc
    refine j_cloneB hC q296 hr hf h1 h2 (Nat.le_trans (Nat.le_of_ble_eq_true rfl) hR.1) (Nat.le_trans (g_sumN rfl) hR.2) dJ8_copyOf_7 (fun q21 st22 e1 e2 => ?_)
    replace hvc := hvc q21 st22 e1 e2; clear hr hf h1 h2 e1 e2
    obtain ⟨v23, hr, hvc⟩ := hvc
    refine j_castB hC q302 hr dJ8_copyOf_10 ?_
    clear hr
    exact hret _ _ _ _ _ _ dJ8_copyOf_13 hvc
theorem wk_J8_copyOf {l : Launch} {E : g_E} {p0 : Option Nat} {p1 : Int32} {st : g_St} {mc ms : Nat} {Q : Option Nat → g_St → Prop} (hvc : vc_J8_copyOf l E p0 p1 st mc ms Q) : wp_J8_copyOf l E mc ms [va_rf p0, .int p1] st Q :=
  g_enter (lv0 := [(0, va_rf p0), (1, .int p1)]) (plainFor_of_name (by decide +kernel)) (by simp [lv_args, g_c1, g_ci, g_cL]) (by simp [lg_sl, g_c1, g_ci, g_cL]) (fun p e s m args below meth c hC => wb_J8_copyOf hC ⟨Nat.le_refl _, Nat.le_refl _⟩ (fun pc lv v st1 cb sb hd hq => j_areturn hC rfl (by first | exact Or.inl ⟨_, rfl⟩ | exact Or.inr ⟨_, rfl⟩) hd (g_av hq)) hvc)
abbrev wp_J0_ensureCapacityInternal (l : Launch) (E : g_E) (mc ms : Nat) (av : List Value) (st : g_St) (Q : g_St → Prop) : Prop := g_WPv l E yJ0_ensureCapacityInternal cJ0_ensureCapacityInternal 3 none 3 88 mc ms av st Q
def vc_J0_ensureCapacityInternal (l : Launch) (E : g_E) (a0 : Nat) (p0 : Int32) (st : g_St) (cb sb : Nat) (Q : g_St → Prop) : Prop :=
  ∃ o1 : Option Nat, g_gr st a0 0 0 o1 ∧ ∃ a2 : Nat, o1 = some a2 ∧ ∃ (t3 : Nat) (v4 : vp_A), g_Rd st a2 (.inl (t3, v4)) ∧ ∃ x5 : Int32, g_gi st a0 0 1 x5 ∧ g_jn3 (fun (K9 : g_St → Nat → Nat → Prop) => ((p0 - ((nI v4.1) >>> (x5 &&& 31))) ≤ 0 → K9 st cb sb) ∧ (¬ (p0 - ((nI v4.1) >>> (x5 &&& 31))) ≤ 0 → ∃ o12 : Option Nat, g_gr st a0 0 0 o12 ∧ g_is st a0 0 ∧ wp_J0_newCapacity l E 0 0 [va_rf (some a0), .int p0] st (fun x13 stx => stx = st ∧ ∃ x14 : Int32, g_gi st a0 0 1 x14 ∧ ∃ mc17 ms18 : Nat, mc17 ≤ cb ∧ ms18 ≤ sb ∧ wp_J8_copyOf l E mc17 ms18 [va_rf o12, .int (x13 <<< (x14 &&& 31))] st (fun o15 st16 => g_Ext st st16 → ∃ fs19 : List Value, st16.2.1 a0 = some (.inr (0, fs19)) ∧ ∀ st20 : g_St, st20 = g_put st16 a0 (.inr (0, fs19.set 0 (va_rf o15))) → K9 st20 (cb - mc17) (sb - ms18))))) (fun (st6 : g_St) (cb7 : Nat) (sb8 : Nat) => Q st6)
set_option maxHeartbeats 4000000 in
theorem wb_J0_ensureCapacityInternal {p : Program} {l : Launch} {e : Env} {R : Room} {s : State} {m : MethodId} {args : Array Value} {below : List Frame} {meth : Method} {c : Code} {E : g_E} {st0 : g_St} {Z : State → Prop} (hC : g_Cx p s m args meth c cJ0_ensureCapacityInternal 3 "java/lang/AbstractStringBuilder" none "ensureCapacityInternal" E st0) (hR : g_Rm 3 88 R) {a0 : Nat} {p0 : Int32} {st : g_St} {cb sb : Nat} {Q : g_St → Prop} (hret : ∀ (pc : Nat) (lv : List (Nat × Value)) (st1 : g_St) (cb sb : Nat), decode cJ0_ensureCapacityInternal pc = .ok (.return_, 1) → Q st1 → g_J p l e R s m args below meth c 3 E st0 Z pc lv [] st1 cb sb) (hvc : vc_J0_ensureCapacityInternal l E a0 p0 st cb sb Q) : g_J p l e R s m args below meth c 3 E st0 Z 0 [(0, va_rf (some a0)), (1, .int p0)] [] st cb sb := by
  unfold vc_J0_ensureCapacityInternal at hvc
  refine j_aload_n hC dJ0_ensureCapacityInternal_0 rfl 0 rfl ?_
  obtain ⟨o1, ⟨fs, hr, hv⟩, hvc⟩ := hvc
  refine j_get hC fkJ0_15_J1 dJ0_ensureCapacityInternal_1 hr hv ?_
  clear hv hr fs
  obtain ⟨a2, rfl, hvc⟩ := hvc
  obtain ⟨t3, v4, hr, hvc⟩ := hvc
  refine j_alen hC hr dJ0_ensureCapacityInternal_4 ?_
  clear hr
  refine j_aload_n hC dJ0_ensureCapacityInternal_5 rfl 0 rfl ?_
  obtain ⟨x5, ⟨fs, hr, hv⟩, hvc⟩ := hvc
  refine j_get hC fkJ0_22_J1 dJ0_ensureCapacityInternal_6 hr hv ?_
  clear hv hr fs
  refine j_ishr hC dJ0_ensureCapacityInternal_9 ?_
  refine j_istore_n (lv0 := [(1, .int p0), (0, va_rf (some a0))]) hC dJ0_ensureCapacityInternal_10 rfl rfl [1, 0] rfl (g_okS.h rfl rfl rfl) ?_
  refine j_iload_n hC dJ0_ensureCapacityInternal_11 rfl 1 rfl ?_
  refine j_iload_n hC dJ0_ensureCapacityInternal_12 rfl 0 rfl ?_
  refine j_isub hC dJ0_ensureCapacityInternal_13 ?_
  replace hvc := g_jn3_o hvc
  obtain ⟨K9, hK21, hvc⟩ := hvc
  have kh10 : ∀ (st6 : g_St) (cb7 : Nat) (sb8 : Nat), K9 st6 cb7 sb8 → g_J p l e R s m args below meth c 3 E st0 Z 38 [] [] st6 cb7 sb8 := by
    clear hvc
    intro st6 cb7 sb8 hvc
    replace hvc := hK21 _ _ _ hvc
    exact hret _ _ _ _ _ dJ0_ensureCapacityInternal_38 hvc
  refine j_if_le (tgt := 38) hC dJ0_ensureCapacityInternal_14 rfl (fun c11 => ?_) (fun c11 => ?_)
  · replace hvc := hvc.1 c11
    exact j_sub [] rfl (kh10 st cb sb hvc)
  · replace hvc := hvc.2 c11
    refine j_aload_n hC dJ0_ensureCapacityInternal_17 rfl 2 rfl ?_
    refine j_aload_n hC dJ0_ensureCapacityInternal_18 rfl 2 rfl ?_
    obtain ⟨o12, ⟨fs, hr, hv⟩, hvc⟩ := hvc
    refine j_get hC fkJ0_15_J1 dJ0_ensureCapacityInternal_19 hr hv ?_
    clear hv hr fs
    refine j_aload_n hC dJ0_ensureCapacityInternal_22 rfl 2 rfl ?_
    refine j_iload_n hC dJ0_ensureCapacityInternal_23 rfl 1 rfl ?_
    obtain ⟨⟨fs, hr⟩, hvc⟩ := hvc
    refine j_callP (As := [.int p0]) (rest := [va_rf o12, va_rf (some a0)]) (n := 1) (ci := 0) hC hvc (lw_meth q281) q278 q280 ge_86 q42 g_sbP (by decide +kernel) (g_rm hR rfl rfl) rfl hr rfl rfl (g_sum rfl) dJ0_ensureCapacityInternal_24 (Nat.zero_le _) (Nat.zero_le _) (g_Kip fun x13 hv2 => ?_)
    replace hvc := hv2; clear hv2
    clear hr fs
    refine j_aload_n hC dJ0_ensureCapacityInternal_27 rfl 2 rfl ?_
    obtain ⟨x14, ⟨fs, hr, hv⟩, hvc⟩ := hvc
    refine j_get hC fkJ0_22_J1 dJ0_ensureCapacityInternal_28 hr hv ?_
    clear hv hr fs
    refine j_ishl hC dJ0_ensureCapacityInternal_31 ?_
    obtain ⟨mc17, ms18, h1, h2, hvc⟩ := hvc
    refine j_callS (As := [va_rf o12, .int (x13 <<< (x14 &&& 31))]) (rest := [va_rf (some a0)]) (n := 2) hC hvc (lw_S q293 q294 q50 q295) (by decide +kernel) (g_rm hR rfl rfl) rfl rfl (g_sum rfl) dJ0_ensureCapacityInternal_32 h1 h2 (g_Ka fun o15 st16 hv2 hx => ?_)
    replace hvc := hv2 hx; clear hx hv2
    obtain ⟨fs19, hm, hvc⟩ := hvc
    refine j_put hC fkJ0_15_J1 dJ0_ensureCapacityInternal_35 hm g_noA g_foA (fun st20 e1 => ?_)
    replace hvc := hvc st20 e1; clear hm e1
    exact j_sub [] rfl (kh10 st20 (cb - mc17) (sb - ms18) hvc)
theorem wk_J0_ensureCapacityInternal {l : Launch} {E : g_E} {a0 : Nat} {p0 : Int32} {st : g_St} {mc ms : Nat} {Q : g_St → Prop} (hvc : vc_J0_ensureCapacityInternal l E a0 p0 st mc ms Q) : wp_J0_ensureCapacityInternal l E mc ms [va_rf (some a0), .int p0] st Q :=
  g_enter (lv0 := [(0, va_rf (some a0)), (1, .int p0)]) (plainFor_of_name (by decide +kernel)) (by simp [lv_args, g_c1, g_ci, g_cL]) (by simp [lg_sl, g_c1, g_ci, g_cL]) (fun p e s m args below meth c hC => wb_J0_ensureCapacityInternal hC ⟨Nat.le_refl _, Nat.le_refl _⟩ (fun pc lv st1 cb sb hd hq => j_return hC rfl hd ⟨rfl, hq⟩) hvc)
abbrev wp_J0_isLatin1 (l : Launch) (E : g_E) (mc ms : Nat) (av : List Value) (st : g_St) (Q : Int32 → g_St → Prop) : Prop := g_WPi l E yJ0_isLatin1 cJ0_isLatin1 1 (some .boolean) 1 40 mc ms av st Q
def vc_J0_isLatin1 (l : Launch) (E : g_E) (a0 : Nat) (st : g_St) (Q : Int32 → g_St → Prop) : Prop :=
  g_jn1 (fun (K2 : Int32 → Prop) => g_jn0 (fun (K4 : Prop) => ∃ x6 : Int32, g_gi st a0 0 1 x6 ∧ (¬ x6 = 0 → K4) ∧ (x6 = 0 → K2 (nI 1))) (K2 (nI 0))) (fun (x1 : Int32) => narrow .boolean (.int x1) = .int x1 ∧ Q x1 st)
set_option maxHeartbeats 4000000 in
theorem wb_J0_isLatin1 {p : Program} {l : Launch} {e : Env} {R : Room} {s : State} {m : MethodId} {args : Array Value} {below : List Frame} {meth : Method} {c : Code} {E : g_E} {st0 : g_St} {Z : State → Prop} (hC : g_Cx p s m args meth c cJ0_isLatin1 1 "java/lang/AbstractStringBuilder" (some .boolean) "isLatin1" E st0) (hR : g_Rm 1 40 R) {a0 : Nat} {st : g_St} {cb sb : Nat} {Q : Int32 → g_St → Prop} (hret : ∀ (pc : Nat) (lv : List (Nat × Value)) (v : Int32) (st1 : g_St) (cb sb : Nat), decode cJ0_isLatin1 pc = .ok (.ireturn, 1) → narrow .boolean (.int v) = .int v → Q v st1 → g_J p l e R s m args below meth c 1 E st0 Z pc lv [.int v] st1 cb sb) (hvc : vc_J0_isLatin1 l E a0 st Q) : g_J p l e R s m args below meth c 1 E st0 Z 0 [(0, va_rf (some a0))] [] st cb sb := by
  unfold vc_J0_isLatin1 at hvc
  refine j_gets (v := .int (nI 1)) hC gs_0 q110 (Or.inl rfl) dJ0_isLatin1_0 ?_
  replace hvc := g_jn1_o hvc
  obtain ⟨K2, hK10, hvc⟩ := hvc
  have kh3 : ∀ (x1 : Int32), K2 x1 → g_J p l e R s m args below meth c 1 E st0 Z 18 [] [.int x1] st cb sb := by
    clear hvc
    intro x1 hvc
    replace hvc := hK10 _ hvc
    exact hret _ _ _ _ _ _ dJ0_isLatin1_18 hvc.1 hvc.2
  replace hvc := g_jn0_o hvc
  obtain ⟨K4, hK9, hvc⟩ := hvc
  have kh5 : K4 → g_J p l e R s m args below meth c 1 E st0 Z 17 [] [] st cb sb := by
    clear hvc
    intro hvc
    replace hvc := hK9 hvc
    refine j_iconst hC (nI 0) dJ0_isLatin1_17 rfl ?_
    exact j_sub [] rfl (kh3 (nI 0) hvc)
  refine j_if_eq (tgt := 17) hC dJ0_isLatin1_3 rfl (fun c8 => absurd c8 (by decide)) (fun _ => ?_)
  refine j_aload_n hC dJ0_isLatin1_6 rfl 0 rfl ?_
  obtain ⟨x6, ⟨fs, hr, hv⟩, hvc⟩ := hvc
  refine j_get hC fkJ0_22_J1 dJ0_isLatin1_7 hr hv ?_
  clear hv hr fs
  refine j_if_ne (tgt := 17) hC dJ0_isLatin1_10 rfl (fun c7 => ?_) (fun c7 => ?_)
  · replace hvc := hvc.1 c7
    exact j_sub [] rfl (kh5 hvc)
  · replace hvc := hvc.2 c7
    refine j_iconst hC (nI 1) dJ0_isLatin1_13 rfl ?_
    refine j_goto (tgt := 18) hC dJ0_isLatin1_14 rfl ?_
    exact j_sub [] rfl (kh3 (nI 1) hvc)
theorem wk_J0_isLatin1 {l : Launch} {E : g_E} {a0 : Nat} {st : g_St} {mc ms : Nat} {Q : Int32 → g_St → Prop} (hvc : vc_J0_isLatin1 l E a0 st Q) : wp_J0_isLatin1 l E mc ms [va_rf (some a0)] st Q :=
  g_enter (lv0 := [(0, va_rf (some a0))]) (plainFor_of_name (by decide +kernel)) (by simp [lv_args, g_c1, g_ci, g_cL]) (by simp [lg_sl, g_c1, g_ci, g_cL]) (fun p e s m args below meth c hC => wb_J0_isLatin1 hC ⟨Nat.le_refl _, Nat.le_refl _⟩ (fun pc lv v st1 cb sb hd hn hq => j_ireturn hC rfl hn hd (g_iv hq)) hvc)
abbrev wp_J8_rangeCheck (l : Launch) (E : g_E) (mc ms : Nat) (av : List Value) (st : g_St) (Q : g_St → Prop) : Prop := g_WPv l E yJ8_rangeCheck cJ8_rangeCheck 3 none 1 40 mc ms av st Q
def vc_J8_rangeCheck (l : Launch) (E : g_E) (p0 : Int32) (p1 : Int32) (p2 : Int32) (st : g_St) (Q : g_St → Prop) : Prop :=
  (p1 ≤ p2 → (0 ≤ p1 → (p2 ≤ p0 → Q st) ∧ (¬ p2 ≤ p0 → False)) ∧ (¬ 0 ≤ p1 → False)) ∧ (¬ p1 ≤ p2 → False)
set_option maxHeartbeats 4000000 in
theorem wb_J8_rangeCheck {p : Program} {l : Launch} {e : Env} {R : Room} {s : State} {m : MethodId} {args : Array Value} {below : List Frame} {meth : Method} {c : Code} {E : g_E} {st0 : g_St} {Z : State → Prop} (hC : g_Cx p s m args meth c cJ8_rangeCheck 3 "java/util/Arrays" none "rangeCheck" E st0) (hR : g_Rm 1 40 R) {p0 : Int32} {p1 : Int32} {p2 : Int32} {st : g_St} {cb sb : Nat} {Q : g_St → Prop} (hret : ∀ (pc : Nat) (lv : List (Nat × Value)) (st1 : g_St) (cb sb : Nat), decode cJ8_rangeCheck pc = .ok (.return_, 1) → Q st1 → g_J p l e R s m args below meth c 3 E st0 Z pc lv [] st1 cb sb) (hvc : vc_J8_rangeCheck l E p0 p1 p2 st Q) : g_J p l e R s m args below meth c 3 E st0 Z 0 [(0, .int p0), (1, .int p1), (2, .int p2)] [] st cb sb := by
  unfold vc_J8_rangeCheck at hvc
  refine j_iload_n hC dJ8_rangeCheck_0 rfl 1 rfl ?_
  refine j_iload_n hC dJ8_rangeCheck_1 rfl 2 rfl ?_
  refine j_icmp_le (tgt := 46) hC dJ8_rangeCheck_2 rfl (fun c1 => ?_) (fun c1 => ?_)
  · replace hvc := hvc.1 c1
    refine j_iload_n hC dJ8_rangeCheck_46 rfl 1 rfl ?_
    refine j_if_ge (tgt := 59) hC dJ8_rangeCheck_47 rfl (fun c2 => ?_) (fun c2 => ?_)
    · replace hvc := hvc.1 c2
      refine j_iload_n hC dJ8_rangeCheck_59 rfl 2 rfl ?_
      refine j_iload_n hC dJ8_rangeCheck_60 rfl 0 rfl ?_
      refine j_icmp_le (tgt := 73) hC dJ8_rangeCheck_61 rfl (fun c3 => ?_) (fun c3 => ?_)
      · replace hvc := hvc.1 c3
        exact hret _ _ _ _ _ dJ8_rangeCheck_73 hvc
      · replace hvc := hvc.2 c3
        exact hvc.elim
    · replace hvc := hvc.2 c2
      exact hvc.elim
  · replace hvc := hvc.2 c1
    exact hvc.elim
theorem wk_J8_rangeCheck {l : Launch} {E : g_E} {p0 : Int32} {p1 : Int32} {p2 : Int32} {st : g_St} {mc ms : Nat} {Q : g_St → Prop} (hvc : vc_J8_rangeCheck l E p0 p1 p2 st Q) : wp_J8_rangeCheck l E mc ms [.int p0, .int p1, .int p2] st Q :=
  g_enter (lv0 := [(0, .int p0), (1, .int p1), (2, .int p2)]) (plainFor_of_name (by decide +kernel)) (by simp [lv_args, g_c1, g_ci, g_cL]) (by simp [lg_sl, g_c1, g_ci, g_cL]) (fun p e s m args below meth c hC => wb_J8_rangeCheck hC ⟨Nat.le_refl _, Nat.le_refl _⟩ (fun pc lv st1 cb sb hd hq => j_return hC rfl hd ⟨rfl, hq⟩) hvc)
abbrev wp_J8_fill (l : Launch) (E : g_E) (mc ms : Nat) (av : List Value) (st : g_St) (Q : g_St → Prop) : Prop := g_WPv l E yJ8_fill cJ8_fill 5 none 2 62 mc ms av st Q
def vc_J8_fill (l : Launch) (E : g_E) (p0 : Option Nat) (p1 : Int32) (p2 : Int32) (p3 : Int32) (st : g_St) (Q : g_St → Prop) : Prop :=
  ∃ a1 : Nat, p0 = some a1 ∧ ∃ (t2 : Nat) (v3 : vp_A), g_Rd st a1 (.inl (t2, v3)) ∧ wp_J8_rangeCheck l E 0 0 [.int (nI v3.1), .int p1, .int p2] st (fun stx => stx = st ∧ g_lp2 (fun (K6 : Int32 → g_St → Prop) (x4 : Int32) (st5 : g_St) => (p2 ≤ x4 → Q st5) ∧ (¬ p2 ≤ x4 → ∃ (n10 : Nat) (f11 : Nat → Int32) (j12 : Nat), st5.2.1 a1 = some (.inl (1, n10, .inl (f11))) ∧ x4 = nI j12 ∧ j12 < n10 ∧ j12 < 2 ^ 31 ∧ ∀ st13 : g_St, st13 = g_put st5 a1 (.inl (1, n10, .inl (va_up f11 j12 (vp_nar .byte p3)))) → K6 (x4 + (nI 1)) st13)) p1 st)
set_option maxHeartbeats 4000000 in
theorem wb_J8_fill {p : Program} {l : Launch} {e : Env} {R : Room} {s : State} {m : MethodId} {args : Array Value} {below : List Frame} {meth : Method} {c : Code} {E : g_E} {st0 : g_St} {Z : State → Prop} (hC : g_Cx p s m args meth c cJ8_fill 5 "java/util/Arrays" none "fill" E st0) (hR : g_Rm 2 62 R) {p0 : Option Nat} {p1 : Int32} {p2 : Int32} {p3 : Int32} {st : g_St} {cb sb : Nat} {Q : g_St → Prop} (hret : ∀ (pc : Nat) (lv : List (Nat × Value)) (st1 : g_St) (cb sb : Nat), decode cJ8_fill pc = .ok (.return_, 1) → Q st1 → g_J p l e R s m args below meth c 5 E st0 Z pc lv [] st1 cb sb) (hvc : vc_J8_fill l E p0 p1 p2 p3 st Q) : g_J p l e R s m args below meth c 5 E st0 Z 0 [(0, va_rf p0), (1, .int p1), (2, .int p2), (3, .int p3)] [] st cb sb := by
  unfold vc_J8_fill at hvc
  refine j_aload_n hC dJ8_fill_0 rfl 0 rfl ?_
  obtain ⟨a1, rfl, hvc⟩ := hvc
  obtain ⟨t2, v3, hr, hvc⟩ := hvc
  refine j_alen hC hr dJ8_fill_1 ?_
  clear hr
  refine j_iload_n hC dJ8_fill_2 rfl 1 rfl ?_
  refine j_iload_n hC dJ8_fill_3 rfl 2 rfl ?_
  refine j_callS (As := [.int (nI v3.1), .int p1, .int p2]) (rest := []) (n := 3) hC hvc (lw_S q533 q534 q50 q535) (by decide +kernel) (g_rm hR rfl rfl) rfl rfl (g_sum rfl) dJ8_fill_4 (Nat.zero_le _) (Nat.zero_le _) (g_Kvp fun hv2 => ?_)
  replace hvc := hv2; clear hv2
  refine j_iload_n hC dJ8_fill_7 rfl 1 rfl ?_
  refine j_istore (lv0 := [(3, .int p3), (0, va_rf (some a1)), (1, .int p1), (2, .int p2)]) hC dJ8_fill_8 rfl [3, 0, 1, 2] rfl (g_okS.h rfl rfl rfl) ?_
  replace hvc := g_lp2_o hvc
  obtain ⟨K6, hz14, hs15, n16, hvc⟩ := hvc
  have kh7 : ∀ (n : Nat) (x4 : Int32) (st5 : g_St), K6 n x4 st5 → g_J p l e R s m args below meth c 5 E st0 Z 10 [(0, va_rf (some a1)), (2, .int p2), (3, .int p3), (4, .int x4)] [] st5 cb sb := by
    clear hvc
    intro n
    induction n with
    | zero => intro x4 st5 hvc; exact absurd hvc (hz14 _ _)
    | succ n ih8 =>
      intro x4 st5 hvc
      replace hvc := hs15 n _ _ hvc
      refine j_iload hC dJ8_fill_10 3 rfl ?_
      refine j_iload_n hC dJ8_fill_12 rfl 1 rfl ?_
      refine j_icmp_ge (tgt := 27) hC dJ8_fill_13 rfl (fun c9 => ?_) (fun c9 => ?_)
      · replace hvc := hvc.1 c9
        exact hret _ _ _ _ _ dJ8_fill_27 hvc
      · replace hvc := hvc.2 c9
        refine j_aload_n hC dJ8_fill_16 rfl 0 rfl ?_
        refine j_iload hC dJ8_fill_17 3 rfl ?_
        refine j_iload_n hC dJ8_fill_19 rfl 2 rfl ?_
        obtain ⟨n10, f11, j12, hm, hi, hj, hJ, hvc⟩ := hvc
        refine j_ix1 hi ?_
        refine j_stb hC hm hj hJ dJ8_fill_20 (fun st13 e1 => ?_)
        replace hvc := hvc st13 e1; clear hm hi hj hJ e1
        refine j_iinc (lv0 := [(3, .int p3), (0, va_rf (some a1)), (2, .int p2)]) hC (nI 1) dJ8_fill_21 3 rfl rfl rfl [2, 0, 1] rfl (g_okS.h rfl rfl rfl) ?_
        refine j_goto (tgt := 10) hC dJ8_fill_24 rfl ?_
        exact j_sub [2, 3, 1, 0] rfl (ih8 (x4 + (nI 1)) st13 hvc)
  exact j_sub [2, 4, 1, 0] rfl (kh7 n16 p1 st hvc)
theorem wk_J8_fill {l : Launch} {E : g_E} {p0 : Option Nat} {p1 : Int32} {p2 : Int32} {p3 : Int32} {st : g_St} {mc ms : Nat} {Q : g_St → Prop} (hvc : vc_J8_fill l E p0 p1 p2 p3 st Q) : wp_J8_fill l E mc ms [va_rf p0, .int p1, .int p2, .int p3] st Q :=
  g_enter (lv0 := [(0, va_rf p0), (1, .int p1), (2, .int p2), (3, .int p3)]) (plainFor_of_name (by decide +kernel)) (by simp [lv_args, g_c1, g_ci, g_cL]) (by simp [lg_sl, g_c1, g_ci, g_cL]) (fun p e s m args below meth c hC => wb_J8_fill hC ⟨Nat.le_refl _, Nat.le_refl _⟩ (fun pc lv st1 cb sb hd hq => j_return hC rfl hd ⟨rfl, hq⟩) hvc)
abbrev wp_J7_fillNull (l : Launch) (E : g_E) (mc ms : Nat) (av : List Value) (st : g_St) (Q : g_St → Prop) : Prop := g_WPv l E yJ7_fillNull cJ7_fillNull 3 none 3 86 mc ms av st Q
def vc_J7_fillNull (l : Launch) (E : g_E) (p0 : Option Nat) (p1 : Int32) (p2 : Int32) (st : g_St) (Q : g_St → Prop) : Prop :=
  wp_J8_fill l E 0 0 [va_rf p0, .int p1, .int p2, .int (nI 0)] st (fun st1 => g_Ext st st1 → Q st1)
set_option maxHeartbeats 4000000 in
theorem wb_J7_fillNull {p : Program} {l : Launch} {e : Env} {R : Room} {s : State} {m : MethodId} {args : Array Value} {below : List Frame} {meth : Method} {c : Code} {E : g_E} {st0 : g_St} {Z : State → Prop} (hC : g_Cx p s m args meth c cJ7_fillNull 3 "java/lang/StringLatin1" none "fillNull" E st0) (hR : g_Rm 3 86 R) {p0 : Option Nat} {p1 : Int32} {p2 : Int32} {st : g_St} {cb sb : Nat} {Q : g_St → Prop} (hret : ∀ (pc : Nat) (lv : List (Nat × Value)) (st1 : g_St) (cb sb : Nat), decode cJ7_fillNull pc = .ok (.return_, 1) → Q st1 → g_J p l e R s m args below meth c 3 E st0 Z pc lv [] st1 cb sb) (hvc : vc_J7_fillNull l E p0 p1 p2 st Q) : g_J p l e R s m args below meth c 3 E st0 Z 0 [(0, va_rf p0), (1, .int p1), (2, .int p2)] [] st cb sb := by
  unfold vc_J7_fillNull at hvc
  refine j_aload_n hC dJ7_fillNull_0 rfl 0 rfl ?_
  refine j_iload_n hC dJ7_fillNull_1 rfl 1 rfl ?_
  refine j_iload_n hC dJ7_fillNull_2 rfl 2 rfl ?_
  refine j_iconst hC (nI 0) dJ7_fillNull_3 rfl ?_
  refine j_callS (As := [va_rf p0, .int p1, .int p2, .int (nI 0)]) (rest := []) (n := 4) hC hvc (lw_S q530 q531 q50 q532) (by decide +kernel) (g_rm hR rfl rfl) rfl rfl (g_sum rfl) dJ7_fillNull_4 (Nat.zero_le _) (Nat.zero_le _) (g_Kv fun st1 hv2 hx => ?_)
  replace hvc := hv2 hx; clear hx hv2
  exact hret _ _ _ _ _ dJ7_fillNull_7 hvc
theorem wk_J7_fillNull {l : Launch} {E : g_E} {p0 : Option Nat} {p1 : Int32} {p2 : Int32} {st : g_St} {mc ms : Nat} {Q : g_St → Prop} (hvc : vc_J7_fillNull l E p0 p1 p2 st Q) : wp_J7_fillNull l E mc ms [va_rf p0, .int p1, .int p2] st Q :=
  g_enter (lv0 := [(0, va_rf p0), (1, .int p1), (2, .int p2)]) (plainFor_of_name (by decide +kernel)) (by simp [lv_args, g_c1, g_ci, g_cL]) (by simp [lg_sl, g_c1, g_ci, g_cL]) (fun p e s m args below meth c hC => wb_J7_fillNull hC ⟨Nat.le_refl _, Nat.le_refl _⟩ (fun pc lv st1 cb sb hd hq => j_return hC rfl hd ⟨rfl, hq⟩) hvc)
abbrev wp_J0_setLength (l : Launch) (E : g_E) (mc ms : Nat) (av : List Value) (st : g_St) (Q : g_St → Prop) : Prop := g_WPv l E yJ0_setLength cJ0_setLength 2 none 4 110 mc ms av st Q
def vc_J0_setLength (l : Launch) (E : g_E) (a0 : Nat) (p0 : Int32) (st : g_St) (cb sb : Nat) (Q : g_St → Prop) : Prop :=
  (0 ≤ p0 → ∃ mc3 ms4 : Nat, mc3 ≤ cb ∧ ms4 ≤ sb ∧ g_is st a0 0 ∧ wp_J0_ensureCapacityInternal l E mc3 ms4 [va_rf (some a0), .int p0] st (fun st2 => g_Ext st st2 → ∃ x5 : Int32, g_gi st2 a0 0 3 x5 ∧ g_jn1 (fun (K7 : g_St → Prop) => (p0 ≤ x5 → ∃ x12 : Int32, g_gi st2 a0 0 3 x12 ∧ (x12 ≤ p0 → K7 st2) ∧ (¬ x12 ≤ p0 → ∃ fs14 : List Value, st2.2.1 a0 = some (.inr (0, fs14)) ∧ ∀ st15 : g_St, st15 = g_put st2 a0 (.inr (0, fs14.set 2 (.int (nI 1)))) → K7 st15)) ∧ (¬ p0 ≤ x5 → g_is st2 a0 0 ∧ wp_J0_isLatin1 l E 0 0 [va_rf (some a0)] st2 (fun x16 stx => stx = st2 ∧ (x16 = 0 → ∃ o18 : Option Nat, g_gr st2 a0 0 0 o18 ∧ ∃ x19 : Int32, g_gi st2 a0 0 3 x19 ∧ False) ∧ (¬ x16 = 0 → ∃ o20 : Option Nat, g_gr st2 a0 0 0 o20 ∧ ∃ x21 : Int32, g_gi st2 a0 0 3 x21 ∧ wp_J7_fillNull l E 0 0 [va_rf o20, .int x21, .int p0] st2 (fun st22 => g_Ext st2 st22 → K7 st22))))) (fun (st6 : g_St) => ∃ fs9 : List Value, st6.2.1 a0 = some (.inr (0, fs9)) ∧ ∀ st10 : g_St, st10 = g_put st6 a0 (.inr (0, fs9.set 3 (.int p0))) → Q st10))) ∧ (¬ 0 ≤ p0 → False)
set_option maxHeartbeats 4000000 in
theorem wb_J0_setLength {p : Program} {l : Launch} {e : Env} {R : Room} {s : State} {m : MethodId} {args : Array Value} {below : List Frame} {meth : Method} {c : Code} {E : g_E} {st0 : g_St} {Z : State → Prop} (hC : g_Cx p s m args meth c cJ0_setLength 2 "java/lang/AbstractStringBuilder" none "setLength" E st0) (hR : g_Rm 4 110 R) {a0 : Nat} {p0 : Int32} {st : g_St} {cb sb : Nat} {Q : g_St → Prop} (hret : ∀ (pc : Nat) (lv : List (Nat × Value)) (st1 : g_St) (cb sb : Nat), decode cJ0_setLength pc = .ok (.return_, 1) → Q st1 → g_J p l e R s m args below meth c 2 E st0 Z pc lv [] st1 cb sb) (hvc : vc_J0_setLength l E a0 p0 st cb sb Q) : g_J p l e R s m args below meth c 2 E st0 Z 0 [(0, va_rf (some a0)), (1, .int p0)] [] st cb sb := by
  unfold vc_J0_setLength at hvc
  refine j_iload_n hC dJ0_setLength_0 rfl 1 rfl ?_
  refine j_if_ge (tgt := 13) hC dJ0_setLength_1 rfl (fun c1 => ?_) (fun c1 => ?_)
  · replace hvc := hvc.1 c1
    refine j_aload_n hC dJ0_setLength_13 rfl 0 rfl ?_
    refine j_iload_n hC dJ0_setLength_14 rfl 1 rfl ?_
    obtain ⟨mc3, ms4, h1, h2, hvc⟩ := hvc
    obtain ⟨⟨fs, hr⟩, hvc⟩ := hvc
    refine j_callP (As := [.int p0]) (rest := []) (n := 1) (ci := 0) hC hvc (lw_meth q277) q274 q276 ge_85 q42 g_sbP (by decide +kernel) (g_rm hR rfl rfl) rfl hr rfl rfl (g_sum rfl) dJ0_setLength_15 h1 h2 (g_Kv fun st2 hv2 hx => ?_)
    replace hvc := hv2 hx; clear hx hv2
    clear hr fs
    refine j_aload_n hC dJ0_setLength_18 rfl 0 rfl ?_
    obtain ⟨x5, ⟨fs, hr, hv⟩, hvc⟩ := hvc
    refine j_get hC fkJ0_79_J1 dJ0_setLength_19 hr hv ?_
    clear hv hr fs
    refine j_iload_n hC dJ0_setLength_22 rfl 1 rfl ?_
    replace hvc := g_jn1_o hvc
    obtain ⟨K7, hK23, hvc⟩ := hvc
    have kh8 : ∀ (st6 : g_St), K7 st6 → g_J p l e R s m args below meth c 2 E st0 Z 76 [(0, va_rf (some a0)), (1, .int p0)] [] st6 (cb - mc3) (sb - ms4) := by
      clear hvc
      intro st6 hvc
      replace hvc := hK23 _ hvc
      refine j_aload_n hC dJ0_setLength_76 rfl 0 rfl ?_
      refine j_iload_n hC dJ0_setLength_77 rfl 1 rfl ?_
      obtain ⟨fs9, hm, hvc⟩ := hvc
      refine j_put hC fkJ0_79_J1 dJ0_setLength_78 hm rfl rfl (fun st10 e1 => ?_)
      replace hvc := hvc st10 e1; clear hm e1
      exact hret _ _ _ _ _ dJ0_setLength_81 hvc
    refine j_icmp_ge (tgt := 63) hC dJ0_setLength_23 rfl (fun c11 => ?_) (fun c11 => ?_)
    · replace hvc := hvc.1 c11
      refine j_aload_n hC dJ0_setLength_63 rfl 0 rfl ?_
      obtain ⟨x12, ⟨fs, hr, hv⟩, hvc⟩ := hvc
      refine j_get hC fkJ0_79_J1 dJ0_setLength_64 hr hv ?_
      clear hv hr fs
      refine j_iload_n hC dJ0_setLength_67 rfl 1 rfl ?_
      refine j_icmp_le (tgt := 76) hC dJ0_setLength_68 rfl (fun c13 => ?_) (fun c13 => ?_)
      · replace hvc := hvc.1 c13
        exact j_sub [0, 1] rfl (kh8 st2 hvc)
      · replace hvc := hvc.2 c13
        refine j_aload_n hC dJ0_setLength_71 rfl 0 rfl ?_
        refine j_iconst hC (nI 1) dJ0_setLength_72 rfl ?_
        obtain ⟨fs14, hm, hvc⟩ := hvc
        refine j_put hC fkJ0_73_J1 dJ0_setLength_73 hm rfl rfl (fun st15 e1 => ?_)
        replace hvc := hvc st15 e1; clear hm e1
        exact j_sub [0, 1] rfl (kh8 st15 hvc)
    · replace hvc := hvc.2 c11
      refine j_aload_n hC dJ0_setLength_26 rfl 0 rfl ?_
      obtain ⟨⟨fs, hr⟩, hvc⟩ := hvc
      refine j_callU (As := []) (rest := []) (n := 0) (x := ⟨"java/lang/AbstractStringBuilder", "isLatin1", "()Z"⟩) (C := "java/lang/StringBuilder") (owner := "java/lang/AbstractStringBuilder") (ci := 0) hC hvc (lw_U q309 q311 q312 q310 q42 q313) rfl (by decide +kernel) (g_rm hR rfl rfl) rfl hr rfl rfl (g_sum rfl) dJ0_setLength_27 (Nat.zero_le _) (Nat.zero_le _) (g_Kip fun x16 hv2 => ?_)
      replace hvc := hv2; clear hv2
      clear hr fs
      refine j_if_eq (tgt := 48) hC dJ0_setLength_30 rfl (fun c17 => ?_) (fun c17 => ?_)
      · replace hvc := hvc.1 c17
        refine j_aload_n hC dJ0_setLength_48 rfl 0 rfl ?_
        obtain ⟨o18, ⟨fs, hr, hv⟩, hvc⟩ := hvc
        refine j_get hC fkJ0_15_J1 dJ0_setLength_49 hr hv ?_
        clear hv hr fs
        refine j_aload_n hC dJ0_setLength_52 rfl 0 rfl ?_
        obtain ⟨x19, ⟨fs, hr, hv⟩, hvc⟩ := hvc
        refine j_get hC fkJ0_79_J1 dJ0_setLength_53 hr hv ?_
        clear hv hr fs
        refine j_iload_n hC dJ0_setLength_56 rfl 1 rfl ?_
        exact hvc.elim
      · replace hvc := hvc.2 c17
        refine j_aload_n hC dJ0_setLength_33 rfl 0 rfl ?_
        obtain ⟨o20, ⟨fs, hr, hv⟩, hvc⟩ := hvc
        refine j_get hC fkJ0_15_J1 dJ0_setLength_34 hr hv ?_
        clear hv hr fs
        refine j_aload_n hC dJ0_setLength_37 rfl 0 rfl ?_
        obtain ⟨x21, ⟨fs, hr, hv⟩, hvc⟩ := hvc
        refine j_get hC fkJ0_79_J1 dJ0_setLength_38 hr hv ?_
        clear hv hr fs
        refine j_iload_n hC dJ0_setLength_41 rfl 1 rfl ?_
        refine j_callS (As := [va_rf o20, .int x21, .int p0]) (rest := []) (n := 3) hC hvc (lw_S q527 q528 q49 q529) (by decide +kernel) (g_rm hR rfl rfl) rfl rfl (g_sum rfl) dJ0_setLength_42 (Nat.zero_le _) (Nat.zero_le _) (g_Kv fun st22 hv2 hx => ?_)
        replace hvc := hv2 hx; clear hx hv2
        refine j_goto (tgt := 76) hC dJ0_setLength_45 rfl ?_
        exact j_sub [0, 1] rfl (kh8 st22 hvc)
  · replace hvc := hvc.2 c1
    exact hvc.elim
theorem wk_J0_setLength {l : Launch} {E : g_E} {a0 : Nat} {p0 : Int32} {st : g_St} {mc ms : Nat} {Q : g_St → Prop} (hvc : vc_J0_setLength l E a0 p0 st mc ms Q) : wp_J0_setLength l E mc ms [va_rf (some a0), .int p0] st Q :=
  g_enter (lv0 := [(0, va_rf (some a0)), (1, .int p0)]) (plainFor_of_name (by decide +kernel)) (by simp [lv_args, g_c1, g_ci, g_cL]) (by simp [lg_sl, g_c1, g_ci, g_cL]) (fun p e s m args below meth c hC => wb_J0_setLength hC ⟨Nat.le_refl _, Nat.le_refl _⟩ (fun pc lv st1 cb sb hd hq => j_return hC rfl hd ⟨rfl, hq⟩) hvc)
abbrev wp_J1_setLength (l : Launch) (E : g_E) (mc ms : Nat) (av : List Value) (st : g_St) (Q : g_St → Prop) : Prop := g_WPv l E yJ1_setLength cJ1_setLength 2 none 5 131 mc ms av st Q
def vc_J1_setLength (l : Launch) (E : g_E) (a0 : Nat) (p0 : Int32) (st : g_St) (cb sb : Nat) (Q : g_St → Prop) : Prop :=
  ∃ mc2 ms3 : Nat, mc2 ≤ cb ∧ ms3 ≤ sb ∧ g_is st a0 0 ∧ wp_J0_setLength l E mc2 ms3 [va_rf (some a0), .int p0] st (fun st1 => g_Ext st st1 → Q st1)
set_option maxHeartbeats 4000000 in
theorem wb_J1_setLength {p : Program} {l : Launch} {e : Env} {R : Room} {s : State} {m : MethodId} {args : Array Value} {below : List Frame} {meth : Method} {c : Code} {E : g_E} {st0 : g_St} {Z : State → Prop} (hC : g_Cx p s m args meth c cJ1_setLength 2 "java/lang/StringBuilder" none "setLength" E st0) (hR : g_Rm 5 131 R) {a0 : Nat} {p0 : Int32} {st : g_St} {cb sb : Nat} {Q : g_St → Prop} (hret : ∀ (pc : Nat) (lv : List (Nat × Value)) (st1 : g_St) (cb sb : Nat), decode cJ1_setLength pc = .ok (.return_, 1) → Q st1 → g_J p l e R s m args below meth c 2 E st0 Z pc lv [] st1 cb sb) (hvc : vc_J1_setLength l E a0 p0 st cb sb Q) : g_J p l e R s m args below meth c 2 E st0 Z 0 [(0, va_rf (some a0)), (1, .int p0)] [] st cb sb := by
  unfold vc_J1_setLength at hvc
  refine j_aload_n hC dJ1_setLength_0 rfl 0 rfl ?_
  refine j_iload_n hC dJ1_setLength_1 rfl 1 rfl ?_
  obtain ⟨mc2, ms3, h1, h2, hvc⟩ := hvc
  obtain ⟨⟨fs, hr⟩, hvc⟩ := hvc
  refine j_callSU (As := [.int p0]) (rest := []) (n := 1) (ci := 0) hC hvc (lw_SU q502 q2452 q132 q503 q42 q504) (by decide +kernel) (g_rm hR rfl rfl) rfl hr rfl rfl (g_sum rfl) dJ1_setLength_2 h1 h2 (g_Kv fun st1 hv2 hx => ?_)
  replace hvc := hv2 hx; clear hx hv2
  clear hr fs
  exact hret _ _ _ _ _ dJ1_setLength_5 hvc
theorem wk_J1_setLength {l : Launch} {E : g_E} {a0 : Nat} {p0 : Int32} {st : g_St} {mc ms : Nat} {Q : g_St → Prop} (hvc : vc_J1_setLength l E a0 p0 st mc ms Q) : wp_J1_setLength l E mc ms [va_rf (some a0), .int p0] st Q :=
  g_enter (lv0 := [(0, va_rf (some a0)), (1, .int p0)]) (plainFor_of_name (by decide +kernel)) (by simp [lv_args, g_c1, g_ci, g_cL]) (by simp [lg_sl, g_c1, g_ci, g_cL]) (fun p e s m args below meth c hC => wb_J1_setLength hC ⟨Nat.le_refl _, Nat.le_refl _⟩ (fun pc lv st1 cb sb hd hq => j_return hC rfl hd ⟨rfl, hq⟩) hvc)
abbrev wp_J0_getValue (l : Launch) (E : g_E) (mc ms : Nat) (av : List Value) (st : g_St) (Q : Option Nat → g_St → Prop) : Prop := g_WPa l E yJ0_getValue cJ0_getValue 1 (some (.array .byte)) 1 40 mc ms av st Q
def vc_J0_getValue (l : Launch) (E : g_E) (a0 : Nat) (st : g_St) (Q : Option Nat → g_St → Prop) : Prop :=
  ∃ o1 : Option Nat, g_gr st a0 0 0 o1 ∧ Q o1 st
set_option maxHeartbeats 4000000 in
theorem wb_J0_getValue {p : Program} {l : Launch} {e : Env} {R : Room} {s : State} {m : MethodId} {args : Array Value} {below : List Frame} {meth : Method} {c : Code} {E : g_E} {st0 : g_St} {Z : State → Prop} (hC : g_Cx p s m args meth c cJ0_getValue 1 "java/lang/AbstractStringBuilder" (some (.array .byte)) "getValue" E st0) (hR : g_Rm 1 40 R) {a0 : Nat} {st : g_St} {cb sb : Nat} {Q : Option Nat → g_St → Prop} (hret : ∀ (pc : Nat) (lv : List (Nat × Value)) (v : Option Nat) (st1 : g_St) (cb sb : Nat), decode cJ0_getValue pc = .ok (.areturn, 1) → Q v st1 → g_J p l e R s m args below meth c 1 E st0 Z pc lv [va_rf v] st1 cb sb) (hvc : vc_J0_getValue l E a0 st Q) : g_J p l e R s m args below meth c 1 E st0 Z 0 [(0, va_rf (some a0))] [] st cb sb := by
  unfold vc_J0_getValue at hvc
  refine j_aload_n hC dJ0_getValue_0 rfl 0 rfl ?_
  obtain ⟨o1, ⟨fs, hr, hv⟩, hvc⟩ := hvc
  refine j_get hC fkJ0_15_J1 dJ0_getValue_1 hr hv ?_
  clear hv hr fs
  exact hret _ _ _ _ _ _ dJ0_getValue_4 hvc
theorem wk_J0_getValue {l : Launch} {E : g_E} {a0 : Nat} {st : g_St} {mc ms : Nat} {Q : Option Nat → g_St → Prop} (hvc : vc_J0_getValue l E a0 st Q) : wp_J0_getValue l E mc ms [va_rf (some a0)] st Q :=
  g_enter (lv0 := [(0, va_rf (some a0))]) (plainFor_of_name (by decide +kernel)) (by simp [lv_args, g_c1, g_ci, g_cL]) (by simp [lg_sl, g_c1, g_ci, g_cL]) (fun p e s m args below meth c hC => wb_J0_getValue hC ⟨Nat.le_refl _, Nat.le_refl _⟩ (fun pc lv v st1 cb sb hd hq => j_areturn hC rfl (by first | exact Or.inl ⟨_, rfl⟩ | exact Or.inr ⟨_, rfl⟩) hd (g_av hq)) hvc)
abbrev wp_J2_init_2 (l : Launch) (E : g_E) (mc ms : Nat) (av : List Value) (st : g_St) (Q : g_St → Prop) : Prop := g_WPv l E yJ2_init_2 cJ2_init_2 5 none 4 107 mc ms av st Q
def vc_J2_init_2 (l : Launch) (E : g_E) (a0 : Nat) (p0 : Option Nat) (p1 : Option Nat) (st : g_St) (cb sb : Nat) (Q : g_St → Prop) : Prop :=
  ∃ a1 : Nat, p0 = some a1 ∧ g_is st a1 0 ∧ wp_J0_getValue l E 0 0 [va_rf (some a1)] st (fun o2 stx => stx = st ∧ g_is st a1 0 ∧ wp_J1_length l E 0 0 [va_rf (some a1)] st (fun x3 stx => stx = st ∧ g_is st a1 0 ∧ wp_J0_isLatin1 l E 0 0 [va_rf (some a1)] st (fun x4 stx => stx = st ∧ g_jn3 (fun (K8 : g_St → Nat → Nat → Prop) => (x4 = 0 → g_jn0 (fun (K11 : Prop) => ∃ x21 : Int32, g_gi st a1 0 2 x21 ∧ (x21 = 0 → K11) ∧ (¬ x21 = 0 → False)) (∃ fs13 : List Value, st.2.1 a0 = some (.inr (1, fs13)) ∧ ∀ st14 : g_St, st14 = g_put st a0 (.inr (1, fs13.set 1 (.int (nI 1)))) → ∃ mc17 ms18 : Nat, mc17 ≤ cb ∧ ms18 ≤ sb ∧ wp_J8_copyOfRange l E mc17 ms18 [va_rf o2, .int (nI 0), .int (x3 <<< ((nI 1) &&& 31))] st14 (fun o15 st16 => g_Ext st14 st16 → ∃ fs19 : List Value, st16.2.1 a0 = some (.inr (1, fs19)) ∧ ∀ st20 : g_St, st20 = g_put st16 a0 (.inr (1, fs19.set 0 (va_rf o15))) → K8 st20 (cb - mc17) (sb - ms18)))) ∧ (¬ x4 = 0 → ∃ fs25 : List Value, st.2.1 a0 = some (.inr (1, fs25)) ∧ ∀ st26 : g_St, st26 = g_put st a0 (.inr (1, fs25.set 1 (.int (nI 0)))) → ∃ mc29 ms30 : Nat, mc29 ≤ cb ∧ ms30 ≤ sb ∧ wp_J8_copyOfRange l E mc29 ms30 [va_rf o2, .int (nI 0), .int x3] st26 (fun o27 st28 => g_Ext st26 st28 → ∃ fs31 : List Value, st28.2.1 a0 = some (.inr (1, fs31)) ∧ ∀ st32 : g_St, st32 = g_put st28 a0 (.inr (1, fs31.set 0 (va_rf o27))) → K8 st32 (cb - mc29) (sb - ms30)))) (fun (st5 : g_St) (cb6 : Nat) (sb7 : Nat) => Q st5))))
set_option maxHeartbeats 4000000 in
theorem wb_J2_init_2 {p : Program} {l : Launch} {e : Env} {R : Room} {s : State} {m : MethodId} {args : Array Value} {below : List Frame} {meth : Method} {c : Code} {E : g_E} {st0 : g_St} {Z : State → Prop} (hC : g_Cx p s m args meth c cJ2_init_2 5 "java/lang/String" none "<init>" E st0) (hR : g_Rm 4 107 R) {a0 : Nat} {p0 : Option Nat} {p1 : Option Nat} {st : g_St} {cb sb : Nat} {Q : g_St → Prop} (hret : ∀ (pc : Nat) (lv : List (Nat × Value)) (st1 : g_St) (cb sb : Nat), decode cJ2_init_2 pc = .ok (.return_, 1) → Q st1 → g_J p l e R s m args below meth c 5 E st0 Z pc lv [] st1 cb sb) (hvc : vc_J2_init_2 l E a0 p0 p1 st cb sb Q) : g_J p l e R s m args below meth c 5 E st0 Z 0 [(0, va_rf (some a0)), (1, va_rf p0), (2, va_rf p1)] [] st cb sb := by
  unfold vc_J2_init_2 at hvc
  refine j_aload_n hC dJ2_init_2_0 rfl 0 rfl ?_
  refine j_objInit hC q406 q99 q100 (Nat.le_trans (Nat.le_of_ble_eq_true rfl) hR.1) (Nat.le_trans (g_sumO rfl) hR.2) dJ2_init_2_1 ?_
  refine j_aload_n hC dJ2_init_2_4 rfl 1 rfl ?_
  obtain ⟨a1, rfl, hvc⟩ := hvc
  obtain ⟨⟨fs, hr⟩, hvc⟩ := hvc
  refine j_callU (As := []) (rest := []) (n := 0) (x := ⟨"java/lang/AbstractStringBuilder", "getValue", "()[B"⟩) (C := "java/lang/StringBuilder") (owner := "java/lang/AbstractStringBuilder") (ci := 0) hC hvc (lw_U q407 q409 q410 q408 q42 q411) rfl (by decide +kernel) (g_rm hR rfl rfl) rfl hr rfl rfl (g_sum rfl) dJ2_init_2_5 (Nat.zero_le _) (Nat.zero_le _) (g_Kap fun o2 hv2 => ?_)
  replace hvc := hv2; clear hv2
  clear hr fs
  refine j_astore_n (lv0 := [(2, va_rf p1), (0, va_rf (some a0)), (1, va_rf (some a1))]) hC dJ2_init_2_8 rfl rfl [2, 0, 1] rfl (g_okS.h rfl g_c1 rfl) ?_
  refine j_aload_n hC dJ2_init_2_9 rfl 3 rfl ?_
  obtain ⟨⟨fs, hr⟩, hvc⟩ := hvc
  refine j_callO (As := []) (rest := []) (n := 0) (x := ⟨"java/lang/AbstractStringBuilder", "length", "()I"⟩) (C := "java/lang/StringBuilder") (owner := "java/lang/AbstractStringBuilder") (ci := 0) hC hvc (lw_O q412 q414 q413 q415 q416 q43 q417) q419 (by decide +kernel) (g_rm hR rfl rfl) rfl hr rfl rfl (g_sum rfl) dJ2_init_2_10 (Nat.zero_le _) (Nat.zero_le _) (g_Kip fun x3 hv2 => ?_)
  replace hvc := hv2; clear hv2
  clear hr fs
  refine j_istore (lv0 := [(3, va_rf o2), (2, va_rf p1), (0, va_rf (some a0)), (1, va_rf (some a1))]) hC dJ2_init_2_13 rfl [0, 1, 2, 3] rfl (g_okS.h rfl g_c1 rfl) ?_
  refine j_aload_n hC dJ2_init_2_15 rfl 4 rfl ?_
  obtain ⟨⟨fs, hr⟩, hvc⟩ := hvc
  refine j_callU (As := []) (rest := []) (n := 0) (x := ⟨"java/lang/AbstractStringBuilder", "isLatin1", "()Z"⟩) (C := "java/lang/StringBuilder") (owner := "java/lang/AbstractStringBuilder") (ci := 0) hC hvc (lw_U q420 q311 q312 q310 q42 q313) rfl (by decide +kernel) (g_rm hR rfl rfl) rfl hr rfl rfl (g_sum rfl) dJ2_init_2_16 (Nat.zero_le _) (Nat.zero_le _) (g_Kip fun x4 hv2 => ?_)
  replace hvc := hv2; clear hv2
  clear hr fs
  replace hvc := g_jn3_o hvc
  obtain ⟨K8, hK33, hvc⟩ := hvc
  have kh9 : ∀ (st5 : g_St) (cb6 : Nat) (sb7 : Nat), K8 st5 cb6 sb7 → g_J p l e R s m args below meth c 5 E st0 Z 97 [] [] st5 cb6 sb7 := by
    clear hvc
    intro st5 cb6 sb7 hvc
    replace hvc := hK33 _ _ _ hvc
    exact hret _ _ _ _ _ dJ2_init_2_97 hvc
  refine j_if_eq (tgt := 41) hC dJ2_init_2_19 rfl (fun c10 => ?_) (fun c10 => ?_)
  · replace hvc := hvc.1 c10
    refine j_gets (v := .int (nI 1)) hC gs_0 q189 (Or.inl rfl) dJ2_init_2_41 ?_
    replace hvc := g_jn0_o hvc
    obtain ⟨K11, hK24, hvc⟩ := hvc
    have kh12 : K11 → g_J p l e R s m args below meth c 5 E st0 Z 79 [(0, va_rf (some a0)), (3, va_rf o2), (4, .int x3)] [] st cb sb := by
      clear hvc
      intro hvc
      replace hvc := hK24 hvc
      refine j_aload_n hC dJ2_init_2_79 rfl 0 rfl ?_
      refine j_iconst hC (nI 1) dJ2_init_2_80 rfl ?_
      obtain ⟨fs13, hm, hvc⟩ := hvc
      refine j_putF hC fkJ2_15_J2 rfl dJ2_init_2_81 hm rfl rfl (fun st14 e1 => ?_)
      replace hvc := hvc st14 e1; clear hm e1
      refine j_aload_n hC dJ2_init_2_84 rfl 0 rfl ?_
      refine j_aload_n hC dJ2_init_2_85 rfl 1 rfl ?_
      refine j_iconst hC (nI 0) dJ2_init_2_86 rfl ?_
      refine j_iload hC dJ2_init_2_87 2 rfl ?_
      refine j_iconst hC (nI 1) dJ2_init_2_89 rfl ?_
      refine j_ishl hC dJ2_init_2_90 ?_
      obtain ⟨mc17, ms18, h1, h2, hvc⟩ := hvc
      refine j_callS (As := [va_rf o2, .int (nI 0), .int (x3 <<< ((nI 1) &&& 31))]) (rest := [va_rf (some a0)]) (n := 3) hC hvc (lw_S q421 q209 q50 q210) (by decide +kernel) (g_rm hR rfl rfl) rfl rfl (g_sum rfl) dJ2_init_2_91 h1 h2 (g_Ka fun o15 st16 hv2 hx => ?_)
      replace hvc := hv2 hx; clear hx hv2
      obtain ⟨fs19, hm, hvc⟩ := hvc
      refine j_putF hC fkJ2_9_J2 rfl dJ2_init_2_94 hm g_noA g_foA (fun st20 e1 => ?_)
      replace hvc := hvc st20 e1; clear hm e1
      exact j_sub [] rfl (kh9 st20 (cb - mc17) (sb - ms18) hvc)
    refine j_if_eq (tgt := 79) hC dJ2_init_2_44 rfl (fun c23 => absurd c23 (by decide)) (fun _ => ?_)
    refine j_aload_n hC dJ2_init_2_47 rfl 4 rfl ?_
    obtain ⟨x21, ⟨fs, hr, hv⟩, hvc⟩ := hvc
    refine j_get hC fkJ2_1048_J1 dJ2_init_2_48 hr hv ?_
    clear hv hr fs
    refine j_if_eq (tgt := 79) hC dJ2_init_2_51 rfl (fun c22 => ?_) (fun c22 => ?_)
    · replace hvc := hvc.1 c22
      exact j_sub [3, 1, 0] rfl (kh12 hvc)
    · replace hvc := hvc.2 c22
      refine j_aload_n hC dJ2_init_2_54 rfl 3 rfl ?_
      refine j_aload_n hC dJ2_init_2_55 rfl 1 rfl ?_
      refine j_iconst hC (nI 0) dJ2_init_2_56 rfl ?_
      refine j_iload hC dJ2_init_2_57 0 rfl ?_
      exact hvc.elim
  · replace hvc := hvc.2 c10
    refine j_aload_n hC dJ2_init_2_22 rfl 3 rfl ?_
    refine j_iconst hC (nI 0) dJ2_init_2_23 rfl ?_
    obtain ⟨fs25, hm, hvc⟩ := hvc
    refine j_putF hC fkJ2_15_J2 rfl dJ2_init_2_24 hm rfl rfl (fun st26 e1 => ?_)
    replace hvc := hvc st26 e1; clear hm e1
    refine j_aload_n hC dJ2_init_2_27 rfl 3 rfl ?_
    refine j_aload_n hC dJ2_init_2_28 rfl 1 rfl ?_
    refine j_iconst hC (nI 0) dJ2_init_2_29 rfl ?_
    refine j_iload hC dJ2_init_2_30 0 rfl ?_
    obtain ⟨mc29, ms30, h1, h2, hvc⟩ := hvc
    refine j_callS (As := [va_rf o2, .int (nI 0), .int x3]) (rest := [va_rf (some a0)]) (n := 3) hC hvc (lw_S q421 q209 q50 q210) (by decide +kernel) (g_rm hR rfl rfl) rfl rfl (g_sum rfl) dJ2_init_2_32 h1 h2 (g_Ka fun o27 st28 hv2 hx => ?_)
    replace hvc := hv2 hx; clear hx hv2
    obtain ⟨fs31, hm, hvc⟩ := hvc
    refine j_putF hC fkJ2_9_J2 rfl dJ2_init_2_35 hm g_noA g_foA (fun st32 e1 => ?_)
    replace hvc := hvc st32 e1; clear hm e1
    refine j_goto (tgt := 97) hC dJ2_init_2_38 rfl ?_
    exact j_sub [] rfl (kh9 st32 (cb - mc29) (sb - ms30) hvc)
theorem wk_J2_init_2 {l : Launch} {E : g_E} {a0 : Nat} {p0 : Option Nat} {p1 : Option Nat} {st : g_St} {mc ms : Nat} {Q : g_St → Prop} (hvc : vc_J2_init_2 l E a0 p0 p1 st mc ms Q) : wp_J2_init_2 l E mc ms [va_rf (some a0), va_rf p0, va_rf p1] st Q :=
  g_enter (lv0 := [(0, va_rf (some a0)), (1, va_rf p0), (2, va_rf p1)]) (plainFor_of_name (by decide +kernel)) (by simp [lv_args, g_c1, g_ci, g_cL]) (by simp [lg_sl, g_c1, g_ci, g_cL]) (fun p e s m args below meth c hC => wb_J2_init_2 hC ⟨Nat.le_refl _, Nat.le_refl _⟩ (fun pc lv st1 cb sb hd hq => j_return hC rfl hd ⟨rfl, hq⟩) hvc)
abbrev wp_J2_init (l : Launch) (E : g_E) (mc ms : Nat) (av : List Value) (st : g_St) (Q : g_St → Prop) : Prop := g_WPv l E yJ2_init cJ2_init 2 none 5 131 mc ms av st Q
def vc_J2_init (l : Launch) (E : g_E) (a0 : Nat) (p0 : Option Nat) (st : g_St) (cb sb : Nat) (Q : g_St → Prop) : Prop :=
  ∃ mc2 ms3 : Nat, mc2 ≤ cb ∧ ms3 ≤ sb ∧ wp_J2_init_2 l E mc2 ms3 [va_rf (some a0), va_rf p0, va_rf none] st (fun st1 => g_Ext st st1 → Q st1)
set_option maxHeartbeats 4000000 in
theorem wb_J2_init {p : Program} {l : Launch} {e : Env} {R : Room} {s : State} {m : MethodId} {args : Array Value} {below : List Frame} {meth : Method} {c : Code} {E : g_E} {st0 : g_St} {Z : State → Prop} (hC : g_Cx p s m args meth c cJ2_init 2 "java/lang/String" none "<init>" E st0) (hR : g_Rm 5 131 R) {a0 : Nat} {p0 : Option Nat} {st : g_St} {cb sb : Nat} {Q : g_St → Prop} (hret : ∀ (pc : Nat) (lv : List (Nat × Value)) (st1 : g_St) (cb sb : Nat), decode cJ2_init pc = .ok (.return_, 1) → Q st1 → g_J p l e R s m args below meth c 2 E st0 Z pc lv [] st1 cb sb) (hvc : vc_J2_init l E a0 p0 st cb sb Q) : g_J p l e R s m args below meth c 2 E st0 Z 0 [(0, va_rf (some a0)), (1, va_rf p0)] [] st cb sb := by
  unfold vc_J2_init at hvc
  refine j_aload_n hC dJ2_init_0 rfl 0 rfl ?_
  refine j_aload_n hC dJ2_init_1 rfl 1 rfl ?_
  refine j_null hC dJ2_init_2 ?_
  obtain ⟨mc2, ms3, h1, h2, hvc⟩ := hvc
  refine j_callI (As := [va_rf p0, va_rf none]) (rest := []) (n := 2) hC hvc (lw_meth q405) q44 q403 q404 rfl (by decide +kernel) (g_rm hR rfl rfl) rfl rfl (g_sum rfl) dJ2_init_3 h1 h2 (g_Kv fun st1 hv2 hx => ?_)
  replace hvc := hv2 hx; clear hx hv2
  exact hret _ _ _ _ _ dJ2_init_6 hvc
theorem wk_J2_init {l : Launch} {E : g_E} {a0 : Nat} {p0 : Option Nat} {st : g_St} {mc ms : Nat} {Q : g_St → Prop} (hvc : vc_J2_init l E a0 p0 st mc ms Q) : wp_J2_init l E mc ms [va_rf (some a0), va_rf p0] st Q :=
  g_enter (lv0 := [(0, va_rf (some a0)), (1, va_rf p0)]) (plainFor_of_name (by decide +kernel)) (by simp [lv_args, g_c1, g_ci, g_cL]) (by simp [lg_sl, g_c1, g_ci, g_cL]) (fun p e s m args below meth c hC => wb_J2_init hC ⟨Nat.le_refl _, Nat.le_refl _⟩ (fun pc lv st1 cb sb hd hq => j_return hC rfl hd ⟨rfl, hq⟩) hvc)
abbrev wp_J1_toString (l : Launch) (E : g_E) (mc ms : Nat) (av : List Value) (st : g_St) (Q : Option Nat → g_St → Prop) : Prop := g_WPa l E yJ1_toString cJ1_toString 1 (some (.object "java/lang/String")) 6 152 mc ms av st Q
def vc_J1_toString (l : Launch) (E : g_E) (a0 : Nat) (st : g_St) (cb sb : Nat) (Q : Option Nat → g_St → Prop) : Prop :=
  1 ≤ cb ∧ 4 ≤ sb ∧ ∀ (q1 : Nat) (st2 : g_St), q1 = st.2.2 → st2 = g_new st (.inr (1, [va_rf none, .int 0, .int 0, .int 0])) → ∃ mc4 ms5 : Nat, mc4 ≤ (cb - 1) ∧ ms5 ≤ (sb - 4) ∧ wp_J2_init l E mc4 ms5 [va_rf (some q1), va_rf (some a0)] st2 (fun st3 => g_Ext st2 st3 → Q (some q1) st3)
set_option maxHeartbeats 4000000 in
theorem wb_J1_toString {p : Program} {l : Launch} {e : Env} {R : Room} {s : State} {m : MethodId} {args : Array Value} {below : List Frame} {meth : Method} {c : Code} {E : g_E} {st0 : g_St} {Z : State → Prop} (hC : g_Cx p s m args meth c cJ1_toString 1 "java/lang/StringBuilder" (some (.object "java/lang/String")) "toString" E st0) (hR : g_Rm 6 152 R) {a0 : Nat} {st : g_St} {cb sb : Nat} {Q : Option Nat → g_St → Prop} (hret : ∀ (pc : Nat) (lv : List (Nat × Value)) (v : Option Nat) (st1 : g_St) (cb sb : Nat), decode cJ1_toString pc = .ok (.areturn, 1) → Q v st1 → g_J p l e R s m args below meth c 1 E st0 Z pc lv [va_rf v] st1 cb sb) (hvc : vc_J1_toString l E a0 st cb sb Q) : g_J p l e R s m args below meth c 1 E st0 Z 0 [(0, va_rf (some a0))] [] st cb sb := by
  unfold vc_J1_toString at hvc
  obtain ⟨h1, h2, hvc⟩ := hvc
  refine j_new hC nwJ1_18 dJ1_toString_0 (n := 4) rfl h1 h2 (fun q1 st2 e1 e2 => ?_)
  replace hvc := hvc q1 st2 e1 e2; clear h1 h2 e1 e2
  refine j_dup hC dJ1_toString_3 g_c1 ?_
  refine j_aload_n hC dJ1_toString_4 rfl 0 rfl ?_
  obtain ⟨mc4, ms5, h1, h2, hvc⟩ := hvc
  refine j_callI (As := [va_rf (some a0)]) (rest := [va_rf (some q1)]) (n := 1) hC hvc (lw_meth q402) q44 q400 q401 rfl (by decide +kernel) (g_rm hR rfl rfl) rfl rfl (g_sum rfl) dJ1_toString_5 h1 h2 (g_Kv fun st3 hv2 hx => ?_)
  replace hvc := hv2 hx; clear hx hv2
  exact hret _ _ _ _ _ _ dJ1_toString_8 hvc
theorem wk_J1_toString {l : Launch} {E : g_E} {a0 : Nat} {st : g_St} {mc ms : Nat} {Q : Option Nat → g_St → Prop} (hvc : vc_J1_toString l E a0 st mc ms Q) : wp_J1_toString l E mc ms [va_rf (some a0)] st Q :=
  g_enter (lv0 := [(0, va_rf (some a0))]) (plainFor_of_name (by decide +kernel)) (by simp [lv_args, g_c1, g_ci, g_cL]) (by simp [lg_sl, g_c1, g_ci, g_cL]) (fun p e s m args below meth c hC => wb_J1_toString hC ⟨Nat.le_refl _, Nat.le_refl _⟩ (fun pc lv v st1 cb sb hd hq => j_areturn hC rfl (by first | exact Or.inl ⟨_, rfl⟩ | exact Or.inr ⟨_, rfl⟩) hd (g_av hq)) hvc)
abbrev wp_J0_reverse (l : Launch) (E : g_E) (mc ms : Nat) (av : List Value) (st : g_St) (Q : Option Nat → g_St → Prop) : Prop := g_WPa l E yJ0_reverse cJ0_reverse 7 (some (.object "java/lang/AbstractStringBuilder")) 2 60 mc ms av st Q
def vc_J0_reverse (l : Launch) (E : g_E) (a0 : Nat) (st : g_St) (Q : Option Nat → g_St → Prop) : Prop :=
  ∃ o1 : Option Nat, g_gr st a0 0 0 o1 ∧ ∃ x2 : Int32, g_gi st a0 0 3 x2 ∧ g_is st a0 0 ∧ wp_J0_isLatin1 l E 0 0 [va_rf (some a0)] st (fun x3 stx => stx = st ∧ (x3 = 0 → False) ∧ (¬ x3 = 0 → g_lp2 (fun (K7 : Int32 → g_St → Prop) (x5 : Int32) (st6 : g_St) => (x5 < 0 → Q (some a0) st6) ∧ (¬ x5 < 0 → ∃ a11 : Nat, o1 = some a11 ∧ ∃ (n12 : Nat) (f13 : Nat → Int32) (j14 : Nat), g_ai st6 a11 1 n12 f13 ∧ x5 = nI j14 ∧ j14 < n12 ∧ j14 < 2 ^ 31 ∧ ∃ (n15 : Nat) (f16 : Nat → Int32) (j17 : Nat), g_ai st6 a11 1 n15 f16 ∧ ((x2 - (nI 1)) - x5) = nI j17 ∧ j17 < n15 ∧ j17 < 2 ^ 31 ∧ ∃ (n18 : Nat) (f19 : Nat → Int32) (j20 : Nat), st6.2.1 a11 = some (.inl (1, n18, .inl (f19))) ∧ x5 = nI j20 ∧ j20 < n18 ∧ j20 < 2 ^ 31 ∧ ∀ st21 : g_St, st21 = g_put st6 a11 (.inl (1, n18, .inl (va_up f19 j20 (vp_nar .byte (f16 j17))))) → ∃ (n22 : Nat) (f23 : Nat → Int32) (j24 : Nat), st21.2.1 a11 = some (.inl (1, n22, .inl (f23))) ∧ ((x2 - (nI 1)) - x5) = nI j24 ∧ j24 < n22 ∧ j24 < 2 ^ 31 ∧ ∀ st25 : g_St, st25 = g_put st21 a11 (.inl (1, n22, .inl (va_up f23 j24 (vp_nar .byte (f13 j14))))) → K7 (x5 + (-1)) st25)) (((x2 - (nI 1)) - (nI 1)) >>> ((nI 1) &&& 31)) st))
set_option maxHeartbeats 4000000 in
theorem wb_J0_reverse {p : Program} {l : Launch} {e : Env} {R : Room} {s : State} {m : MethodId} {args : Array Value} {below : List Frame} {meth : Method} {c : Code} {E : g_E} {st0 : g_St} {Z : State → Prop} (hC : g_Cx p s m args meth c cJ0_reverse 7 "java/lang/AbstractStringBuilder" (some (.object "java/lang/AbstractStringBuilder")) "reverse" E st0) (hR : g_Rm 2 60 R) {a0 : Nat} {st : g_St} {cb sb : Nat} {Q : Option Nat → g_St → Prop} (hret : ∀ (pc : Nat) (lv : List (Nat × Value)) (v : Option Nat) (st1 : g_St) (cb sb : Nat), decode cJ0_reverse pc = .ok (.areturn, 1) → Q v st1 → g_J p l e R s m args below meth c 7 E st0 Z pc lv [va_rf v] st1 cb sb) (hvc : vc_J0_reverse l E a0 st Q) : g_J p l e R s m args below meth c 7 E st0 Z 0 [(0, va_rf (some a0))] [] st cb sb := by
  unfold vc_J0_reverse at hvc
  refine j_aload_n hC dJ0_reverse_0 rfl 0 rfl ?_
  obtain ⟨o1, ⟨fs, hr, hv⟩, hvc⟩ := hvc
  refine j_get hC fkJ0_15_J1 dJ0_reverse_1 hr hv ?_
  clear hv hr fs
  refine j_astore_n (lv0 := [(0, va_rf (some a0))]) hC dJ0_reverse_4 rfl rfl [0] rfl (g_okS.h rfl g_c1 rfl) ?_
  refine j_aload_n hC dJ0_reverse_5 rfl 1 rfl ?_
  obtain ⟨x2, ⟨fs, hr, hv⟩, hvc⟩ := hvc
  refine j_get hC fkJ0_79_J1 dJ0_reverse_6 hr hv ?_
  clear hv hr fs
  refine j_istore_n (lv0 := [(1, va_rf o1), (0, va_rf (some a0))]) hC dJ0_reverse_9 rfl rfl [0, 1] rfl (g_okS.h rfl g_c1 rfl) ?_
  refine j_iload_n hC dJ0_reverse_10 rfl 0 rfl ?_
  refine j_iconst hC (nI 1) dJ0_reverse_11 rfl ?_
  refine j_isub hC dJ0_reverse_12 ?_
  refine j_istore_n (lv0 := [(2, .int x2), (1, va_rf o1), (0, va_rf (some a0))]) hC dJ0_reverse_13 rfl rfl [0, 1, 2] rfl (g_okS.h rfl rfl rfl) ?_
  refine j_aload_n hC dJ0_reverse_14 rfl 3 rfl ?_
  obtain ⟨⟨fs, hr⟩, hvc⟩ := hvc
  refine j_callU (As := []) (rest := []) (n := 0) (x := ⟨"java/lang/AbstractStringBuilder", "isLatin1", "()Z"⟩) (C := "java/lang/StringBuilder") (owner := "java/lang/AbstractStringBuilder") (ci := 0) hC hvc (lw_U q309 q311 q312 q310 q42 q313) rfl (by decide +kernel) (g_rm hR rfl rfl) rfl hr rfl rfl (g_sum rfl) dJ0_reverse_15 (Nat.zero_le _) (Nat.zero_le _) (g_Kip fun x3 hv2 => ?_)
  replace hvc := hv2; clear hv2
  clear hr fs
  refine j_if_eq (tgt := 68) hC dJ0_reverse_18 rfl (fun c4 => ?_) (fun c4 => ?_)
  · replace hvc := hvc.1 c4
    refine j_aload_n hC dJ0_reverse_68 rfl 2 rfl ?_
    refine j_iload_n hC dJ0_reverse_69 rfl 1 rfl ?_
    exact hvc.elim
  · replace hvc := hvc.2 c4
    refine j_iload_n hC dJ0_reverse_21 rfl 0 rfl ?_
    refine j_iconst hC (nI 1) dJ0_reverse_22 rfl ?_
    refine j_isub hC dJ0_reverse_23 ?_
    refine j_iconst hC (nI 1) dJ0_reverse_24 rfl ?_
    refine j_ishr hC dJ0_reverse_25 ?_
    refine j_istore (lv0 := [(3, .int (x2 - (nI 1))), (2, .int x2), (1, va_rf o1), (0, va_rf (some a0))]) hC dJ0_reverse_26 rfl [0, 1, 2, 3] rfl (g_okS.h rfl rfl rfl) ?_
    replace hvc := g_lp2_o hvc
    obtain ⟨K7, hz26, hs27, n28, hvc⟩ := hvc
    have kh8 : ∀ (n : Nat) (x5 : Int32) (st6 : g_St), K7 n x5 st6 → g_J p l e R s m args below meth c 7 E st0 Z 28 [(0, va_rf (some a0)), (1, va_rf o1), (3, .int (x2 - (nI 1))), (4, .int x5)] [] st6 cb sb := by
      clear hvc
      intro n
      induction n with
      | zero => intro x5 st6 hvc; exact absurd hvc (hz26 _ _)
      | succ n ih9 =>
        intro x5 st6 hvc
        replace hvc := hs27 n _ _ hvc
        refine j_iload hC dJ0_reverse_28 3 rfl ?_
        refine j_if_lt (tgt := 65) hC dJ0_reverse_30 rfl (fun c10 => ?_) (fun c10 => ?_)
        · replace hvc := hvc.1 c10
          refine j_goto (tgt := 73) hC dJ0_reverse_65 rfl ?_
          refine j_aload_n hC dJ0_reverse_73 rfl 0 rfl ?_
          exact hret _ _ _ _ _ _ dJ0_reverse_74 hvc
        · replace hvc := hvc.2 c10
          refine j_iload_n hC dJ0_reverse_33 rfl 2 rfl ?_
          refine j_iload hC dJ0_reverse_34 3 rfl ?_
          refine j_isub hC dJ0_reverse_36 ?_
          refine j_istore (lv0 := [(4, .int x5), (0, va_rf (some a0)), (1, va_rf o1), (3, .int (x2 - (nI 1)))]) hC dJ0_reverse_37 rfl [3, 0, 1, 2] rfl (g_okS.h rfl rfl rfl) ?_
          refine j_aload_n hC dJ0_reverse_39 rfl 3 rfl ?_
          refine j_iload hC dJ0_reverse_40 1 rfl ?_
          obtain ⟨a11, rfl, hvc⟩ := hvc
          obtain ⟨n12, f13, j14, hr, hi, hj, hJ, hvc⟩ := hvc
          refine j_ix hi ?_
          refine j_bald hC hr hj hJ dJ0_reverse_42 ?_
          clear hr hi hj hJ
          refine j_istore (lv0 := [(5, .int ((x2 - (nI 1)) - x5)), (4, .int x5), (0, va_rf (some a0)), (1, va_rf (some a11)), (3, .int (x2 - (nI 1)))]) hC dJ0_reverse_43 rfl [0, 1, 2, 3, 4] rfl (g_okS.h rfl rfl rfl) ?_
          refine j_aload_n hC dJ0_reverse_45 rfl 4 rfl ?_
          refine j_iload hC dJ0_reverse_46 2 rfl ?_
          refine j_aload_n hC dJ0_reverse_48 rfl 4 rfl ?_
          refine j_iload hC dJ0_reverse_49 1 rfl ?_
          obtain ⟨n15, f16, j17, hr, hi, hj, hJ, hvc⟩ := hvc
          refine j_ix hi ?_
          refine j_bald hC hr hj hJ dJ0_reverse_51 ?_
          clear hr hi hj hJ
          obtain ⟨n18, f19, j20, hm, hi, hj, hJ, hvc⟩ := hvc
          refine j_ix1 hi ?_
          refine j_stb hC hm hj hJ dJ0_reverse_52 (fun st21 e1 => ?_)
          replace hvc := hvc st21 e1; clear hm hi hj hJ e1
          refine j_aload_n hC dJ0_reverse_53 rfl 4 rfl ?_
          refine j_iload hC dJ0_reverse_54 1 rfl ?_
          refine j_iload hC dJ0_reverse_56 0 rfl ?_
          obtain ⟨n22, f23, j24, hm, hi, hj, hJ, hvc⟩ := hvc
          refine j_ix1 hi ?_
          refine j_stb hC hm hj hJ dJ0_reverse_58 (fun st25 e1 => ?_)
          replace hvc := hvc st25 e1; clear hm hi hj hJ e1
          refine j_iinc (lv0 := [(3, .int (x2 - (nI 1))), (6, .int (f13 j14)), (5, .int ((x2 - (nI 1)) - x5)), (0, va_rf (some a0)), (1, va_rf (some a11))]) hC (-1) dJ0_reverse_59 2 rfl rfl rfl [5, 0, 1, 3, 4] rfl (g_okS.h rfl rfl rfl) ?_
          refine j_goto (tgt := 28) hC dJ0_reverse_62 rfl ?_
          exact j_sub [4, 5, 1, 0] rfl (ih9 (x5 + (-1)) st25 hvc)
    exact j_sub [4, 3, 1, 0] rfl (kh8 n28 (((x2 - (nI 1)) - (nI 1)) >>> ((nI 1) &&& 31)) st hvc)
theorem wk_J0_reverse {l : Launch} {E : g_E} {a0 : Nat} {st : g_St} {mc ms : Nat} {Q : Option Nat → g_St → Prop} (hvc : vc_J0_reverse l E a0 st Q) : wp_J0_reverse l E mc ms [va_rf (some a0)] st Q :=
  g_enter (lv0 := [(0, va_rf (some a0))]) (plainFor_of_name (by decide +kernel)) (by simp [lv_args, g_c1, g_ci, g_cL]) (by simp [lg_sl, g_c1, g_ci, g_cL]) (fun p e s m args below meth c hC => wb_J0_reverse hC ⟨Nat.le_refl _, Nat.le_refl _⟩ (fun pc lv v st1 cb sb hd hq => j_areturn hC rfl (by first | exact Or.inl ⟨_, rfl⟩ | exact Or.inr ⟨_, rfl⟩) hd (g_av hq)) hvc)
abbrev wp_J1_reverse (l : Launch) (E : g_E) (mc ms : Nat) (av : List Value) (st : g_St) (Q : Option Nat → g_St → Prop) : Prop := g_WPa l E yJ1_reverse cJ1_reverse 1 (some (.object "java/lang/StringBuilder")) 3 86 mc ms av st Q
def vc_J1_reverse (l : Launch) (E : g_E) (a0 : Nat) (st : g_St) (Q : Option Nat → g_St → Prop) : Prop :=
  g_is st a0 0 ∧ wp_J0_reverse l E 0 0 [va_rf (some a0)] st (fun o1 st2 => g_Ext st st2 → Q (some a0) st2)
set_option maxHeartbeats 4000000 in
theorem wb_J1_reverse {p : Program} {l : Launch} {e : Env} {R : Room} {s : State} {m : MethodId} {args : Array Value} {below : List Frame} {meth : Method} {c : Code} {E : g_E} {st0 : g_St} {Z : State → Prop} (hC : g_Cx p s m args meth c cJ1_reverse 1 "java/lang/StringBuilder" (some (.object "java/lang/StringBuilder")) "reverse" E st0) (hR : g_Rm 3 86 R) {a0 : Nat} {st : g_St} {cb sb : Nat} {Q : Option Nat → g_St → Prop} (hret : ∀ (pc : Nat) (lv : List (Nat × Value)) (v : Option Nat) (st1 : g_St) (cb sb : Nat), decode cJ1_reverse pc = .ok (.areturn, 1) → Q v st1 → g_J p l e R s m args below meth c 1 E st0 Z pc lv [va_rf v] st1 cb sb) (hvc : vc_J1_reverse l E a0 st Q) : g_J p l e R s m args below meth c 1 E st0 Z 0 [(0, va_rf (some a0))] [] st cb sb := by
  unfold vc_J1_reverse at hvc
  refine j_aload_n hC dJ1_reverse_0 rfl 0 rfl ?_
  obtain ⟨⟨fs, hr⟩, hvc⟩ := hvc
  refine j_callSU (As := []) (rest := []) (n := 0) (ci := 0) hC hvc (lw_SU q575 q2453 q132 q576 q42 q577) (by decide +kernel) (g_rm hR rfl rfl) rfl hr rfl rfl (g_sum rfl) dJ1_reverse_1 (Nat.zero_le _) (Nat.zero_le _) (g_Ka fun o1 st2 hv2 hx => ?_)
  replace hvc := hv2 hx; clear hx hv2
  clear hr fs
  refine j_pop hC dJ1_reverse_4 g_c1 ?_
  refine j_aload_n hC dJ1_reverse_5 rfl 0 rfl ?_
  exact hret _ _ _ _ _ _ dJ1_reverse_6 hvc
theorem wk_J1_reverse {l : Launch} {E : g_E} {a0 : Nat} {st : g_St} {mc ms : Nat} {Q : Option Nat → g_St → Prop} (hvc : vc_J1_reverse l E a0 st Q) : wp_J1_reverse l E mc ms [va_rf (some a0)] st Q :=
  g_enter (lv0 := [(0, va_rf (some a0))]) (plainFor_of_name (by decide +kernel)) (by simp [lv_args, g_c1, g_ci, g_cL]) (by simp [lg_sl, g_c1, g_ci, g_cL]) (fun p e s m args below meth c hC => wb_J1_reverse hC ⟨Nat.le_refl _, Nat.le_refl _⟩ (fun pc lv v st1 cb sb hd hq => j_areturn hC rfl (by first | exact Or.inl ⟨_, rfl⟩ | exact Or.inr ⟨_, rfl⟩) hd (g_av hq)) hvc)
abbrev wp_J7_equals (l : Launch) (E : g_E) (mc ms : Nat) (av : List Value) (st : g_St) (Q : Int32 → g_St → Prop) : Prop := g_WPi l E yJ7_equals cJ7_equals 3 (some .boolean) 1 40 mc ms av st Q
def vc_J7_equals (l : Launch) (E : g_E) (p0 : Option Nat) (p1 : Option Nat) (st : g_St) (Q : Int32 → g_St → Prop) : Prop :=
  ∃ a1 : Nat, p0 = some a1 ∧ ∃ (t2 : Nat) (v3 : vp_A), g_Rd st a1 (.inl (t2, v3)) ∧ ∃ a4 : Nat, p1 = some a4 ∧ ∃ (t5 : Nat) (v6 : vp_A), g_Rd st a4 (.inl (t5, v6)) ∧ (¬ (nI v3.1) = (nI v6.1) → Q (nI 0) st) ∧ ((nI v3.1) = (nI v6.1) → g_lp1 (fun (K9 : Int32 → Prop) (x8 : Int32) => ∃ (t12 : Nat) (v13 : vp_A), g_Rd st a1 (.inl (t12, v13)) ∧ ((nI v13.1) ≤ x8 → Q (nI 1) st) ∧ (¬ (nI v13.1) ≤ x8 → ∃ (n15 : Nat) (f16 : Nat → Int32) (j17 : Nat), g_ai st a1 1 n15 f16 ∧ x8 = nI j17 ∧ j17 < n15 ∧ j17 < 2 ^ 31 ∧ ∃ (n18 : Nat) (f19 : Nat → Int32) (j20 : Nat), g_ai st a4 1 n18 f19 ∧ x8 = nI j20 ∧ j20 < n18 ∧ j20 < 2 ^ 31 ∧ ((f16 j17) = (f19 j20) → K9 (x8 + (nI 1))) ∧ (¬ (f16 j17) = (f19 j20) → Q (nI 0) st))) (nI 0))
set_option maxHeartbeats 4000000 in
theorem wb_J7_equals {p : Program} {l : Launch} {e : Env} {R : Room} {s : State} {m : MethodId} {args : Array Value} {below : List Frame} {meth : Method} {c : Code} {E : g_E} {st0 : g_St} {Z : State → Prop} (hC : g_Cx p s m args meth c cJ7_equals 3 "java/lang/StringLatin1" (some .boolean) "equals" E st0) (hR : g_Rm 1 40 R) {p0 : Option Nat} {p1 : Option Nat} {st : g_St} {cb sb : Nat} {Q : Int32 → g_St → Prop} (hret : ∀ (pc : Nat) (lv : List (Nat × Value)) (v : Int32) (st1 : g_St) (cb sb : Nat), decode cJ7_equals pc = .ok (.ireturn, 1) → narrow .boolean (.int v) = .int v → Q v st1 → g_J p l e R s m args below meth c 3 E st0 Z pc lv [.int v] st1 cb sb) (hvc : vc_J7_equals l E p0 p1 st Q) : g_J p l e R s m args below meth c 3 E st0 Z 0 [(0, va_rf p0), (1, va_rf p1)] [] st cb sb := by
  unfold vc_J7_equals at hvc
  refine j_aload_n hC dJ7_equals_0 rfl 0 rfl ?_
  obtain ⟨a1, rfl, hvc⟩ := hvc
  obtain ⟨t2, v3, hr, hvc⟩ := hvc
  refine j_alen hC hr dJ7_equals_1 ?_
  clear hr
  refine j_aload_n hC dJ7_equals_2 rfl 1 rfl ?_
  obtain ⟨a4, rfl, hvc⟩ := hvc
  obtain ⟨t5, v6, hr, hvc⟩ := hvc
  refine j_alen hC hr dJ7_equals_3 ?_
  clear hr
  refine j_icmp_ne (tgt := 34) hC dJ7_equals_4 rfl (fun c7 => ?_) (fun c7 => ?_)
  · replace hvc := hvc.1 c7
    refine j_iconst hC (nI 0) dJ7_equals_34 rfl ?_
    exact hret _ _ _ _ _ _ dJ7_equals_35 rfl hvc
  · replace hvc := hvc.2 c7
    refine j_iconst hC (nI 0) dJ7_equals_7 rfl ?_
    refine j_istore_n (lv0 := [(1, va_rf (some a4)), (0, va_rf (some a1))]) hC dJ7_equals_8 rfl rfl [1, 0] rfl (g_okS.h rfl g_c1 rfl) ?_
    replace hvc := g_lp1_o hvc
    obtain ⟨K9, hz22, hs23, n24, hvc⟩ := hvc
    have kh10 : ∀ (n : Nat) (x8 : Int32), K9 n x8 → g_J p l e R s m args below meth c 3 E st0 Z 9 [(0, va_rf (some a1)), (1, va_rf (some a4)), (2, .int x8)] [] st cb sb := by
      clear hvc
      intro n
      induction n with
      | zero => intro x8 hvc; exact absurd hvc (hz22 _)
      | succ n ih11 =>
        intro x8 hvc
        replace hvc := hs23 n _ hvc
        refine j_iload_n hC dJ7_equals_9 rfl 2 rfl ?_
        refine j_aload_n hC dJ7_equals_10 rfl 0 rfl ?_
        obtain ⟨t12, v13, hr, hvc⟩ := hvc
        refine j_alen hC hr dJ7_equals_11 ?_
        clear hr
        refine j_icmp_ge (tgt := 32) hC dJ7_equals_12 rfl (fun c14 => ?_) (fun c14 => ?_)
        · replace hvc := hvc.1 c14
          refine j_iconst hC (nI 1) dJ7_equals_32 rfl ?_
          exact hret _ _ _ _ _ _ dJ7_equals_33 rfl hvc
        · replace hvc := hvc.2 c14
          refine j_aload_n hC dJ7_equals_15 rfl 0 rfl ?_
          refine j_iload_n hC dJ7_equals_16 rfl 2 rfl ?_
          obtain ⟨n15, f16, j17, hr, hi, hj, hJ, hvc⟩ := hvc
          refine j_ix hi ?_
          refine j_bald hC hr hj hJ dJ7_equals_17 ?_
          clear hr hi hj hJ
          refine j_aload_n hC dJ7_equals_18 rfl 1 rfl ?_
          refine j_iload_n hC dJ7_equals_19 rfl 2 rfl ?_
          obtain ⟨n18, f19, j20, hr, hi, hj, hJ, hvc⟩ := hvc
          refine j_ix hi ?_
          refine j_bald hC hr hj hJ dJ7_equals_20 ?_
          clear hr hi hj hJ
          refine j_icmp_eq (tgt := 26) hC dJ7_equals_21 rfl (fun c21 => ?_) (fun c21 => ?_)
          · replace hvc := hvc.1 c21
            refine j_iinc (lv0 := [(1, va_rf (some a4)), (0, va_rf (some a1))]) hC (nI 1) dJ7_equals_26 2 rfl rfl rfl [1, 0] rfl (g_okS.h rfl g_c1 rfl) ?_
            refine j_goto (tgt := 9) hC dJ7_equals_29 rfl ?_
            exact j_sub [2, 1, 0] rfl (ih11 (x8 + (nI 1)) hvc)
          · replace hvc := hvc.2 c21
            refine j_iconst hC (nI 0) dJ7_equals_24 rfl ?_
            exact hret _ _ _ _ _ _ dJ7_equals_25 rfl hvc
    exact j_sub [2, 1, 0] rfl (kh10 n24 (nI 0) hvc)
theorem wk_J7_equals {l : Launch} {E : g_E} {p0 : Option Nat} {p1 : Option Nat} {st : g_St} {mc ms : Nat} {Q : Int32 → g_St → Prop} (hvc : vc_J7_equals l E p0 p1 st Q) : wp_J7_equals l E mc ms [va_rf p0, va_rf p1] st Q :=
  g_enter (lv0 := [(0, va_rf p0), (1, va_rf p1)]) (plainFor_of_name (by decide +kernel)) (by simp [lv_args, g_c1, g_ci, g_cL]) (by simp [lg_sl, g_c1, g_ci, g_cL]) (fun p e s m args below meth c hC => wb_J7_equals hC ⟨Nat.le_refl _, Nat.le_refl _⟩ (fun pc lv v st1 cb sb hd hn hq => j_ireturn hC rfl hn hd (g_iv hq)) hvc)
abbrev wp_J2_equals (l : Launch) (E : g_E) (mc ms : Nat) (av : List Value) (st : g_St) (Q : Int32 → g_St → Prop) : Prop := g_WPi l E yJ2_equals cJ2_equals 3 (some .boolean) 2 62 mc ms av st Q
def vc_J2_equals (l : Launch) (E : g_E) (a0 : Nat) (p0 : Option Nat) (st : g_St) (Q : Int32 → g_St → Prop) : Prop :=
  (¬ (some a0) = p0 → ∃ a2 : Nat, p0 = some a2 ∧ g_is st a2 1 ∧ g_jn1 (fun (K4 : Int32 → Prop) => g_jn0 (fun (K6 : Prop) => g_isN st (some a2) 1 ∧ g_jn0 (fun (K8 : Prop) => ∃ x14 : Int32, g_gi st a0 1 1 x14 ∧ ∃ x15 : Int32, g_gi st a2 1 1 x15 ∧ (¬ x14 = x15 → K6) ∧ (x14 = x15 → K8)) (∃ o10 : Option Nat, g_gr st a0 1 0 o10 ∧ ∃ o11 : Option Nat, g_gr st a2 1 0 o11 ∧ wp_J7_equals l E 0 0 [va_rf o10, va_rf o11] st (fun x12 stx => stx = st ∧ (x12 = 0 → K6) ∧ (¬ x12 = 0 → K4 (nI 1))))) (K4 (nI 0))) (fun (x3 : Int32) => narrow .boolean (.int x3) = .int x3 ∧ Q x3 st)) ∧ ((some a0) = p0 → Q (nI 1) st)
set_option maxHeartbeats 4000000 in
theorem wb_J2_equals {p : Program} {l : Launch} {e : Env} {R : Room} {s : State} {m : MethodId} {args : Array Value} {below : List Frame} {meth : Method} {c : Code} {E : g_E} {st0 : g_St} {Z : State → Prop} (hC : g_Cx p s m args meth c cJ2_equals 3 "java/lang/String" (some .boolean) "equals" E st0) (hR : g_Rm 2 62 R) {a0 : Nat} {p0 : Option Nat} {st : g_St} {cb sb : Nat} {Q : Int32 → g_St → Prop} (hret : ∀ (pc : Nat) (lv : List (Nat × Value)) (v : Int32) (st1 : g_St) (cb sb : Nat), decode cJ2_equals pc = .ok (.ireturn, 1) → narrow .boolean (.int v) = .int v → Q v st1 → g_J p l e R s m args below meth c 3 E st0 Z pc lv [.int v] st1 cb sb) (hvc : vc_J2_equals l E a0 p0 st Q) : g_J p l e R s m args below meth c 3 E st0 Z 0 [(0, va_rf (some a0)), (1, va_rf p0)] [] st cb sb := by
  unfold vc_J2_equals at hvc
  refine j_aload_n hC dJ2_equals_0 rfl 0 rfl ?_
  refine j_aload_n hC dJ2_equals_1 rfl 1 rfl ?_
  refine j_acmp_ne (tgt := 7) hC dJ2_equals_2 rfl (fun c1 => ?_) (fun c1 => ?_)
  · replace hvc := hvc.1 c1
    refine j_aload_n hC dJ2_equals_7 rfl 1 rfl ?_
    obtain ⟨a2, rfl, hvc⟩ := hvc
    obtain ⟨⟨fs, hv⟩, hvc⟩ := hvc
    refine j_inst hC (C := "java/lang/String") (ci := 1) q606 rfl (Or.inl rfl) hv dJ2_equals_8 ?_
    change g_J p l e R s m args below meth c 3 E st0 Z 11 _ (.int (nI 1) :: _) _ _ _
    clear hv fs
    replace hvc := g_jn1_o hvc
    obtain ⟨K4, hK21, hvc⟩ := hvc
    have kh5 : ∀ (x3 : Int32), K4 x3 → g_J p l e R s m args below meth c 3 E st0 Z 55 [] [.int x3] st cb sb := by
      clear hvc
      intro x3 hvc
      replace hvc := hK21 _ hvc
      exact hret _ _ _ _ _ _ dJ2_equals_55 hvc.1 hvc.2
    replace hvc := g_jn0_o hvc
    obtain ⟨K6, hK20, hvc⟩ := hvc
    have kh7 : K6 → g_J p l e R s m args below meth c 3 E st0 Z 54 [] [] st cb sb := by
      clear hvc
      intro hvc
      replace hvc := hK20 hvc
      refine j_iconst hC (nI 0) dJ2_equals_54 rfl ?_
      exact j_sub [] rfl (kh5 (nI 0) hvc)
    refine j_if_eq (tgt := 54) hC dJ2_equals_11 rfl (fun c19 => absurd c19 (by decide)) (fun _ => ?_)
    refine j_aload_n hC dJ2_equals_14 rfl 1 rfl ?_
    obtain ⟨hv, hvc⟩ := hvc
    refine j_cast hC (C := "java/lang/String") (ci := 1) q606 rfl (Or.inl rfl) hv dJ2_equals_15 ?_
    clear hv
    refine j_astore_n (lv0 := [(1, va_rf (some a2)), (0, va_rf (some a0))]) hC dJ2_equals_18 rfl rfl [1, 0] rfl (g_okS.h rfl g_c1 rfl) ?_
    refine j_gets (v := .int (nI 1)) hC gs_0 q189 (Or.inl rfl) dJ2_equals_19 ?_
    replace hvc := g_jn0_o hvc
    obtain ⟨K8, hK18, hvc⟩ := hvc
    have kh9 : K8 → g_J p l e R s m args below meth c 3 E st0 Z 36 [(0, va_rf (some a0)), (2, va_rf (some a2))] [] st cb sb := by
      clear hvc
      intro hvc
      replace hvc := hK18 hvc
      refine j_aload_n hC dJ2_equals_36 rfl 0 rfl ?_
      obtain ⟨o10, ⟨fs, hr, hv⟩, hvc⟩ := hvc
      refine j_get hC fkJ2_9_J2 dJ2_equals_37 hr hv ?_
      clear hv hr fs
      refine j_aload_n hC dJ2_equals_40 rfl 1 rfl ?_
      obtain ⟨o11, ⟨fs, hr, hv⟩, hvc⟩ := hvc
      refine j_get hC fkJ2_9_J2 dJ2_equals_41 hr hv ?_
      clear hv hr fs
      refine j_callS (As := [va_rf o10, va_rf o11]) (rest := []) (n := 2) hC hvc (lw_S q607 q608 q49 q609) (by decide +kernel) (g_rm hR rfl rfl) rfl rfl (g_sum rfl) dJ2_equals_44 (Nat.zero_le _) (Nat.zero_le _) (g_Kip fun x12 hv2 => ?_)
      replace hvc := hv2; clear hv2
      refine j_if_eq (tgt := 54) hC dJ2_equals_47 rfl (fun c13 => ?_) (fun c13 => ?_)
      · replace hvc := hvc.1 c13
        exact j_sub [] rfl (kh7 hvc)
      · replace hvc := hvc.2 c13
        refine j_iconst hC (nI 1) dJ2_equals_50 rfl ?_
        refine j_goto (tgt := 55) hC dJ2_equals_51 rfl ?_
        exact j_sub [] rfl (kh5 (nI 1) hvc)
    refine j_if_eq (tgt := 36) hC dJ2_equals_22 rfl (fun c17 => absurd c17 (by decide)) (fun _ => ?_)
    refine j_aload_n hC dJ2_equals_25 rfl 2 rfl ?_
    obtain ⟨x14, ⟨fs, hr, hv⟩, hvc⟩ := hvc
    refine j_get hC fkJ2_15_J2 dJ2_equals_26 hr hv ?_
    clear hv hr fs
    refine j_aload_n hC dJ2_equals_29 rfl 0 rfl ?_
    obtain ⟨x15, ⟨fs, hr, hv⟩, hvc⟩ := hvc
    refine j_get hC fkJ2_15_J2 dJ2_equals_30 hr hv ?_
    clear hv hr fs
    refine j_icmp_ne (tgt := 54) hC dJ2_equals_33 rfl (fun c16 => ?_) (fun c16 => ?_)
    · replace hvc := hvc.1 c16
      exact j_sub [] rfl (kh7 hvc)
    · replace hvc := hvc.2 c16
      exact j_sub [2, 0] rfl (kh9 hvc)
  · replace hvc := hvc.2 c1
    refine j_iconst hC (nI 1) dJ2_equals_5 rfl ?_
    exact hret _ _ _ _ _ _ dJ2_equals_6 rfl hvc
theorem wk_J2_equals {l : Launch} {E : g_E} {a0 : Nat} {p0 : Option Nat} {st : g_St} {mc ms : Nat} {Q : Int32 → g_St → Prop} (hvc : vc_J2_equals l E a0 p0 st Q) : wp_J2_equals l E mc ms [va_rf (some a0), va_rf p0] st Q :=
  g_enter (lv0 := [(0, va_rf (some a0)), (1, va_rf p0)]) (plainFor_of_name (by decide +kernel)) (by simp [lv_args, g_c1, g_ci, g_cL]) (by simp [lg_sl, g_c1, g_ci, g_cL]) (fun p e s m args below meth c hC => wb_J2_equals hC ⟨Nat.le_refl _, Nat.le_refl _⟩ (fun pc lv v st1 cb sb hd hn hq => j_ireturn hC rfl hn hd (g_iv hq)) hvc)
abbrev wp_J25_getIntUnaligned (l : Launch) (E : g_E) (mc ms : Nat) (av : List Value) (st : g_St) (Q : Int32 → g_St → Prop) : Prop := g_WPi l E yJ25_getIntUnaligned cJ25_getIntUnaligned 4 (some .int) 1 40 mc ms av st Q
def vc_J25_getIntUnaligned (l : Launch) (E : g_E) (a0 : Nat) (p0 : Option Nat) (p1 : Int64) (st : g_St) (Q : Int32 → g_St → Prop) : Prop :=
  (¬ (lg_cmp (p1 &&& 3) 0) = 0 → (¬ (lg_cmp (p1 &&& 1) 0) = 0 → False) ∧ ((lg_cmp (p1 &&& 1) 0) = 0 → False)) ∧ ((lg_cmp (p1 &&& 3) 0) = 0 → ∃ a4 : Nat, p0 = some a4 ∧ ∃ (n5 : Nat) (f6 : Nat → Int32) (j7 : Nat), g_ai st a4 1 n5 f6 ∧ (some a0) = E.2.2.2.2.1 5 ∧ g_getI p1 n5 f6 j7 ∧ ∀ x3 : Int32, x3 = g_getIv f6 j7 → Q x3 st)
set_option maxHeartbeats 4000000 in
theorem wb_J25_getIntUnaligned {p : Program} {l : Launch} {e : Env} {R : Room} {s : State} {m : MethodId} {args : Array Value} {below : List Frame} {meth : Method} {c : Code} {E : g_E} {st0 : g_St} {Z : State → Prop} (hC : g_Cx p s m args meth c cJ25_getIntUnaligned 4 "jdk/internal/misc/Unsafe" (some .int) "getIntUnaligned" E st0) (hR : g_Rm 1 40 R) {a0 : Nat} {p0 : Option Nat} {p1 : Int64} {st : g_St} {cb sb : Nat} {Q : Int32 → g_St → Prop} (hret : ∀ (pc : Nat) (lv : List (Nat × Value)) (v : Int32) (st1 : g_St) (cb sb : Nat), decode cJ25_getIntUnaligned pc = .ok (.ireturn, 1) → narrow .int (.int v) = .int v → Q v st1 → g_J p l e R s m args below meth c 4 E st0 Z pc lv [.int v] st1 cb sb) (hvc : vc_J25_getIntUnaligned l E a0 p0 p1 st Q) : g_J p l e R s m args below meth c 4 E st0 Z 0 [(0, va_rf (some a0)), (1, va_rf p0), (2, .long p1)] [] st cb sb := by
  unfold vc_J25_getIntUnaligned at hvc
  refine j_lload_n hC dJ25_getIntUnaligned_0 rfl 2 rfl ?_
  refine j_ldc2 hC 3 q702 dJ25_getIntUnaligned_1 ?_
  refine j_land hC dJ25_getIntUnaligned_4 ?_
  refine j_lconst hC 0 dJ25_getIntUnaligned_5 rfl ?_
  refine j_lcmp hC dJ25_getIntUnaligned_6 ?_
  refine j_if_ne (tgt := 17) hC dJ25_getIntUnaligned_7 rfl (fun c1 => ?_) (fun c1 => ?_)
  · replace hvc := hvc.1 c1
    refine j_lload_n hC dJ25_getIntUnaligned_17 rfl 2 rfl ?_
    refine j_lconst hC 1 dJ25_getIntUnaligned_18 rfl ?_
    refine j_land hC dJ25_getIntUnaligned_19 ?_
    refine j_lconst hC 0 dJ25_getIntUnaligned_20 rfl ?_
    refine j_lcmp hC dJ25_getIntUnaligned_21 ?_
    refine j_if_ne (tgt := 45) hC dJ25_getIntUnaligned_22 rfl (fun c2 => ?_) (fun c2 => ?_)
    · replace hvc := hvc.1 c2
      refine j_aload_n hC dJ25_getIntUnaligned_45 rfl 0 rfl ?_
      refine j_aload_n hC dJ25_getIntUnaligned_46 rfl 1 rfl ?_
      refine j_lload_n hC dJ25_getIntUnaligned_47 rfl 2 rfl ?_
      exact hvc.elim
    · replace hvc := hvc.2 c2
      refine j_aload_n hC dJ25_getIntUnaligned_25 rfl 0 rfl ?_
      refine j_aload_n hC dJ25_getIntUnaligned_26 rfl 1 rfl ?_
      refine j_lload_n hC dJ25_getIntUnaligned_27 rfl 2 rfl ?_
      exact hvc.elim
  · replace hvc := hvc.2 c1
    refine j_aload_n hC dJ25_getIntUnaligned_10 rfl 0 rfl ?_
    refine j_aload_n hC dJ25_getIntUnaligned_11 rfl 1 rfl ?_
    refine j_lload_n hC dJ25_getIntUnaligned_12 rfl 2 rfl ?_
    obtain ⟨a4, rfl, hvc⟩ := hvc
    obtain ⟨n5, f6, j7, hr, hu, hg, hvc⟩ := hvc
    refine j_getInt (fr := 0) (lo := 0) hC q703 hr hu hg (Nat.le_trans (Nat.le_of_ble_eq_true rfl) hR.1) (Nat.le_trans (g_sumN rfl) hR.2) dJ25_getIntUnaligned_13 ?_
    replace hvc := hvc _ rfl
    generalize g_getIv f6 j7 = x3 at hvc ⊢
    clear hr hu hg
    exact hret _ _ _ _ _ _ dJ25_getIntUnaligned_16 rfl hvc
theorem wk_J25_getIntUnaligned {l : Launch} {E : g_E} {a0 : Nat} {p0 : Option Nat} {p1 : Int64} {st : g_St} {mc ms : Nat} {Q : Int32 → g_St → Prop} (hvc : vc_J25_getIntUnaligned l E a0 p0 p1 st Q) : wp_J25_getIntUnaligned l E mc ms [va_rf (some a0), va_rf p0, .long p1] st Q :=
  g_enter (lv0 := [(0, va_rf (some a0)), (1, va_rf p0), (2, .long p1)]) (g_pf_getIntUnaligned) (by simp [lv_args, g_c1, g_ci, g_cL]) (by simp [lg_sl, g_c1, g_ci, g_cL]) (fun p e s m args below meth c hC => wb_J25_getIntUnaligned hC ⟨Nat.le_refl _, Nat.le_refl _⟩ (fun pc lv v st1 cb sb hd hn hq => j_ireturn hC rfl hn hd (g_iv hq)) hvc)
abbrev wp_J14_numberOfTrailingZeros (l : Launch) (E : g_E) (mc ms : Nat) (av : List Value) (st : g_St) (Q : Int32 → g_St → Prop) : Prop := g_WPi l E yJ14_numberOfTrailingZeros cJ14_numberOfTrailingZeros 2 (some .int) 1 40 mc ms av st Q
def vc_J14_numberOfTrailingZeros (l : Launch) (E : g_E) (p0 : Int32) (st : g_St) (Q : Int32 → g_St → Prop) : Prop :=
  (0 < ((p0 ^^^ (-1)) &&& (p0 - (nI 1))) → g_jn2 (fun (K4 : Int32 → Int32 → Prop) => (((p0 ^^^ (-1)) &&& (p0 - (nI 1))) ≤ (nI 65536) → K4 ((p0 ^^^ (-1)) &&& (p0 - (nI 1))) (nI 1)) ∧ (¬ ((p0 ^^^ (-1)) &&& (p0 - (nI 1))) ≤ (nI 65536) → K4 (((((p0 ^^^ (-1)) &&& (p0 - (nI 1)))).toUInt32 >>> (((nI 16)).toUInt32 &&& Int32.toUInt32 31)).toInt32) ((nI 1) + (nI 16)))) (fun (x2 : Int32) (x3 : Int32) => g_jn2 (fun (K8 : Int32 → Int32 → Prop) => (x2 ≤ (nI 256) → K8 x2 x3) ∧ (¬ x2 ≤ (nI 256) → K8 (((x2).toUInt32 >>> (((nI 8)).toUInt32 &&& Int32.toUInt32 31)).toInt32) (x3 + (nI 8)))) (fun (x6 : Int32) (x7 : Int32) => g_jn2 (fun (K12 : Int32 → Int32 → Prop) => (x6 ≤ (nI 16) → K12 x6 x7) ∧ (¬ x6 ≤ (nI 16) → K12 (((x6).toUInt32 >>> (((nI 4)).toUInt32 &&& Int32.toUInt32 31)).toInt32) (x7 + (nI 4)))) (fun (x10 : Int32) (x11 : Int32) => g_jn2 (fun (K16 : Int32 → Int32 → Prop) => (x10 ≤ (nI 4) → K16 x10 x11) ∧ (¬ x10 ≤ (nI 4) → K16 (((x10).toUInt32 >>> (((nI 2)).toUInt32 &&& Int32.toUInt32 31)).toInt32) (x11 + (nI 2)))) (fun (x14 : Int32) (x15 : Int32) => Q (x15 + (((x14).toUInt32 >>> (((nI 1)).toUInt32 &&& Int32.toUInt32 31)).toInt32)) st))))) ∧ (¬ 0 < ((p0 ^^^ (-1)) &&& (p0 - (nI 1))) → Q (((p0 ^^^ (-1)) &&& (p0 - (nI 1))) &&& (nI 32)) st)
set_option maxHeartbeats 4000000 in
theorem wb_J14_numberOfTrailingZeros {p : Program} {l : Launch} {e : Env} {R : Room} {s : State} {m : MethodId} {args : Array Value} {below : List Frame} {meth : Method} {c : Code} {E : g_E} {st0 : g_St} {Z : State → Prop} (hC : g_Cx p s m args meth c cJ14_numberOfTrailingZeros 2 "java/lang/Integer" (some .int) "numberOfTrailingZeros" E st0) (hR : g_Rm 1 40 R) {p0 : Int32} {st : g_St} {cb sb : Nat} {Q : Int32 → g_St → Prop} (hret : ∀ (pc : Nat) (lv : List (Nat × Value)) (v : Int32) (st1 : g_St) (cb sb : Nat), decode cJ14_numberOfTrailingZeros pc = .ok (.ireturn, 1) → narrow .int (.int v) = .int v → Q v st1 → g_J p l e R s m args below meth c 2 E st0 Z pc lv [.int v] st1 cb sb) (hvc : vc_J14_numberOfTrailingZeros l E p0 st Q) : g_J p l e R s m args below meth c 2 E st0 Z 0 [(0, .int p0)] [] st cb sb := by
  unfold vc_J14_numberOfTrailingZeros at hvc
  refine j_iload_n hC dJ14_numberOfTrailingZeros_0 rfl 0 rfl ?_
  refine j_iconst hC (-1) dJ14_numberOfTrailingZeros_1 rfl ?_
  refine j_ixor hC dJ14_numberOfTrailingZeros_2 ?_
  refine j_iload_n hC dJ14_numberOfTrailingZeros_3 rfl 0 rfl ?_
  refine j_iconst hC (nI 1) dJ14_numberOfTrailingZeros_4 rfl ?_
  refine j_isub hC dJ14_numberOfTrailingZeros_5 ?_
  refine j_iand hC dJ14_numberOfTrailingZeros_6 ?_
  refine j_istore_n (lv0 := []) hC dJ14_numberOfTrailingZeros_7 rfl rfl [] rfl (g_okS.n rfl) ?_
  refine j_iload_n hC dJ14_numberOfTrailingZeros_8 rfl 0 rfl ?_
  refine j_if_gt (tgt := 17) hC dJ14_numberOfTrailingZeros_9 rfl (fun c1 => ?_) (fun c1 => ?_)
  · replace hvc := hvc.1 c1
    refine j_iconst hC (nI 1) dJ14_numberOfTrailingZeros_17 rfl ?_
    refine j_istore_n (lv0 := [(0, .int ((p0 ^^^ (-1)) &&& (p0 - (nI 1))))]) hC dJ14_numberOfTrailingZeros_18 rfl rfl [0] rfl (g_okS.h rfl rfl rfl) ?_
    refine j_iload_n hC dJ14_numberOfTrailingZeros_19 rfl 1 rfl ?_
    refine j_ldcw hC (nI 65536) q753 dJ14_numberOfTrailingZeros_20 ?_
    replace hvc := g_jn2_o hvc
    obtain ⟨K4, hK25, hvc⟩ := hvc
    have kh5 : ∀ (x2 : Int32) (x3 : Int32), K4 x2 x3 → g_J p l e R s m args below meth c 2 E st0 Z 34 [(0, .int x2), (1, .int x3)] [] st cb sb := by
      clear hvc
      intro x2 x3 hvc
      replace hvc := hK25 _ _ hvc
      refine j_iload_n hC dJ14_numberOfTrailingZeros_34 rfl 0 rfl ?_
      refine j_sipush hC (nI 256) dJ14_numberOfTrailingZeros_35 rfl ?_
      replace hvc := g_jn2_o hvc
      obtain ⟨K8, hK23, hvc⟩ := hvc
      have kh9 : ∀ (x6 : Int32) (x7 : Int32), K8 x6 x7 → g_J p l e R s m args below meth c 2 E st0 Z 49 [(0, .int x6), (1, .int x7)] [] st cb sb := by
        clear hvc
        intro x6 x7 hvc
        replace hvc := hK23 _ _ hvc
        refine j_iload_n hC dJ14_numberOfTrailingZeros_49 rfl 0 rfl ?_
        refine j_bipush hC (nI 16) dJ14_numberOfTrailingZeros_50 rfl ?_
        replace hvc := g_jn2_o hvc
        obtain ⟨K12, hK21, hvc⟩ := hvc
        have kh13 : ∀ (x10 : Int32) (x11 : Int32), K12 x10 x11 → g_J p l e R s m args below meth c 2 E st0 Z 62 [(0, .int x10), (1, .int x11)] [] st cb sb := by
          clear hvc
          intro x10 x11 hvc
          replace hvc := hK21 _ _ hvc
          refine j_iload_n hC dJ14_numberOfTrailingZeros_62 rfl 0 rfl ?_
          refine j_iconst hC (nI 4) dJ14_numberOfTrailingZeros_63 rfl ?_
          replace hvc := g_jn2_o hvc
          obtain ⟨K16, hK19, hvc⟩ := hvc
          have kh17 : ∀ (x14 : Int32) (x15 : Int32), K16 x14 x15 → g_J p l e R s m args below meth c 2 E st0 Z 74 [(0, .int x14), (1, .int x15)] [] st cb sb := by
            clear hvc
            intro x14 x15 hvc
            replace hvc := hK19 _ _ hvc
            refine j_iload_n hC dJ14_numberOfTrailingZeros_74 rfl 1 rfl ?_
            refine j_iload_n hC dJ14_numberOfTrailingZeros_75 rfl 0 rfl ?_
            refine j_iconst hC (nI 1) dJ14_numberOfTrailingZeros_76 rfl ?_
            refine j_iushr hC dJ14_numberOfTrailingZeros_77 ?_
            refine j_iadd hC dJ14_numberOfTrailingZeros_78 ?_
            exact hret _ _ _ _ _ _ dJ14_numberOfTrailingZeros_79 rfl hvc
          refine j_icmp_le (tgt := 74) hC dJ14_numberOfTrailingZeros_64 rfl (fun c18 => ?_) (fun c18 => ?_)
          · replace hvc := hvc.1 c18
            exact j_sub [0, 1] rfl (kh17 x10 x11 hvc)
          · replace hvc := hvc.2 c18
            refine j_iinc (lv0 := [(0, .int x10)]) hC (nI 2) dJ14_numberOfTrailingZeros_67 1 rfl rfl rfl [0] rfl (g_okS.h rfl rfl rfl) ?_
            refine j_iload_n hC dJ14_numberOfTrailingZeros_70 rfl 1 rfl ?_
            refine j_iconst hC (nI 2) dJ14_numberOfTrailingZeros_71 rfl ?_
            refine j_iushr hC dJ14_numberOfTrailingZeros_72 ?_
            refine j_istore_n (lv0 := [(1, .int (x11 + (nI 2)))]) hC dJ14_numberOfTrailingZeros_73 rfl rfl [0] rfl (g_okS.n rfl) ?_
            exact j_sub [0, 1] rfl (kh17 (((x10).toUInt32 >>> (((nI 2)).toUInt32 &&& Int32.toUInt32 31)).toInt32) (x11 + (nI 2)) hvc)
        refine j_icmp_le (tgt := 62) hC dJ14_numberOfTrailingZeros_52 rfl (fun c20 => ?_) (fun c20 => ?_)
        · replace hvc := hvc.1 c20
          exact j_sub [0, 1] rfl (kh13 x6 x7 hvc)
        · replace hvc := hvc.2 c20
          refine j_iinc (lv0 := [(0, .int x6)]) hC (nI 4) dJ14_numberOfTrailingZeros_55 1 rfl rfl rfl [0] rfl (g_okS.h rfl rfl rfl) ?_
          refine j_iload_n hC dJ14_numberOfTrailingZeros_58 rfl 1 rfl ?_
          refine j_iconst hC (nI 4) dJ14_numberOfTrailingZeros_59 rfl ?_
          refine j_iushr hC dJ14_numberOfTrailingZeros_60 ?_
          refine j_istore_n (lv0 := [(1, .int (x7 + (nI 4)))]) hC dJ14_numberOfTrailingZeros_61 rfl rfl [0] rfl (g_okS.n rfl) ?_
          exact j_sub [0, 1] rfl (kh13 (((x6).toUInt32 >>> (((nI 4)).toUInt32 &&& Int32.toUInt32 31)).toInt32) (x7 + (nI 4)) hvc)
      refine j_icmp_le (tgt := 49) hC dJ14_numberOfTrailingZeros_38 rfl (fun c22 => ?_) (fun c22 => ?_)
      · replace hvc := hvc.1 c22
        exact j_sub [0, 1] rfl (kh9 x2 x3 hvc)
      · replace hvc := hvc.2 c22
        refine j_iinc (lv0 := [(0, .int x2)]) hC (nI 8) dJ14_numberOfTrailingZeros_41 1 rfl rfl rfl [0] rfl (g_okS.h rfl rfl rfl) ?_
        refine j_iload_n hC dJ14_numberOfTrailingZeros_44 rfl 1 rfl ?_
        refine j_bipush hC (nI 8) dJ14_numberOfTrailingZeros_45 rfl ?_
        refine j_iushr hC dJ14_numberOfTrailingZeros_47 ?_
        refine j_istore_n (lv0 := [(1, .int (x3 + (nI 8)))]) hC dJ14_numberOfTrailingZeros_48 rfl rfl [0] rfl (g_okS.n rfl) ?_
        exact j_sub [0, 1] rfl (kh9 (((x2).toUInt32 >>> (((nI 8)).toUInt32 &&& Int32.toUInt32 31)).toInt32) (x3 + (nI 8)) hvc)
    refine j_icmp_le (tgt := 34) hC dJ14_numberOfTrailingZeros_23 rfl (fun c24 => ?_) (fun c24 => ?_)
    · replace hvc := hvc.1 c24
      exact j_sub [1, 0] rfl (kh5 ((p0 ^^^ (-1)) &&& (p0 - (nI 1))) (nI 1) hvc)
    · replace hvc := hvc.2 c24
      refine j_iinc (lv0 := [(0, .int ((p0 ^^^ (-1)) &&& (p0 - (nI 1))))]) hC (nI 16) dJ14_numberOfTrailingZeros_26 0 rfl rfl rfl [1] rfl (g_okS.h rfl rfl rfl) ?_
      refine j_iload_n hC dJ14_numberOfTrailingZeros_29 rfl 1 rfl ?_
      refine j_bipush hC (nI 16) dJ14_numberOfTrailingZeros_30 rfl ?_
      refine j_iushr hC dJ14_numberOfTrailingZeros_32 ?_
      refine j_istore_n (lv0 := [(1, .int ((nI 1) + (nI 16)))]) hC dJ14_numberOfTrailingZeros_33 rfl rfl [0] rfl (g_okS.n rfl) ?_
      exact j_sub [0, 1] rfl (kh5 (((((p0 ^^^ (-1)) &&& (p0 - (nI 1)))).toUInt32 >>> (((nI 16)).toUInt32 &&& Int32.toUInt32 31)).toInt32) ((nI 1) + (nI 16)) hvc)
  · replace hvc := hvc.2 c1
    refine j_iload_n hC dJ14_numberOfTrailingZeros_12 rfl 0 rfl ?_
    refine j_bipush hC (nI 32) dJ14_numberOfTrailingZeros_13 rfl ?_
    refine j_iand hC dJ14_numberOfTrailingZeros_15 ?_
    exact hret _ _ _ _ _ _ dJ14_numberOfTrailingZeros_16 rfl hvc
theorem wk_J14_numberOfTrailingZeros {l : Launch} {E : g_E} {p0 : Int32} {st : g_St} {mc ms : Nat} {Q : Int32 → g_St → Prop} (hvc : vc_J14_numberOfTrailingZeros l E p0 st Q) : wp_J14_numberOfTrailingZeros l E mc ms [.int p0] st Q :=
  g_enter (lv0 := [(0, .int p0)]) (plainFor_of_name (by decide +kernel)) (by simp [lv_args, g_c1, g_ci, g_cL]) (by simp [lg_sl, g_c1, g_ci, g_cL]) (fun p e s m args below meth c hC => wb_J14_numberOfTrailingZeros hC ⟨Nat.le_refl _, Nat.le_refl _⟩ (fun pc lv v st1 cb sb hd hn hq => j_ireturn hC rfl hn hd (g_iv hq)) hvc)
abbrev wp_J14_numberOfLeadingZeros (l : Launch) (E : g_E) (mc ms : Nat) (av : List Value) (st : g_St) (Q : Int32 → g_St → Prop) : Prop := g_WPi l E yJ14_numberOfLeadingZeros cJ14_numberOfLeadingZeros 2 (some .int) 1 40 mc ms av st Q
def vc_J14_numberOfLeadingZeros (l : Launch) (E : g_E) (p0 : Int32) (st : g_St) (Q : Int32 → g_St → Prop) : Prop :=
  (0 < p0 → g_jn2 (fun (K4 : Int32 → Int32 → Prop) => (p0 < (nI 65536) → K4 p0 (nI 31)) ∧ (¬ p0 < (nI 65536) → K4 (((p0).toUInt32 >>> (((nI 16)).toUInt32 &&& Int32.toUInt32 31)).toInt32) ((nI 31) + (-16)))) (fun (x2 : Int32) (x3 : Int32) => g_jn2 (fun (K8 : Int32 → Int32 → Prop) => (x2 < (nI 256) → K8 x2 x3) ∧ (¬ x2 < (nI 256) → K8 (((x2).toUInt32 >>> (((nI 8)).toUInt32 &&& Int32.toUInt32 31)).toInt32) (x3 + (-8)))) (fun (x6 : Int32) (x7 : Int32) => g_jn2 (fun (K12 : Int32 → Int32 → Prop) => (x6 < (nI 16) → K12 x6 x7) ∧ (¬ x6 < (nI 16) → K12 (((x6).toUInt32 >>> (((nI 4)).toUInt32 &&& Int32.toUInt32 31)).toInt32) (x7 + (-4)))) (fun (x10 : Int32) (x11 : Int32) => g_jn2 (fun (K16 : Int32 → Int32 → Prop) => (x10 < (nI 4) → K16 x10 x11) ∧ (¬ x10 < (nI 4) → K16 (((x10).toUInt32 >>> (((nI 2)).toUInt32 &&& Int32.toUInt32 31)).toInt32) (x11 + (-2)))) (fun (x14 : Int32) (x15 : Int32) => Q (x15 - (((x14).toUInt32 >>> (((nI 1)).toUInt32 &&& Int32.toUInt32 31)).toInt32)) st))))) ∧ (¬ 0 < p0 → g_jn1 (fun (K27 : Int32 → Prop) => (¬ p0 = 0 → K27 (nI 0)) ∧ (p0 = 0 → K27 (nI 32))) (fun (x26 : Int32) => Q x26 st))
set_option maxHeartbeats 4000000 in
theorem wb_J14_numberOfLeadingZeros {p : Program} {l : Launch} {e : Env} {R : Room} {s : State} {m : MethodId} {args : Array Value} {below : List Frame} {meth : Method} {c : Code} {E : g_E} {st0 : g_St} {Z : State → Prop} (hC : g_Cx p s m args meth c cJ14_numberOfLeadingZeros 2 "java/lang/Integer" (some .int) "numberOfLeadingZeros" E st0) (hR : g_Rm 1 40 R) {p0 : Int32} {st : g_St} {cb sb : Nat} {Q : Int32 → g_St → Prop} (hret : ∀ (pc : Nat) (lv : List (Nat × Value)) (v : Int32) (st1 : g_St) (cb sb : Nat), decode cJ14_numberOfLeadingZeros pc = .ok (.ireturn, 1) → narrow .int (.int v) = .int v → Q v st1 → g_J p l e R s m args below meth c 2 E st0 Z pc lv [.int v] st1 cb sb) (hvc : vc_J14_numberOfLeadingZeros l E p0 st Q) : g_J p l e R s m args below meth c 2 E st0 Z 0 [(0, .int p0)] [] st cb sb := by
  unfold vc_J14_numberOfLeadingZeros at hvc
  refine j_iload_n hC dJ14_numberOfLeadingZeros_0 rfl 0 rfl ?_
  refine j_if_gt (tgt := 15) hC dJ14_numberOfLeadingZeros_1 rfl (fun c1 => ?_) (fun c1 => ?_)
  · replace hvc := hvc.1 c1
    refine j_bipush hC (nI 31) dJ14_numberOfLeadingZeros_15 rfl ?_
    refine j_istore_n (lv0 := [(0, .int p0)]) hC dJ14_numberOfLeadingZeros_17 rfl rfl [0] rfl (g_okS.h rfl rfl rfl) ?_
    refine j_iload_n hC dJ14_numberOfLeadingZeros_18 rfl 1 rfl ?_
    refine j_ldcw hC (nI 65536) q753 dJ14_numberOfLeadingZeros_19 ?_
    replace hvc := g_jn2_o hvc
    obtain ⟨K4, hK25, hvc⟩ := hvc
    have kh5 : ∀ (x2 : Int32) (x3 : Int32), K4 x2 x3 → g_J p l e R s m args below meth c 2 E st0 Z 33 [(0, .int x2), (1, .int x3)] [] st cb sb := by
      clear hvc
      intro x2 x3 hvc
      replace hvc := hK25 _ _ hvc
      refine j_iload_n hC dJ14_numberOfLeadingZeros_33 rfl 0 rfl ?_
      refine j_sipush hC (nI 256) dJ14_numberOfLeadingZeros_34 rfl ?_
      replace hvc := g_jn2_o hvc
      obtain ⟨K8, hK23, hvc⟩ := hvc
      have kh9 : ∀ (x6 : Int32) (x7 : Int32), K8 x6 x7 → g_J p l e R s m args below meth c 2 E st0 Z 48 [(0, .int x6), (1, .int x7)] [] st cb sb := by
        clear hvc
        intro x6 x7 hvc
        replace hvc := hK23 _ _ hvc
        refine j_iload_n hC dJ14_numberOfLeadingZeros_48 rfl 0 rfl ?_
        refine j_bipush hC (nI 16) dJ14_numberOfLeadingZeros_49 rfl ?_
        replace hvc := g_jn2_o hvc
        obtain ⟨K12, hK21, hvc⟩ := hvc
        have kh13 : ∀ (x10 : Int32) (x11 : Int32), K12 x10 x11 → g_J p l e R s m args below meth c 2 E st0 Z 61 [(0, .int x10), (1, .int x11)] [] st cb sb := by
          clear hvc
          intro x10 x11 hvc
          replace hvc := hK21 _ _ hvc
          refine j_iload_n hC dJ14_numberOfLeadingZeros_61 rfl 0 rfl ?_
          refine j_iconst hC (nI 4) dJ14_numberOfLeadingZeros_62 rfl ?_
          replace hvc := g_jn2_o hvc
          obtain ⟨K16, hK19, hvc⟩ := hvc
          have kh17 : ∀ (x14 : Int32) (x15 : Int32), K16 x14 x15 → g_J p l e R s m args below meth c 2 E st0 Z 73 [(0, .int x14), (1, .int x15)] [] st cb sb := by
            clear hvc
            intro x14 x15 hvc
            replace hvc := hK19 _ _ hvc
            refine j_iload_n hC dJ14_numberOfLeadingZeros_73 rfl 1 rfl ?_
            refine j_iload_n hC dJ14_numberOfLeadingZeros_74 rfl 0 rfl ?_
            refine j_iconst hC (nI 1) dJ14_numberOfLeadingZeros_75 rfl ?_
            refine j_iushr hC dJ14_numberOfLeadingZeros_76 ?_
            refine j_isub hC dJ14_numberOfLeadingZeros_77 ?_
            exact hret _ _ _ _ _ _ dJ14_numberOfLeadingZeros_78 rfl hvc
          refine j_icmp_lt (tgt := 73) hC dJ14_numberOfLeadingZeros_63 rfl (fun c18 => ?_) (fun c18 => ?_)
          · replace hvc := hvc.1 c18
            exact j_sub [0, 1] rfl (kh17 x10 x11 hvc)
          · replace hvc := hvc.2 c18
            refine j_iinc (lv0 := [(0, .int x10)]) hC (-2) dJ14_numberOfLeadingZeros_66 1 rfl rfl rfl [0] rfl (g_okS.h rfl rfl rfl) ?_
            refine j_iload_n hC dJ14_numberOfLeadingZeros_69 rfl 1 rfl ?_
            refine j_iconst hC (nI 2) dJ14_numberOfLeadingZeros_70 rfl ?_
            refine j_iushr hC dJ14_numberOfLeadingZeros_71 ?_
            refine j_istore_n (lv0 := [(1, .int (x11 + (-2)))]) hC dJ14_numberOfLeadingZeros_72 rfl rfl [0] rfl (g_okS.n rfl) ?_
            exact j_sub [0, 1] rfl (kh17 (((x10).toUInt32 >>> (((nI 2)).toUInt32 &&& Int32.toUInt32 31)).toInt32) (x11 + (-2)) hvc)
        refine j_icmp_lt (tgt := 61) hC dJ14_numberOfLeadingZeros_51 rfl (fun c20 => ?_) (fun c20 => ?_)
        · replace hvc := hvc.1 c20
          exact j_sub [0, 1] rfl (kh13 x6 x7 hvc)
        · replace hvc := hvc.2 c20
          refine j_iinc (lv0 := [(0, .int x6)]) hC (-4) dJ14_numberOfLeadingZeros_54 1 rfl rfl rfl [0] rfl (g_okS.h rfl rfl rfl) ?_
          refine j_iload_n hC dJ14_numberOfLeadingZeros_57 rfl 1 rfl ?_
          refine j_iconst hC (nI 4) dJ14_numberOfLeadingZeros_58 rfl ?_
          refine j_iushr hC dJ14_numberOfLeadingZeros_59 ?_
          refine j_istore_n (lv0 := [(1, .int (x7 + (-4)))]) hC dJ14_numberOfLeadingZeros_60 rfl rfl [0] rfl (g_okS.n rfl) ?_
          exact j_sub [0, 1] rfl (kh13 (((x6).toUInt32 >>> (((nI 4)).toUInt32 &&& Int32.toUInt32 31)).toInt32) (x7 + (-4)) hvc)
      refine j_icmp_lt (tgt := 48) hC dJ14_numberOfLeadingZeros_37 rfl (fun c22 => ?_) (fun c22 => ?_)
      · replace hvc := hvc.1 c22
        exact j_sub [0, 1] rfl (kh9 x2 x3 hvc)
      · replace hvc := hvc.2 c22
        refine j_iinc (lv0 := [(0, .int x2)]) hC (-8) dJ14_numberOfLeadingZeros_40 1 rfl rfl rfl [0] rfl (g_okS.h rfl rfl rfl) ?_
        refine j_iload_n hC dJ14_numberOfLeadingZeros_43 rfl 1 rfl ?_
        refine j_bipush hC (nI 8) dJ14_numberOfLeadingZeros_44 rfl ?_
        refine j_iushr hC dJ14_numberOfLeadingZeros_46 ?_
        refine j_istore_n (lv0 := [(1, .int (x3 + (-8)))]) hC dJ14_numberOfLeadingZeros_47 rfl rfl [0] rfl (g_okS.n rfl) ?_
        exact j_sub [0, 1] rfl (kh9 (((x2).toUInt32 >>> (((nI 8)).toUInt32 &&& Int32.toUInt32 31)).toInt32) (x3 + (-8)) hvc)
    refine j_icmp_lt (tgt := 33) hC dJ14_numberOfLeadingZeros_22 rfl (fun c24 => ?_) (fun c24 => ?_)
    · replace hvc := hvc.1 c24
      exact j_sub [1, 0] rfl (kh5 p0 (nI 31) hvc)
    · replace hvc := hvc.2 c24
      refine j_iinc (lv0 := [(0, .int p0)]) hC (-16) dJ14_numberOfLeadingZeros_25 0 rfl rfl rfl [1] rfl (g_okS.h rfl rfl rfl) ?_
      refine j_iload_n hC dJ14_numberOfLeadingZeros_28 rfl 1 rfl ?_
      refine j_bipush hC (nI 16) dJ14_numberOfLeadingZeros_29 rfl ?_
      refine j_iushr hC dJ14_numberOfLeadingZeros_31 ?_
      refine j_istore_n (lv0 := [(1, .int ((nI 31) + (-16)))]) hC dJ14_numberOfLeadingZeros_32 rfl rfl [0] rfl (g_okS.n rfl) ?_
      exact j_sub [0, 1] rfl (kh5 (((p0).toUInt32 >>> (((nI 16)).toUInt32 &&& Int32.toUInt32 31)).toInt32) ((nI 31) + (-16)) hvc)
  · replace hvc := hvc.2 c1
    refine j_iload_n hC dJ14_numberOfLeadingZeros_4 rfl 0 rfl ?_
    replace hvc := g_jn1_o hvc
    obtain ⟨K27, hK30, hvc⟩ := hvc
    have kh28 : ∀ (x26 : Int32), K27 x26 → g_J p l e R s m args below meth c 2 E st0 Z 14 [] [.int x26] st cb sb := by
      clear hvc
      intro x26 hvc
      replace hvc := hK30 _ hvc
      exact hret _ _ _ _ _ _ dJ14_numberOfLeadingZeros_14 rfl hvc
    refine j_if_ne (tgt := 13) hC dJ14_numberOfLeadingZeros_5 rfl (fun c29 => ?_) (fun c29 => ?_)
    · replace hvc := hvc.1 c29
      refine j_iconst hC (nI 0) dJ14_numberOfLeadingZeros_13 rfl ?_
      exact j_sub [] rfl (kh28 (nI 0) hvc)
    · replace hvc := hvc.2 c29
      refine j_bipush hC (nI 32) dJ14_numberOfLeadingZeros_8 rfl ?_
      refine j_goto (tgt := 14) hC dJ14_numberOfLeadingZeros_10 rfl ?_
      exact j_sub [] rfl (kh28 (nI 32) hvc)
theorem wk_J14_numberOfLeadingZeros {l : Launch} {E : g_E} {p0 : Int32} {st : g_St} {mc ms : Nat} {Q : Int32 → g_St → Prop} (hvc : vc_J14_numberOfLeadingZeros l E p0 st Q) : wp_J14_numberOfLeadingZeros l E mc ms [.int p0] st Q :=
  g_enter (lv0 := [(0, .int p0)]) (plainFor_of_name (by decide +kernel)) (by simp [lv_args, g_c1, g_ci, g_cL]) (by simp [lg_sl, g_c1, g_ci, g_cL]) (fun p e s m args below meth c hC => wb_J14_numberOfLeadingZeros hC ⟨Nat.le_refl _, Nat.le_refl _⟩ (fun pc lv v st1 cb sb hd hn hq => j_ireturn hC rfl hn hd (g_iv hq)) hvc)
abbrev wp_J25_getLongUnaligned (l : Launch) (E : g_E) (mc ms : Nat) (av : List Value) (st : g_St) (Q : Int64 → g_St → Prop) : Prop := g_WPl l E yJ25_getLongUnaligned cJ25_getLongUnaligned 4 (some .long) 1 40 mc ms av st Q
def vc_J25_getLongUnaligned (l : Launch) (E : g_E) (a0 : Nat) (p0 : Option Nat) (p1 : Int64) (st : g_St) (Q : Int64 → g_St → Prop) : Prop :=
  (¬ (lg_cmp (p1 &&& 7) 0) = 0 → (¬ (lg_cmp (p1 &&& 3) 0) = 0 → (¬ (lg_cmp (p1 &&& 1) 0) = 0 → False) ∧ ((lg_cmp (p1 &&& 1) 0) = 0 → False)) ∧ ((lg_cmp (p1 &&& 3) 0) = 0 → ∃ a5 : Nat, p0 = some a5 ∧ ∃ (n6 : Nat) (f7 : Nat → Int32) (j8 : Nat), g_ai st a5 1 n6 f7 ∧ (some a0) = E.2.2.2.2.1 5 ∧ g_getI p1 n6 f7 j8 ∧ ∀ x4 : Int32, x4 = g_getIv f7 j8 → ∃ (n10 : Nat) (f11 : Nat → Int32) (j12 : Nat), g_ai st a5 1 n10 f11 ∧ (some a0) = E.2.2.2.2.1 5 ∧ g_getI (p1 + 4) n10 f11 j12 ∧ ∀ x9 : Int32, x9 = g_getIv f11 j12 → False)) ∧ ((lg_cmp (p1 &&& 7) 0) = 0 → ∃ a14 : Nat, p0 = some a14 ∧ ∃ (n15 : Nat) (f16 : Nat → Int32) (j17 : Nat), g_ai st a14 1 n15 f16 ∧ (some a0) = E.2.2.2.2.1 5 ∧ g_getL p1 n15 f16 j17 ∧ ∀ y13 : Int64, y13 = g_getLv f16 j17 → Q y13 st)
set_option maxHeartbeats 4000000 in
theorem wb_J25_getLongUnaligned {p : Program} {l : Launch} {e : Env} {R : Room} {s : State} {m : MethodId} {args : Array Value} {below : List Frame} {meth : Method} {c : Code} {E : g_E} {st0 : g_St} {Z : State → Prop} (hC : g_Cx p s m args meth c cJ25_getLongUnaligned 4 "jdk/internal/misc/Unsafe" (some .long) "getLongUnaligned" E st0) (hR : g_Rm 1 40 R) {a0 : Nat} {p0 : Option Nat} {p1 : Int64} {st : g_St} {cb sb : Nat} {Q : Int64 → g_St → Prop} (hret : ∀ (pc : Nat) (lv : List (Nat × Value)) (v : Int64) (st1 : g_St) (cb sb : Nat), decode cJ25_getLongUnaligned pc = .ok (.lreturn, 1) → Q v st1 → g_J p l e R s m args below meth c 4 E st0 Z pc lv [.long v] st1 cb sb) (hvc : vc_J25_getLongUnaligned l E a0 p0 p1 st Q) : g_J p l e R s m args below meth c 4 E st0 Z 0 [(0, va_rf (some a0)), (1, va_rf p0), (2, .long p1)] [] st cb sb := by
  unfold vc_J25_getLongUnaligned at hvc
  refine j_lload_n hC dJ25_getLongUnaligned_0 rfl 2 rfl ?_
  refine j_ldc2 hC 7 q697 dJ25_getLongUnaligned_1 ?_
  refine j_land hC dJ25_getLongUnaligned_4 ?_
  refine j_lconst hC 0 dJ25_getLongUnaligned_5 rfl ?_
  refine j_lcmp hC dJ25_getLongUnaligned_6 ?_
  refine j_if_ne (tgt := 17) hC dJ25_getLongUnaligned_7 rfl (fun c1 => ?_) (fun c1 => ?_)
  · replace hvc := hvc.1 c1
    refine j_lload_n hC dJ25_getLongUnaligned_17 rfl 2 rfl ?_
    refine j_ldc2 hC 3 q702 dJ25_getLongUnaligned_18 ?_
    refine j_land hC dJ25_getLongUnaligned_21 ?_
    refine j_lconst hC 0 dJ25_getLongUnaligned_22 rfl ?_
    refine j_lcmp hC dJ25_getLongUnaligned_23 ?_
    refine j_if_ne (tgt := 47) hC dJ25_getLongUnaligned_24 rfl (fun c2 => ?_) (fun c2 => ?_)
    · replace hvc := hvc.1 c2
      refine j_lload_n hC dJ25_getLongUnaligned_47 rfl 2 rfl ?_
      refine j_lconst hC 1 dJ25_getLongUnaligned_48 rfl ?_
      refine j_land hC dJ25_getLongUnaligned_49 ?_
      refine j_lconst hC 0 dJ25_getLongUnaligned_50 rfl ?_
      refine j_lcmp hC dJ25_getLongUnaligned_51 ?_
      refine j_if_ne (tgt := 95) hC dJ25_getLongUnaligned_52 rfl (fun c3 => ?_) (fun c3 => ?_)
      · replace hvc := hvc.1 c3
        refine j_aload_n hC dJ25_getLongUnaligned_95 rfl 0 rfl ?_
        refine j_aload_n hC dJ25_getLongUnaligned_96 rfl 1 rfl ?_
        refine j_lload_n hC dJ25_getLongUnaligned_97 rfl 2 rfl ?_
        exact hvc.elim
      · replace hvc := hvc.2 c3
        refine j_aload_n hC dJ25_getLongUnaligned_55 rfl 0 rfl ?_
        refine j_aload_n hC dJ25_getLongUnaligned_56 rfl 1 rfl ?_
        refine j_lload_n hC dJ25_getLongUnaligned_57 rfl 2 rfl ?_
        exact hvc.elim
    · replace hvc := hvc.2 c2
      refine j_aload_n hC dJ25_getLongUnaligned_27 rfl 0 rfl ?_
      refine j_aload_n hC dJ25_getLongUnaligned_28 rfl 1 rfl ?_
      refine j_lload_n hC dJ25_getLongUnaligned_29 rfl 2 rfl ?_
      obtain ⟨a5, rfl, hvc⟩ := hvc
      obtain ⟨n6, f7, j8, hr, hu, hg, hvc⟩ := hvc
      refine j_getInt (fr := 0) (lo := 0) hC q703 hr hu hg (Nat.le_trans (Nat.le_of_ble_eq_true rfl) hR.1) (Nat.le_trans (g_sumN rfl) hR.2) dJ25_getLongUnaligned_30 ?_
      replace hvc := hvc _ rfl
      generalize g_getIv f7 j8 = x4 at hvc ⊢
      clear hr hu hg
      refine j_aload_n hC dJ25_getLongUnaligned_33 rfl 0 rfl ?_
      refine j_aload_n hC dJ25_getLongUnaligned_34 rfl 1 rfl ?_
      refine j_lload_n hC dJ25_getLongUnaligned_35 rfl 2 rfl ?_
      refine j_ldc2 hC 4 q707 dJ25_getLongUnaligned_36 ?_
      refine j_ladd hC dJ25_getLongUnaligned_39 ?_
      obtain ⟨n10, f11, j12, hr, hu, hg, hvc⟩ := hvc
      refine j_getInt (fr := 0) (lo := 0) hC q703 hr hu hg (Nat.le_trans (Nat.le_of_ble_eq_true rfl) hR.1) (Nat.le_trans (g_sumN rfl) hR.2) dJ25_getLongUnaligned_40 ?_
      replace hvc := hvc _ rfl
      generalize g_getIv f11 j12 = x9 at hvc ⊢
      clear hr hu hg
      exact hvc.elim
  · replace hvc := hvc.2 c1
    refine j_aload_n hC dJ25_getLongUnaligned_10 rfl 0 rfl ?_
    refine j_aload_n hC dJ25_getLongUnaligned_11 rfl 1 rfl ?_
    refine j_lload_n hC dJ25_getLongUnaligned_12 rfl 2 rfl ?_
    obtain ⟨a14, rfl, hvc⟩ := hvc
    obtain ⟨n15, f16, j17, hr, hu, hg, hvc⟩ := hvc
    refine j_getLong (fr := 0) (lo := 0) hC q698 hr hu hg (Nat.le_trans (Nat.le_of_ble_eq_true rfl) hR.1) (Nat.le_trans (g_sumN rfl) hR.2) dJ25_getLongUnaligned_13 ?_
    replace hvc := hvc _ rfl
    generalize g_getLv f16 j17 = y13 at hvc ⊢
    clear hr hu hg
    exact hret _ _ _ _ _ _ dJ25_getLongUnaligned_16 hvc
theorem wk_J25_getLongUnaligned {l : Launch} {E : g_E} {a0 : Nat} {p0 : Option Nat} {p1 : Int64} {st : g_St} {mc ms : Nat} {Q : Int64 → g_St → Prop} (hvc : vc_J25_getLongUnaligned l E a0 p0 p1 st Q) : wp_J25_getLongUnaligned l E mc ms [va_rf (some a0), va_rf p0, .long p1] st Q :=
  g_enter (lv0 := [(0, va_rf (some a0)), (1, va_rf p0), (2, .long p1)]) (g_pf_getLongUnaligned) (by simp [lv_args, g_c1, g_ci, g_cL]) (by simp [lg_sl, g_c1, g_ci, g_cL]) (fun p e s m args below meth c hC => wb_J25_getLongUnaligned hC ⟨Nat.le_refl _, Nat.le_refl _⟩ (fun pc lv v st1 cb sb hd hq => j_lreturn hC rfl hd (g_lvv hq)) hvc)
abbrev wp_J26_numberOfTrailingZeros (l : Launch) (E : g_E) (mc ms : Nat) (av : List Value) (st : g_St) (Q : Int32 → g_St → Prop) : Prop := g_WPi l E yJ26_numberOfTrailingZeros cJ26_numberOfTrailingZeros 3 (some .int) 2 61 mc ms av st Q
def vc_J26_numberOfTrailingZeros (l : Launch) (E : g_E) (p0 : Int64) (st : g_St) (Q : Int32 → g_St → Prop) : Prop :=
  g_jn1 (fun (K2 : Int32 → Prop) => (¬ ((p0).toInt32) = 0 → wp_J14_numberOfTrailingZeros l E 0 0 [.int ((p0).toInt32)] st (fun x5 stx => stx = st ∧ K2 x5)) ∧ (((p0).toInt32) = 0 → wp_J14_numberOfTrailingZeros l E 0 0 [.int (((((p0).toUInt64 >>> (((nI 32)).toInt64.toUInt64 &&& Int64.toUInt64 63)).toInt64)).toInt32)] st (fun x6 stx => stx = st ∧ K2 ((nI 32) + x6)))) (fun (x1 : Int32) => Q x1 st)
set_option maxHeartbeats 4000000 in
theorem wb_J26_numberOfTrailingZeros {p : Program} {l : Launch} {e : Env} {R : Room} {s : State} {m : MethodId} {args : Array Value} {below : List Frame} {meth : Method} {c : Code} {E : g_E} {st0 : g_St} {Z : State → Prop} (hC : g_Cx p s m args meth c cJ26_numberOfTrailingZeros 3 "java/lang/Long" (some .int) "numberOfTrailingZeros" E st0) (hR : g_Rm 2 61 R) {p0 : Int64} {st : g_St} {cb sb : Nat} {Q : Int32 → g_St → Prop} (hret : ∀ (pc : Nat) (lv : List (Nat × Value)) (v : Int32) (st1 : g_St) (cb sb : Nat), decode cJ26_numberOfTrailingZeros pc = .ok (.ireturn, 1) → narrow .int (.int v) = .int v → Q v st1 → g_J p l e R s m args below meth c 3 E st0 Z pc lv [.int v] st1 cb sb) (hvc : vc_J26_numberOfTrailingZeros l E p0 st Q) : g_J p l e R s m args below meth c 3 E st0 Z 0 [(0, .long p0)] [] st cb sb := by
  unfold vc_J26_numberOfTrailingZeros at hvc
  refine j_lload_n hC dJ26_numberOfTrailingZeros_0 rfl 0 rfl ?_
  refine j_l2i hC dJ26_numberOfTrailingZeros_1 ?_
  refine j_istore_n (lv0 := [(0, .long p0)]) hC dJ26_numberOfTrailingZeros_2 rfl rfl [0] rfl (g_okS.n rfl) ?_
  refine j_iload_n hC dJ26_numberOfTrailingZeros_3 rfl 0 rfl ?_
  replace hvc := g_jn1_o hvc
  obtain ⟨K2, hK7, hvc⟩ := hvc
  have kh3 : ∀ (x1 : Int32), K2 x1 → g_J p l e R s m args below meth c 3 E st0 Z 25 [] [.int x1] st cb sb := by
    clear hvc
    intro x1 hvc
    replace hvc := hK7 _ hvc
    exact hret _ _ _ _ _ _ dJ26_numberOfTrailingZeros_25 rfl hvc
  refine j_if_ne (tgt := 21) hC dJ26_numberOfTrailingZeros_4 rfl (fun c4 => ?_) (fun c4 => ?_)
  · replace hvc := hvc.1 c4
    refine j_iload_n hC dJ26_numberOfTrailingZeros_21 rfl 0 rfl ?_
    refine j_callS (As := [.int ((p0).toInt32)]) (rest := []) (n := 1) hC hvc (lw_S q759 q760 q56 q761) (by decide +kernel) (g_rm hR rfl rfl) rfl rfl (g_sum rfl) dJ26_numberOfTrailingZeros_22 (Nat.zero_le _) (Nat.zero_le _) (g_Kip fun x5 hv2 => ?_)
    replace hvc := hv2; clear hv2
    exact j_sub [] rfl (kh3 x5 hvc)
  · replace hvc := hvc.2 c4
    refine j_bipush hC (nI 32) dJ26_numberOfTrailingZeros_7 rfl ?_
    refine j_lload_n hC dJ26_numberOfTrailingZeros_9 rfl 1 rfl ?_
    refine j_bipush hC (nI 32) dJ26_numberOfTrailingZeros_10 rfl ?_
    refine j_lushr hC dJ26_numberOfTrailingZeros_12 ?_
    refine j_l2i hC dJ26_numberOfTrailingZeros_13 ?_
    refine j_callS (As := [.int (((((p0).toUInt64 >>> (((nI 32)).toInt64.toUInt64 &&& Int64.toUInt64 63)).toInt64)).toInt32)]) (rest := [.int (nI 32)]) (n := 1) hC hvc (lw_S q759 q760 q56 q761) (by decide +kernel) (g_rm hR rfl rfl) rfl rfl (g_sum rfl) dJ26_numberOfTrailingZeros_14 (Nat.zero_le _) (Nat.zero_le _) (g_Kip fun x6 hv2 => ?_)
    replace hvc := hv2; clear hv2
    refine j_iadd hC dJ26_numberOfTrailingZeros_17 ?_
    refine j_goto (tgt := 25) hC dJ26_numberOfTrailingZeros_18 rfl ?_
    exact j_sub [] rfl (kh3 ((nI 32) + x6) hvc)
theorem wk_J26_numberOfTrailingZeros {l : Launch} {E : g_E} {p0 : Int64} {st : g_St} {mc ms : Nat} {Q : Int32 → g_St → Prop} (hvc : vc_J26_numberOfTrailingZeros l E p0 st Q) : wp_J26_numberOfTrailingZeros l E mc ms [.long p0] st Q :=
  g_enter (lv0 := [(0, .long p0)]) (plainFor_of_name (by decide +kernel)) (by simp [lv_args, g_c1, g_ci, g_cL]) (by simp [lg_sl, g_c1, g_ci, g_cL]) (fun p e s m args below meth c hC => wb_J26_numberOfTrailingZeros hC ⟨Nat.le_refl _, Nat.le_refl _⟩ (fun pc lv v st1 cb sb hd hn hq => j_ireturn hC rfl hn hd (g_iv hq)) hvc)
abbrev wp_J26_numberOfLeadingZeros (l : Launch) (E : g_E) (mc ms : Nat) (av : List Value) (st : g_St) (Q : Int32 → g_St → Prop) : Prop := g_WPi l E yJ26_numberOfLeadingZeros cJ26_numberOfLeadingZeros 3 (some .int) 2 61 mc ms av st Q
def vc_J26_numberOfLeadingZeros (l : Launch) (E : g_E) (p0 : Int64) (st : g_St) (Q : Int32 → g_St → Prop) : Prop :=
  g_jn1 (fun (K2 : Int32 → Prop) => (¬ (((((p0).toUInt64 >>> (((nI 32)).toInt64.toUInt64 &&& Int64.toUInt64 63)).toInt64)).toInt32) = 0 → wp_J14_numberOfLeadingZeros l E 0 0 [.int (((((p0).toUInt64 >>> (((nI 32)).toInt64.toUInt64 &&& Int64.toUInt64 63)).toInt64)).toInt32)] st (fun x5 stx => stx = st ∧ K2 x5)) ∧ ((((((p0).toUInt64 >>> (((nI 32)).toInt64.toUInt64 &&& Int64.toUInt64 63)).toInt64)).toInt32) = 0 → wp_J14_numberOfLeadingZeros l E 0 0 [.int ((p0).toInt32)] st (fun x6 stx => stx = st ∧ K2 ((nI 32) + x6)))) (fun (x1 : Int32) => Q x1 st)
set_option maxHeartbeats 4000000 in
theorem wb_J26_numberOfLeadingZeros {p : Program} {l : Launch} {e : Env} {R : Room} {s : State} {m : MethodId} {args : Array Value} {below : List Frame} {meth : Method} {c : Code} {E : g_E} {st0 : g_St} {Z : State → Prop} (hC : g_Cx p s m args meth c cJ26_numberOfLeadingZeros 3 "java/lang/Long" (some .int) "numberOfLeadingZeros" E st0) (hR : g_Rm 2 61 R) {p0 : Int64} {st : g_St} {cb sb : Nat} {Q : Int32 → g_St → Prop} (hret : ∀ (pc : Nat) (lv : List (Nat × Value)) (v : Int32) (st1 : g_St) (cb sb : Nat), decode cJ26_numberOfLeadingZeros pc = .ok (.ireturn, 1) → narrow .int (.int v) = .int v → Q v st1 → g_J p l e R s m args below meth c 3 E st0 Z pc lv [.int v] st1 cb sb) (hvc : vc_J26_numberOfLeadingZeros l E p0 st Q) : g_J p l e R s m args below meth c 3 E st0 Z 0 [(0, .long p0)] [] st cb sb := by
  unfold vc_J26_numberOfLeadingZeros at hvc
  refine j_lload_n hC dJ26_numberOfLeadingZeros_0 rfl 0 rfl ?_
  refine j_bipush hC (nI 32) dJ26_numberOfLeadingZeros_1 rfl ?_
  refine j_lushr hC dJ26_numberOfLeadingZeros_3 ?_
  refine j_l2i hC dJ26_numberOfLeadingZeros_4 ?_
  refine j_istore_n (lv0 := [(0, .long p0)]) hC dJ26_numberOfLeadingZeros_5 rfl rfl [0] rfl (g_okS.n rfl) ?_
  refine j_iload_n hC dJ26_numberOfLeadingZeros_6 rfl 0 rfl ?_
  replace hvc := g_jn1_o hvc
  obtain ⟨K2, hK7, hvc⟩ := hvc
  have kh3 : ∀ (x1 : Int32), K2 x1 → g_J p l e R s m args below meth c 3 E st0 Z 25 [] [.int x1] st cb sb := by
    clear hvc
    intro x1 hvc
    replace hvc := hK7 _ hvc
    exact hret _ _ _ _ _ _ dJ26_numberOfLeadingZeros_25 rfl hvc
  refine j_if_ne (tgt := 21) hC dJ26_numberOfLeadingZeros_7 rfl (fun c4 => ?_) (fun c4 => ?_)
  · replace hvc := hvc.1 c4
    refine j_iload_n hC dJ26_numberOfLeadingZeros_21 rfl 0 rfl ?_
    refine j_callS (As := [.int (((((p0).toUInt64 >>> (((nI 32)).toInt64.toUInt64 &&& Int64.toUInt64 63)).toInt64)).toInt32)]) (rest := []) (n := 1) hC hvc (lw_S q750 q751 q56 q752) (by decide +kernel) (g_rm hR rfl rfl) rfl rfl (g_sum rfl) dJ26_numberOfLeadingZeros_22 (Nat.zero_le _) (Nat.zero_le _) (g_Kip fun x5 hv2 => ?_)
    replace hvc := hv2; clear hv2
    exact j_sub [] rfl (kh3 x5 hvc)
  · replace hvc := hvc.2 c4
    refine j_bipush hC (nI 32) dJ26_numberOfLeadingZeros_10 rfl ?_
    refine j_lload_n hC dJ26_numberOfLeadingZeros_12 rfl 1 rfl ?_
    refine j_l2i hC dJ26_numberOfLeadingZeros_13 ?_
    refine j_callS (As := [.int ((p0).toInt32)]) (rest := [.int (nI 32)]) (n := 1) hC hvc (lw_S q750 q751 q56 q752) (by decide +kernel) (g_rm hR rfl rfl) rfl rfl (g_sum rfl) dJ26_numberOfLeadingZeros_14 (Nat.zero_le _) (Nat.zero_le _) (g_Kip fun x6 hv2 => ?_)
    replace hvc := hv2; clear hv2
    refine j_iadd hC dJ26_numberOfLeadingZeros_17 ?_
    refine j_goto (tgt := 25) hC dJ26_numberOfLeadingZeros_18 rfl ?_
    exact j_sub [] rfl (kh3 ((nI 32) + x6) hvc)
theorem wk_J26_numberOfLeadingZeros {l : Launch} {E : g_E} {p0 : Int64} {st : g_St} {mc ms : Nat} {Q : Int32 → g_St → Prop} (hvc : vc_J26_numberOfLeadingZeros l E p0 st Q) : wp_J26_numberOfLeadingZeros l E mc ms [.long p0] st Q :=
  g_enter (lv0 := [(0, .long p0)]) (plainFor_of_name (by decide +kernel)) (by simp [lv_args, g_c1, g_ci, g_cL]) (by simp [lg_sl, g_c1, g_ci, g_cL]) (fun p e s m args below meth c hC => wb_J26_numberOfLeadingZeros hC ⟨Nat.le_refl _, Nat.le_refl _⟩ (fun pc lv v st1 cb sb hd hn hq => j_ireturn hC rfl hn hd (g_iv hq)) hvc)
abbrev wp_J15_vectorizedMismatch (l : Launch) (E : g_E) (mc ms : Nat) (av : List Value) (st : g_St) (Q : Int32 → g_St → Prop) : Prop := g_WPi l E yJ15_vectorizedMismatch cJ15_vectorizedMismatch 19 (some .int) 3 83 mc ms av st Q
def vc_J15_vectorizedMismatch (l : Launch) (E : g_E) (p0 : Option Nat) (p1 : Int64) (p2 : Option Nat) (p3 : Int64) (p4 : Int32) (p5 : Int32) (st : g_St) (Q : Int32 → g_St → Prop) : Prop :=
  g_lp1 (fun (K2 : Int32 → Prop) (x1 : Int32) => ((p4 >>> (((nI 3) - p5) &&& 31)) ≤ x1 → ((nI 2) ≤ p5 → Q ((p4 - (x1 <<< (((nI 3) - p5) &&& 31))) ^^^ (-1)) st) ∧ (¬ (nI 2) ≤ p5 → g_jn1 (fun (K8 : Int32 → Prop) => ((p4 - (x1 <<< (((nI 3) - p5) &&& 31))) < ((nI 1) <<< (((nI 2) - p5) &&& 31)) → K8 (p4 - (x1 <<< (((nI 3) - p5) &&& 31)))) ∧ (¬ (p4 - (x1 <<< (((nI 3) - p5) &&& 31))) < ((nI 1) <<< (((nI 2) - p5) &&& 31)) → ∀ o11 : Option Nat, o11 = E.2.2.2.2.1 5 → ∃ a12 : Nat, o11 = some a12 ∧ (some a12) = E.2.2.2.2.1 5 ∧ wp_J25_getIntUnaligned l E 0 0 [va_rf (some a12), va_rf p0, .long (p1 + (((x1).toInt64) <<< (((nI 3)).toInt64 &&& 63)))] st (fun x13 stx => stx = st ∧ ∀ o14 : Option Nat, o14 = E.2.2.2.2.1 5 → ∃ a15 : Nat, o14 = some a15 ∧ (some a15) = E.2.2.2.2.1 5 ∧ wp_J25_getIntUnaligned l E 0 0 [va_rf (some a15), va_rf p2, .long (p3 + (((x1).toInt64) <<< (((nI 3)).toInt64 &&& 63)))] st (fun x16 stx => stx = st ∧ (x13 = x16 → K8 ((p4 - (x1 <<< (((nI 3) - p5) &&& 31))) - ((nI 1) <<< (((nI 2) - p5) &&& 31)))) ∧ (¬ x13 = x16 → g_jn1 (fun (K19 : Int32 → Prop) => wp_J14_numberOfTrailingZeros l E 0 0 [.int (x13 ^^^ x16)] st (fun x21 stx => stx = st ∧ K19 (x21 >>> (((nI 3) + p5) &&& 31)))) (fun (x18 : Int32) => Q ((x1 <<< (((nI 3) - p5) &&& 31)) + x18) st)))))) (fun (x7 : Int32) => Q (x7 ^^^ (-1)) st))) ∧ (¬ (p4 >>> (((nI 3) - p5) &&& 31)) ≤ x1 → ∀ o25 : Option Nat, o25 = E.2.2.2.2.1 5 → ∃ a26 : Nat, o25 = some a26 ∧ (some a26) = E.2.2.2.2.1 5 ∧ wp_J25_getLongUnaligned l E 0 0 [va_rf (some a26), va_rf p0, .long (p1 + (((x1).toInt64) <<< (((nI 3)).toInt64 &&& 63)))] st (fun y27 stx => stx = st ∧ ∀ o28 : Option Nat, o28 = E.2.2.2.2.1 5 → ∃ a29 : Nat, o28 = some a29 ∧ (some a29) = E.2.2.2.2.1 5 ∧ wp_J25_getLongUnaligned l E 0 0 [va_rf (some a29), va_rf p2, .long (p3 + (((x1).toInt64) <<< (((nI 3)).toInt64 &&& 63)))] st (fun y30 stx => stx = st ∧ ((lg_cmp y27 y30) = 0 → K2 (x1 + (nI 1))) ∧ (¬ (lg_cmp y27 y30) = 0 → g_jn1 (fun (K33 : Int32 → Prop) => wp_J26_numberOfTrailingZeros l E 0 0 [.long (y27 ^^^ y30)] st (fun x35 stx => stx = st ∧ K33 (x35 >>> (((nI 3) + p5) &&& 31)))) (fun (x32 : Int32) => Q ((x1 <<< (((nI 3) - p5) &&& 31)) + x32) st)))))) (nI 0)
set_option maxHeartbeats 4000000 in
theorem wb_J15_vectorizedMismatch {p : Program} {l : Launch} {e : Env} {R : Room} {s : State} {m : MethodId} {args : Array Value} {below : List Frame} {meth : Method} {c : Code} {E : g_E} {st0 : g_St} {Z : State → Prop} (hC : g_Cx p s m args meth c cJ15_vectorizedMismatch 19 "jdk/internal/util/ArraysSupport" (some .int) "vectorizedMismatch" E st0) (hR : g_Rm 3 83 R) {p0 : Option Nat} {p1 : Int64} {p2 : Option Nat} {p3 : Int64} {p4 : Int32} {p5 : Int32} {st : g_St} {cb sb : Nat} {Q : Int32 → g_St → Prop} (hret : ∀ (pc : Nat) (lv : List (Nat × Value)) (v : Int32) (st1 : g_St) (cb sb : Nat), decode cJ15_vectorizedMismatch pc = .ok (.ireturn, 1) → narrow .int (.int v) = .int v → Q v st1 → g_J p l e R s m args below meth c 19 E st0 Z pc lv [.int v] st1 cb sb) (hvc : vc_J15_vectorizedMismatch l E p0 p1 p2 p3 p4 p5 st Q) : g_J p l e R s m args below meth c 19 E st0 Z 0 [(0, va_rf p0), (1, .long p1), (3, va_rf p2), (4, .long p3), (6, .int p4), (7, .int p5)] [] st cb sb := by
  unfold vc_J15_vectorizedMismatch at hvc
  refine j_gets (v := .int (nI 3)) hC gs_9 q689 (Or.inl rfl) dJ15_vectorizedMismatch_0 ?_
  refine j_iload hC dJ15_vectorizedMismatch_3 5 rfl ?_
  refine j_isub hC dJ15_vectorizedMismatch_5 ?_
  refine j_istore (lv0 := [(7, .int p5), (0, va_rf p0), (1, .long p1), (3, va_rf p2), (4, .long p3), (6, .int p4)]) hC dJ15_vectorizedMismatch_6 rfl [5, 0, 1, 2, 3, 4] rfl (g_okS.h rfl rfl rfl) ?_
  refine j_iconst hC (nI 0) dJ15_vectorizedMismatch_8 rfl ?_
  refine j_istore (lv0 := [(8, .int ((nI 3) - p5)), (7, .int p5), (0, va_rf p0), (1, .long p1), (3, va_rf p2), (4, .long p3), (6, .int p4)]) hC dJ15_vectorizedMismatch_9 rfl [0, 1, 2, 3, 4, 5, 6] rfl (g_okS.h rfl rfl rfl) ?_
  replace hvc := g_lp1_o hvc
  obtain ⟨K2, hz38, hs39, n40, hvc⟩ := hvc
  have kh3 : ∀ (n : Nat) (x1 : Int32), K2 n x1 → g_J p l e R s m args below meth c 19 E st0 Z 11 [(0, va_rf p0), (1, .long p1), (3, va_rf p2), (4, .long p3), (6, .int p4), (7, .int p5), (8, .int ((nI 3) - p5)), (9, .int x1)] [] st cb sb := by
    clear hvc
    intro n
    induction n with
    | zero => intro x1 hvc; exact absurd hvc (hz38 _)
    | succ n ih4 =>
      intro x1 hvc
      replace hvc := hs39 n _ hvc
      refine j_iload hC dJ15_vectorizedMismatch_11 7 rfl ?_
      refine j_iload hC dJ15_vectorizedMismatch_13 4 rfl ?_
      refine j_iload hC dJ15_vectorizedMismatch_15 6 rfl ?_
      refine j_ishr hC dJ15_vectorizedMismatch_17 ?_
      refine j_icmp_ge (tgt := 122) hC dJ15_vectorizedMismatch_18 rfl (fun c5 => ?_) (fun c5 => ?_)
      · replace hvc := hvc.1 c5
        refine j_iload hC dJ15_vectorizedMismatch_122 4 rfl ?_
        refine j_iload hC dJ15_vectorizedMismatch_124 7 rfl ?_
        refine j_iload hC dJ15_vectorizedMismatch_126 6 rfl ?_
        refine j_ishl hC dJ15_vectorizedMismatch_128 ?_
        refine j_isub hC dJ15_vectorizedMismatch_129 ?_
        refine j_istore (lv0 := [(9, .int x1), (0, va_rf p0), (1, .long p1), (3, va_rf p2), (4, .long p3), (6, .int p4), (7, .int p5), (8, .int ((nI 3) - p5))]) hC dJ15_vectorizedMismatch_130 rfl [7, 0, 1, 2, 3, 4, 5, 6] rfl (g_okS.h rfl rfl rfl) ?_
        refine j_iload hC dJ15_vectorizedMismatch_132 7 rfl ?_
        refine j_gets (v := .int (nI 2)) hC gs_8 q762 (Or.inl rfl) dJ15_vectorizedMismatch_134 ?_
        refine j_icmp_ge (tgt := 263) hC dJ15_vectorizedMismatch_137 rfl (fun c6 => ?_) (fun c6 => ?_)
        · replace hvc := hvc.1 c6
          refine j_iload hC dJ15_vectorizedMismatch_263 0 rfl ?_
          refine j_iconst hC (-1) dJ15_vectorizedMismatch_265 rfl ?_
          refine j_ixor hC dJ15_vectorizedMismatch_266 ?_
          exact hret _ _ _ _ _ _ dJ15_vectorizedMismatch_267 rfl hvc
        · replace hvc := hvc.2 c6
          refine j_iconst hC (nI 1) dJ15_vectorizedMismatch_140 rfl ?_
          refine j_gets (v := .int (nI 2)) hC gs_8 q762 (Or.inl rfl) dJ15_vectorizedMismatch_141 ?_
          refine j_iload hC dJ15_vectorizedMismatch_144 7 rfl ?_
          refine j_isub hC dJ15_vectorizedMismatch_146 ?_
          refine j_ishl hC dJ15_vectorizedMismatch_147 ?_
          refine j_istore (lv0 := [(10, .int (p4 - (x1 <<< (((nI 3) - p5) &&& 31)))), (9, .int x1), (0, va_rf p0), (1, .long p1), (3, va_rf p2), (4, .long p3), (6, .int p4), (7, .int p5), (8, .int ((nI 3) - p5))]) hC dJ15_vectorizedMismatch_148 rfl [0, 1, 2, 3, 4, 5, 6, 7, 8] rfl (g_okS.h rfl rfl rfl) ?_
          refine j_iload hC dJ15_vectorizedMismatch_150 1 rfl ?_
          refine j_iload hC dJ15_vectorizedMismatch_152 0 rfl ?_
          replace hvc := g_jn1_o hvc
          obtain ⟨K8, hK24, hvc⟩ := hvc
          have kh9 : ∀ (x7 : Int32), K8 x7 → g_J p l e R s m args below meth c 19 E st0 Z 258 [(10, .int x7)] [] st cb sb := by
            clear hvc
            intro x7 hvc
            replace hvc := hK24 _ hvc
            refine j_iload hC dJ15_vectorizedMismatch_258 0 rfl ?_
            refine j_iconst hC (-1) dJ15_vectorizedMismatch_260 rfl ?_
            refine j_ixor hC dJ15_vectorizedMismatch_261 ?_
            exact hret _ _ _ _ _ _ dJ15_vectorizedMismatch_262 rfl hvc
          refine j_icmp_lt (tgt := 258) hC dJ15_vectorizedMismatch_154 rfl (fun c10 => ?_) (fun c10 => ?_)
          · replace hvc := hvc.1 c10
            exact j_sub [1] rfl (kh9 (p4 - (x1 <<< (((nI 3) - p5) &&& 31))) hvc)
          · replace hvc := hvc.2 c10
            refine j_iload hC dJ15_vectorizedMismatch_157 2 rfl ?_
            refine j_i2l hC dJ15_vectorizedMismatch_159 ?_
            refine j_gets (v := .int (nI 3)) hC gs_9 q689 (Or.inl rfl) dJ15_vectorizedMismatch_160 ?_
            refine j_lshl hC dJ15_vectorizedMismatch_163 ?_
            refine j_lstore (lv0 := [(11, .int ((nI 1) <<< (((nI 2) - p5) &&& 31))), (10, .int (p4 - (x1 <<< (((nI 3) - p5) &&& 31)))), (9, .int x1), (0, va_rf p0), (1, .long p1), (3, va_rf p2), (4, .long p3), (6, .int p4), (7, .int p5), (8, .int ((nI 3) - p5))]) hC dJ15_vectorizedMismatch_164 rfl [0, 1, 2, 3, 4, 5, 6, 7, 8, 9] rfl (g_okS.h rfl rfl rfl) rfl ?_
            refine j_gets hC gs_4 q691 (Or.inl rfl) dJ15_vectorizedMismatch_166 ?_
            obtain ⟨o11, ho11⟩ : ∃ z : Option Nat, z = E.2.2.2.2.1 5 := ⟨_, rfl⟩
            rw [← ho11]
            replace hvc := hvc _ ho11
            refine j_aload_n hC dJ15_vectorizedMismatch_169 rfl 4 rfl ?_
            refine j_lload_n hC dJ15_vectorizedMismatch_170 rfl 5 rfl ?_
            refine j_lload hC dJ15_vectorizedMismatch_171 0 rfl ?_
            refine j_ladd hC dJ15_vectorizedMismatch_173 ?_
            obtain ⟨a12, rfl, hvc⟩ := hvc
            obtain ⟨hu, hvc⟩ := hvc
            refine j_callVO (As := [va_rf p0, .long (p1 + (((x1).toInt64) <<< (((nI 3)).toInt64 &&& 63)))]) (rest := []) (n := 2) hC hvc (lw_V q764 q765 q766 q69 q767) (by decide +kernel) (g_rm hR rfl rfl) hu rfl rfl (g_sum rfl) dJ15_vectorizedMismatch_174 (Nat.zero_le _) (Nat.zero_le _) (g_Kip fun x13 hv2 => ?_)
            replace hvc := hv2; clear hv2
            refine j_istore (lv0 := [(12, .long (((x1).toInt64) <<< (((nI 3)).toInt64 &&& 63))), (11, .int ((nI 1) <<< (((nI 2) - p5) &&& 31))), (10, .int (p4 - (x1 <<< (((nI 3) - p5) &&& 31)))), (9, .int x1), (0, va_rf p0), (1, .long p1), (3, va_rf p2), (4, .long p3), (6, .int p4), (7, .int p5), (8, .int ((nI 3) - p5))]) hC dJ15_vectorizedMismatch_177 rfl [0, 1, 2, 3, 4, 5, 6, 7, 8, 9, 10] rfl (g_okS.n rfl) ?_
            refine j_gets hC gs_4 q691 (Or.inl rfl) dJ15_vectorizedMismatch_179 ?_
            obtain ⟨o14, ho14⟩ : ∃ z : Option Nat, z = E.2.2.2.2.1 5 := ⟨_, rfl⟩
            rw [← ho14]
            replace hvc := hvc _ ho14
            refine j_aload_n hC dJ15_vectorizedMismatch_182 rfl 7 rfl ?_
            refine j_lload hC dJ15_vectorizedMismatch_183 8 rfl ?_
            refine j_lload hC dJ15_vectorizedMismatch_185 1 rfl ?_
            refine j_ladd hC dJ15_vectorizedMismatch_187 ?_
            obtain ⟨a15, rfl, hvc⟩ := hvc
            obtain ⟨hu, hvc⟩ := hvc
            refine j_callVO (As := [va_rf p2, .long (p3 + (((x1).toInt64) <<< (((nI 3)).toInt64 &&& 63)))]) (rest := []) (n := 2) hC hvc (lw_V q764 q765 q766 q69 q767) (by decide +kernel) (g_rm hR rfl rfl) hu rfl rfl (g_sum rfl) dJ15_vectorizedMismatch_188 (Nat.zero_le _) (Nat.zero_le _) (g_Kip fun x16 hv2 => ?_)
            replace hvc := hv2; clear hv2
            refine j_istore (lv0 := [(14, .int x13), (12, .long (((x1).toInt64) <<< (((nI 3)).toInt64 &&& 63))), (11, .int ((nI 1) <<< (((nI 2) - p5) &&& 31))), (10, .int (p4 - (x1 <<< (((nI 3) - p5) &&& 31)))), (9, .int x1), (0, va_rf p0), (1, .long p1), (3, va_rf p2), (4, .long p3), (6, .int p4), (7, .int p5), (8, .int ((nI 3) - p5))]) hC dJ15_vectorizedMismatch_191 rfl [0, 1, 2, 3, 4, 5, 6, 7, 8, 9, 10, 11] rfl (g_okS.h rfl rfl rfl) ?_
            refine j_iload hC dJ15_vectorizedMismatch_193 1 rfl ?_
            refine j_iload hC dJ15_vectorizedMismatch_195 0 rfl ?_
            refine j_icmp_eq (tgt := 251) hC dJ15_vectorizedMismatch_197 rfl (fun c17 => ?_) (fun c17 => ?_)
            · replace hvc := hvc.1 c17
              refine j_iload hC dJ15_vectorizedMismatch_251 4 rfl ?_
              refine j_iload hC dJ15_vectorizedMismatch_253 3 rfl ?_
              refine j_isub hC dJ15_vectorizedMismatch_255 ?_
              refine j_istore (lv0 := [(9, .int x1), (15, .int x16), (14, .int x13), (12, .long (((x1).toInt64) <<< (((nI 3)).toInt64 &&& 63))), (11, .int ((nI 1) <<< (((nI 2) - p5) &&& 31))), (0, va_rf p0), (1, .long p1), (3, va_rf p2), (4, .long p3), (6, .int p4), (7, .int p5), (8, .int ((nI 3) - p5))]) hC dJ15_vectorizedMismatch_256 rfl [5, 0, 1, 2, 3, 6, 7, 8, 9, 10, 11, 12] rfl (g_okS.h rfl rfl rfl) ?_
              exact j_sub [0] rfl (kh9 ((p4 - (x1 <<< (((nI 3) - p5) &&& 31))) - ((nI 1) <<< (((nI 2) - p5) &&& 31))) hvc)
            · replace hvc := hvc.2 c17
              refine j_iload hC dJ15_vectorizedMismatch_200 1 rfl ?_
              refine j_iload hC dJ15_vectorizedMismatch_202 0 rfl ?_
              refine j_ixor hC dJ15_vectorizedMismatch_204 ?_
              refine j_istore (lv0 := [(15, .int x16), (14, .int x13), (12, .long (((x1).toInt64) <<< (((nI 3)).toInt64 &&& 63))), (11, .int ((nI 1) <<< (((nI 2) - p5) &&& 31))), (10, .int (p4 - (x1 <<< (((nI 3) - p5) &&& 31)))), (9, .int x1), (0, va_rf p0), (1, .long p1), (3, va_rf p2), (4, .long p3), (6, .int p4), (7, .int p5), (8, .int ((nI 3) - p5))]) hC dJ15_vectorizedMismatch_205 rfl [0, 1, 2, 3, 4, 5, 6, 7, 8, 9, 10, 11, 12] rfl (g_okS.h rfl rfl rfl) ?_
              refine j_gets (v := .int (nI 0)) hC gs_11 q745 (Or.inl rfl) dJ15_vectorizedMismatch_207 ?_
              replace hvc := g_jn1_o hvc
              obtain ⟨K19, hK23, hvc⟩ := hvc
              have kh20 : ∀ (x18 : Int32), K19 x18 → g_J p l e R s m args below meth c 19 E st0 Z 240 [(8, .int ((nI 3) - p5)), (9, .int x1)] [.int x18] st cb sb := by
                clear hvc
                intro x18 hvc
                replace hvc := hK23 _ hvc
                refine j_istore (lv0 := [(8, .int ((nI 3) - p5)), (9, .int x1)]) hC dJ15_vectorizedMismatch_240 rfl [0, 1] rfl (g_okS.n rfl) ?_
                refine j_iload hC dJ15_vectorizedMismatch_242 2 rfl ?_
                refine j_iload hC dJ15_vectorizedMismatch_244 1 rfl ?_
                refine j_ishl hC dJ15_vectorizedMismatch_246 ?_
                refine j_iload hC dJ15_vectorizedMismatch_247 0 rfl ?_
                refine j_iadd hC dJ15_vectorizedMismatch_249 ?_
                exact hret _ _ _ _ _ _ dJ15_vectorizedMismatch_250 rfl hvc
              refine j_if_eq (tgt := 228) hC dJ15_vectorizedMismatch_210 rfl (fun _ => ?_) (fun c22 => absurd (by decide) c22)
              refine j_iload hC dJ15_vectorizedMismatch_228 0 rfl ?_
              refine j_callS (As := [.int (x13 ^^^ x16)]) (rest := []) (n := 1) hC hvc (lw_S q782 q760 q56 q761) (by decide +kernel) (g_rm hR rfl rfl) rfl rfl (g_sum rfl) dJ15_vectorizedMismatch_230 (Nat.zero_le _) (Nat.zero_le _) (g_Kip fun x21 hv2 => ?_)
              replace hvc := hv2; clear hv2
              refine j_gets (v := .int (nI 3)) hC gs_10 q754 (Or.inl rfl) dJ15_vectorizedMismatch_233 ?_
              refine j_iload hC dJ15_vectorizedMismatch_236 12 rfl ?_
              refine j_iadd hC dJ15_vectorizedMismatch_238 ?_
              refine j_ishr hC dJ15_vectorizedMismatch_239 ?_
              exact j_sub [13, 6] rfl (kh20 (x21 >>> (((nI 3) + p5) &&& 31)) hvc)
      · replace hvc := hvc.2 c5
        refine j_iload hC dJ15_vectorizedMismatch_21 7 rfl ?_
        refine j_i2l hC dJ15_vectorizedMismatch_23 ?_
        refine j_gets (v := .int (nI 3)) hC gs_9 q689 (Or.inl rfl) dJ15_vectorizedMismatch_24 ?_
        refine j_lshl hC dJ15_vectorizedMismatch_27 ?_
        refine j_lstore (lv0 := [(9, .int x1), (0, va_rf p0), (1, .long p1), (3, va_rf p2), (4, .long p3), (6, .int p4), (7, .int p5), (8, .int ((nI 3) - p5))]) hC dJ15_vectorizedMismatch_28 rfl [7, 0, 1, 2, 3, 4, 5, 6] rfl (g_okS.h rfl rfl rfl) rfl ?_
        refine j_gets hC gs_4 q691 (Or.inl rfl) dJ15_vectorizedMismatch_30 ?_
        obtain ⟨o25, ho25⟩ : ∃ z : Option Nat, z = E.2.2.2.2.1 5 := ⟨_, rfl⟩
        rw [← ho25]
        replace hvc := hvc _ ho25
        refine j_aload_n hC dJ15_vectorizedMismatch_33 rfl 2 rfl ?_
        refine j_lload_n hC dJ15_vectorizedMismatch_34 rfl 3 rfl ?_
        refine j_lload hC dJ15_vectorizedMismatch_35 0 rfl ?_
        refine j_ladd hC dJ15_vectorizedMismatch_37 ?_
        obtain ⟨a26, rfl, hvc⟩ := hvc
        obtain ⟨hu, hvc⟩ := hvc
        refine j_callVO (As := [va_rf p0, .long (p1 + (((x1).toInt64) <<< (((nI 3)).toInt64 &&& 63)))]) (rest := []) (n := 2) hC hvc (lw_V q693 q694 q695 q69 q696) (by decide +kernel) (g_rm hR rfl rfl) hu rfl rfl (g_sum rfl) dJ15_vectorizedMismatch_38 (Nat.zero_le _) (Nat.zero_le _) (g_Klp fun y27 hv2 => ?_)
        replace hvc := hv2; clear hv2
        refine j_lstore (lv0 := [(10, .long (((x1).toInt64) <<< (((nI 3)).toInt64 &&& 63))), (9, .int x1), (0, va_rf p0), (1, .long p1), (3, va_rf p2), (4, .long p3), (6, .int p4), (7, .int p5), (8, .int ((nI 3) - p5))]) hC dJ15_vectorizedMismatch_41 rfl [0, 1, 2, 3, 4, 5, 6, 7, 8] rfl (g_okS.n rfl) rfl ?_
        refine j_gets hC gs_4 q691 (Or.inl rfl) dJ15_vectorizedMismatch_43 ?_
        obtain ⟨o28, ho28⟩ : ∃ z : Option Nat, z = E.2.2.2.2.1 5 := ⟨_, rfl⟩
        rw [← ho28]
        replace hvc := hvc _ ho28
        refine j_aload_n hC dJ15_vectorizedMismatch_46 rfl 5 rfl ?_
        refine j_lload hC dJ15_vectorizedMismatch_47 6 rfl ?_
        refine j_lload hC dJ15_vectorizedMismatch_49 1 rfl ?_
        refine j_ladd hC dJ15_vectorizedMismatch_51 ?_
        obtain ⟨a29, rfl, hvc⟩ := hvc
        obtain ⟨hu, hvc⟩ := hvc
        refine j_callVO (As := [va_rf p2, .long (p3 + (((x1).toInt64) <<< (((nI 3)).toInt64 &&& 63)))]) (rest := []) (n := 2) hC hvc (lw_V q693 q694 q695 q69 q696) (by decide +kernel) (g_rm hR rfl rfl) hu rfl rfl (g_sum rfl) dJ15_vectorizedMismatch_52 (Nat.zero_le _) (Nat.zero_le _) (g_Klp fun y30 hv2 => ?_)
        replace hvc := hv2; clear hv2
        refine j_lstore (lv0 := [(12, .long y27), (10, .long (((x1).toInt64) <<< (((nI 3)).toInt64 &&& 63))), (9, .int x1), (0, va_rf p0), (1, .long p1), (3, va_rf p2), (4, .long p3), (6, .int p4), (7, .int p5), (8, .int ((nI 3) - p5))]) hC dJ15_vectorizedMismatch_55 rfl [0, 1, 2, 3, 4, 5, 6, 7, 8, 9] rfl (g_okS.n rfl) rfl ?_
        refine j_lload hC dJ15_vectorizedMismatch_57 1 rfl ?_
        refine j_lload hC dJ15_vectorizedMismatch_59 0 rfl ?_
        refine j_lcmp hC dJ15_vectorizedMismatch_61 ?_
        refine j_if_eq (tgt := 116) hC dJ15_vectorizedMismatch_62 rfl (fun c31 => ?_) (fun c31 => ?_)
        · replace hvc := hvc.1 c31
          refine j_iinc (lv0 := [(8, .int ((nI 3) - p5)), (14, .long y30), (12, .long y27), (10, .long (((x1).toInt64) <<< (((nI 3)).toInt64 &&& 63))), (0, va_rf p0), (1, .long p1), (3, va_rf p2), (4, .long p3), (6, .int p4), (7, .int p5)]) hC (nI 1) dJ15_vectorizedMismatch_116 3 rfl rfl rfl [10, 0, 1, 2, 4, 5, 6, 7, 8, 9] rfl (g_okS.h rfl rfl rfl) ?_
          refine j_goto (tgt := 11) hC dJ15_vectorizedMismatch_119 rfl ?_
          exact j_sub [5, 6, 7, 8, 9, 10, 1, 0] rfl (ih4 (x1 + (nI 1)) hvc)
        · replace hvc := hvc.2 c31
          refine j_lload hC dJ15_vectorizedMismatch_65 1 rfl ?_
          refine j_lload hC dJ15_vectorizedMismatch_67 0 rfl ?_
          refine j_lxor hC dJ15_vectorizedMismatch_69 ?_
          refine j_lstore (lv0 := [(14, .long y30), (12, .long y27), (10, .long (((x1).toInt64) <<< (((nI 3)).toInt64 &&& 63))), (9, .int x1), (0, va_rf p0), (1, .long p1), (3, va_rf p2), (4, .long p3), (6, .int p4), (7, .int p5), (8, .int ((nI 3) - p5))]) hC dJ15_vectorizedMismatch_70 rfl [0, 1, 2, 3, 4, 5, 6, 7, 8, 9, 10] rfl (g_okS.n rfl) rfl ?_
          refine j_gets (v := .int (nI 0)) hC gs_11 q745 (Or.inl rfl) dJ15_vectorizedMismatch_72 ?_
          replace hvc := g_jn1_o hvc
          obtain ⟨K33, hK37, hvc⟩ := hvc
          have kh34 : ∀ (x32 : Int32), K33 x32 → g_J p l e R s m args below meth c 19 E st0 Z 105 [(8, .int ((nI 3) - p5)), (9, .int x1)] [.int x32] st cb sb := by
            clear hvc
            intro x32 hvc
            replace hvc := hK37 _ hvc
            refine j_istore (lv0 := [(8, .int ((nI 3) - p5)), (9, .int x1)]) hC dJ15_vectorizedMismatch_105 rfl [0, 1] rfl (g_okS.n rfl) ?_
            refine j_iload hC dJ15_vectorizedMismatch_107 2 rfl ?_
            refine j_iload hC dJ15_vectorizedMismatch_109 1 rfl ?_
            refine j_ishl hC dJ15_vectorizedMismatch_111 ?_
            refine j_iload hC dJ15_vectorizedMismatch_112 0 rfl ?_
            refine j_iadd hC dJ15_vectorizedMismatch_114 ?_
            exact hret _ _ _ _ _ _ dJ15_vectorizedMismatch_115 rfl hvc
          refine j_if_eq (tgt := 93) hC dJ15_vectorizedMismatch_75 rfl (fun _ => ?_) (fun c36 => absurd (by decide) c36)
          refine j_lload hC dJ15_vectorizedMismatch_93 0 rfl ?_
          refine j_callS (As := [.long (y27 ^^^ y30)]) (rest := []) (n := 1) hC hvc (lw_S q756 q757 q71 q758) (by decide +kernel) (g_rm hR rfl rfl) rfl rfl (g_sum rfl) dJ15_vectorizedMismatch_95 (Nat.zero_le _) (Nat.zero_le _) (g_Kip fun x35 hv2 => ?_)
          replace hvc := hv2; clear hv2
          refine j_gets (v := .int (nI 3)) hC gs_10 q754 (Or.inl rfl) dJ15_vectorizedMismatch_98 ?_
          refine j_iload hC dJ15_vectorizedMismatch_101 10 rfl ?_
          refine j_iadd hC dJ15_vectorizedMismatch_103 ?_
          refine j_ishr hC dJ15_vectorizedMismatch_104 ?_
          exact j_sub [11, 4] rfl (kh34 (x35 >>> (((nI 3) + p5) &&& 31)) hvc)
  exact j_sub [3, 4, 5, 6, 7, 2, 1, 0] rfl (kh3 n40 (nI 0) hvc)
theorem wk_J15_vectorizedMismatch {l : Launch} {E : g_E} {p0 : Option Nat} {p1 : Int64} {p2 : Option Nat} {p3 : Int64} {p4 : Int32} {p5 : Int32} {st : g_St} {mc ms : Nat} {Q : Int32 → g_St → Prop} (hvc : vc_J15_vectorizedMismatch l E p0 p1 p2 p3 p4 p5 st Q) : wp_J15_vectorizedMismatch l E mc ms [va_rf p0, .long p1, va_rf p2, .long p3, .int p4, .int p5] st Q :=
  g_enter (lv0 := [(0, va_rf p0), (1, .long p1), (3, va_rf p2), (4, .long p3), (6, .int p4), (7, .int p5)]) (plainFor_of_name (by decide +kernel)) (by simp [lv_args, g_c1, g_ci, g_cL]) (by simp [lg_sl, g_c1, g_ci, g_cL]) (fun p e s m args below meth c hC => wb_J15_vectorizedMismatch hC ⟨Nat.le_refl _, Nat.le_refl _⟩ (fun pc lv v st1 cb sb hd hn hq => j_ireturn hC rfl hn hd (g_iv hq)) hvc)
abbrev wp_J15_mismatch (l : Launch) (E : g_E) (mc ms : Nat) (av : List Value) (st : g_St) (Q : Int32 → g_St → Prop) : Prop := g_WPi l E yJ15_mismatch cJ15_mismatch 4 (some .int) 4 121 mc ms av st Q
def vc_J15_mismatch (l : Launch) (E : g_E) (p0 : Option Nat) (p1 : Option Nat) (p2 : Int32) (st : g_St) (Q : Int32 → g_St → Prop) : Prop :=
  g_jn1 (fun (K2 : Int32 → Prop) => (p2 ≤ (nI 7) → K2 (nI 0)) ∧ (¬ p2 ≤ (nI 7) → ∃ a22 : Nat, p0 = some a22 ∧ ∃ (n23 : Nat) (f24 : Nat → Int32) (j25 : Nat), g_ai st a22 1 n23 f24 ∧ (nI 0) = nI j25 ∧ j25 < n23 ∧ j25 < 2 ^ 31 ∧ ∃ a26 : Nat, p1 = some a26 ∧ ∃ (n27 : Nat) (f28 : Nat → Int32) (j29 : Nat), g_ai st a26 1 n27 f28 ∧ (nI 0) = nI j29 ∧ j29 < n27 ∧ j29 < 2 ^ 31 ∧ ((f24 j25) = (f28 j29) → wp_J15_vectorizedMismatch l E 0 0 [va_rf (some a22), .long (((nI 16)).toInt64), va_rf (some a26), .long (((nI 16)).toInt64), .int p2, .int (nI 0)] st (fun x31 stx => stx = st ∧ (x31 < 0 → K2 (p2 - (x31 ^^^ (-1)))) ∧ (¬ x31 < 0 → Q x31 st))) ∧ (¬ (f24 j25) = (f28 j29) → Q (nI 0) st))) (fun (x1 : Int32) => g_lp1 (fun (K5 : Int32 → Prop) (x4 : Int32) => (p2 ≤ x4 → Q (-1) st) ∧ (¬ p2 ≤ x4 → ∃ a9 : Nat, p0 = some a9 ∧ ∃ (n10 : Nat) (f11 : Nat → Int32) (j12 : Nat), g_ai st a9 1 n10 f11 ∧ x4 = nI j12 ∧ j12 < n10 ∧ j12 < 2 ^ 31 ∧ ∃ a13 : Nat, p1 = some a13 ∧ ∃ (n14 : Nat) (f15 : Nat → Int32) (j16 : Nat), g_ai st a13 1 n14 f15 ∧ x4 = nI j16 ∧ j16 < n14 ∧ j16 < 2 ^ 31 ∧ ((f11 j12) = (f15 j16) → K5 (x4 + (nI 1))) ∧ (¬ (f11 j12) = (f15 j16) → Q x4 st))) x1)
set_option maxHeartbeats 4000000 in
theorem wb_J15_mismatch {p : Program} {l : Launch} {e : Env} {R : Room} {s : State} {m : MethodId} {args : Array Value} {below : List Frame} {meth : Method} {c : Code} {E : g_E} {st0 : g_St} {Z : State → Prop} (hC : g_Cx p s m args meth c cJ15_mismatch 4 "jdk/internal/util/ArraysSupport" (some .int) "mismatch" E st0) (hR : g_Rm 4 121 R) {p0 : Option Nat} {p1 : Option Nat} {p2 : Int32} {st : g_St} {cb sb : Nat} {Q : Int32 → g_St → Prop} (hret : ∀ (pc : Nat) (lv : List (Nat × Value)) (v : Int32) (st1 : g_St) (cb sb : Nat), decode cJ15_mismatch pc = .ok (.ireturn, 1) → narrow .int (.int v) = .int v → Q v st1 → g_J p l e R s m args below meth c 4 E st0 Z pc lv [.int v] st1 cb sb) (hvc : vc_J15_mismatch l E p0 p1 p2 st Q) : g_J p l e R s m args below meth c 4 E st0 Z 0 [(0, va_rf p0), (1, va_rf p1), (2, .int p2)] [] st cb sb := by
  unfold vc_J15_mismatch at hvc
  refine j_iconst hC (nI 0) dJ15_mismatch_0 rfl ?_
  refine j_istore_n (lv0 := [(2, .int p2), (0, va_rf p0), (1, va_rf p1)]) hC dJ15_mismatch_1 rfl rfl [2, 0, 1] rfl (g_okS.h rfl rfl rfl) ?_
  refine j_iload_n hC dJ15_mismatch_2 rfl 1 rfl ?_
  refine j_bipush hC (nI 7) dJ15_mismatch_3 rfl ?_
  replace hvc := g_jn1_o hvc
  obtain ⟨K2, hK33, hvc⟩ := hvc
  have kh3 : ∀ (x1 : Int32), K2 x1 → g_J p l e R s m args below meth c 4 E st0 Z 49 [(0, va_rf p0), (1, va_rf p1), (2, .int p2), (3, .int x1)] [] st cb sb := by
    clear hvc
    intro x1 hvc
    replace hvc := hK33 _ hvc
    replace hvc := g_lp1_o hvc
    obtain ⟨K5, hz18, hs19, n20, hvc⟩ := hvc
    have kh6 : ∀ (n : Nat) (x4 : Int32), K5 n x4 → g_J p l e R s m args below meth c 4 E st0 Z 49 [(0, va_rf p0), (1, va_rf p1), (2, .int p2), (3, .int x4)] [] st cb sb := by
      clear hvc
      intro n
      induction n with
      | zero => intro x4 hvc; exact absurd hvc (hz18 _)
      | succ n ih7 =>
        intro x4 hvc
        replace hvc := hs19 n _ hvc
        refine j_iload_n hC dJ15_mismatch_49 rfl 3 rfl ?_
        refine j_iload_n hC dJ15_mismatch_50 rfl 2 rfl ?_
        refine j_icmp_ge (tgt := 71) hC dJ15_mismatch_51 rfl (fun c8 => ?_) (fun c8 => ?_)
        · replace hvc := hvc.1 c8
          refine j_iconst hC (-1) dJ15_mismatch_71 rfl ?_
          exact hret _ _ _ _ _ _ dJ15_mismatch_72 rfl hvc
        · replace hvc := hvc.2 c8
          refine j_aload_n hC dJ15_mismatch_54 rfl 0 rfl ?_
          refine j_iload_n hC dJ15_mismatch_55 rfl 3 rfl ?_
          obtain ⟨a9, rfl, hvc⟩ := hvc
          obtain ⟨n10, f11, j12, hr, hi, hj, hJ, hvc⟩ := hvc
          refine j_ix hi ?_
          refine j_bald hC hr hj hJ dJ15_mismatch_56 ?_
          clear hr hi hj hJ
          refine j_aload_n hC dJ15_mismatch_57 rfl 1 rfl ?_
          refine j_iload_n hC dJ15_mismatch_58 rfl 3 rfl ?_
          obtain ⟨a13, rfl, hvc⟩ := hvc
          obtain ⟨n14, f15, j16, hr, hi, hj, hJ, hvc⟩ := hvc
          refine j_ix hi ?_
          refine j_bald hC hr hj hJ dJ15_mismatch_59 ?_
          clear hr hi hj hJ
          refine j_icmp_eq (tgt := 65) hC dJ15_mismatch_60 rfl (fun c17 => ?_) (fun c17 => ?_)
          · replace hvc := hvc.1 c17
            refine j_iinc (lv0 := [(2, .int p2), (0, va_rf (some a9)), (1, va_rf (some a13))]) hC (nI 1) dJ15_mismatch_65 3 rfl rfl rfl [2, 0, 1] rfl (g_okS.h rfl rfl rfl) ?_
            refine j_goto (tgt := 49) hC dJ15_mismatch_68 rfl ?_
            exact j_sub [2, 3, 1, 0] rfl (ih7 (x4 + (nI 1)) hvc)
          · replace hvc := hvc.2 c17
            refine j_iload_n hC dJ15_mismatch_63 rfl 3 rfl ?_
            exact hret _ _ _ _ _ _ dJ15_mismatch_64 rfl hvc
    exact j_sub [0, 1, 2, 3] rfl (kh6 n20 x1 hvc)
  refine j_icmp_le (tgt := 49) hC dJ15_mismatch_5 rfl (fun c21 => ?_) (fun c21 => ?_)
  · replace hvc := hvc.1 c21
    exact j_sub [2, 3, 1, 0] rfl (kh3 (nI 0) hvc)
  · replace hvc := hvc.2 c21
    refine j_aload_n hC dJ15_mismatch_8 rfl 2 rfl ?_
    refine j_iconst hC (nI 0) dJ15_mismatch_9 rfl ?_
    obtain ⟨a22, rfl, hvc⟩ := hvc
    obtain ⟨n23, f24, j25, hr, hi, hj, hJ, hvc⟩ := hvc
    refine j_ix hi ?_
    refine j_bald hC hr hj hJ dJ15_mismatch_10 ?_
    clear hr hi hj hJ
    refine j_aload_n hC dJ15_mismatch_11 rfl 3 rfl ?_
    refine j_iconst hC (nI 0) dJ15_mismatch_12 rfl ?_
    obtain ⟨a26, rfl, hvc⟩ := hvc
    obtain ⟨n27, f28, j29, hr, hi, hj, hJ, hvc⟩ := hvc
    refine j_ix hi ?_
    refine j_bald hC hr hj hJ dJ15_mismatch_13 ?_
    clear hr hi hj hJ
    refine j_icmp_eq (tgt := 19) hC dJ15_mismatch_14 rfl (fun c30 => ?_) (fun c30 => ?_)
    · replace hvc := hvc.1 c30
      refine j_aload_n hC dJ15_mismatch_19 rfl 2 rfl ?_
      refine j_gets (v := .int (nI 16)) hC gs_6 q682 (Or.inl rfl) dJ15_mismatch_20 ?_
      refine j_i2l hC dJ15_mismatch_23 ?_
      refine j_aload_n hC dJ15_mismatch_24 rfl 3 rfl ?_
      refine j_gets (v := .int (nI 16)) hC gs_6 q682 (Or.inl rfl) dJ15_mismatch_25 ?_
      refine j_i2l hC dJ15_mismatch_28 ?_
      refine j_iload_n hC dJ15_mismatch_29 rfl 1 rfl ?_
      refine j_gets (v := .int (nI 0)) hC gs_7 q684 (Or.inl rfl) dJ15_mismatch_30 ?_
      refine j_callS (As := [va_rf (some a22), .long (((nI 16)).toInt64), va_rf (some a26), .long (((nI 16)).toInt64), .int p2, .int (nI 0)]) (rest := []) (n := 6) hC hvc (lw_S q686 q687 q57 q688) (by decide +kernel) (g_rm hR rfl rfl) rfl rfl (g_sum rfl) dJ15_mismatch_33 (Nat.zero_le _) (Nat.zero_le _) (g_Kip fun x31 hv2 => ?_)
      replace hvc := hv2; clear hv2
      refine j_istore_n (lv0 := [(2, .int p2), (0, va_rf (some a22)), (1, va_rf (some a26))]) hC dJ15_mismatch_36 rfl rfl [1, 2, 3] rfl (g_okS.h rfl rfl rfl) ?_
      refine j_iload_n hC dJ15_mismatch_37 rfl 0 rfl ?_
      refine j_if_lt (tgt := 43) hC dJ15_mismatch_38 rfl (fun c32 => ?_) (fun c32 => ?_)
      · replace hvc := hvc.1 c32
        refine j_iload_n hC dJ15_mismatch_43 rfl 1 rfl ?_
        refine j_iload_n hC dJ15_mismatch_44 rfl 0 rfl ?_
        refine j_iconst hC (-1) dJ15_mismatch_45 rfl ?_
        refine j_ixor hC dJ15_mismatch_46 ?_
        refine j_isub hC dJ15_mismatch_47 ?_
        refine j_istore_n (lv0 := [(2, .int p2), (0, va_rf (some a22)), (1, va_rf (some a26))]) hC dJ15_mismatch_48 rfl rfl [1, 2, 3] rfl (g_okS.h rfl rfl rfl) ?_
        exact j_sub [2, 3, 1, 0] rfl (kh3 (p2 - (x31 ^^^ (-1))) hvc)
      · replace hvc := hvc.2 c32
        refine j_iload_n hC dJ15_mismatch_41 rfl 0 rfl ?_
        exact hret _ _ _ _ _ _ dJ15_mismatch_42 rfl hvc
    · replace hvc := hvc.2 c30
      refine j_iconst hC (nI 0) dJ15_mismatch_17 rfl ?_
      exact hret _ _ _ _ _ _ dJ15_mismatch_18 rfl hvc
theorem wk_J15_mismatch {l : Launch} {E : g_E} {p0 : Option Nat} {p1 : Option Nat} {p2 : Int32} {st : g_St} {mc ms : Nat} {Q : Int32 → g_St → Prop} (hvc : vc_J15_mismatch l E p0 p1 p2 st Q) : wp_J15_mismatch l E mc ms [va_rf p0, va_rf p1, .int p2] st Q :=
  g_enter (lv0 := [(0, va_rf p0), (1, va_rf p1), (2, .int p2)]) (plainFor_of_name (by decide +kernel)) (by simp [lv_args, g_c1, g_ci, g_cL]) (by simp [lg_sl, g_c1, g_ci, g_cL]) (fun p e s m args below meth c hC => wb_J15_mismatch hC ⟨Nat.le_refl _, Nat.le_refl _⟩ (fun pc lv v st1 cb sb hd hn hq => j_ireturn hC rfl hn hd (g_iv hq)) hvc)
abbrev wp_J7_getChar (l : Launch) (E : g_E) (mc ms : Nat) (av : List Value) (st : g_St) (Q : Int32 → g_St → Prop) : Prop := g_WPi l E yJ7_getChar cJ7_getChar 2 (some .char) 1 40 mc ms av st Q
def vc_J7_getChar (l : Launch) (E : g_E) (p0 : Option Nat) (p1 : Int32) (st : g_St) (Q : Int32 → g_St → Prop) : Prop :=
  ∃ a1 : Nat, p0 = some a1 ∧ ∃ (n2 : Nat) (f3 : Nat → Int32) (j4 : Nat), g_ai st a1 1 n2 f3 ∧ p1 = nI j4 ∧ j4 < n2 ∧ j4 < 2 ^ 31 ∧ narrow .char (.int (((((f3 j4) &&& (nI 255))).toUInt32 % 65536).toInt32)) = .int (((((f3 j4) &&& (nI 255))).toUInt32 % 65536).toInt32) ∧ Q (((((f3 j4) &&& (nI 255))).toUInt32 % 65536).toInt32) st
set_option maxHeartbeats 4000000 in
theorem wb_J7_getChar {p : Program} {l : Launch} {e : Env} {R : Room} {s : State} {m : MethodId} {args : Array Value} {below : List Frame} {meth : Method} {c : Code} {E : g_E} {st0 : g_St} {Z : State → Prop} (hC : g_Cx p s m args meth c cJ7_getChar 2 "java/lang/StringLatin1" (some .char) "getChar" E st0) (hR : g_Rm 1 40 R) {p0 : Option Nat} {p1 : Int32} {st : g_St} {cb sb : Nat} {Q : Int32 → g_St → Prop} (hret : ∀ (pc : Nat) (lv : List (Nat × Value)) (v : Int32) (st1 : g_St) (cb sb : Nat), decode cJ7_getChar pc = .ok (.ireturn, 1) → narrow .char (.int v) = .int v → Q v st1 → g_J p l e R s m args below meth c 2 E st0 Z pc lv [.int v] st1 cb sb) (hvc : vc_J7_getChar l E p0 p1 st Q) : g_J p l e R s m args below meth c 2 E st0 Z 0 [(0, va_rf p0), (1, .int p1)] [] st cb sb := by
  unfold vc_J7_getChar at hvc
  refine j_aload_n hC dJ7_getChar_0 rfl 0 rfl ?_
  refine j_iload_n hC dJ7_getChar_1 rfl 1 rfl ?_
  obtain ⟨a1, rfl, hvc⟩ := hvc
  obtain ⟨n2, f3, j4, hr, hi, hj, hJ, hvc⟩ := hvc
  refine j_ix hi ?_
  refine j_bald hC hr hj hJ dJ7_getChar_2 ?_
  clear hr hi hj hJ
  refine j_sipush hC (nI 255) dJ7_getChar_3 rfl ?_
  refine j_iand hC dJ7_getChar_6 ?_
  refine j_i2c hC dJ7_getChar_7 ?_
  exact hret _ _ _ _ _ _ dJ7_getChar_8 hvc.1 hvc.2
theorem wk_J7_getChar {l : Launch} {E : g_E} {p0 : Option Nat} {p1 : Int32} {st : g_St} {mc ms : Nat} {Q : Int32 → g_St → Prop} (hvc : vc_J7_getChar l E p0 p1 st Q) : wp_J7_getChar l E mc ms [va_rf p0, .int p1] st Q :=
  g_enter (lv0 := [(0, va_rf p0), (1, .int p1)]) (plainFor_of_name (by decide +kernel)) (by simp [lv_args, g_c1, g_ci, g_cL]) (by simp [lg_sl, g_c1, g_ci, g_cL]) (fun p e s m args below meth c hC => wb_J7_getChar hC ⟨Nat.le_refl _, Nat.le_refl _⟩ (fun pc lv v st1 cb sb hd hn hq => j_ireturn hC rfl hn hd (g_iv hq)) hvc)
abbrev wp_J7_compareTo_2 (l : Launch) (E : g_E) (mc ms : Nat) (av : List Value) (st : g_St) (Q : Int32 → g_St → Prop) : Prop := g_WPi l E yJ7_compareTo_2 cJ7_compareTo_2 6 (some .int) 5 144 mc ms av st Q
def vc_J7_compareTo_2 (l : Launch) (E : g_E) (p0 : Option Nat) (p1 : Option Nat) (p2 : Int32) (p3 : Int32) (st : g_St) (Q : Int32 → g_St → Prop) : Prop :=
  ∀ x1 : Int32, x1 = (if p3 < p2 then p3 else p2) → wp_J15_mismatch l E 0 0 [va_rf p0, va_rf p1, .int x1] st (fun x2 stx => stx = st ∧ g_jn1 (fun (K4 : Int32 → Prop) => (0 ≤ x2 → wp_J7_getChar l E 0 0 [va_rf p0, .int x2] st (fun x7 stx => stx = st ∧ wp_J7_getChar l E 0 0 [va_rf p1, .int x2] st (fun x8 stx => stx = st ∧ K4 (x7 - x8)))) ∧ (¬ 0 ≤ x2 → K4 (p2 - p3))) (fun (x3 : Int32) => Q x3 st))
set_option maxHeartbeats 4000000 in
theorem wb_J7_compareTo_2 {p : Program} {l : Launch} {e : Env} {R : Room} {s : State} {m : MethodId} {args : Array Value} {below : List Frame} {meth : Method} {c : Code} {E : g_E} {st0 : g_St} {Z : State → Prop} (hC : g_Cx p s m args meth c cJ7_compareTo_2 6 "java/lang/StringLatin1" (some .int) "compareTo" E st0) (hR : g_Rm 5 144 R) {p0 : Option Nat} {p1 : Option Nat} {p2 : Int32} {p3 : Int32} {st : g_St} {cb sb : Nat} {Q : Int32 → g_St → Prop} (hret : ∀ (pc : Nat) (lv : List (Nat × Value)) (v : Int32) (st1 : g_St) (cb sb : Nat), decode cJ7_compareTo_2 pc = .ok (.ireturn, 1) → narrow .int (.int v) = .int v → Q v st1 → g_J p l e R s m args below meth c 6 E st0 Z pc lv [.int v] st1 cb sb) (hvc : vc_J7_compareTo_2 l E p0 p1 p2 p3 st Q) : g_J p l e R s m args below meth c 6 E st0 Z 0 [(0, va_rf p0), (1, va_rf p1), (2, .int p2), (3, .int p3)] [] st cb sb := by
  unfold vc_J7_compareTo_2 at hvc
  refine j_iload_n hC dJ7_compareTo_2_0 rfl 2 rfl ?_
  refine j_iload_n hC dJ7_compareTo_2_1 rfl 3 rfl ?_
  refine j_mmin hC q678 (Nat.le_trans (Nat.le_of_ble_eq_true rfl) hR.1) (Nat.le_trans (g_sumM rfl) hR.2) dJ7_compareTo_2_2 ?_
  replace hvc := hvc _ rfl
  generalize (if p3 < p2 then p3 else p2) = x1 at hvc ⊢
  refine j_istore (lv0 := [(3, .int p3), (0, va_rf p0), (1, va_rf p1), (2, .int p2)]) hC dJ7_compareTo_2_5 rfl [3, 0, 1, 2] rfl (g_okS.h rfl rfl rfl) ?_
  refine j_aload_n hC dJ7_compareTo_2_7 rfl 2 rfl ?_
  refine j_aload_n hC dJ7_compareTo_2_8 rfl 3 rfl ?_
  refine j_iload hC dJ7_compareTo_2_9 0 rfl ?_
  refine j_callS (As := [va_rf p0, va_rf p1, .int x1]) (rest := []) (n := 3) hC hvc (lw_S q679 q680 q57 q681) (by decide +kernel) (g_rm hR rfl rfl) rfl rfl (g_sum rfl) dJ7_compareTo_2_11 (Nat.zero_le _) (Nat.zero_le _) (g_Kip fun x2 hv2 => ?_)
  replace hvc := hv2; clear hv2
  refine j_istore (lv0 := [(4, .int x1), (3, .int p3), (0, va_rf p0), (1, va_rf p1), (2, .int p2)]) hC dJ7_compareTo_2_14 rfl [0, 1, 2, 3, 4] rfl (g_okS.h rfl rfl rfl) ?_
  refine j_iload hC dJ7_compareTo_2_16 0 rfl ?_
  replace hvc := g_jn1_o hvc
  obtain ⟨K4, hK9, hvc⟩ := hvc
  have kh5 : ∀ (x3 : Int32), K4 x3 → g_J p l e R s m args below meth c 6 E st0 Z 40 [] [.int x3] st cb sb := by
    clear hvc
    intro x3 hvc
    replace hvc := hK9 _ hvc
    exact hret _ _ _ _ _ _ dJ7_compareTo_2_40 rfl hvc
  refine j_if_ge (tgt := 27) hC dJ7_compareTo_2_18 rfl (fun c6 => ?_) (fun c6 => ?_)
  · replace hvc := hvc.1 c6
    refine j_aload_n hC dJ7_compareTo_2_27 rfl 3 rfl ?_
    refine j_iload hC dJ7_compareTo_2_28 0 rfl ?_
    refine j_callS (As := [va_rf p0, .int x2]) (rest := []) (n := 2) hC hvc (lw_S q783 q784 q49 q785) (by decide +kernel) (g_rm hR rfl rfl) rfl rfl (g_sum rfl) dJ7_compareTo_2_30 (Nat.zero_le _) (Nat.zero_le _) (g_Kip fun x7 hv2 => ?_)
    replace hvc := hv2; clear hv2
    refine j_aload_n hC dJ7_compareTo_2_33 rfl 4 rfl ?_
    refine j_iload hC dJ7_compareTo_2_34 0 rfl ?_
    refine j_callS (As := [va_rf p1, .int x2]) (rest := [.int x7]) (n := 2) hC hvc (lw_S q783 q784 q49 q785) (by decide +kernel) (g_rm hR rfl rfl) rfl rfl (g_sum rfl) dJ7_compareTo_2_36 (Nat.zero_le _) (Nat.zero_le _) (g_Kip fun x8 hv2 => ?_)
    replace hvc := hv2; clear hv2
    refine j_isub hC dJ7_compareTo_2_39 ?_
    exact j_sub [] rfl (kh5 (x7 - x8) hvc)
  · replace hvc := hvc.2 c6
    refine j_iload_n hC dJ7_compareTo_2_21 rfl 5 rfl ?_
    refine j_iload_n hC dJ7_compareTo_2_22 rfl 2 rfl ?_
    refine j_isub hC dJ7_compareTo_2_23 ?_
    refine j_goto (tgt := 40) hC dJ7_compareTo_2_24 rfl ?_
    exact j_sub [] rfl (kh5 (p2 - p3) hvc)
theorem wk_J7_compareTo_2 {l : Launch} {E : g_E} {p0 : Option Nat} {p1 : Option Nat} {p2 : Int32} {p3 : Int32} {st : g_St} {mc ms : Nat} {Q : Int32 → g_St → Prop} (hvc : vc_J7_compareTo_2 l E p0 p1 p2 p3 st Q) : wp_J7_compareTo_2 l E mc ms [va_rf p0, va_rf p1, .int p2, .int p3] st Q :=
  g_enter (lv0 := [(0, va_rf p0), (1, va_rf p1), (2, .int p2), (3, .int p3)]) (plainFor_of_name (by decide +kernel)) (by simp [lv_args, g_c1, g_ci, g_cL]) (by simp [lg_sl, g_c1, g_ci, g_cL]) (fun p e s m args below meth c hC => wb_J7_compareTo_2 hC ⟨Nat.le_refl _, Nat.le_refl _⟩ (fun pc lv v st1 cb sb hd hn hq => j_ireturn hC rfl hn hd (g_iv hq)) hvc)
abbrev wp_J7_compareTo (l : Launch) (E : g_E) (mc ms : Nat) (av : List Value) (st : g_St) (Q : Int32 → g_St → Prop) : Prop := g_WPi l E yJ7_compareTo cJ7_compareTo 4 (some .int) 6 169 mc ms av st Q
def vc_J7_compareTo (l : Launch) (E : g_E) (p0 : Option Nat) (p1 : Option Nat) (st : g_St) (Q : Int32 → g_St → Prop) : Prop :=
  ∃ a1 : Nat, p0 = some a1 ∧ ∃ (t2 : Nat) (v3 : vp_A), g_Rd st a1 (.inl (t2, v3)) ∧ ∃ a4 : Nat, p1 = some a4 ∧ ∃ (t5 : Nat) (v6 : vp_A), g_Rd st a4 (.inl (t5, v6)) ∧ wp_J7_compareTo_2 l E 0 0 [va_rf (some a1), va_rf (some a4), .int (nI v3.1), .int (nI v6.1)] st (fun x7 stx => stx = st ∧ Q x7 st)
set_option maxHeartbeats 4000000 in
theorem wb_J7_compareTo {p : Program} {l : Launch} {e : Env} {R : Room} {s : State} {m : MethodId} {args : Array Value} {below : List Frame} {meth : Method} {c : Code} {E : g_E} {st0 : g_St} {Z : State → Prop} (hC : g_Cx p s m args meth c cJ7_compareTo 4 "java/lang/StringLatin1" (some .int) "compareTo" E st0) (hR : g_Rm 6 169 R) {p0 : Option Nat} {p1 : Option Nat} {st : g_St} {cb sb : Nat} {Q : Int32 → g_St → Prop} (hret : ∀ (pc : Nat) (lv : List (Nat × Value)) (v : Int32) (st1 : g_St) (cb sb : Nat), decode cJ7_compareTo pc = .ok (.ireturn, 1) → narrow .int (.int v) = .int v → Q v st1 → g_J p l e R s m args below meth c 4 E st0 Z pc lv [.int v] st1 cb sb) (hvc : vc_J7_compareTo l E p0 p1 st Q) : g_J p l e R s m args below meth c 4 E st0 Z 0 [(0, va_rf p0), (1, va_rf p1)] [] st cb sb := by
  unfold vc_J7_compareTo at hvc
  refine j_aload_n hC dJ7_compareTo_0 rfl 0 rfl ?_
  obtain ⟨a1, rfl, hvc⟩ := hvc
  obtain ⟨t2, v3, hr, hvc⟩ := hvc
  refine j_alen hC hr dJ7_compareTo_1 ?_
  clear hr
  refine j_istore_n (lv0 := [(1, va_rf p1), (0, va_rf (some a1))]) hC dJ7_compareTo_2 rfl rfl [1, 0] rfl (g_okS.h rfl g_c1 rfl) ?_
  refine j_aload_n hC dJ7_compareTo_3 rfl 1 rfl ?_
  obtain ⟨a4, rfl, hvc⟩ := hvc
  obtain ⟨t5, v6, hr, hvc⟩ := hvc
  refine j_alen hC hr dJ7_compareTo_4 ?_
  clear hr
  refine j_istore_n (lv0 := [(2, .int (nI v3.1)), (1, va_rf (some a4)), (0, va_rf (some a1))]) hC dJ7_compareTo_5 rfl rfl [0, 1, 2] rfl (g_okS.h rfl rfl rfl) ?_
  refine j_aload_n hC dJ7_compareTo_6 rfl 3 rfl ?_
  refine j_aload_n hC dJ7_compareTo_7 rfl 2 rfl ?_
  refine j_iload_n hC dJ7_compareTo_8 rfl 1 rfl ?_
  refine j_iload_n hC dJ7_compareTo_9 rfl 0 rfl ?_
  refine j_callS (As := [va_rf (some a1), va_rf (some a4), .int (nI v3.1), .int (nI v6.1)]) (rest := []) (n := 4) hC hvc (lw_S q675 q676 q49 q677) (by decide +kernel) (g_rm hR rfl rfl) rfl rfl (g_sum rfl) dJ7_compareTo_10 (Nat.zero_le _) (Nat.zero_le _) (g_Kip fun x7 hv2 => ?_)
  replace hvc := hv2; clear hv2
  exact hret _ _ _ _ _ _ dJ7_compareTo_13 rfl hvc
theorem wk_J7_compareTo {l : Launch} {E : g_E} {p0 : Option Nat} {p1 : Option Nat} {st : g_St} {mc ms : Nat} {Q : Int32 → g_St → Prop} (hvc : vc_J7_compareTo l E p0 p1 st Q) : wp_J7_compareTo l E mc ms [va_rf p0, va_rf p1] st Q :=
  g_enter (lv0 := [(0, va_rf p0), (1, va_rf p1)]) (plainFor_of_name (by decide +kernel)) (by simp [lv_args, g_c1, g_ci, g_cL]) (by simp [lg_sl, g_c1, g_ci, g_cL]) (fun p e s m args below meth c hC => wb_J7_compareTo hC ⟨Nat.le_refl _, Nat.le_refl _⟩ (fun pc lv v st1 cb sb hd hn hq => j_ireturn hC rfl hn hd (g_iv hq)) hvc)
abbrev wp_J2_compareTo_2 (l : Launch) (E : g_E) (mc ms : Nat) (av : List Value) (st : g_St) (Q : Int32 → g_St → Prop) : Prop := g_WPi l E yJ2_compareTo_2 cJ2_compareTo_2 5 (some .int) 7 192 mc ms av st Q
def vc_J2_compareTo_2 (l : Launch) (E : g_E) (a0 : Nat) (p0 : Option Nat) (st : g_St) (Q : Int32 → g_St → Prop) : Prop :=
  ∃ o1 : Option Nat, g_gr st a0 1 0 o1 ∧ ∃ a2 : Nat, p0 = some a2 ∧ ∃ o3 : Option Nat, g_gr st a2 1 0 o3 ∧ g_is st a0 1 ∧ wp_J2_coder l E 0 0 [va_rf (some a0)] st (fun x4 stx => stx = st ∧ g_is st a2 1 ∧ wp_J2_coder l E 0 0 [va_rf (some a2)] st (fun x5 stx => stx = st ∧ (¬ x4 = x5 → (¬ x4 = 0 → False) ∧ (x4 = 0 → False)) ∧ (x4 = x5 → (¬ x4 = 0 → False) ∧ (x4 = 0 → wp_J7_compareTo l E 0 0 [va_rf o1, va_rf o3] st (fun x9 stx => stx = st ∧ Q x9 st)))))
set_option maxHeartbeats 4000000 in
theorem wb_J2_compareTo_2 {p : Program} {l : Launch} {e : Env} {R : Room} {s : State} {m : MethodId} {args : Array Value} {below : List Frame} {meth : Method} {c : Code} {E : g_E} {st0 : g_St} {Z : State → Prop} (hC : g_Cx p s m args meth c cJ2_compareTo_2 5 "java/lang/String" (some .int) "compareTo" E st0) (hR : g_Rm 7 192 R) {a0 : Nat} {p0 : Option Nat} {st : g_St} {cb sb : Nat} {Q : Int32 → g_St → Prop} (hret : ∀ (pc : Nat) (lv : List (Nat × Value)) (v : Int32) (st1 : g_St) (cb sb : Nat), decode cJ2_compareTo_2 pc = .ok (.ireturn, 1) → narrow .int (.int v) = .int v → Q v st1 → g_J p l e R s m args below meth c 5 E st0 Z pc lv [.int v] st1 cb sb) (hvc : vc_J2_compareTo_2 l E a0 p0 st Q) : g_J p l e R s m args below meth c 5 E st0 Z 0 [(0, va_rf (some a0)), (1, va_rf p0)] [] st cb sb := by
  unfold vc_J2_compareTo_2 at hvc
  refine j_aload_n hC dJ2_compareTo_2_0 rfl 0 rfl ?_
  obtain ⟨o1, ⟨fs, hr, hv⟩, hvc⟩ := hvc
  refine j_get hC fkJ2_9_J2 dJ2_compareTo_2_1 hr hv ?_
  clear hv hr fs
  refine j_astore_n (lv0 := [(1, va_rf p0), (0, va_rf (some a0))]) hC dJ2_compareTo_2_4 rfl rfl [1, 0] rfl (g_okS.h rfl g_c1 rfl) ?_
  refine j_aload_n hC dJ2_compareTo_2_5 rfl 1 rfl ?_
  obtain ⟨a2, rfl, hvc⟩ := hvc
  obtain ⟨o3, ⟨fs, hr, hv⟩, hvc⟩ := hvc
  refine j_get hC fkJ2_9_J2 dJ2_compareTo_2_6 hr hv ?_
  clear hv hr fs
  refine j_astore_n (lv0 := [(2, va_rf o1), (1, va_rf (some a2)), (0, va_rf (some a0))]) hC dJ2_compareTo_2_9 rfl rfl [0, 1, 2] rfl (g_okS.h rfl g_c1 rfl) ?_
  refine j_aload_n hC dJ2_compareTo_2_10 rfl 3 rfl ?_
  obtain ⟨⟨fs, hr⟩, hvc⟩ := hvc
  refine j_callV (As := []) (rest := []) (n := 0) (ci := 1) hC hvc (lw_V q185 q186 q187 q44 q188) (by decide +kernel) (g_rm hR rfl rfl) rfl hr rfl rfl (g_sum rfl) dJ2_compareTo_2_11 (Nat.zero_le _) (Nat.zero_le _) (g_Kip fun x4 hv2 => ?_)
  replace hvc := hv2; clear hv2
  clear hr fs
  refine j_istore (lv0 := [(3, va_rf o3), (2, va_rf o1), (1, va_rf (some a2)), (0, va_rf (some a0))]) hC dJ2_compareTo_2_14 rfl [0, 1, 2, 3] rfl (g_okS.h rfl g_c1 rfl) ?_
  refine j_iload hC dJ2_compareTo_2_16 0 rfl ?_
  refine j_aload_n hC dJ2_compareTo_2_18 rfl 3 rfl ?_
  obtain ⟨⟨fs, hr⟩, hvc⟩ := hvc
  refine j_callV (As := []) (rest := [.int x4]) (n := 0) (ci := 1) hC hvc (lw_V q185 q186 q187 q44 q188) (by decide +kernel) (g_rm hR rfl rfl) rfl hr rfl rfl (g_sum rfl) dJ2_compareTo_2_19 (Nat.zero_le _) (Nat.zero_le _) (g_Kip fun x5 hv2 => ?_)
  replace hvc := hv2; clear hv2
  clear hr fs
  refine j_icmp_ne (tgt := 44) hC dJ2_compareTo_2_22 rfl (fun c6 => ?_) (fun c6 => ?_)
  · replace hvc := hvc.1 c6
    refine j_iload hC dJ2_compareTo_2_44 0 rfl ?_
    refine j_if_ne (tgt := 57) hC dJ2_compareTo_2_46 rfl (fun c7 => ?_) (fun c7 => ?_)
    · replace hvc := hvc.1 c7
      refine j_aload_n hC dJ2_compareTo_2_57 rfl 2 rfl ?_
      refine j_aload_n hC dJ2_compareTo_2_58 rfl 1 rfl ?_
      exact hvc.elim
    · replace hvc := hvc.2 c7
      refine j_aload_n hC dJ2_compareTo_2_49 rfl 2 rfl ?_
      refine j_aload_n hC dJ2_compareTo_2_50 rfl 1 rfl ?_
      exact hvc.elim
  · replace hvc := hvc.2 c6
    refine j_iload hC dJ2_compareTo_2_25 0 rfl ?_
    refine j_if_ne (tgt := 38) hC dJ2_compareTo_2_27 rfl (fun c8 => ?_) (fun c8 => ?_)
    · replace hvc := hvc.1 c8
      refine j_aload_n hC dJ2_compareTo_2_38 rfl 2 rfl ?_
      refine j_aload_n hC dJ2_compareTo_2_39 rfl 1 rfl ?_
      exact hvc.elim
    · replace hvc := hvc.2 c8
      refine j_aload_n hC dJ2_compareTo_2_30 rfl 2 rfl ?_
      refine j_aload_n hC dJ2_compareTo_2_31 rfl 1 rfl ?_
      refine j_callS (As := [va_rf o1, va_rf o3]) (rest := []) (n := 2) hC hvc (lw_S q672 q673 q49 q674) (by decide +kernel) (g_rm hR rfl rfl) rfl rfl (g_sum rfl) dJ2_compareTo_2_32 (Nat.zero_le _) (Nat.zero_le _) (g_Kip fun x9 hv2 => ?_)
      replace hvc := hv2; clear hv2
      refine j_goto (tgt := 43) hC dJ2_compareTo_2_35 rfl ?_
      exact hret _ _ _ _ _ _ dJ2_compareTo_2_43 rfl hvc
theorem wk_J2_compareTo_2 {l : Launch} {E : g_E} {a0 : Nat} {p0 : Option Nat} {st : g_St} {mc ms : Nat} {Q : Int32 → g_St → Prop} (hvc : vc_J2_compareTo_2 l E a0 p0 st Q) : wp_J2_compareTo_2 l E mc ms [va_rf (some a0), va_rf p0] st Q :=
  g_enter (lv0 := [(0, va_rf (some a0)), (1, va_rf p0)]) (plainFor_of_name (by decide +kernel)) (by simp [lv_args, g_c1, g_ci, g_cL]) (by simp [lg_sl, g_c1, g_ci, g_cL]) (fun p e s m args below meth c hC => wb_J2_compareTo_2 hC ⟨Nat.le_refl _, Nat.le_refl _⟩ (fun pc lv v st1 cb sb hd hn hq => j_ireturn hC rfl hn hd (g_iv hq)) hvc)
abbrev wp_J2_compareTo (l : Launch) (E : g_E) (mc ms : Nat) (av : List Value) (st : g_St) (Q : Int32 → g_St → Prop) : Prop := g_WPi l E yJ2_compareTo cJ2_compareTo 2 (some .int) 8 216 mc ms av st Q
def vc_J2_compareTo (l : Launch) (E : g_E) (a0 : Nat) (p0 : Option Nat) (st : g_St) (Q : Int32 → g_St → Prop) : Prop :=
  g_isN st p0 1 ∧ g_is st a0 1 ∧ wp_J2_compareTo_2 l E 0 0 [va_rf (some a0), va_rf p0] st (fun x1 stx => stx = st ∧ Q x1 st)
set_option maxHeartbeats 4000000 in
theorem wb_J2_compareTo {p : Program} {l : Launch} {e : Env} {R : Room} {s : State} {m : MethodId} {args : Array Value} {below : List Frame} {meth : Method} {c : Code} {E : g_E} {st0 : g_St} {Z : State → Prop} (hC : g_Cx p s m args meth c cJ2_compareTo 2 "java/lang/String" (some .int) "compareTo" E st0) (hR : g_Rm 8 216 R) {a0 : Nat} {p0 : Option Nat} {st : g_St} {cb sb : Nat} {Q : Int32 → g_St → Prop} (hret : ∀ (pc : Nat) (lv : List (Nat × Value)) (v : Int32) (st1 : g_St) (cb sb : Nat), decode cJ2_compareTo pc = .ok (.ireturn, 1) → narrow .int (.int v) = .int v → Q v st1 → g_J p l e R s m args below meth c 2 E st0 Z pc lv [.int v] st1 cb sb) (hvc : vc_J2_compareTo l E a0 p0 st Q) : g_J p l e R s m args below meth c 2 E st0 Z 0 [(0, va_rf (some a0)), (1, va_rf p0)] [] st cb sb := by
  unfold vc_J2_compareTo at hvc
  refine j_aload_n hC dJ2_compareTo_0 rfl 0 rfl ?_
  refine j_aload_n hC dJ2_compareTo_1 rfl 1 rfl ?_
  obtain ⟨hv, hvc⟩ := hvc
  refine j_cast hC (C := "java/lang/String") (ci := 1) q606 rfl (Or.inl rfl) hv dJ2_compareTo_2 ?_
  clear hv
  obtain ⟨⟨fs, hr⟩, hvc⟩ := hvc
  refine j_callV (As := [va_rf p0]) (rest := []) (n := 1) (ci := 1) hC hvc (lw_V q668 q669 q670 q44 q671) (by decide +kernel) (g_rm hR rfl rfl) rfl hr rfl rfl (g_sum rfl) dJ2_compareTo_5 (Nat.zero_le _) (Nat.zero_le _) (g_Kip fun x1 hv2 => ?_)
  replace hvc := hv2; clear hv2
  clear hr fs
  exact hret _ _ _ _ _ _ dJ2_compareTo_8 rfl hvc
theorem wk_J2_compareTo {l : Launch} {E : g_E} {a0 : Nat} {p0 : Option Nat} {st : g_St} {mc ms : Nat} {Q : Int32 → g_St → Prop} (hvc : vc_J2_compareTo l E a0 p0 st Q) : wp_J2_compareTo l E mc ms [va_rf (some a0), va_rf p0] st Q :=
  g_enter (lv0 := [(0, va_rf (some a0)), (1, va_rf p0)]) (plainFor_of_name (by decide +kernel)) (by simp [lv_args, g_c1, g_ci, g_cL]) (by simp [lg_sl, g_c1, g_ci, g_cL]) (fun p e s m args below meth c hC => wb_J2_compareTo hC ⟨Nat.le_refl _, Nat.le_refl _⟩ (fun pc lv v st1 cb sb hd hn hq => j_ireturn hC rfl hn hd (g_iv hq)) hvc)
abbrev wp_J0_inflateIfNeededFor (l : Launch) (E : g_E) (mc ms : Nat) (av : List Value) (st : g_St) (Q : g_St → Prop) : Prop := g_WPv l E yJ0_inflateIfNeededFor cJ0_inflateIfNeededFor 2 none 2 60 mc ms av st Q
def vc_J0_inflateIfNeededFor (l : Launch) (E : g_E) (a0 : Nat) (p0 : Option Nat) (st : g_St) (Q : g_St → Prop) : Prop :=
  g_jn0 (fun (K1 : Prop) => ∃ x3 : Int32, g_gi st a0 0 1 x3 ∧ ∃ a4 : Nat, p0 = some a4 ∧ g_is st a4 1 ∧ wp_J2_coder l E 0 0 [va_rf (some a4)] st (fun x5 stx => stx = st ∧ (x3 = x5 → K1) ∧ (¬ x3 = x5 → False))) (Q st)
set_option maxHeartbeats 4000000 in
theorem wb_J0_inflateIfNeededFor {p : Program} {l : Launch} {e : Env} {R : Room} {s : State} {m : MethodId} {args : Array Value} {below : List Frame} {meth : Method} {c : Code} {E : g_E} {st0 : g_St} {Z : State → Prop} (hC : g_Cx p s m args meth c cJ0_inflateIfNeededFor 2 "java/lang/AbstractStringBuilder" none "inflateIfNeededFor" E st0) (hR : g_Rm 2 60 R) {a0 : Nat} {p0 : Option Nat} {st : g_St} {cb sb : Nat} {Q : g_St → Prop} (hret : ∀ (pc : Nat) (lv : List (Nat × Value)) (st1 : g_St) (cb sb : Nat), decode cJ0_inflateIfNeededFor pc = .ok (.return_, 1) → Q st1 → g_J p l e R s m args below meth c 2 E st0 Z pc lv [] st1 cb sb) (hvc : vc_J0_inflateIfNeededFor l E a0 p0 st Q) : g_J p l e R s m args below meth c 2 E st0 Z 0 [(0, va_rf (some a0)), (1, va_rf p0)] [] st cb sb := by
  unfold vc_J0_inflateIfNeededFor at hvc
  refine j_gets (v := .int (nI 1)) hC gs_0 q110 (Or.inl rfl) dJ0_inflateIfNeededFor_0 ?_
  replace hvc := g_jn0_o hvc
  obtain ⟨K1, hK8, hvc⟩ := hvc
  have kh2 : K1 → g_J p l e R s m args below meth c 2 E st0 Z 21 [] [] st cb sb := by
    clear hvc
    intro hvc
    replace hvc := hK8 hvc
    exact hret _ _ _ _ _ dJ0_inflateIfNeededFor_21 hvc
  refine j_if_eq (tgt := 21) hC dJ0_inflateIfNeededFor_3 rfl (fun c7 => absurd c7 (by decide)) (fun _ => ?_)
  refine j_aload_n hC dJ0_inflateIfNeededFor_6 rfl 0 rfl ?_
  obtain ⟨x3, ⟨fs, hr, hv⟩, hvc⟩ := hvc
  refine j_get hC fkJ0_22_J1 dJ0_inflateIfNeededFor_7 hr hv ?_
  clear hv hr fs
  refine j_aload_n hC dJ0_inflateIfNeededFor_10 rfl 1 rfl ?_
  obtain ⟨a4, rfl, hvc⟩ := hvc
  obtain ⟨⟨fs, hr⟩, hvc⟩ := hvc
  refine j_callV (As := []) (rest := [.int x3]) (n := 0) (ci := 1) hC hvc (lw_V q369 q186 q187 q44 q188) (by decide +kernel) (g_rm hR rfl rfl) rfl hr rfl rfl (g_sum rfl) dJ0_inflateIfNeededFor_11 (Nat.zero_le _) (Nat.zero_le _) (g_Kip fun x5 hv2 => ?_)
  replace hvc := hv2; clear hv2
  clear hr fs
  refine j_icmp_eq (tgt := 21) hC dJ0_inflateIfNeededFor_14 rfl (fun c6 => ?_) (fun c6 => ?_)
  · replace hvc := hvc.1 c6
    exact j_sub [] rfl (kh2 hvc)
  · replace hvc := hvc.2 c6
    refine j_aload_n hC dJ0_inflateIfNeededFor_17 rfl 0 rfl ?_
    exact hvc.elim
theorem wk_J0_inflateIfNeededFor {l : Launch} {E : g_E} {a0 : Nat} {p0 : Option Nat} {st : g_St} {mc ms : Nat} {Q : g_St → Prop} (hvc : vc_J0_inflateIfNeededFor l E a0 p0 st Q) : wp_J0_inflateIfNeededFor l E mc ms [va_rf (some a0), va_rf p0] st Q :=
  g_enter (lv0 := [(0, va_rf (some a0)), (1, va_rf p0)]) (plainFor_of_name (by decide +kernel)) (by simp [lv_args, g_c1, g_ci, g_cL]) (by simp [lg_sl, g_c1, g_ci, g_cL]) (fun p e s m args below meth c hC => wb_J0_inflateIfNeededFor hC ⟨Nat.le_refl _, Nat.le_refl _⟩ (fun pc lv st1 cb sb hd hq => j_return hC rfl hd ⟨rfl, hq⟩) hvc)
abbrev wp_J2_getBytes (l : Launch) (E : g_E) (mc ms : Nat) (av : List Value) (st : g_St) (Q : g_St → Prop) : Prop := g_WPv l E yJ2_getBytes cJ2_getBytes 4 none 2 60 mc ms av st Q
def vc_J2_getBytes (l : Launch) (E : g_E) (a0 : Nat) (p0 : Option Nat) (p1 : Int32) (p2 : Int32) (st : g_St) (Q : g_St → Prop) : Prop :=
  g_is st a0 1 ∧ wp_J2_coder l E 0 0 [va_rf (some a0)] st (fun x1 stx => stx = st ∧ (¬ x1 = p2 → ∃ o3 : Option Nat, g_gr st a0 1 0 o3 ∧ ∃ o4 : Option Nat, g_gr st a0 1 0 o4 ∧ ∃ a5 : Nat, o4 = some a5 ∧ ∃ (t6 : Nat) (v7 : vp_A), g_Rd st a5 (.inl (t6, v7)) ∧ False) ∧ (x1 = p2 → ∃ o8 : Option Nat, g_gr st a0 1 0 o8 ∧ ∃ o9 : Option Nat, g_gr st a0 1 0 o9 ∧ ∃ a10 : Nat, o9 = some a10 ∧ ∃ (t11 : Nat) (v12 : vp_A), g_Rd st a10 (.inl (t11, v12)) ∧ ∃ a13 : Nat, p0 = some a13 ∧ ∃ a14 : Nat, o8 = some a14 ∧ ∃ (n15 : Nat) (f16 : Nat → Int32) (m17 : Nat) (h18 : Nat → Int32) (i19 j20 k21 : Nat), g_ai st a14 1 n15 f16 ∧ st.2.1 a13 = some (.inl (1, m17, .inl h18)) ∧ (nI 0) = nI i19 ∧ (p1 <<< (p2 &&& 31)) = nI j20 ∧ (nI v12.1) = nI k21 ∧ i19 < 2 ^ 31 ∧ j20 < 2 ^ 31 ∧ k21 < 2 ^ 31 ∧ i19 + k21 ≤ n15 ∧ j20 + k21 ≤ m17 ∧ (∀ z : Nat, z < k21 → fits .byte (.int (f16 (i19 + z))) = true) ∧ ∀ st22 : g_St, st22 = g_put st a13 (.inl (1, m17, .inl (va_cpy f16 h18 i19 j20 k21))) → Q st22))
set_option maxHeartbeats 4000000 in
theorem wb_J2_getBytes {p : Program} {l : Launch} {e : Env} {R : Room} {s : State} {m : MethodId} {args : Array Value} {below : List Frame} {meth : Method} {c : Code} {E : g_E} {st0 : g_St} {Z : State → Prop} (hC : g_Cx p s m args meth c cJ2_getBytes 4 "java/lang/String" none "getBytes" E st0) (hR : g_Rm 2 60 R) {a0 : Nat} {p0 : Option Nat} {p1 : Int32} {p2 : Int32} {st : g_St} {cb sb : Nat} {Q : g_St → Prop} (hret : ∀ (pc : Nat) (lv : List (Nat × Value)) (st1 : g_St) (cb sb : Nat), decode cJ2_getBytes pc = .ok (.return_, 1) → Q st1 → g_J p l e R s m args below meth c 4 E st0 Z pc lv [] st1 cb sb) (hvc : vc_J2_getBytes l E a0 p0 p1 p2 st Q) : g_J p l e R s m args below meth c 4 E st0 Z 0 [(0, va_rf (some a0)), (1, va_rf p0), (2, .int p1), (3, .int p2)] [] st cb sb := by
  unfold vc_J2_getBytes at hvc
  refine j_aload_n hC dJ2_getBytes_0 rfl 0 rfl ?_
  obtain ⟨⟨fs, hr⟩, hvc⟩ := hvc
  refine j_callV (As := []) (rest := []) (n := 0) (ci := 1) hC hvc (lw_V q185 q186 q187 q44 q188) (by decide +kernel) (g_rm hR rfl rfl) rfl hr rfl rfl (g_sum rfl) dJ2_getBytes_1 (Nat.zero_le _) (Nat.zero_le _) (g_Kip fun x1 hv2 => ?_)
  replace hvc := hv2; clear hv2
  clear hr fs
  refine j_iload_n hC dJ2_getBytes_4 rfl 3 rfl ?_
  refine j_icmp_ne (tgt := 28) hC dJ2_getBytes_5 rfl (fun c2 => ?_) (fun c2 => ?_)
  · replace hvc := hvc.1 c2
    refine j_aload_n hC dJ2_getBytes_28 rfl 0 rfl ?_
    obtain ⟨o3, ⟨fs, hr, hv⟩, hvc⟩ := hvc
    refine j_get hC fkJ2_9_J2 dJ2_getBytes_29 hr hv ?_
    clear hv hr fs
    refine j_iconst hC (nI 0) dJ2_getBytes_32 rfl ?_
    refine j_aload_n hC dJ2_getBytes_33 rfl 1 rfl ?_
    refine j_iload_n hC dJ2_getBytes_34 rfl 2 rfl ?_
    refine j_aload_n hC dJ2_getBytes_35 rfl 0 rfl ?_
    obtain ⟨o4, ⟨fs, hr, hv⟩, hvc⟩ := hvc
    refine j_get hC fkJ2_9_J2 dJ2_getBytes_36 hr hv ?_
    clear hv hr fs
    obtain ⟨a5, rfl, hvc⟩ := hvc
    obtain ⟨t6, v7, hr, hvc⟩ := hvc
    refine j_alen hC hr dJ2_getBytes_39 ?_
    clear hr
    exact hvc.elim
  · replace hvc := hvc.2 c2
    refine j_aload_n hC dJ2_getBytes_8 rfl 0 rfl ?_
    obtain ⟨o8, ⟨fs, hr, hv⟩, hvc⟩ := hvc
    refine j_get hC fkJ2_9_J2 dJ2_getBytes_9 hr hv ?_
    clear hv hr fs
    refine j_iconst hC (nI 0) dJ2_getBytes_12 rfl ?_
    refine j_aload_n hC dJ2_getBytes_13 rfl 1 rfl ?_
    refine j_iload_n hC dJ2_getBytes_14 rfl 2 rfl ?_
    refine j_iload_n hC dJ2_getBytes_15 rfl 3 rfl ?_
    refine j_ishl hC dJ2_getBytes_16 ?_
    refine j_aload_n hC dJ2_getBytes_17 rfl 0 rfl ?_
    obtain ⟨o9, ⟨fs, hr, hv⟩, hvc⟩ := hvc
    refine j_get hC fkJ2_9_J2 dJ2_getBytes_18 hr hv ?_
    clear hv hr fs
    obtain ⟨a10, rfl, hvc⟩ := hvc
    obtain ⟨t11, v12, hr, hvc⟩ := hvc
    refine j_alen hC hr dJ2_getBytes_21 ?_
    clear hr
    obtain ⟨a13, rfl, hvc⟩ := hvc
    obtain ⟨a14, rfl, hvc⟩ := hvc
    obtain ⟨n15, f16, m17, h18, i19, j20, k21, hr, hm, e1, e2, e3, l1, l2, l3, l4, l5, hf, hvc⟩ := hvc
    refine j_copyB hC (by exact q393) (by exact q308) (by exact q307) (by exact q59) hr hm e1 e2 e3 l1 l2 l3 l4 l5 hf (Nat.le_trans (Nat.le_of_ble_eq_true rfl) hR.1) (Nat.le_trans (g_sumN rfl) hR.2) dJ2_getBytes_22 (fun st22 e1 => ?_)
    replace hvc := hvc st22 e1; clear hr hm e1 e2 e3 l1 l2 l3 l4 l5 hf
    refine j_goto (tgt := 43) hC dJ2_getBytes_25 rfl ?_
    exact hret _ _ _ _ _ dJ2_getBytes_43 hvc
theorem wk_J2_getBytes {l : Launch} {E : g_E} {a0 : Nat} {p0 : Option Nat} {p1 : Int32} {p2 : Int32} {st : g_St} {mc ms : Nat} {Q : g_St → Prop} (hvc : vc_J2_getBytes l E a0 p0 p1 p2 st Q) : wp_J2_getBytes l E mc ms [va_rf (some a0), va_rf p0, .int p1, .int p2] st Q :=
  g_enter (lv0 := [(0, va_rf (some a0)), (1, va_rf p0), (2, .int p1), (3, .int p2)]) (plainFor_of_name (by decide +kernel)) (by simp [lv_args, g_c1, g_ci, g_cL]) (by simp [lg_sl, g_c1, g_ci, g_cL]) (fun p e s m args below meth c hC => wb_J2_getBytes hC ⟨Nat.le_refl _, Nat.le_refl _⟩ (fun pc lv st1 cb sb hd hq => j_return hC rfl hd ⟨rfl, hq⟩) hvc)
abbrev wp_J0_putStringAt (l : Launch) (E : g_E) (mc ms : Nat) (av : List Value) (st : g_St) (Q : g_St → Prop) : Prop := g_WPv l E yJ0_putStringAt cJ0_putStringAt 3 none 3 83 mc ms av st Q
def vc_J0_putStringAt (l : Launch) (E : g_E) (a0 : Nat) (p0 : Int32) (p1 : Option Nat) (st : g_St) (Q : g_St → Prop) : Prop :=
  g_is st a0 0 ∧ wp_J0_inflateIfNeededFor l E 0 0 [va_rf (some a0), va_rf p1] st (fun stx => stx = st ∧ ∃ o1 : Option Nat, g_gr st a0 0 0 o1 ∧ ∃ x2 : Int32, g_gi st a0 0 1 x2 ∧ ∃ a3 : Nat, p1 = some a3 ∧ g_is st a3 1 ∧ wp_J2_getBytes l E 0 0 [va_rf (some a3), va_rf o1, .int p0, .int x2] st (fun st4 => g_Ext st st4 → Q st4))
set_option maxHeartbeats 4000000 in
theorem wb_J0_putStringAt {p : Program} {l : Launch} {e : Env} {R : Room} {s : State} {m : MethodId} {args : Array Value} {below : List Frame} {meth : Method} {c : Code} {E : g_E} {st0 : g_St} {Z : State → Prop} (hC : g_Cx p s m args meth c cJ0_putStringAt 3 "java/lang/AbstractStringBuilder" none "putStringAt" E st0) (hR : g_Rm 3 83 R) {a0 : Nat} {p0 : Int32} {p1 : Option Nat} {st : g_St} {cb sb : Nat} {Q : g_St → Prop} (hret : ∀ (pc : Nat) (lv : List (Nat × Value)) (st1 : g_St) (cb sb : Nat), decode cJ0_putStringAt pc = .ok (.return_, 1) → Q st1 → g_J p l e R s m args below meth c 3 E st0 Z pc lv [] st1 cb sb) (hvc : vc_J0_putStringAt l E a0 p0 p1 st Q) : g_J p l e R s m args below meth c 3 E st0 Z 0 [(0, va_rf (some a0)), (1, .int p0), (2, va_rf p1)] [] st cb sb := by
  unfold vc_J0_putStringAt at hvc
  refine j_aload_n hC dJ0_putStringAt_0 rfl 0 rfl ?_
  refine j_aload_n hC dJ0_putStringAt_1 rfl 2 rfl ?_
  obtain ⟨⟨fs, hr⟩, hvc⟩ := hvc
  refine j_callP (As := [va_rf p1]) (rest := []) (n := 1) (ci := 0) hC hvc (lw_meth q368) q365 q367 ge_89 q42 g_sbP (by decide +kernel) (g_rm hR rfl rfl) rfl hr rfl rfl (g_sum rfl) dJ0_putStringAt_2 (Nat.zero_le _) (Nat.zero_le _) (g_Kvp fun hv2 => ?_)
  replace hvc := hv2; clear hv2
  clear hr fs
  refine j_aload_n hC dJ0_putStringAt_5 rfl 2 rfl ?_
  refine j_aload_n hC dJ0_putStringAt_6 rfl 0 rfl ?_
  obtain ⟨o1, ⟨fs, hr, hv⟩, hvc⟩ := hvc
  refine j_get hC fkJ0_15_J1 dJ0_putStringAt_7 hr hv ?_
  clear hv hr fs
  refine j_iload_n hC dJ0_putStringAt_10 rfl 1 rfl ?_
  refine j_aload_n hC dJ0_putStringAt_11 rfl 0 rfl ?_
  obtain ⟨x2, ⟨fs, hr, hv⟩, hvc⟩ := hvc
  refine j_get hC fkJ0_22_J1 dJ0_putStringAt_12 hr hv ?_
  clear hv hr fs
  obtain ⟨a3, rfl, hvc⟩ := hvc
  obtain ⟨⟨fs, hr⟩, hvc⟩ := hvc
  refine j_callV (As := [va_rf o1, .int p0, .int x2]) (rest := []) (n := 3) (ci := 1) hC hvc (lw_V q389 q390 q391 q44 q392) (by decide +kernel) (g_rm hR rfl rfl) rfl hr rfl rfl (g_sum rfl) dJ0_putStringAt_15 (Nat.zero_le _) (Nat.zero_le _) (g_Kv fun st4 hv2 hx => ?_)
  replace hvc := hv2 hx; clear hx hv2
  clear hr fs
  exact hret _ _ _ _ _ dJ0_putStringAt_18 hvc
theorem wk_J0_putStringAt {l : Launch} {E : g_E} {a0 : Nat} {p0 : Int32} {p1 : Option Nat} {st : g_St} {mc ms : Nat} {Q : g_St → Prop} (hvc : vc_J0_putStringAt l E a0 p0 p1 st Q) : wp_J0_putStringAt l E mc ms [va_rf (some a0), .int p0, va_rf p1] st Q :=
  g_enter (lv0 := [(0, va_rf (some a0)), (1, .int p0), (2, va_rf p1)]) (plainFor_of_name (by decide +kernel)) (by simp [lv_args, g_c1, g_ci, g_cL]) (by simp [lg_sl, g_c1, g_ci, g_cL]) (fun p e s m args below meth c hC => wb_J0_putStringAt hC ⟨Nat.le_refl _, Nat.le_refl _⟩ (fun pc lv st1 cb sb hd hq => j_return hC rfl hd ⟨rfl, hq⟩) hvc)
abbrev wp_J0_append_2 (l : Launch) (E : g_E) (mc ms : Nat) (av : List Value) (st : g_St) (Q : Option Nat → g_St → Prop) : Prop := g_WPa l E yJ0_append_2 cJ0_append_2 3 (some (.object "java/lang/AbstractStringBuilder")) 4 110 mc ms av st Q
def vc_J0_append_2 (l : Launch) (E : g_E) (a0 : Nat) (p0 : Option Nat) (st : g_St) (cb sb : Nat) (Q : Option Nat → g_St → Prop) : Prop :=
  (p0 = none → False) ∧ (∀ a2 : Nat, p0 = some a2 → g_is st a2 1 ∧ wp_J2_length l E 0 0 [va_rf (some a2)] st (fun x3 stx => stx = st ∧ ∃ x4 : Int32, g_gi st a0 0 3 x4 ∧ ∃ mc6 ms7 : Nat, mc6 ≤ cb ∧ ms7 ≤ sb ∧ g_is st a0 0 ∧ wp_J0_ensureCapacityInternal l E mc6 ms7 [va_rf (some a0), .int (x4 + x3)] st (fun st5 => g_Ext st st5 → ∃ x8 : Int32, g_gi st5 a0 0 3 x8 ∧ g_is st5 a0 0 ∧ wp_J0_putStringAt l E 0 0 [va_rf (some a0), .int x8, va_rf (some a2)] st5 (fun st9 => g_Ext st5 st9 → ∃ x10 : Int32, g_gi st9 a0 0 3 x10 ∧ ∃ fs11 : List Value, st9.2.1 a0 = some (.inr (0, fs11)) ∧ ∀ st12 : g_St, st12 = g_put st9 a0 (.inr (0, fs11.set 3 (.int (x10 + x3)))) → Q (some a0) st12))))
set_option maxHeartbeats 4000000 in
theorem wb_J0_append_2 {p : Program} {l : Launch} {e : Env} {R : Room} {s : State} {m : MethodId} {args : Array Value} {below : List Frame} {meth : Method} {c : Code} {E : g_E} {st0 : g_St} {Z : State → Prop} (hC : g_Cx p s m args meth c cJ0_append_2 3 "java/lang/AbstractStringBuilder" (some (.object "java/lang/AbstractStringBuilder")) "append" E st0) (hR : g_Rm 4 110 R) {a0 : Nat} {p0 : Option Nat} {st : g_St} {cb sb : Nat} {Q : Option Nat → g_St → Prop} (hret : ∀ (pc : Nat) (lv : List (Nat × Value)) (v : Option Nat) (st1 : g_St) (cb sb : Nat), decode cJ0_append_2 pc = .ok (.areturn, 1) → Q v st1 → g_J p l e R s m args below meth c 3 E st0 Z pc lv [va_rf v] st1 cb sb) (hvc : vc_J0_append_2 l E a0 p0 st cb sb Q) : g_J p l e R s m args below meth c 3 E st0 Z 0 [(0, va_rf (some a0)), (1, va_rf p0)] [] st cb sb := by
  unfold vc_J0_append_2 at hvc
  refine j_aload_n hC dJ0_append_2_0 rfl 1 rfl ?_
  refine j_ifnonnull (tgt := 9) hC dJ0_append_2_1 rfl (fun a2 c1 => ?_) (fun c1 => ?_)
  · subst c1; replace hvc := hvc.2 a2 rfl
    refine j_aload_n hC dJ0_append_2_9 rfl 1 rfl ?_
    obtain ⟨⟨fs, hr⟩, hvc⟩ := hvc
    refine j_callV (As := []) (rest := []) (n := 0) (ci := 1) hC hvc (lw_V q360 q182 q183 q44 q184) (by decide +kernel) (g_rm hR rfl rfl) rfl hr rfl rfl (g_sum rfl) dJ0_append_2_10 (Nat.zero_le _) (Nat.zero_le _) (g_Kip fun x3 hv2 => ?_)
    replace hvc := hv2; clear hv2
    clear hr fs
    refine j_istore_n (lv0 := [(1, va_rf (some a2)), (0, va_rf (some a0))]) hC dJ0_append_2_13 rfl rfl [1, 0] rfl (g_okS.h rfl g_c1 rfl) ?_
    refine j_aload_n hC dJ0_append_2_14 rfl 2 rfl ?_
    refine j_aload_n hC dJ0_append_2_15 rfl 2 rfl ?_
    obtain ⟨x4, ⟨fs, hr, hv⟩, hvc⟩ := hvc
    refine j_get hC fkJ0_79_J1 dJ0_append_2_16 hr hv ?_
    clear hv hr fs
    refine j_iload_n hC dJ0_append_2_19 rfl 0 rfl ?_
    refine j_iadd hC dJ0_append_2_20 ?_
    obtain ⟨mc6, ms7, h1, h2, hvc⟩ := hvc
    obtain ⟨⟨fs, hr⟩, hvc⟩ := hvc
    refine j_callP (As := [.int (x4 + x3)]) (rest := []) (n := 1) (ci := 0) hC hvc (lw_meth q277) q274 q276 ge_85 q42 g_sbP (by decide +kernel) (g_rm hR rfl rfl) rfl hr rfl rfl (g_sum rfl) dJ0_append_2_21 h1 h2 (g_Kv fun st5 hv2 hx => ?_)
    replace hvc := hv2 hx; clear hx hv2
    clear hr fs
    refine j_aload_n hC dJ0_append_2_24 rfl 2 rfl ?_
    refine j_aload_n hC dJ0_append_2_25 rfl 2 rfl ?_
    obtain ⟨x8, ⟨fs, hr, hv⟩, hvc⟩ := hvc
    refine j_get hC fkJ0_79_J1 dJ0_append_2_26 hr hv ?_
    clear hv hr fs
    refine j_aload_n hC dJ0_append_2_29 rfl 1 rfl ?_
    obtain ⟨⟨fs, hr⟩, hvc⟩ := hvc
    refine j_callP (As := [.int x8, va_rf (some a2)]) (rest := []) (n := 2) (ci := 0) hC hvc (lw_meth q364) q361 q363 ge_88 q42 g_sbP (by decide +kernel) (g_rm hR rfl rfl) rfl hr rfl rfl (g_sum rfl) dJ0_append_2_30 (Nat.zero_le _) (Nat.zero_le _) (g_Kv fun st9 hv2 hx => ?_)
    replace hvc := hv2 hx; clear hx hv2
    clear hr fs
    refine j_aload_n hC dJ0_append_2_33 rfl 2 rfl ?_
    refine j_dup hC dJ0_append_2_34 g_c1 ?_
    obtain ⟨x10, ⟨fs, hr, hv⟩, hvc⟩ := hvc
    refine j_get hC fkJ0_79_J1 dJ0_append_2_35 hr hv ?_
    clear hv hr fs
    refine j_iload_n hC dJ0_append_2_38 rfl 0 rfl ?_
    refine j_iadd hC dJ0_append_2_39 ?_
    obtain ⟨fs11, hm, hvc⟩ := hvc
    refine j_put hC fkJ0_79_J1 dJ0_append_2_40 hm rfl rfl (fun st12 e1 => ?_)
    replace hvc := hvc st12 e1; clear hm e1
    refine j_aload_n hC dJ0_append_2_43 rfl 2 rfl ?_
    exact hret _ _ _ _ _ _ dJ0_append_2_44 hvc
  · subst c1; replace hvc := hvc.1 rfl
    refine j_aload_n hC dJ0_append_2_4 rfl 0 rfl ?_
    exact hvc.elim
theorem wk_J0_append_2 {l : Launch} {E : g_E} {a0 : Nat} {p0 : Option Nat} {st : g_St} {mc ms : Nat} {Q : Option Nat → g_St → Prop} (hvc : vc_J0_append_2 l E a0 p0 st mc ms Q) : wp_J0_append_2 l E mc ms [va_rf (some a0), va_rf p0] st Q :=
  g_enter (lv0 := [(0, va_rf (some a0)), (1, va_rf p0)]) (plainFor_of_name (by decide +kernel)) (by simp [lv_args, g_c1, g_ci, g_cL]) (by simp [lg_sl, g_c1, g_ci, g_cL]) (fun p e s m args below meth c hC => wb_J0_append_2 hC ⟨Nat.le_refl _, Nat.le_refl _⟩ (fun pc lv v st1 cb sb hd hq => j_areturn hC rfl (by first | exact Or.inl ⟨_, rfl⟩ | exact Or.inr ⟨_, rfl⟩) hd (g_av hq)) hvc)
abbrev wp_J1_append_2 (l : Launch) (E : g_E) (mc ms : Nat) (av : List Value) (st : g_St) (Q : Option Nat → g_St → Prop) : Prop := g_WPa l E yJ1_append_2 cJ1_append_2 2 (some (.object "java/lang/StringBuilder")) 5 132 mc ms av st Q
def vc_J1_append_2 (l : Launch) (E : g_E) (a0 : Nat) (p0 : Option Nat) (st : g_St) (cb sb : Nat) (Q : Option Nat → g_St → Prop) : Prop :=
  ∃ mc3 ms4 : Nat, mc3 ≤ cb ∧ ms4 ≤ sb ∧ g_is st a0 0 ∧ wp_J0_append_2 l E mc3 ms4 [va_rf (some a0), va_rf p0] st (fun o1 st2 => g_Ext st st2 → Q (some a0) st2)
set_option maxHeartbeats 4000000 in
theorem wb_J1_append_2 {p : Program} {l : Launch} {e : Env} {R : Room} {s : State} {m : MethodId} {args : Array Value} {below : List Frame} {meth : Method} {c : Code} {E : g_E} {st0 : g_St} {Z : State → Prop} (hC : g_Cx p s m args meth c cJ1_append_2 2 "java/lang/StringBuilder" (some (.object "java/lang/StringBuilder")) "append" E st0) (hR : g_Rm 5 132 R) {a0 : Nat} {p0 : Option Nat} {st : g_St} {cb sb : Nat} {Q : Option Nat → g_St → Prop} (hret : ∀ (pc : Nat) (lv : List (Nat × Value)) (v : Option Nat) (st1 : g_St) (cb sb : Nat), decode cJ1_append_2 pc = .ok (.areturn, 1) → Q v st1 → g_J p l e R s m args below meth c 2 E st0 Z pc lv [va_rf v] st1 cb sb) (hvc : vc_J1_append_2 l E a0 p0 st cb sb Q) : g_J p l e R s m args below meth c 2 E st0 Z 0 [(0, va_rf (some a0)), (1, va_rf p0)] [] st cb sb := by
  unfold vc_J1_append_2 at hvc
  refine j_aload_n hC dJ1_append_2_0 rfl 0 rfl ?_
  refine j_aload_n hC dJ1_append_2_1 rfl 1 rfl ?_
  obtain ⟨mc3, ms4, h1, h2, hvc⟩ := hvc
  obtain ⟨⟨fs, hr⟩, hvc⟩ := hvc
  refine j_callSU (As := [va_rf p0]) (rest := []) (n := 1) (ci := 0) hC hvc (lw_SU q350 q2446 q132 q351 q42 q352) (by decide +kernel) (g_rm hR rfl rfl) rfl hr rfl rfl (g_sum rfl) dJ1_append_2_2 h1 h2 (g_Ka fun o1 st2 hv2 hx => ?_)
  replace hvc := hv2 hx; clear hx hv2
  clear hr fs
  refine j_pop hC dJ1_append_2_5 g_c1 ?_
  refine j_aload_n hC dJ1_append_2_6 rfl 0 rfl ?_
  exact hret _ _ _ _ _ _ dJ1_append_2_7 hvc
theorem wk_J1_append_2 {l : Launch} {E : g_E} {a0 : Nat} {p0 : Option Nat} {st : g_St} {mc ms : Nat} {Q : Option Nat → g_St → Prop} (hvc : vc_J1_append_2 l E a0 p0 st mc ms Q) : wp_J1_append_2 l E mc ms [va_rf (some a0), va_rf p0] st Q :=
  g_enter (lv0 := [(0, va_rf (some a0)), (1, va_rf p0)]) (plainFor_of_name (by decide +kernel)) (by simp [lv_args, g_c1, g_ci, g_cL]) (by simp [lg_sl, g_c1, g_ci, g_cL]) (fun p e s m args below meth c hC => wb_J1_append_2 hC ⟨Nat.le_refl _, Nat.le_refl _⟩ (fun pc lv v st1 cb sb hd hq => j_areturn hC rfl (by first | exact Or.inl ⟨_, rfl⟩ | exact Or.inr ⟨_, rfl⟩) hd (g_av hq)) hvc)
abbrev wp_J7_canEncode (l : Launch) (E : g_E) (mc ms : Nat) (av : List Value) (st : g_St) (Q : Int32 → g_St → Prop) : Prop := g_WPi l E yJ7_canEncode cJ7_canEncode 1 (some .boolean) 1 40 mc ms av st Q
def vc_J7_canEncode (l : Launch) (E : g_E) (p0 : Int32) (st : g_St) (Q : Int32 → g_St → Prop) : Prop :=
  g_jn1 (fun (K2 : Int32 → Prop) => ((nI 255) < p0 → K2 (nI 0)) ∧ (¬ (nI 255) < p0 → K2 (nI 1))) (fun (x1 : Int32) => narrow .boolean (.int x1) = .int x1 ∧ Q x1 st)
set_option maxHeartbeats 4000000 in
theorem wb_J7_canEncode {p : Program} {l : Launch} {e : Env} {R : Room} {s : State} {m : MethodId} {args : Array Value} {below : List Frame} {meth : Method} {c : Code} {E : g_E} {st0 : g_St} {Z : State → Prop} (hC : g_Cx p s m args meth c cJ7_canEncode 1 "java/lang/StringLatin1" (some .boolean) "canEncode" E st0) (hR : g_Rm 1 40 R) {p0 : Int32} {st : g_St} {cb sb : Nat} {Q : Int32 → g_St → Prop} (hret : ∀ (pc : Nat) (lv : List (Nat × Value)) (v : Int32) (st1 : g_St) (cb sb : Nat), decode cJ7_canEncode pc = .ok (.ireturn, 1) → narrow .boolean (.int v) = .int v → Q v st1 → g_J p l e R s m args below meth c 1 E st0 Z pc lv [.int v] st1 cb sb) (hvc : vc_J7_canEncode l E p0 st Q) : g_J p l e R s m args below meth c 1 E st0 Z 0 [(0, .int p0)] [] st cb sb := by
  unfold vc_J7_canEncode at hvc
  refine j_iload_n hC dJ7_canEncode_0 rfl 0 rfl ?_
  refine j_sipush hC (nI 255) dJ7_canEncode_1 rfl ?_
  replace hvc := g_jn1_o hvc
  obtain ⟨K2, hK5, hvc⟩ := hvc
  have kh3 : ∀ (x1 : Int32), K2 x1 → g_J p l e R s m args below meth c 1 E st0 Z 12 [] [.int x1] st cb sb := by
    clear hvc
    intro x1 hvc
    replace hvc := hK5 _ hvc
    exact hret _ _ _ _ _ _ dJ7_canEncode_12 hvc.1 hvc.2
  refine j_icmp_gt (tgt := 11) hC dJ7_canEncode_4 rfl (fun c4 => ?_) (fun c4 => ?_)
  · replace hvc := hvc.1 c4
    refine j_iconst hC (nI 0) dJ7_canEncode_11 rfl ?_
    exact j_sub [] rfl (kh3 (nI 0) hvc)
  · replace hvc := hvc.2 c4
    refine j_iconst hC (nI 1) dJ7_canEncode_7 rfl ?_
    refine j_goto (tgt := 12) hC dJ7_canEncode_8 rfl ?_
    exact j_sub [] rfl (kh3 (nI 1) hvc)
theorem wk_J7_canEncode {l : Launch} {E : g_E} {p0 : Int32} {st : g_St} {mc ms : Nat} {Q : Int32 → g_St → Prop} (hvc : vc_J7_canEncode l E p0 st Q) : wp_J7_canEncode l E mc ms [.int p0] st Q :=
  g_enter (lv0 := [(0, .int p0)]) (plainFor_of_name (by decide +kernel)) (by simp [lv_args, g_c1, g_ci, g_cL]) (by simp [lg_sl, g_c1, g_ci, g_cL]) (fun p e s m args below meth c hC => wb_J7_canEncode hC ⟨Nat.le_refl _, Nat.le_refl _⟩ (fun pc lv v st1 cb sb hd hn hq => j_ireturn hC rfl hn hd (g_iv hq)) hvc)
abbrev wp_J0_append_3 (l : Launch) (E : g_E) (mc ms : Nat) (av : List Value) (st : g_St) (Q : Option Nat → g_St → Prop) : Prop := g_WPa l E yJ0_append_3 cJ0_append_3 2 (some (.object "java/lang/AbstractStringBuilder")) 4 110 mc ms av st Q
def vc_J0_append_3 (l : Launch) (E : g_E) (a0 : Nat) (p0 : Int32) (st : g_St) (cb sb : Nat) (Q : Option Nat → g_St → Prop) : Prop :=
  ∃ x1 : Int32, g_gi st a0 0 3 x1 ∧ ∃ mc3 ms4 : Nat, mc3 ≤ cb ∧ ms4 ≤ sb ∧ g_is st a0 0 ∧ wp_J0_ensureCapacityInternal l E mc3 ms4 [va_rf (some a0), .int (x1 + (nI 1))] st (fun st2 => g_Ext st st2 → g_is st2 a0 0 ∧ wp_J0_isLatin1 l E 0 0 [va_rf (some a0)] st2 (fun x5 stx => stx = st2 ∧ g_jn0 (fun (K6 : Prop) => (x5 = 0 → K6) ∧ (¬ x5 = 0 → wp_J7_canEncode l E 0 0 [.int p0] st2 (fun x15 stx => stx = st2 ∧ (x15 = 0 → K6) ∧ (¬ x15 = 0 → ∃ o17 : Option Nat, g_gr st2 a0 0 0 o17 ∧ ∃ x18 : Int32, g_gi st2 a0 0 3 x18 ∧ ∃ fs19 : List Value, st2.2.1 a0 = some (.inr (0, fs19)) ∧ ∀ st20 : g_St, st20 = g_put st2 a0 (.inr (0, fs19.set 3 (.int (x18 + (nI 1))))) → ∃ a21 : Nat, o17 = some a21 ∧ ∃ (n22 : Nat) (f23 : Nat → Int32) (j24 : Nat), st20.2.1 a21 = some (.inl (1, n22, .inl (f23))) ∧ x18 = nI j24 ∧ j24 < n22 ∧ j24 < 2 ^ 31 ∧ ∀ st25 : g_St, st25 = g_put st20 a21 (.inl (1, n22, .inl (va_up f23 j24 (vp_nar .byte ((p0).toInt8.toInt32))))) → Q (some a0) st25)))) (g_is st2 a0 0 ∧ wp_J0_isLatin1 l E 0 0 [va_rf (some a0)] st2 (fun x8 stx => stx = st2 ∧ (x8 = 0 → ∃ o10 : Option Nat, g_gr st2 a0 0 0 o10 ∧ ∃ x11 : Int32, g_gi st2 a0 0 3 x11 ∧ ∃ fs12 : List Value, st2.2.1 a0 = some (.inr (0, fs12)) ∧ ∀ st13 : g_St, st13 = g_put st2 a0 (.inr (0, fs12.set 3 (.int (x11 + (nI 1))))) → False) ∧ (¬ x8 = 0 → False)))))
set_option maxHeartbeats 4000000 in
theorem wb_J0_append_3 {p : Program} {l : Launch} {e : Env} {R : Room} {s : State} {m : MethodId} {args : Array Value} {below : List Frame} {meth : Method} {c : Code} {E : g_E} {st0 : g_St} {Z : State → Prop} (hC : g_Cx p s m args meth c cJ0_append_3 2 "java/lang/AbstractStringBuilder" (some (.object "java/lang/AbstractStringBuilder")) "append" E st0) (hR : g_Rm 4 110 R) {a0 : Nat} {p0 : Int32} {st : g_St} {cb sb : Nat} {Q : Option Nat → g_St → Prop} (hret : ∀ (pc : Nat) (lv : List (Nat × Value)) (v : Option Nat) (st1 : g_St) (cb sb : Nat), decode cJ0_append_3 pc = .ok (.areturn, 1) → Q v st1 → g_J p l e R s m args below meth c 2 E st0 Z pc lv [va_rf v] st1 cb sb) (hvc : vc_J0_append_3 l E a0 p0 st cb sb Q) : g_J p l e R s m args below meth c 2 E st0 Z 0 [(0, va_rf (some a0)), (1, .int p0)] [] st cb sb := by
  unfold vc_J0_append_3 at hvc
  refine j_aload_n hC dJ0_append_3_0 rfl 0 rfl ?_
  refine j_aload_n hC dJ0_append_3_1 rfl 0 rfl ?_
  obtain ⟨x1, ⟨fs, hr, hv⟩, hvc⟩ := hvc
  refine j_get hC fkJ0_79_J1 dJ0_append_3_2 hr hv ?_
  clear hv hr fs
  refine j_iconst hC (nI 1) dJ0_append_3_5 rfl ?_
  refine j_iadd hC dJ0_append_3_6 ?_
  obtain ⟨mc3, ms4, h1, h2, hvc⟩ := hvc
  obtain ⟨⟨fs, hr⟩, hvc⟩ := hvc
  refine j_callP (As := [.int (x1 + (nI 1))]) (rest := []) (n := 1) (ci := 0) hC hvc (lw_meth q277) q274 q276 ge_85 q42 g_sbP (by decide +kernel) (g_rm hR rfl rfl) rfl hr rfl rfl (g_sum rfl) dJ0_append_3_7 h1 h2 (g_Kv fun st2 hv2 hx => ?_)
  replace hvc := hv2 hx; clear hx hv2
  clear hr fs
  refine j_aload_n hC dJ0_append_3_10 rfl 0 rfl ?_
  obtain ⟨⟨fs, hr⟩, hvc⟩ := hvc
  refine j_callU (As := []) (rest := []) (n := 0) (x := ⟨"java/lang/AbstractStringBuilder", "isLatin1", "()Z"⟩) (C := "java/lang/StringBuilder") (owner := "java/lang/AbstractStringBuilder") (ci := 0) hC hvc (lw_U q309 q311 q312 q310 q42 q313) rfl (by decide +kernel) (g_rm hR rfl rfl) rfl hr rfl rfl (g_sum rfl) dJ0_append_3_11 (Nat.zero_le _) (Nat.zero_le _) (g_Kip fun x5 hv2 => ?_)
  replace hvc := hv2; clear hv2
  clear hr fs
  replace hvc := g_jn0_o hvc
  obtain ⟨K6, hK26, hvc⟩ := hvc
  have kh7 : K6 → g_J p l e R s m args below meth c 2 E st0 Z 45 [(0, va_rf (some a0)), (1, .int p0)] [] st2 (cb - mc3) (sb - ms4) := by
    clear hvc
    intro hvc
    replace hvc := hK26 hvc
    refine j_aload_n hC dJ0_append_3_45 rfl 0 rfl ?_
    obtain ⟨⟨fs, hr⟩, hvc⟩ := hvc
    refine j_callU (As := []) (rest := []) (n := 0) (x := ⟨"java/lang/AbstractStringBuilder", "isLatin1", "()Z"⟩) (C := "java/lang/StringBuilder") (owner := "java/lang/AbstractStringBuilder") (ci := 0) hC hvc (lw_U q309 q311 q312 q310 q42 q313) rfl (by decide +kernel) (g_rm hR rfl rfl) rfl hr rfl rfl (g_sum rfl) dJ0_append_3_46 (Nat.zero_le _) (Nat.zero_le _) (g_Kip fun x8 hv2 => ?_)
    replace hvc := hv2; clear hv2
    clear hr fs
    refine j_if_eq (tgt := 56) hC dJ0_append_3_49 rfl (fun c9 => ?_) (fun c9 => ?_)
    · replace hvc := hvc.1 c9
      refine j_aload_n hC dJ0_append_3_56 rfl 0 rfl ?_
      obtain ⟨o10, ⟨fs, hr, hv⟩, hvc⟩ := hvc
      refine j_get hC fkJ0_15_J1 dJ0_append_3_57 hr hv ?_
      clear hv hr fs
      refine j_aload_n hC dJ0_append_3_60 rfl 0 rfl ?_
      refine j_dup hC dJ0_append_3_61 g_c1 ?_
      obtain ⟨x11, ⟨fs, hr, hv⟩, hvc⟩ := hvc
      refine j_get hC fkJ0_79_J1 dJ0_append_3_62 hr hv ?_
      clear hv hr fs
      refine j_dup_x1 hC dJ0_append_3_65 rfl g_c1 ?_
      refine j_iconst hC (nI 1) dJ0_append_3_66 rfl ?_
      refine j_iadd hC dJ0_append_3_67 ?_
      obtain ⟨fs12, hm, hvc⟩ := hvc
      refine j_put hC fkJ0_79_J1 dJ0_append_3_68 hm rfl rfl (fun st13 e1 => ?_)
      replace hvc := hvc st13 e1; clear hm e1
      refine j_iload_n hC dJ0_append_3_71 rfl 1 rfl ?_
      exact hvc.elim
    · replace hvc := hvc.2 c9
      refine j_aload_n hC dJ0_append_3_52 rfl 0 rfl ?_
      exact hvc.elim
  refine j_if_eq (tgt := 45) hC dJ0_append_3_14 rfl (fun c14 => ?_) (fun c14 => ?_)
  · replace hvc := hvc.1 c14
    exact j_sub [0, 1] rfl (kh7 hvc)
  · replace hvc := hvc.2 c14
    refine j_iload_n hC dJ0_append_3_17 rfl 1 rfl ?_
    refine j_callS (As := [.int p0]) (rest := []) (n := 1) hC hvc (lw_S q1178 q1179 q49 q1180) (by decide +kernel) (g_rm hR rfl rfl) rfl rfl (g_sum rfl) dJ0_append_3_18 (Nat.zero_le _) (Nat.zero_le _) (g_Kip fun x15 hv2 => ?_)
    replace hvc := hv2; clear hv2
    refine j_if_eq (tgt := 45) hC dJ0_append_3_21 rfl (fun c16 => ?_) (fun c16 => ?_)
    · replace hvc := hvc.1 c16
      exact j_sub [0, 1] rfl (kh7 hvc)
    · replace hvc := hvc.2 c16
      refine j_aload_n hC dJ0_append_3_24 rfl 0 rfl ?_
      obtain ⟨o17, ⟨fs, hr, hv⟩, hvc⟩ := hvc
      refine j_get hC fkJ0_15_J1 dJ0_append_3_25 hr hv ?_
      clear hv hr fs
      refine j_aload_n hC dJ0_append_3_28 rfl 0 rfl ?_
      refine j_dup hC dJ0_append_3_29 g_c1 ?_
      obtain ⟨x18, ⟨fs, hr, hv⟩, hvc⟩ := hvc
      refine j_get hC fkJ0_79_J1 dJ0_append_3_30 hr hv ?_
      clear hv hr fs
      refine j_dup_x1 hC dJ0_append_3_33 rfl g_c1 ?_
      refine j_iconst hC (nI 1) dJ0_append_3_34 rfl ?_
      refine j_iadd hC dJ0_append_3_35 ?_
      obtain ⟨fs19, hm, hvc⟩ := hvc
      refine j_put hC fkJ0_79_J1 dJ0_append_3_36 hm rfl rfl (fun st20 e1 => ?_)
      replace hvc := hvc st20 e1; clear hm e1
      refine j_iload_n hC dJ0_append_3_39 rfl 1 rfl ?_
      refine j_i2b hC dJ0_append_3_40 ?_
      obtain ⟨a21, rfl, hvc⟩ := hvc
      obtain ⟨n22, f23, j24, hm, hi, hj, hJ, hvc⟩ := hvc
      refine j_ix1 hi ?_
      refine j_stb hC hm hj hJ dJ0_append_3_41 (fun st25 e1 => ?_)
      replace hvc := hvc st25 e1; clear hm hi hj hJ e1
      refine j_goto (tgt := 75) hC dJ0_append_3_42 rfl ?_
      refine j_aload_n hC dJ0_append_3_75 rfl 0 rfl ?_
      exact hret _ _ _ _ _ _ dJ0_append_3_76 hvc
theorem wk_J0_append_3 {l : Launch} {E : g_E} {a0 : Nat} {p0 : Int32} {st : g_St} {mc ms : Nat} {Q : Option Nat → g_St → Prop} (hvc : vc_J0_append_3 l E a0 p0 st mc ms Q) : wp_J0_append_3 l E mc ms [va_rf (some a0), .int p0] st Q :=
  g_enter (lv0 := [(0, va_rf (some a0)), (1, .int p0)]) (plainFor_of_name (by decide +kernel)) (by simp [lv_args, g_c1, g_ci, g_cL]) (by simp [lg_sl, g_c1, g_ci, g_cL]) (fun p e s m args below meth c hC => wb_J0_append_3 hC ⟨Nat.le_refl _, Nat.le_refl _⟩ (fun pc lv v st1 cb sb hd hq => j_areturn hC rfl (by first | exact Or.inl ⟨_, rfl⟩ | exact Or.inr ⟨_, rfl⟩) hd (g_av hq)) hvc)
abbrev wp_J1_append_3 (l : Launch) (E : g_E) (mc ms : Nat) (av : List Value) (st : g_St) (Q : Option Nat → g_St → Prop) : Prop := g_WPa l E yJ1_append_3 cJ1_append_3 2 (some (.object "java/lang/StringBuilder")) 5 131 mc ms av st Q
def vc_J1_append_3 (l : Launch) (E : g_E) (a0 : Nat) (p0 : Int32) (st : g_St) (cb sb : Nat) (Q : Option Nat → g_St → Prop) : Prop :=
  ∃ mc3 ms4 : Nat, mc3 ≤ cb ∧ ms4 ≤ sb ∧ g_is st a0 0 ∧ wp_J0_append_3 l E mc3 ms4 [va_rf (some a0), .int p0] st (fun o1 st2 => g_Ext st st2 → Q (some a0) st2)
set_option maxHeartbeats 4000000 in
theorem wb_J1_append_3 {p : Program} {l : Launch} {e : Env} {R : Room} {s : State} {m : MethodId} {args : Array Value} {below : List Frame} {meth : Method} {c : Code} {E : g_E} {st0 : g_St} {Z : State → Prop} (hC : g_Cx p s m args meth c cJ1_append_3 2 "java/lang/StringBuilder" (some (.object "java/lang/StringBuilder")) "append" E st0) (hR : g_Rm 5 131 R) {a0 : Nat} {p0 : Int32} {st : g_St} {cb sb : Nat} {Q : Option Nat → g_St → Prop} (hret : ∀ (pc : Nat) (lv : List (Nat × Value)) (v : Option Nat) (st1 : g_St) (cb sb : Nat), decode cJ1_append_3 pc = .ok (.areturn, 1) → Q v st1 → g_J p l e R s m args below meth c 2 E st0 Z pc lv [va_rf v] st1 cb sb) (hvc : vc_J1_append_3 l E a0 p0 st cb sb Q) : g_J p l e R s m args below meth c 2 E st0 Z 0 [(0, va_rf (some a0)), (1, .int p0)] [] st cb sb := by
  unfold vc_J1_append_3 at hvc
  refine j_aload_n hC dJ1_append_3_0 rfl 0 rfl ?_
  refine j_iload_n hC dJ1_append_3_1 rfl 1 rfl ?_
  obtain ⟨mc3, ms4, h1, h2, hvc⟩ := hvc
  obtain ⟨⟨fs, hr⟩, hvc⟩ := hvc
  refine j_callSU (As := [.int p0]) (rest := []) (n := 1) (ci := 0) hC hvc (lw_SU q1175 q2455 q132 q1176 q42 q1177) (by decide +kernel) (g_rm hR rfl rfl) rfl hr rfl rfl (g_sum rfl) dJ1_append_3_2 h1 h2 (g_Ka fun o1 st2 hv2 hx => ?_)
  replace hvc := hv2 hx; clear hx hv2
  clear hr fs
  refine j_pop hC dJ1_append_3_5 g_c1 ?_
  refine j_aload_n hC dJ1_append_3_6 rfl 0 rfl ?_
  exact hret _ _ _ _ _ _ dJ1_append_3_7 hvc
theorem wk_J1_append_3 {l : Launch} {E : g_E} {a0 : Nat} {p0 : Int32} {st : g_St} {mc ms : Nat} {Q : Option Nat → g_St → Prop} (hvc : vc_J1_append_3 l E a0 p0 st mc ms Q) : wp_J1_append_3 l E mc ms [va_rf (some a0), .int p0] st Q :=
  g_enter (lv0 := [(0, va_rf (some a0)), (1, .int p0)]) (plainFor_of_name (by decide +kernel)) (by simp [lv_args, g_c1, g_ci, g_cL]) (by simp [lg_sl, g_c1, g_ci, g_cL]) (fun p e s m args below meth c hC => wb_J1_append_3 hC ⟨Nat.le_refl _, Nat.le_refl _⟩ (fun pc lv v st1 cb sb hd hq => j_areturn hC rfl (by first | exact Or.inl ⟨_, rfl⟩ | exact Or.inr ⟨_, rfl⟩) hd (g_av hq)) hvc)
abbrev wp_J14_intValue (l : Launch) (E : g_E) (mc ms : Nat) (av : List Value) (st : g_St) (Q : Int32 → g_St → Prop) : Prop := g_WPi l E yJ14_intValue cJ14_intValue 1 (some .int) 1 40 mc ms av st Q
def vc_J14_intValue (l : Launch) (E : g_E) (a0 : Nat) (st : g_St) (Q : Int32 → g_St → Prop) : Prop :=
  ∃ x1 : Int32, g_gi st a0 2 0 x1 ∧ Q x1 st
set_option maxHeartbeats 4000000 in
theorem wb_J14_intValue {p : Program} {l : Launch} {e : Env} {R : Room} {s : State} {m : MethodId} {args : Array Value} {below : List Frame} {meth : Method} {c : Code} {E : g_E} {st0 : g_St} {Z : State → Prop} (hC : g_Cx p s m args meth c cJ14_intValue 1 "java/lang/Integer" (some .int) "intValue" E st0) (hR : g_Rm 1 40 R) {a0 : Nat} {st : g_St} {cb sb : Nat} {Q : Int32 → g_St → Prop} (hret : ∀ (pc : Nat) (lv : List (Nat × Value)) (v : Int32) (st1 : g_St) (cb sb : Nat), decode cJ14_intValue pc = .ok (.ireturn, 1) → narrow .int (.int v) = .int v → Q v st1 → g_J p l e R s m args below meth c 1 E st0 Z pc lv [.int v] st1 cb sb) (hvc : vc_J14_intValue l E a0 st Q) : g_J p l e R s m args below meth c 1 E st0 Z 0 [(0, va_rf (some a0))] [] st cb sb := by
  unfold vc_J14_intValue at hvc
  refine j_aload_n hC dJ14_intValue_0 rfl 0 rfl ?_
  obtain ⟨x1, ⟨fs, hr, hv⟩, hvc⟩ := hvc
  refine j_get hC fkJ14_205_J14 dJ14_intValue_1 hr hv ?_
  clear hv hr fs
  exact hret _ _ _ _ _ _ dJ14_intValue_4 rfl hvc
theorem wk_J14_intValue {l : Launch} {E : g_E} {a0 : Nat} {st : g_St} {mc ms : Nat} {Q : Int32 → g_St → Prop} (hvc : vc_J14_intValue l E a0 st Q) : wp_J14_intValue l E mc ms [va_rf (some a0)] st Q :=
  g_enter (lv0 := [(0, va_rf (some a0))]) (plainFor_of_name (by decide +kernel)) (by simp [lv_args, g_c1, g_ci, g_cL]) (by simp [lg_sl, g_c1, g_ci, g_cL]) (fun p e s m args below meth c hC => wb_J14_intValue hC ⟨Nat.le_refl _, Nat.le_refl _⟩ (fun pc lv v st1 cb sb hd hn hq => j_ireturn hC rfl hn hd (g_iv hq)) hvc)
abbrev wp_J6_checkIndex (l : Launch) (E : g_E) (mc ms : Nat) (av : List Value) (st : g_St) (Q : Int32 → g_St → Prop) : Prop := g_WPi l E yJ6_checkIndex cJ6_checkIndex 3 (some .int) 1 40 mc ms av st Q
def vc_J6_checkIndex (l : Launch) (E : g_E) (p0 : Int32) (p1 : Int32) (p2 : Option Nat) (st : g_St) (Q : Int32 → g_St → Prop) : Prop :=
  g_jn0 (fun (K1 : Prop) => (p0 < 0 → K1) ∧ (¬ p0 < 0 → (p0 < p1 → Q p0 st) ∧ (¬ p0 < p1 → K1))) (False)
set_option maxHeartbeats 4000000 in
theorem wb_J6_checkIndex {p : Program} {l : Launch} {e : Env} {R : Room} {s : State} {m : MethodId} {args : Array Value} {below : List Frame} {meth : Method} {c : Code} {E : g_E} {st0 : g_St} {Z : State → Prop} (hC : g_Cx p s m args meth c cJ6_checkIndex 3 "jdk/internal/util/Preconditions" (some .int) "checkIndex" E st0) (hR : g_Rm 1 40 R) {p0 : Int32} {p1 : Int32} {p2 : Option Nat} {st : g_St} {cb sb : Nat} {Q : Int32 → g_St → Prop} (hret : ∀ (pc : Nat) (lv : List (Nat × Value)) (v : Int32) (st1 : g_St) (cb sb : Nat), decode cJ6_checkIndex pc = .ok (.ireturn, 1) → narrow .int (.int v) = .int v → Q v st1 → g_J p l e R s m args below meth c 3 E st0 Z pc lv [.int v] st1 cb sb) (hvc : vc_J6_checkIndex l E p0 p1 p2 st Q) : g_J p l e R s m args below meth c 3 E st0 Z 0 [(0, .int p0), (1, .int p1), (2, va_rf p2)] [] st cb sb := by
  unfold vc_J6_checkIndex at hvc
  refine j_iload_n hC dJ6_checkIndex_0 rfl 0 rfl ?_
  replace hvc := g_jn0_o hvc
  obtain ⟨K1, hK5, hvc⟩ := hvc
  have kh2 : K1 → g_J p l e R s m args below meth c 3 E st0 Z 9 [(0, .int p0), (1, .int p1), (2, va_rf p2)] [] st cb sb := by
    clear hvc
    intro hvc
    replace hvc := hK5 hvc
    refine j_aload_n hC dJ6_checkIndex_9 rfl 2 rfl ?_
    refine j_iload_n hC dJ6_checkIndex_10 rfl 0 rfl ?_
    refine j_iload_n hC dJ6_checkIndex_11 rfl 1 rfl ?_
    exact hvc.elim
  refine j_if_lt (tgt := 9) hC dJ6_checkIndex_1 rfl (fun c3 => ?_) (fun c3 => ?_)
  · replace hvc := hvc.1 c3
    exact j_sub [0, 1, 2] rfl (kh2 hvc)
  · replace hvc := hvc.2 c3
    refine j_iload_n hC dJ6_checkIndex_4 rfl 0 rfl ?_
    refine j_iload_n hC dJ6_checkIndex_5 rfl 1 rfl ?_
    refine j_icmp_lt (tgt := 16) hC dJ6_checkIndex_6 rfl (fun c4 => ?_) (fun c4 => ?_)
    · replace hvc := hvc.1 c4
      refine j_iload_n hC dJ6_checkIndex_16 rfl 0 rfl ?_
      exact hret _ _ _ _ _ _ dJ6_checkIndex_17 rfl hvc
    · replace hvc := hvc.2 c4
      exact j_sub [0, 1, 2] rfl (kh2 hvc)
theorem wk_J6_checkIndex {l : Launch} {E : g_E} {p0 : Int32} {p1 : Int32} {p2 : Option Nat} {st : g_St} {mc ms : Nat} {Q : Int32 → g_St → Prop} (hvc : vc_J6_checkIndex l E p0 p1 p2 st Q) : wp_J6_checkIndex l E mc ms [.int p0, .int p1, va_rf p2] st Q :=
  g_enter (lv0 := [(0, .int p0), (1, .int p1), (2, va_rf p2)]) (plainFor_of_name (by decide +kernel)) (by simp [lv_args, g_c1, g_ci, g_cL]) (by simp [lg_sl, g_c1, g_ci, g_cL]) (fun p e s m args below meth c hC => wb_J6_checkIndex hC ⟨Nat.le_refl _, Nat.le_refl _⟩ (fun pc lv v st1 cb sb hd hn hq => j_ireturn hC rfl hn hd (g_iv hq)) hvc)
abbrev wp_J2_checkIndex (l : Launch) (E : g_E) (mc ms : Nat) (av : List Value) (st : g_St) (Q : g_St → Prop) : Prop := g_WPv l E yJ2_checkIndex cJ2_checkIndex 2 none 2 62 mc ms av st Q
def vc_J2_checkIndex (l : Launch) (E : g_E) (p0 : Int32) (p1 : Int32) (st : g_St) (Q : g_St → Prop) : Prop :=
  ∀ o1 : Option Nat, o1 = E.2.2.2.2.1 6 → wp_J6_checkIndex l E 0 0 [.int p0, .int p1, va_rf o1] st (fun x2 stx => stx = st ∧ Q st)
set_option maxHeartbeats 4000000 in
theorem wb_J2_checkIndex {p : Program} {l : Launch} {e : Env} {R : Room} {s : State} {m : MethodId} {args : Array Value} {below : List Frame} {meth : Method} {c : Code} {E : g_E} {st0 : g_St} {Z : State → Prop} (hC : g_Cx p s m args meth c cJ2_checkIndex 2 "java/lang/String" none "checkIndex" E st0) (hR : g_Rm 2 62 R) {p0 : Int32} {p1 : Int32} {st : g_St} {cb sb : Nat} {Q : g_St → Prop} (hret : ∀ (pc : Nat) (lv : List (Nat × Value)) (st1 : g_St) (cb sb : Nat), decode cJ2_checkIndex pc = .ok (.return_, 1) → Q st1 → g_J p l e R s m args below meth c 2 E st0 Z pc lv [] st1 cb sb) (hvc : vc_J2_checkIndex l E p0 p1 st Q) : g_J p l e R s m args below meth c 2 E st0 Z 0 [(0, .int p0), (1, .int p1)] [] st cb sb := by
  unfold vc_J2_checkIndex at hvc
  refine j_iload_n hC dJ2_checkIndex_0 rfl 0 rfl ?_
  refine j_iload_n hC dJ2_checkIndex_1 rfl 1 rfl ?_
  refine j_gets hC gs_5 q193 (Or.inl rfl) dJ2_checkIndex_2 ?_
  obtain ⟨o1, ho1⟩ : ∃ z : Option Nat, z = E.2.2.2.2.1 6 := ⟨_, rfl⟩
  rw [← ho1]
  replace hvc := hvc _ ho1
  refine j_callS (As := [.int p0, .int p1, va_rf o1]) (rest := []) (n := 3) hC hvc (lw_S q1190 q1191 q48 q1192) (by decide +kernel) (g_rm hR rfl rfl) rfl rfl (g_sum rfl) dJ2_checkIndex_5 (Nat.zero_le _) (Nat.zero_le _) (g_Kip fun x2 hv2 => ?_)
  replace hvc := hv2; clear hv2
  refine j_pop hC dJ2_checkIndex_8 rfl ?_
  exact hret _ _ _ _ _ dJ2_checkIndex_9 hvc
theorem wk_J2_checkIndex {l : Launch} {E : g_E} {p0 : Int32} {p1 : Int32} {st : g_St} {mc ms : Nat} {Q : g_St → Prop} (hvc : vc_J2_checkIndex l E p0 p1 st Q) : wp_J2_checkIndex l E mc ms [.int p0, .int p1] st Q :=
  g_enter (lv0 := [(0, .int p0), (1, .int p1)]) (plainFor_of_name (by decide +kernel)) (by simp [lv_args, g_c1, g_ci, g_cL]) (by simp [lg_sl, g_c1, g_ci, g_cL]) (fun p e s m args below meth c hC => wb_J2_checkIndex hC ⟨Nat.le_refl _, Nat.le_refl _⟩ (fun pc lv st1 cb sb hd hq => j_return hC rfl hd ⟨rfl, hq⟩) hvc)
abbrev wp_J7_charAt (l : Launch) (E : g_E) (mc ms : Nat) (av : List Value) (st : g_St) (Q : Int32 → g_St → Prop) : Prop := g_WPi l E yJ7_charAt cJ7_charAt 2 (some .char) 3 83 mc ms av st Q
def vc_J7_charAt (l : Launch) (E : g_E) (p0 : Option Nat) (p1 : Int32) (st : g_St) (Q : Int32 → g_St → Prop) : Prop :=
  ∃ a1 : Nat, p0 = some a1 ∧ ∃ (t2 : Nat) (v3 : vp_A), g_Rd st a1 (.inl (t2, v3)) ∧ wp_J2_checkIndex l E 0 0 [.int p1, .int (nI v3.1)] st (fun stx => stx = st ∧ ∃ (n4 : Nat) (f5 : Nat → Int32) (j6 : Nat), g_ai st a1 1 n4 f5 ∧ p1 = nI j6 ∧ j6 < n4 ∧ j6 < 2 ^ 31 ∧ narrow .char (.int (((((f5 j6) &&& (nI 255))).toUInt32 % 65536).toInt32)) = .int (((((f5 j6) &&& (nI 255))).toUInt32 % 65536).toInt32) ∧ Q (((((f5 j6) &&& (nI 255))).toUInt32 % 65536).toInt32) st)
set_option maxHeartbeats 4000000 in
theorem wb_J7_charAt {p : Program} {l : Launch} {e : Env} {R : Room} {s : State} {m : MethodId} {args : Array Value} {below : List Frame} {meth : Method} {c : Code} {E : g_E} {st0 : g_St} {Z : State → Prop} (hC : g_Cx p s m args meth c cJ7_charAt 2 "java/lang/StringLatin1" (some .char) "charAt" E st0) (hR : g_Rm 3 83 R) {p0 : Option Nat} {p1 : Int32} {st : g_St} {cb sb : Nat} {Q : Int32 → g_St → Prop} (hret : ∀ (pc : Nat) (lv : List (Nat × Value)) (v : Int32) (st1 : g_St) (cb sb : Nat), decode cJ7_charAt pc = .ok (.ireturn, 1) → narrow .char (.int v) = .int v → Q v st1 → g_J p l e R s m args below meth c 2 E st0 Z pc lv [.int v] st1 cb sb) (hvc : vc_J7_charAt l E p0 p1 st Q) : g_J p l e R s m args below meth c 2 E st0 Z 0 [(0, va_rf p0), (1, .int p1)] [] st cb sb := by
  unfold vc_J7_charAt at hvc
  refine j_iload_n hC dJ7_charAt_0 rfl 1 rfl ?_
  refine j_aload_n hC dJ7_charAt_1 rfl 0 rfl ?_
  obtain ⟨a1, rfl, hvc⟩ := hvc
  obtain ⟨t2, v3, hr, hvc⟩ := hvc
  refine j_alen hC hr dJ7_charAt_2 ?_
  clear hr
  refine j_callS (As := [.int p1, .int (nI v3.1)]) (rest := []) (n := 2) hC hvc (lw_S q1554 q1188 q44 q1189) (by decide +kernel) (g_rm hR rfl rfl) rfl rfl (g_sum rfl) dJ7_charAt_3 (Nat.zero_le _) (Nat.zero_le _) (g_Kvp fun hv2 => ?_)
  replace hvc := hv2; clear hv2
  refine j_aload_n hC dJ7_charAt_6 rfl 0 rfl ?_
  refine j_iload_n hC dJ7_charAt_7 rfl 1 rfl ?_
  obtain ⟨n4, f5, j6, hr, hi, hj, hJ, hvc⟩ := hvc
  refine j_ix hi ?_
  refine j_bald hC hr hj hJ dJ7_charAt_8 ?_
  clear hr hi hj hJ
  refine j_sipush hC (nI 255) dJ7_charAt_9 rfl ?_
  refine j_iand hC dJ7_charAt_12 ?_
  refine j_i2c hC dJ7_charAt_13 ?_
  exact hret _ _ _ _ _ _ dJ7_charAt_14 hvc.1 hvc.2
theorem wk_J7_charAt {l : Launch} {E : g_E} {p0 : Option Nat} {p1 : Int32} {st : g_St} {mc ms : Nat} {Q : Int32 → g_St → Prop} (hvc : vc_J7_charAt l E p0 p1 st Q) : wp_J7_charAt l E mc ms [va_rf p0, .int p1] st Q :=
  g_enter (lv0 := [(0, va_rf p0), (1, .int p1)]) (plainFor_of_name (by decide +kernel)) (by simp [lv_args, g_c1, g_ci, g_cL]) (by simp [lg_sl, g_c1, g_ci, g_cL]) (fun p e s m args below meth c hC => wb_J7_charAt hC ⟨Nat.le_refl _, Nat.le_refl _⟩ (fun pc lv v st1 cb sb hd hn hq => j_ireturn hC rfl hn hd (g_iv hq)) hvc)
abbrev wp_J2_charAt (l : Launch) (E : g_E) (mc ms : Nat) (av : List Value) (st : g_St) (Q : Int32 → g_St → Prop) : Prop := g_WPi l E yJ2_charAt cJ2_charAt 2 (some .char) 4 104 mc ms av st Q
def vc_J2_charAt (l : Launch) (E : g_E) (a0 : Nat) (p0 : Int32) (st : g_St) (Q : Int32 → g_St → Prop) : Prop :=
  g_is st a0 1 ∧ wp_J2_isLatin1 l E 0 0 [va_rf (some a0)] st (fun x1 stx => stx = st ∧ (x1 = 0 → ∃ o3 : Option Nat, g_gr st a0 1 0 o3 ∧ False) ∧ (¬ x1 = 0 → ∃ o4 : Option Nat, g_gr st a0 1 0 o4 ∧ wp_J7_charAt l E 0 0 [va_rf o4, .int p0] st (fun x5 stx => stx = st ∧ narrow .char (.int x5) = .int x5 ∧ Q x5 st)))
set_option maxHeartbeats 4000000 in
theorem wb_J2_charAt {p : Program} {l : Launch} {e : Env} {R : Room} {s : State} {m : MethodId} {args : Array Value} {below : List Frame} {meth : Method} {c : Code} {E : g_E} {st0 : g_St} {Z : State → Prop} (hC : g_Cx p s m args meth c cJ2_charAt 2 "java/lang/String" (some .char) "charAt" E st0) (hR : g_Rm 4 104 R) {a0 : Nat} {p0 : Int32} {st : g_St} {cb sb : Nat} {Q : Int32 → g_St → Prop} (hret : ∀ (pc : Nat) (lv : List (Nat × Value)) (v : Int32) (st1 : g_St) (cb sb : Nat), decode cJ2_charAt pc = .ok (.ireturn, 1) → narrow .char (.int v) = .int v → Q v st1 → g_J p l e R s m args below meth c 2 E st0 Z pc lv [.int v] st1 cb sb) (hvc : vc_J2_charAt l E a0 p0 st Q) : g_J p l e R s m args below meth c 2 E st0 Z 0 [(0, va_rf (some a0)), (1, .int p0)] [] st cb sb := by
  unfold vc_J2_charAt at hvc
  refine j_aload_n hC dJ2_charAt_0 rfl 0 rfl ?_
  obtain ⟨⟨fs, hr⟩, hvc⟩ := hvc
  refine j_callV (As := []) (rest := []) (n := 0) (ci := 1) hC hvc (lw_V q198 q199 q200 q44 q201) (by decide +kernel) (g_rm hR rfl rfl) rfl hr rfl rfl (g_sum rfl) dJ2_charAt_1 (Nat.zero_le _) (Nat.zero_le _) (g_Kip fun x1 hv2 => ?_)
  replace hvc := hv2; clear hv2
  clear hr fs
  refine j_if_eq (tgt := 16) hC dJ2_charAt_4 rfl (fun c2 => ?_) (fun c2 => ?_)
  · replace hvc := hvc.1 c2
    refine j_aload_n hC dJ2_charAt_16 rfl 0 rfl ?_
    obtain ⟨o3, ⟨fs, hr, hv⟩, hvc⟩ := hvc
    refine j_get hC fkJ2_9_J2 dJ2_charAt_17 hr hv ?_
    clear hv hr fs
    refine j_iload_n hC dJ2_charAt_20 rfl 1 rfl ?_
    exact hvc.elim
  · replace hvc := hvc.2 c2
    refine j_aload_n hC dJ2_charAt_7 rfl 0 rfl ?_
    obtain ⟨o4, ⟨fs, hr, hv⟩, hvc⟩ := hvc
    refine j_get hC fkJ2_9_J2 dJ2_charAt_8 hr hv ?_
    clear hv hr fs
    refine j_iload_n hC dJ2_charAt_11 rfl 1 rfl ?_
    refine j_callS (As := [va_rf o4, .int p0]) (rest := []) (n := 2) hC hvc (lw_S q1551 q1552 q49 q1553) (by decide +kernel) (g_rm hR rfl rfl) rfl rfl (g_sum rfl) dJ2_charAt_12 (Nat.zero_le _) (Nat.zero_le _) (g_Kip fun x5 hv2 => ?_)
    replace hvc := hv2; clear hv2
    exact hret _ _ _ _ _ _ dJ2_charAt_15 hvc.1 hvc.2
theorem wk_J2_charAt {l : Launch} {E : g_E} {a0 : Nat} {p0 : Int32} {st : g_St} {mc ms : Nat} {Q : Int32 → g_St → Prop} (hvc : vc_J2_charAt l E a0 p0 st Q) : wp_J2_charAt l E mc ms [va_rf (some a0), .int p0] st Q :=
  g_enter (lv0 := [(0, va_rf (some a0)), (1, .int p0)]) (plainFor_of_name (by decide +kernel)) (by simp [lv_args, g_c1, g_ci, g_cL]) (by simp [lg_sl, g_c1, g_ci, g_cL]) (fun p e s m args below meth c hC => wb_J2_charAt hC ⟨Nat.le_refl _, Nat.le_refl _⟩ (fun pc lv v st1 cb sb hd hn hq => j_ireturn hC rfl hn hd (g_iv hq)) hvc)
abbrev wp_J0_substring_2 (l : Launch) (E : g_E) (mc ms : Nat) (av : List Value) (st : g_St) (Q : Option Nat → g_St → Prop) : Prop := g_WPa l E yJ0_substring_2 cJ0_substring_2 3 (some (.object "java/lang/String")) 5 129 mc ms av st Q
def vc_J0_substring_2 (l : Launch) (E : g_E) (a0 : Nat) (p0 : Int32) (p1 : Int32) (st : g_St) (cb sb : Nat) (Q : Option Nat → g_St → Prop) : Prop :=
  ∃ x1 : Int32, g_gi st a0 0 3 x1 ∧ ∀ o2 : Option Nat, o2 = E.2.2.2.2.1 6 → wp_J6_checkFromToIndex l E 0 0 [.int p0, .int p1, .int x1, va_rf o2] st (fun x3 stx => stx = st ∧ g_is st a0 0 ∧ wp_J0_isLatin1 l E 0 0 [va_rf (some a0)] st (fun x4 stx => stx = st ∧ (x4 = 0 → ∃ o6 : Option Nat, g_gr st a0 0 0 o6 ∧ False) ∧ (¬ x4 = 0 → ∃ o7 : Option Nat, g_gr st a0 0 0 o7 ∧ ∃ mc10 ms11 : Nat, mc10 ≤ cb ∧ ms11 ≤ sb ∧ wp_J7_newString l E mc10 ms11 [va_rf o7, .int p0, .int (p1 - p0)] st (fun o8 st9 => g_Ext st st9 → Q o8 st9))))
set_option maxHeartbeats 4000000 in
theorem wb_J0_substring_2 {p : Program} {l : Launch} {e : Env} {R : Room} {s : State} {m : MethodId} {args : Array Value} {below : List Frame} {meth : Method} {c : Code} {E : g_E} {st0 : g_St} {Z : State → Prop} (hC : g_Cx p s m args meth c cJ0_substring_2 3 "java/lang/AbstractStringBuilder" (some (.object "java/lang/String")) "substring" E st0) (hR : g_Rm 5 129 R) {a0 : Nat} {p0 : Int32} {p1 : Int32} {st : g_St} {cb sb : Nat} {Q : Option Nat → g_St → Prop} (hret : ∀ (pc : Nat) (lv : List (Nat × Value)) (v : Option Nat) (st1 : g_St) (cb sb : Nat), decode cJ0_substring_2 pc = .ok (.areturn, 1) → Q v st1 → g_J p l e R s m args below meth c 3 E st0 Z pc lv [va_rf v] st1 cb sb) (hvc : vc_J0_substring_2 l E a0 p0 p1 st cb sb Q) : g_J p l e R s m args below meth c 3 E st0 Z 0 [(0, va_rf (some a0)), (1, .int p0), (2, .int p1)] [] st cb sb := by
  unfold vc_J0_substring_2 at hvc
  refine j_iload_n hC dJ0_substring_2_0 rfl 1 rfl ?_
  refine j_iload_n hC dJ0_substring_2_1 rfl 2 rfl ?_
  refine j_aload_n hC dJ0_substring_2_2 rfl 0 rfl ?_
  obtain ⟨x1, ⟨fs, hr, hv⟩, hvc⟩ := hvc
  refine j_get hC fkJ0_79_J1 dJ0_substring_2_3 hr hv ?_
  clear hv hr fs
  refine j_gets hC gs_5 q1577 (Or.inl rfl) dJ0_substring_2_6 ?_
  obtain ⟨o2, ho2⟩ : ∃ z : Option Nat, z = E.2.2.2.2.1 6 := ⟨_, rfl⟩
  rw [← ho2]
  replace hvc := hvc _ ho2
  refine j_callS (As := [.int p0, .int p1, .int x1, va_rf o2]) (rest := []) (n := 4) hC hvc (lw_S q1578 q196 q48 q197) (by decide +kernel) (g_rm hR rfl rfl) rfl rfl (g_sum rfl) dJ0_substring_2_9 (Nat.zero_le _) (Nat.zero_le _) (g_Kip fun x3 hv2 => ?_)
  replace hvc := hv2; clear hv2
  refine j_pop hC dJ0_substring_2_12 rfl ?_
  refine j_aload_n hC dJ0_substring_2_13 rfl 0 rfl ?_
  obtain ⟨⟨fs, hr⟩, hvc⟩ := hvc
  refine j_callU (As := []) (rest := []) (n := 0) (x := ⟨"java/lang/AbstractStringBuilder", "isLatin1", "()Z"⟩) (C := "java/lang/StringBuilder") (owner := "java/lang/AbstractStringBuilder") (ci := 0) hC hvc (lw_U q309 q311 q312 q310 q42 q313) rfl (by decide +kernel) (g_rm hR rfl rfl) rfl hr rfl rfl (g_sum rfl) dJ0_substring_2_14 (Nat.zero_le _) (Nat.zero_le _) (g_Kip fun x4 hv2 => ?_)
  replace hvc := hv2; clear hv2
  clear hr fs
  refine j_if_eq (tgt := 32) hC dJ0_substring_2_17 rfl (fun c5 => ?_) (fun c5 => ?_)
  · replace hvc := hvc.1 c5
    refine j_aload_n hC dJ0_substring_2_32 rfl 0 rfl ?_
    obtain ⟨o6, ⟨fs, hr, hv⟩, hvc⟩ := hvc
    refine j_get hC fkJ0_15_J1 dJ0_substring_2_33 hr hv ?_
    clear hv hr fs
    refine j_iload_n hC dJ0_substring_2_36 rfl 1 rfl ?_
    refine j_iload_n hC dJ0_substring_2_37 rfl 2 rfl ?_
    refine j_iload_n hC dJ0_substring_2_38 rfl 1 rfl ?_
    refine j_isub hC dJ0_substring_2_39 ?_
    exact hvc.elim
  · replace hvc := hvc.2 c5
    refine j_aload_n hC dJ0_substring_2_20 rfl 0 rfl ?_
    obtain ⟨o7, ⟨fs, hr, hv⟩, hvc⟩ := hvc
    refine j_get hC fkJ0_15_J1 dJ0_substring_2_21 hr hv ?_
    clear hv hr fs
    refine j_iload_n hC dJ0_substring_2_24 rfl 1 rfl ?_
    refine j_iload_n hC dJ0_substring_2_25 rfl 2 rfl ?_
    refine j_iload_n hC dJ0_substring_2_26 rfl 1 rfl ?_
    refine j_isub hC dJ0_substring_2_27 ?_
    obtain ⟨mc10, ms11, h1, h2, hvc⟩ := hvc
    refine j_callS (As := [va_rf o7, .int p0, .int (p1 - p0)]) (rest := []) (n := 3) hC hvc (lw_S q1579 q203 q49 q204) (by decide +kernel) (g_rm hR rfl rfl) rfl rfl (g_sum rfl) dJ0_substring_2_28 h1 h2 (g_Ka fun o8 st9 hv2 hx => ?_)
    replace hvc := hv2 hx; clear hx hv2
    exact hret _ _ _ _ _ _ dJ0_substring_2_31 hvc
theorem wk_J0_substring_2 {l : Launch} {E : g_E} {a0 : Nat} {p0 : Int32} {p1 : Int32} {st : g_St} {mc ms : Nat} {Q : Option Nat → g_St → Prop} (hvc : vc_J0_substring_2 l E a0 p0 p1 st mc ms Q) : wp_J0_substring_2 l E mc ms [va_rf (some a0), .int p0, .int p1] st Q :=
  g_enter (lv0 := [(0, va_rf (some a0)), (1, .int p0), (2, .int p1)]) (plainFor_of_name (by decide +kernel)) (by simp [lv_args, g_c1, g_ci, g_cL]) (by simp [lg_sl, g_c1, g_ci, g_cL]) (fun p e s m args below meth c hC => wb_J0_substring_2 hC ⟨Nat.le_refl _, Nat.le_refl _⟩ (fun pc lv v st1 cb sb hd hq => j_areturn hC rfl (by first | exact Or.inl ⟨_, rfl⟩ | exact Or.inr ⟨_, rfl⟩) hd (g_av hq)) hvc)
abbrev wp_J1_substring_2 (l : Launch) (E : g_E) (mc ms : Nat) (av : List Value) (st : g_St) (Q : Option Nat → g_St → Prop) : Prop := g_WPa l E yJ1_substring_2 cJ1_substring_2 3 (some (.object "java/lang/String")) 6 151 mc ms av st Q
def vc_J1_substring_2 (l : Launch) (E : g_E) (a0 : Nat) (p0 : Int32) (p1 : Int32) (st : g_St) (cb sb : Nat) (Q : Option Nat → g_St → Prop) : Prop :=
  ∃ mc3 ms4 : Nat, mc3 ≤ cb ∧ ms4 ≤ sb ∧ g_is st a0 0 ∧ wp_J0_substring_2 l E mc3 ms4 [va_rf (some a0), .int p0, .int p1] st (fun o1 st2 => g_Ext st st2 → Q o1 st2)
set_option maxHeartbeats 4000000 in
theorem wb_J1_substring_2 {p : Program} {l : Launch} {e : Env} {R : Room} {s : State} {m : MethodId} {args : Array Value} {below : List Frame} {meth : Method} {c : Code} {E : g_E} {st0 : g_St} {Z : State → Prop} (hC : g_Cx p s m args meth c cJ1_substring_2 3 "java/lang/StringBuilder" (some (.object "java/lang/String")) "substring" E st0) (hR : g_Rm 6 151 R) {a0 : Nat} {p0 : Int32} {p1 : Int32} {st : g_St} {cb sb : Nat} {Q : Option Nat → g_St → Prop} (hret : ∀ (pc : Nat) (lv : List (Nat × Value)) (v : Option Nat) (st1 : g_St) (cb sb : Nat), decode cJ1_substring_2 pc = .ok (.areturn, 1) → Q v st1 → g_J p l e R s m args below meth c 3 E st0 Z pc lv [va_rf v] st1 cb sb) (hvc : vc_J1_substring_2 l E a0 p0 p1 st cb sb Q) : g_J p l e R s m args below meth c 3 E st0 Z 0 [(0, va_rf (some a0)), (1, .int p0), (2, .int p1)] [] st cb sb := by
  unfold vc_J1_substring_2 at hvc
  refine j_aload_n hC dJ1_substring_2_0 rfl 0 rfl ?_
  refine j_iload_n hC dJ1_substring_2_1 rfl 1 rfl ?_
  refine j_iload_n hC dJ1_substring_2_2 rfl 2 rfl ?_
  obtain ⟨mc3, ms4, h1, h2, hvc⟩ := hvc
  obtain ⟨⟨fs, hr⟩, hvc⟩ := hvc
  refine j_callSU (As := [.int p0, .int p1]) (rest := []) (n := 2) (ci := 0) hC hvc (lw_SU q1575 q1571 q132 q1570 q42 q1576) (by decide +kernel) (g_rm hR rfl rfl) rfl hr rfl rfl (g_sum rfl) dJ1_substring_2_3 h1 h2 (g_Ka fun o1 st2 hv2 hx => ?_)
  replace hvc := hv2 hx; clear hx hv2
  clear hr fs
  exact hret _ _ _ _ _ _ dJ1_substring_2_6 hvc
theorem wk_J1_substring_2 {l : Launch} {E : g_E} {a0 : Nat} {p0 : Int32} {p1 : Int32} {st : g_St} {mc ms : Nat} {Q : Option Nat → g_St → Prop} (hvc : vc_J1_substring_2 l E a0 p0 p1 st mc ms Q) : wp_J1_substring_2 l E mc ms [va_rf (some a0), .int p0, .int p1] st Q :=
  g_enter (lv0 := [(0, va_rf (some a0)), (1, .int p0), (2, .int p1)]) (plainFor_of_name (by decide +kernel)) (by simp [lv_args, g_c1, g_ci, g_cL]) (by simp [lg_sl, g_c1, g_ci, g_cL]) (fun p e s m args below meth c hC => wb_J1_substring_2 hC ⟨Nat.le_refl _, Nat.le_refl _⟩ (fun pc lv v st1 cb sb hd hq => j_areturn hC rfl (by first | exact Or.inl ⟨_, rfl⟩ | exact Or.inr ⟨_, rfl⟩) hd (g_av hq)) hvc)
abbrev wp_J0_substring (l : Launch) (E : g_E) (mc ms : Nat) (av : List Value) (st : g_St) (Q : Option Nat → g_St → Prop) : Prop := g_WPa l E yJ0_substring cJ0_substring 2 (some (.object "java/lang/String")) 7 173 mc ms av st Q
def vc_J0_substring (l : Launch) (E : g_E) (a0 : Nat) (p0 : Int32) (st : g_St) (cb sb : Nat) (Q : Option Nat → g_St → Prop) : Prop :=
  ∃ x1 : Int32, g_gi st a0 0 3 x1 ∧ ∃ mc4 ms5 : Nat, mc4 ≤ cb ∧ ms5 ≤ sb ∧ g_is st a0 0 ∧ wp_J1_substring_2 l E mc4 ms5 [va_rf (some a0), .int p0, .int x1] st (fun o2 st3 => g_Ext st st3 → Q o2 st3)
set_option maxHeartbeats 4000000 in
theorem wb_J0_substring {p : Program} {l : Launch} {e : Env} {R : Room} {s : State} {m : MethodId} {args : Array Value} {below : List Frame} {meth : Method} {c : Code} {E : g_E} {st0 : g_St} {Z : State → Prop} (hC : g_Cx p s m args meth c cJ0_substring 2 "java/lang/AbstractStringBuilder" (some (.object "java/lang/String")) "substring" E st0) (hR : g_Rm 7 173 R) {a0 : Nat} {p0 : Int32} {st : g_St} {cb sb : Nat} {Q : Option Nat → g_St → Prop} (hret : ∀ (pc : Nat) (lv : List (Nat × Value)) (v : Option Nat) (st1 : g_St) (cb sb : Nat), decode cJ0_substring pc = .ok (.areturn, 1) → Q v st1 → g_J p l e R s m args below meth c 2 E st0 Z pc lv [va_rf v] st1 cb sb) (hvc : vc_J0_substring l E a0 p0 st cb sb Q) : g_J p l e R s m args below meth c 2 E st0 Z 0 [(0, va_rf (some a0)), (1, .int p0)] [] st cb sb := by
  unfold vc_J0_substring at hvc
  refine j_aload_n hC dJ0_substring_0 rfl 0 rfl ?_
  refine j_iload_n hC dJ0_substring_1 rfl 1 rfl ?_
  refine j_aload_n hC dJ0_substring_2 rfl 0 rfl ?_
  obtain ⟨x1, ⟨fs, hr, hv⟩, hvc⟩ := hvc
  refine j_get hC fkJ0_79_J1 dJ0_substring_3 hr hv ?_
  clear hv hr fs
  obtain ⟨mc4, ms5, h1, h2, hvc⟩ := hvc
  obtain ⟨⟨fs, hr⟩, hvc⟩ := hvc
  refine j_callO (As := [.int p0, .int x1]) (rest := []) (n := 2) (x := ⟨"java/lang/AbstractStringBuilder", "substring", "(II)Ljava/lang/String;"⟩) (C := "java/lang/StringBuilder") (owner := "java/lang/AbstractStringBuilder") (ci := 0) hC hvc (lw_O q1569 q1571 q1570 q1572 q1573 q43 q1574) q1576 (by decide +kernel) (g_rm hR rfl rfl) rfl hr rfl rfl (g_sum rfl) dJ0_substring_6 h1 h2 (g_Ka fun o2 st3 hv2 hx => ?_)
  replace hvc := hv2 hx; clear hx hv2
  clear hr fs
  exact hret _ _ _ _ _ _ dJ0_substring_9 hvc
theorem wk_J0_substring {l : Launch} {E : g_E} {a0 : Nat} {p0 : Int32} {st : g_St} {mc ms : Nat} {Q : Option Nat → g_St → Prop} (hvc : vc_J0_substring l E a0 p0 st mc ms Q) : wp_J0_substring l E mc ms [va_rf (some a0), .int p0] st Q :=
  g_enter (lv0 := [(0, va_rf (some a0)), (1, .int p0)]) (plainFor_of_name (by decide +kernel)) (by simp [lv_args, g_c1, g_ci, g_cL]) (by simp [lg_sl, g_c1, g_ci, g_cL]) (fun p e s m args below meth c hC => wb_J0_substring hC ⟨Nat.le_refl _, Nat.le_refl _⟩ (fun pc lv v st1 cb sb hd hq => j_areturn hC rfl (by first | exact Or.inl ⟨_, rfl⟩ | exact Or.inr ⟨_, rfl⟩) hd (g_av hq)) hvc)
abbrev wp_J1_substring (l : Launch) (E : g_E) (mc ms : Nat) (av : List Value) (st : g_St) (Q : Option Nat → g_St → Prop) : Prop := g_WPa l E yJ1_substring cJ1_substring 2 (some (.object "java/lang/String")) 8 194 mc ms av st Q
def vc_J1_substring (l : Launch) (E : g_E) (a0 : Nat) (p0 : Int32) (st : g_St) (cb sb : Nat) (Q : Option Nat → g_St → Prop) : Prop :=
  ∃ mc3 ms4 : Nat, mc3 ≤ cb ∧ ms4 ≤ sb ∧ g_is st a0 0 ∧ wp_J0_substring l E mc3 ms4 [va_rf (some a0), .int p0] st (fun o1 st2 => g_Ext st st2 → Q o1 st2)
set_option maxHeartbeats 4000000 in
theorem wb_J1_substring {p : Program} {l : Launch} {e : Env} {R : Room} {s : State} {m : MethodId} {args : Array Value} {below : List Frame} {meth : Method} {c : Code} {E : g_E} {st0 : g_St} {Z : State → Prop} (hC : g_Cx p s m args meth c cJ1_substring 2 "java/lang/StringBuilder" (some (.object "java/lang/String")) "substring" E st0) (hR : g_Rm 8 194 R) {a0 : Nat} {p0 : Int32} {st : g_St} {cb sb : Nat} {Q : Option Nat → g_St → Prop} (hret : ∀ (pc : Nat) (lv : List (Nat × Value)) (v : Option Nat) (st1 : g_St) (cb sb : Nat), decode cJ1_substring pc = .ok (.areturn, 1) → Q v st1 → g_J p l e R s m args below meth c 2 E st0 Z pc lv [va_rf v] st1 cb sb) (hvc : vc_J1_substring l E a0 p0 st cb sb Q) : g_J p l e R s m args below meth c 2 E st0 Z 0 [(0, va_rf (some a0)), (1, .int p0)] [] st cb sb := by
  unfold vc_J1_substring at hvc
  refine j_aload_n hC dJ1_substring_0 rfl 0 rfl ?_
  refine j_iload_n hC dJ1_substring_1 rfl 1 rfl ?_
  obtain ⟨mc3, ms4, h1, h2, hvc⟩ := hvc
  obtain ⟨⟨fs, hr⟩, hvc⟩ := hvc
  refine j_callSU (As := [.int p0]) (rest := []) (n := 1) (ci := 0) hC hvc (lw_SU q1566 q2466 q132 q1567 q42 q1568) (by decide +kernel) (g_rm hR rfl rfl) rfl hr rfl rfl (g_sum rfl) dJ1_substring_2 h1 h2 (g_Ka fun o1 st2 hv2 hx => ?_)
  replace hvc := hv2 hx; clear hx hv2
  clear hr fs
  exact hret _ _ _ _ _ _ dJ1_substring_5 hvc
theorem wk_J1_substring {l : Launch} {E : g_E} {a0 : Nat} {p0 : Int32} {st : g_St} {mc ms : Nat} {Q : Option Nat → g_St → Prop} (hvc : vc_J1_substring l E a0 p0 st mc ms Q) : wp_J1_substring l E mc ms [va_rf (some a0), .int p0] st Q :=
  g_enter (lv0 := [(0, va_rf (some a0)), (1, .int p0)]) (plainFor_of_name (by decide +kernel)) (by simp [lv_args, g_c1, g_ci, g_cL]) (by simp [lg_sl, g_c1, g_ci, g_cL]) (fun p e s m args below meth c hC => wb_J1_substring hC ⟨Nat.le_refl _, Nat.le_refl _⟩ (fun pc lv v st1 cb sb hd hq => j_areturn hC rfl (by first | exact Or.inl ⟨_, rfl⟩ | exact Or.inr ⟨_, rfl⟩) hd (g_av hq)) hvc)
abbrev wp_J2_isEmpty (l : Launch) (E : g_E) (mc ms : Nat) (av : List Value) (st : g_St) (Q : Int32 → g_St → Prop) : Prop := g_WPi l E yJ2_isEmpty cJ2_isEmpty 1 (some .boolean) 1 40 mc ms av st Q
def vc_J2_isEmpty (l : Launch) (E : g_E) (a0 : Nat) (st : g_St) (Q : Int32 → g_St → Prop) : Prop :=
  ∃ o1 : Option Nat, g_gr st a0 1 0 o1 ∧ ∃ a2 : Nat, o1 = some a2 ∧ ∃ (t3 : Nat) (v4 : vp_A), g_Rd st a2 (.inl (t3, v4)) ∧ g_jn1 (fun (K6 : Int32 → Prop) => (¬ (nI v4.1) = 0 → K6 (nI 0)) ∧ ((nI v4.1) = 0 → K6 (nI 1))) (fun (x5 : Int32) => narrow .boolean (.int x5) = .int x5 ∧ Q x5 st)
set_option maxHeartbeats 4000000 in
theorem wb_J2_isEmpty {p : Program} {l : Launch} {e : Env} {R : Room} {s : State} {m : MethodId} {args : Array Value} {below : List Frame} {meth : Method} {c : Code} {E : g_E} {st0 : g_St} {Z : State → Prop} (hC : g_Cx p s m args meth c cJ2_isEmpty 1 "java/lang/String" (some .boolean) "isEmpty" E st0) (hR : g_Rm 1 40 R) {a0 : Nat} {st : g_St} {cb sb : Nat} {Q : Int32 → g_St → Prop} (hret : ∀ (pc : Nat) (lv : List (Nat × Value)) (v : Int32) (st1 : g_St) (cb sb : Nat), decode cJ2_isEmpty pc = .ok (.ireturn, 1) → narrow .boolean (.int v) = .int v → Q v st1 → g_J p l e R s m args below meth c 1 E st0 Z pc lv [.int v] st1 cb sb) (hvc : vc_J2_isEmpty l E a0 st Q) : g_J p l e R s m args below meth c 1 E st0 Z 0 [(0, va_rf (some a0))] [] st cb sb := by
  unfold vc_J2_isEmpty at hvc
  refine j_aload_n hC dJ2_isEmpty_0 rfl 0 rfl ?_
  obtain ⟨o1, ⟨fs, hr, hv⟩, hvc⟩ := hvc
  refine j_get hC fkJ2_9_J2 dJ2_isEmpty_1 hr hv ?_
  clear hv hr fs
  obtain ⟨a2, rfl, hvc⟩ := hvc
  obtain ⟨t3, v4, hr, hvc⟩ := hvc
  refine j_alen hC hr dJ2_isEmpty_4 ?_
  clear hr
  replace hvc := g_jn1_o hvc
  obtain ⟨K6, hK9, hvc⟩ := hvc
  have kh7 : ∀ (x5 : Int32), K6 x5 → g_J p l e R s m args below meth c 1 E st0 Z 13 [] [.int x5] st cb sb := by
    clear hvc
    intro x5 hvc
    replace hvc := hK9 _ hvc
    exact hret _ _ _ _ _ _ dJ2_isEmpty_13 hvc.1 hvc.2
  refine j_if_ne (tgt := 12) hC dJ2_isEmpty_5 rfl (fun c8 => ?_) (fun c8 => ?_)
  · replace hvc := hvc.1 c8
    refine j_iconst hC (nI 0) dJ2_isEmpty_12 rfl ?_
    exact j_sub [] rfl (kh7 (nI 0) hvc)
  · replace hvc := hvc.2 c8
    refine j_iconst hC (nI 1) dJ2_isEmpty_8 rfl ?_
    refine j_goto (tgt := 13) hC dJ2_isEmpty_9 rfl ?_
    exact j_sub [] rfl (kh7 (nI 1) hvc)
theorem wk_J2_isEmpty {l : Launch} {E : g_E} {a0 : Nat} {st : g_St} {mc ms : Nat} {Q : Int32 → g_St → Prop} (hvc : vc_J2_isEmpty l E a0 st Q) : wp_J2_isEmpty l E mc ms [va_rf (some a0)] st Q :=
  g_enter (lv0 := [(0, va_rf (some a0))]) (plainFor_of_name (by decide +kernel)) (by simp [lv_args, g_c1, g_ci, g_cL]) (by simp [lg_sl, g_c1, g_ci, g_cL]) (fun p e s m args below meth c hC => wb_J2_isEmpty hC ⟨Nat.le_refl _, Nat.le_refl _⟩ (fun pc lv v st1 cb sb hd hn hq => j_ireturn hC rfl hn hd (g_iv hq)) hvc)
abbrev wp_J24_requireNonNull (l : Launch) (E : g_E) (mc ms : Nat) (av : List Value) (st : g_St) (Q : Option Nat → g_St → Prop) : Prop := g_WPa l E yJ24_requireNonNull cJ24_requireNonNull 1 (some (.object "java/lang/Object")) 1 40 mc ms av st Q
def vc_J24_requireNonNull (l : Launch) (E : g_E) (p0 : Option Nat) (st : g_St) (Q : Option Nat → g_St → Prop) : Prop :=
  (p0 = none → False) ∧ (∀ a2 : Nat, p0 = some a2 → Q (some a2) st)
set_option maxHeartbeats 4000000 in
theorem wb_J24_requireNonNull {p : Program} {l : Launch} {e : Env} {R : Room} {s : State} {m : MethodId} {args : Array Value} {below : List Frame} {meth : Method} {c : Code} {E : g_E} {st0 : g_St} {Z : State → Prop} (hC : g_Cx p s m args meth c cJ24_requireNonNull 1 "java/util/Objects" (some (.object "java/lang/Object")) "requireNonNull" E st0) (hR : g_Rm 1 40 R) {p0 : Option Nat} {st : g_St} {cb sb : Nat} {Q : Option Nat → g_St → Prop} (hret : ∀ (pc : Nat) (lv : List (Nat × Value)) (v : Option Nat) (st1 : g_St) (cb sb : Nat), decode cJ24_requireNonNull pc = .ok (.areturn, 1) → Q v st1 → g_J p l e R s m args below meth c 1 E st0 Z pc lv [va_rf v] st1 cb sb) (hvc : vc_J24_requireNonNull l E p0 st Q) : g_J p l e R s m args below meth c 1 E st0 Z 0 [(0, va_rf p0)] [] st cb sb := by
  unfold vc_J24_requireNonNull at hvc
  refine j_aload_n hC dJ24_requireNonNull_0 rfl 0 rfl ?_
  refine j_ifnonnull (tgt := 12) hC dJ24_requireNonNull_1 rfl (fun a2 c1 => ?_) (fun c1 => ?_)
  · subst c1; replace hvc := hvc.2 a2 rfl
    refine j_aload_n hC dJ24_requireNonNull_12 rfl 0 rfl ?_
    exact hret _ _ _ _ _ _ dJ24_requireNonNull_13 hvc
  · subst c1; replace hvc := hvc.1 rfl
    exact hvc.elim
theorem wk_J24_requireNonNull {l : Launch} {E : g_E} {p0 : Option Nat} {st : g_St} {mc ms : Nat} {Q : Option Nat → g_St → Prop} (hvc : vc_J24_requireNonNull l E p0 st Q) : wp_J24_requireNonNull l E mc ms [va_rf p0] st Q :=
  g_enter (lv0 := [(0, va_rf p0)]) (plainFor_of_name (by decide +kernel)) (by simp [lv_args, g_c1, g_ci, g_cL]) (by simp [lg_sl, g_c1, g_ci, g_cL]) (fun p e s m args below meth c hC => wb_J24_requireNonNull hC ⟨Nat.le_refl _, Nat.le_refl _⟩ (fun pc lv v st1 cb sb hd hq => j_areturn hC rfl (by first | exact Or.inl ⟨_, rfl⟩ | exact Or.inr ⟨_, rfl⟩) hd (g_av hq)) hvc)
abbrev wp_J2_substring_2 (l : Launch) (E : g_E) (mc ms : Nat) (av : List Value) (st : g_St) (Q : Option Nat → g_St → Prop) : Prop := g_WPa l E yJ2_substring_2 cJ2_substring_2 2 (some (.object "java/lang/String")) 6 153 mc ms av st Q
def vc_J2_substring_2 (l : Launch) (E : g_E) (a0 : Nat) (p0 : Int32) (st : g_St) (cb sb : Nat) (Q : Option Nat → g_St → Prop) : Prop :=
  g_is st a0 1 ∧ wp_J2_length l E 0 0 [va_rf (some a0)] st (fun x1 stx => stx = st ∧ ∃ mc4 ms5 : Nat, mc4 ≤ cb ∧ ms5 ≤ sb ∧ g_is st a0 1 ∧ wp_J2_substring l E mc4 ms5 [va_rf (some a0), .int p0, .int x1] st (fun o2 st3 => g_Ext st st3 → Q o2 st3))
set_option maxHeartbeats 4000000 in
theorem wb_J2_substring_2 {p : Program} {l : Launch} {e : Env} {R : Room} {s : State} {m : MethodId} {args : Array Value} {below : List Frame} {meth : Method} {c : Code} {E : g_E} {st0 : g_St} {Z : State → Prop} (hC : g_Cx p s m args meth c cJ2_substring_2 2 "java/lang/String" (some (.object "java/lang/String")) "substring" E st0) (hR : g_Rm 6 153 R) {a0 : Nat} {p0 : Int32} {st : g_St} {cb sb : Nat} {Q : Option Nat → g_St → Prop} (hret : ∀ (pc : Nat) (lv : List (Nat × Value)) (v : Option Nat) (st1 : g_St) (cb sb : Nat), decode cJ2_substring_2 pc = .ok (.areturn, 1) → Q v st1 → g_J p l e R s m args below meth c 2 E st0 Z pc lv [va_rf v] st1 cb sb) (hvc : vc_J2_substring_2 l E a0 p0 st cb sb Q) : g_J p l e R s m args below meth c 2 E st0 Z 0 [(0, va_rf (some a0)), (1, .int p0)] [] st cb sb := by
  unfold vc_J2_substring_2 at hvc
  refine j_aload_n hC dJ2_substring_2_0 rfl 0 rfl ?_
  refine j_iload_n hC dJ2_substring_2_1 rfl 1 rfl ?_
  refine j_aload_n hC dJ2_substring_2_2 rfl 0 rfl ?_
  obtain ⟨⟨fs, hr⟩, hvc⟩ := hvc
  refine j_callV (As := []) (rest := [.int p0, va_rf (some a0)]) (n := 0) (ci := 1) hC hvc (lw_V q181 q182 q183 q44 q184) (by decide +kernel) (g_rm hR rfl rfl) rfl hr rfl rfl (g_sum rfl) dJ2_substring_2_3 (Nat.zero_le _) (Nat.zero_le _) (g_Kip fun x1 hv2 => ?_)
  replace hvc := hv2; clear hv2
  clear hr fs
  obtain ⟨mc4, ms5, h1, h2, hvc⟩ := hvc
  obtain ⟨⟨fs, hr⟩, hvc⟩ := hvc
  refine j_callV (As := [.int p0, .int x1]) (rest := []) (n := 2) (ci := 1) hC hvc (lw_V q1653 q178 q179 q44 q180) (by decide +kernel) (g_rm hR rfl rfl) rfl hr rfl rfl (g_sum rfl) dJ2_substring_2_6 h1 h2 (g_Ka fun o2 st3 hv2 hx => ?_)
  replace hvc := hv2 hx; clear hx hv2
  clear hr fs
  exact hret _ _ _ _ _ _ dJ2_substring_2_9 hvc
theorem wk_J2_substring_2 {l : Launch} {E : g_E} {a0 : Nat} {p0 : Int32} {st : g_St} {mc ms : Nat} {Q : Option Nat → g_St → Prop} (hvc : vc_J2_substring_2 l E a0 p0 st mc ms Q) : wp_J2_substring_2 l E mc ms [va_rf (some a0), .int p0] st Q :=
  g_enter (lv0 := [(0, va_rf (some a0)), (1, .int p0)]) (plainFor_of_name (by decide +kernel)) (by simp [lv_args, g_c1, g_ci, g_cL]) (by simp [lg_sl, g_c1, g_ci, g_cL]) (fun p e s m args below meth c hC => wb_J2_substring_2 hC ⟨Nat.le_refl _, Nat.le_refl _⟩ (fun pc lv v st1 cb sb hd hq => j_areturn hC rfl (by first | exact Or.inl ⟨_, rfl⟩ | exact Or.inr ⟨_, rfl⟩) hd (g_av hq)) hvc)
abbrev wp_J0_charAt (l : Launch) (E : g_E) (mc ms : Nat) (av : List Value) (st : g_St) (Q : Int32 → g_St → Prop) : Prop := g_WPi l E yJ0_charAt cJ0_charAt 5 (some .char) 3 83 mc ms av st Q
def vc_J0_charAt (l : Launch) (E : g_E) (a0 : Nat) (p0 : Int32) (st : g_St) (Q : Int32 → g_St → Prop) : Prop :=
  ∃ x1 : Int32, g_gi st a0 0 1 x1 ∧ ∃ o2 : Option Nat, g_gr st a0 0 0 o2 ∧ ∃ x3 : Int32, g_gi st a0 0 3 x3 ∧ ∃ a4 : Nat, o2 = some a4 ∧ ∃ (t5 : Nat) (v6 : vp_A), g_Rd st a4 (.inl (t5, v6)) ∧ ∀ x7 : Int32, x7 = (if ((nI v6.1) >>> (x1 &&& 31)) < x3 then ((nI v6.1) >>> (x1 &&& 31)) else x3) → wp_J2_checkIndex l E 0 0 [.int p0, .int x7] st (fun stx => stx = st ∧ (¬ x1 = 0 → False) ∧ (x1 = 0 → ∃ (n9 : Nat) (f10 : Nat → Int32) (j11 : Nat), g_ai st a4 1 n9 f10 ∧ p0 = nI j11 ∧ j11 < n9 ∧ j11 < 2 ^ 31 ∧ narrow .char (.int (((((f10 j11) &&& (nI 255))).toUInt32 % 65536).toInt32)) = .int (((((f10 j11) &&& (nI 255))).toUInt32 % 65536).toInt32) ∧ Q (((((f10 j11) &&& (nI 255))).toUInt32 % 65536).toInt32) st))
set_option maxHeartbeats 4000000 in
theorem wb_J0_charAt {p : Program} {l : Launch} {e : Env} {R : Room} {s : State} {m : MethodId} {args : Array Value} {below : List Frame} {meth : Method} {c : Code} {E : g_E} {st0 : g_St} {Z : State → Prop} (hC : g_Cx p s m args meth c cJ0_charAt 5 "java/lang/AbstractStringBuilder" (some .char) "charAt" E st0) (hR : g_Rm 3 83 R) {a0 : Nat} {p0 : Int32} {st : g_St} {cb sb : Nat} {Q : Int32 → g_St → Prop} (hret : ∀ (pc : Nat) (lv : List (Nat × Value)) (v : Int32) (st1 : g_St) (cb sb : Nat), decode cJ0_charAt pc = .ok (.ireturn, 1) → narrow .char (.int v) = .int v → Q v st1 → g_J p l e R s m args below meth c 5 E st0 Z pc lv [.int v] st1 cb sb) (hvc : vc_J0_charAt l E a0 p0 st Q) : g_J p l e R s m args below meth c 5 E st0 Z 0 [(0, va_rf (some a0)), (1, .int p0)] [] st cb sb := by
  unfold vc_J0_charAt at hvc
  refine j_aload_n hC dJ0_charAt_0 rfl 0 rfl ?_
  obtain ⟨x1, ⟨fs, hr, hv⟩, hvc⟩ := hvc
  refine j_get hC fkJ0_22_J1 dJ0_charAt_1 hr hv ?_
  clear hv hr fs
  refine j_istore_n (lv0 := [(1, .int p0), (0, va_rf (some a0))]) hC dJ0_charAt_4 rfl rfl [1, 0] rfl (g_okS.h rfl rfl rfl) ?_
  refine j_aload_n hC dJ0_charAt_5 rfl 2 rfl ?_
  obtain ⟨o2, ⟨fs, hr, hv⟩, hvc⟩ := hvc
  refine j_get hC fkJ0_15_J1 dJ0_charAt_6 hr hv ?_
  clear hv hr fs
  refine j_astore_n (lv0 := [(2, .int x1), (1, .int p0), (0, va_rf (some a0))]) hC dJ0_charAt_9 rfl rfl [0, 1, 2] rfl (g_okS.h rfl rfl rfl) ?_
  refine j_aload_n hC dJ0_charAt_10 rfl 3 rfl ?_
  obtain ⟨x3, ⟨fs, hr, hv⟩, hvc⟩ := hvc
  refine j_get hC fkJ0_79_J1 dJ0_charAt_11 hr hv ?_
  clear hv hr fs
  refine j_aload_n hC dJ0_charAt_14 rfl 0 rfl ?_
  obtain ⟨a4, rfl, hvc⟩ := hvc
  obtain ⟨t5, v6, hr, hvc⟩ := hvc
  refine j_alen hC hr dJ0_charAt_15 ?_
  clear hr
  refine j_iload_n hC dJ0_charAt_16 rfl 1 rfl ?_
  refine j_ishr hC dJ0_charAt_17 ?_
  refine j_mmin hC q1698 (Nat.le_trans (Nat.le_of_ble_eq_true rfl) hR.1) (Nat.le_trans (g_sumM rfl) hR.2) dJ0_charAt_18 ?_
  replace hvc := hvc _ rfl
  generalize (if ((nI v6.1) >>> (x1 &&& 31)) < x3 then ((nI v6.1) >>> (x1 &&& 31)) else x3) = x7 at hvc ⊢
  refine j_istore (lv0 := [(3, va_rf (some a4)), (2, .int x1), (1, .int p0), (0, va_rf (some a0))]) hC dJ0_charAt_21 rfl [0, 1, 2, 3] rfl (g_okS.h rfl g_c1 rfl) ?_
  refine j_iload_n hC dJ0_charAt_23 rfl 3 rfl ?_
  refine j_iload hC dJ0_charAt_24 0 rfl ?_
  refine j_callS (As := [.int p0, .int x7]) (rest := []) (n := 2) hC hvc (lw_S q1699 q1188 q44 q1189) (by decide +kernel) (g_rm hR rfl rfl) rfl rfl (g_sum rfl) dJ0_charAt_26 (Nat.zero_le _) (Nat.zero_le _) (g_Kvp fun hv2 => ?_)
  replace hvc := hv2; clear hv2
  refine j_iload_n hC dJ0_charAt_29 rfl 2 rfl ?_
  refine j_if_ne (tgt := 42) hC dJ0_charAt_30 rfl (fun c8 => ?_) (fun c8 => ?_)
  · replace hvc := hvc.1 c8
    refine j_aload_n hC dJ0_charAt_42 rfl 1 rfl ?_
    refine j_iload_n hC dJ0_charAt_43 rfl 3 rfl ?_
    exact hvc.elim
  · replace hvc := hvc.2 c8
    refine j_aload_n hC dJ0_charAt_33 rfl 1 rfl ?_
    refine j_iload_n hC dJ0_charAt_34 rfl 3 rfl ?_
    obtain ⟨n9, f10, j11, hr, hi, hj, hJ, hvc⟩ := hvc
    refine j_ix hi ?_
    refine j_bald hC hr hj hJ dJ0_charAt_35 ?_
    clear hr hi hj hJ
    refine j_sipush hC (nI 255) dJ0_charAt_36 rfl ?_
    refine j_iand hC dJ0_charAt_39 ?_
    refine j_i2c hC dJ0_charAt_40 ?_
    exact hret _ _ _ _ _ _ dJ0_charAt_41 hvc.1 hvc.2
theorem wk_J0_charAt {l : Launch} {E : g_E} {a0 : Nat} {p0 : Int32} {st : g_St} {mc ms : Nat} {Q : Int32 → g_St → Prop} (hvc : vc_J0_charAt l E a0 p0 st Q) : wp_J0_charAt l E mc ms [va_rf (some a0), .int p0] st Q :=
  g_enter (lv0 := [(0, va_rf (some a0)), (1, .int p0)]) (plainFor_of_name (by decide +kernel)) (by simp [lv_args, g_c1, g_ci, g_cL]) (by simp [lg_sl, g_c1, g_ci, g_cL]) (fun p e s m args below meth c hC => wb_J0_charAt hC ⟨Nat.le_refl _, Nat.le_refl _⟩ (fun pc lv v st1 cb sb hd hn hq => j_ireturn hC rfl hn hd (g_iv hq)) hvc)
abbrev wp_J1_charAt (l : Launch) (E : g_E) (mc ms : Nat) (av : List Value) (st : g_St) (Q : Int32 → g_St → Prop) : Prop := g_WPi l E yJ1_charAt cJ1_charAt 2 (some .char) 4 107 mc ms av st Q
def vc_J1_charAt (l : Launch) (E : g_E) (a0 : Nat) (p0 : Int32) (st : g_St) (Q : Int32 → g_St → Prop) : Prop :=
  g_is st a0 0 ∧ wp_J0_charAt l E 0 0 [va_rf (some a0), .int p0] st (fun x1 stx => stx = st ∧ narrow .char (.int x1) = .int x1 ∧ Q x1 st)
set_option maxHeartbeats 4000000 in
theorem wb_J1_charAt {p : Program} {l : Launch} {e : Env} {R : Room} {s : State} {m : MethodId} {args : Array Value} {below : List Frame} {meth : Method} {c : Code} {E : g_E} {st0 : g_St} {Z : State → Prop} (hC : g_Cx p s m args meth c cJ1_charAt 2 "java/lang/StringBuilder" (some .char) "charAt" E st0) (hR : g_Rm 4 107 R) {a0 : Nat} {p0 : Int32} {st : g_St} {cb sb : Nat} {Q : Int32 → g_St → Prop} (hret : ∀ (pc : Nat) (lv : List (Nat × Value)) (v : Int32) (st1 : g_St) (cb sb : Nat), decode cJ1_charAt pc = .ok (.ireturn, 1) → narrow .char (.int v) = .int v → Q v st1 → g_J p l e R s m args below meth c 2 E st0 Z pc lv [.int v] st1 cb sb) (hvc : vc_J1_charAt l E a0 p0 st Q) : g_J p l e R s m args below meth c 2 E st0 Z 0 [(0, va_rf (some a0)), (1, .int p0)] [] st cb sb := by
  unfold vc_J1_charAt at hvc
  refine j_aload_n hC dJ1_charAt_0 rfl 0 rfl ?_
  refine j_iload_n hC dJ1_charAt_1 rfl 1 rfl ?_
  obtain ⟨⟨fs, hr⟩, hvc⟩ := hvc
  refine j_callSU (As := [.int p0]) (rest := []) (n := 1) (ci := 0) hC hvc (lw_SU q1695 q2468 q132 q1696 q42 q1697) (by decide +kernel) (g_rm hR rfl rfl) rfl hr rfl rfl (g_sum rfl) dJ1_charAt_2 (Nat.zero_le _) (Nat.zero_le _) (g_Kip fun x1 hv2 => ?_)
  replace hvc := hv2; clear hv2
  clear hr fs
  exact hret _ _ _ _ _ _ dJ1_charAt_5 hvc.1 hvc.2
theorem wk_J1_charAt {l : Launch} {E : g_E} {a0 : Nat} {p0 : Int32} {st : g_St} {mc ms : Nat} {Q : Int32 → g_St → Prop} (hvc : vc_J1_charAt l E a0 p0 st Q) : wp_J1_charAt l E mc ms [va_rf (some a0), .int p0] st Q :=
  g_enter (lv0 := [(0, va_rf (some a0)), (1, .int p0)]) (plainFor_of_name (by decide +kernel)) (by simp [lv_args, g_c1, g_ci, g_cL]) (by simp [lg_sl, g_c1, g_ci, g_cL]) (fun p e s m args below meth c hC => wb_J1_charAt hC ⟨Nat.le_refl _, Nat.le_refl _⟩ (fun pc lv v st1 cb sb hd hn hq => j_ireturn hC rfl hn hd (g_iv hq)) hvc)
abbrev wp_J2_checkOffset (l : Launch) (E : g_E) (mc ms : Nat) (av : List Value) (st : g_St) (Q : g_St → Prop) : Prop := g_WPv l E yJ2_checkOffset cJ2_checkOffset 2 none 2 63 mc ms av st Q
def vc_J2_checkOffset (l : Launch) (E : g_E) (p0 : Int32) (p1 : Int32) (st : g_St) (Q : g_St → Prop) : Prop :=
  ∀ o1 : Option Nat, o1 = E.2.2.2.2.1 6 → wp_J6_checkFromToIndex l E 0 0 [.int p0, .int p1, .int p1, va_rf o1] st (fun x2 stx => stx = st ∧ Q st)
set_option maxHeartbeats 4000000 in
theorem wb_J2_checkOffset {p : Program} {l : Launch} {e : Env} {R : Room} {s : State} {m : MethodId} {args : Array Value} {below : List Frame} {meth : Method} {c : Code} {E : g_E} {st0 : g_St} {Z : State → Prop} (hC : g_Cx p s m args meth c cJ2_checkOffset 2 "java/lang/String" none "checkOffset" E st0) (hR : g_Rm 2 63 R) {p0 : Int32} {p1 : Int32} {st : g_St} {cb sb : Nat} {Q : g_St → Prop} (hret : ∀ (pc : Nat) (lv : List (Nat × Value)) (st1 : g_St) (cb sb : Nat), decode cJ2_checkOffset pc = .ok (.return_, 1) → Q st1 → g_J p l e R s m args below meth c 2 E st0 Z pc lv [] st1 cb sb) (hvc : vc_J2_checkOffset l E p0 p1 st Q) : g_J p l e R s m args below meth c 2 E st0 Z 0 [(0, .int p0), (1, .int p1)] [] st cb sb := by
  unfold vc_J2_checkOffset at hvc
  refine j_iload_n hC dJ2_checkOffset_0 rfl 0 rfl ?_
  refine j_iload_n hC dJ2_checkOffset_1 rfl 1 rfl ?_
  refine j_iload_n hC dJ2_checkOffset_2 rfl 1 rfl ?_
  refine j_gets hC gs_5 q193 (Or.inl rfl) dJ2_checkOffset_3 ?_
  obtain ⟨o1, ho1⟩ : ∃ z : Option Nat, z = E.2.2.2.2.1 6 := ⟨_, rfl⟩
  rw [← ho1]
  replace hvc := hvc _ ho1
  refine j_callS (As := [.int p0, .int p1, .int p1, va_rf o1]) (rest := []) (n := 4) hC hvc (lw_S q195 q196 q48 q197) (by decide +kernel) (g_rm hR rfl rfl) rfl rfl (g_sum rfl) dJ2_checkOffset_6 (Nat.zero_le _) (Nat.zero_le _) (g_Kip fun x2 hv2 => ?_)
  replace hvc := hv2; clear hv2
  refine j_pop hC dJ2_checkOffset_9 rfl ?_
  exact hret _ _ _ _ _ dJ2_checkOffset_10 hvc
theorem wk_J2_checkOffset {l : Launch} {E : g_E} {p0 : Int32} {p1 : Int32} {st : g_St} {mc ms : Nat} {Q : g_St → Prop} (hvc : vc_J2_checkOffset l E p0 p1 st Q) : wp_J2_checkOffset l E mc ms [.int p0, .int p1] st Q :=
  g_enter (lv0 := [(0, .int p0), (1, .int p1)]) (plainFor_of_name (by decide +kernel)) (by simp [lv_args, g_c1, g_ci, g_cL]) (by simp [lg_sl, g_c1, g_ci, g_cL]) (fun p e s m args below meth c hC => wb_J2_checkOffset hC ⟨Nat.le_refl _, Nat.le_refl _⟩ (fun pc lv st1 cb sb hd hq => j_return hC rfl hd ⟨rfl, hq⟩) hvc)
abbrev wp_J0_shift (l : Launch) (E : g_E) (mc ms : Nat) (av : List Value) (st : g_St) (Q : g_St → Prop) : Prop := g_WPv l E yJ0_shift cJ0_shift 3 none 1 40 mc ms av st Q
def vc_J0_shift (l : Launch) (E : g_E) (a0 : Nat) (p0 : Int32) (p1 : Int32) (st : g_St) (Q : g_St → Prop) : Prop :=
  ∃ o1 : Option Nat, g_gr st a0 0 0 o1 ∧ ∃ x2 : Int32, g_gi st a0 0 1 x2 ∧ ∃ o3 : Option Nat, g_gr st a0 0 0 o3 ∧ ∃ x4 : Int32, g_gi st a0 0 1 x4 ∧ ∃ x5 : Int32, g_gi st a0 0 3 x5 ∧ ∃ x6 : Int32, g_gi st a0 0 1 x6 ∧ ∃ a7 : Nat, o3 = some a7 ∧ ∃ a8 : Nat, o1 = some a8 ∧ ∃ (n9 : Nat) (f10 : Nat → Int32) (m11 : Nat) (h12 : Nat → Int32) (i13 j14 k15 : Nat), g_ai st a8 1 n9 f10 ∧ st.2.1 a7 = some (.inl (1, m11, .inl h12)) ∧ (p0 <<< (x2 &&& 31)) = nI i13 ∧ ((p0 + p1) <<< (x4 &&& 31)) = nI j14 ∧ ((x5 - p0) <<< (x6 &&& 31)) = nI k15 ∧ i13 < 2 ^ 31 ∧ j14 < 2 ^ 31 ∧ k15 < 2 ^ 31 ∧ i13 + k15 ≤ n9 ∧ j14 + k15 ≤ m11 ∧ (∀ z : Nat, z < k15 → fits .byte (.int (f10 (i13 + z))) = true) ∧ ∀ st16 : g_St, st16 = g_put st a7 (.inl (1, m11, .inl (va_cpy f10 h12 i13 j14 k15))) → Q st16
set_option maxHeartbeats 4000000 in
theorem wb_J0_shift {p : Program} {l : Launch} {e : Env} {R : Room} {s : State} {m : MethodId} {args : Array Value} {below : List Frame} {meth : Method} {c : Code} {E : g_E} {st0 : g_St} {Z : State → Prop} (hC : g_Cx p s m args meth c cJ0_shift 3 "java/lang/AbstractStringBuilder" none "shift" E st0) (hR : g_Rm 1 40 R) {a0 : Nat} {p0 : Int32} {p1 : Int32} {st : g_St} {cb sb : Nat} {Q : g_St → Prop} (hret : ∀ (pc : Nat) (lv : List (Nat × Value)) (st1 : g_St) (cb sb : Nat), decode cJ0_shift pc = .ok (.return_, 1) → Q st1 → g_J p l e R s m args below meth c 3 E st0 Z pc lv [] st1 cb sb) (hvc : vc_J0_shift l E a0 p0 p1 st Q) : g_J p l e R s m args below meth c 3 E st0 Z 0 [(0, va_rf (some a0)), (1, .int p0), (2, .int p1)] [] st cb sb := by
  unfold vc_J0_shift at hvc
  refine j_aload_n hC dJ0_shift_0 rfl 0 rfl ?_
  obtain ⟨o1, ⟨fs, hr, hv⟩, hvc⟩ := hvc
  refine j_get hC fkJ0_15_J1 dJ0_shift_1 hr hv ?_
  clear hv hr fs
  refine j_iload_n hC dJ0_shift_4 rfl 1 rfl ?_
  refine j_aload_n hC dJ0_shift_5 rfl 0 rfl ?_
  obtain ⟨x2, ⟨fs, hr, hv⟩, hvc⟩ := hvc
  refine j_get hC fkJ0_22_J1 dJ0_shift_6 hr hv ?_
  clear hv hr fs
  refine j_ishl hC dJ0_shift_9 ?_
  refine j_aload_n hC dJ0_shift_10 rfl 0 rfl ?_
  obtain ⟨o3, ⟨fs, hr, hv⟩, hvc⟩ := hvc
  refine j_get hC fkJ0_15_J1 dJ0_shift_11 hr hv ?_
  clear hv hr fs
  refine j_iload_n hC dJ0_shift_14 rfl 1 rfl ?_
  refine j_iload_n hC dJ0_shift_15 rfl 2 rfl ?_
  refine j_iadd hC dJ0_shift_16 ?_
  refine j_aload_n hC dJ0_shift_17 rfl 0 rfl ?_
  obtain ⟨x4, ⟨fs, hr, hv⟩, hvc⟩ := hvc
  refine j_get hC fkJ0_22_J1 dJ0_shift_18 hr hv ?_
  clear hv hr fs
  refine j_ishl hC dJ0_shift_21 ?_
  refine j_aload_n hC dJ0_shift_22 rfl 0 rfl ?_
  obtain ⟨x5, ⟨fs, hr, hv⟩, hvc⟩ := hvc
  refine j_get hC fkJ0_79_J1 dJ0_shift_23 hr hv ?_
  clear hv hr fs
  refine j_iload_n hC dJ0_shift_26 rfl 1 rfl ?_
  refine j_isub hC dJ0_shift_27 ?_
  refine j_aload_n hC dJ0_shift_28 rfl 0 rfl ?_
  obtain ⟨x6, ⟨fs, hr, hv⟩, hvc⟩ := hvc
  refine j_get hC fkJ0_22_J1 dJ0_shift_29 hr hv ?_
  clear hv hr fs
  refine j_ishl hC dJ0_shift_32 ?_
  obtain ⟨a7, rfl, hvc⟩ := hvc
  obtain ⟨a8, rfl, hvc⟩ := hvc
  obtain ⟨n9, f10, m11, h12, i13, j14, k15, hr, hm, e1, e2, e3, l1, l2, l3, l4, l5, hf, hvc⟩ := hvc
  refine j_copyB hC (by exact q1783) (by exact q308) (by exact q307) (by exact q59) hr hm e1 e2 e3 l1 l2 l3 l4 l5 hf (Nat.le_trans (Nat.le_of_ble_eq_true rfl) hR.1) (Nat.le_trans (g_sumN rfl) hR.2) dJ0_shift_33 (fun st16 e1 => ?_)
  replace hvc := hvc st16 e1; clear hr hm e1 e2 e3 l1 l2 l3 l4 l5 hf
  exact hret _ _ _ _ _ dJ0_shift_36 hvc
theorem wk_J0_shift {l : Launch} {E : g_E} {a0 : Nat} {p0 : Int32} {p1 : Int32} {st : g_St} {mc ms : Nat} {Q : g_St → Prop} (hvc : vc_J0_shift l E a0 p0 p1 st Q) : wp_J0_shift l E mc ms [va_rf (some a0), .int p0, .int p1] st Q :=
  g_enter (lv0 := [(0, va_rf (some a0)), (1, .int p0), (2, .int p1)]) (plainFor_of_name (by decide +kernel)) (by simp [lv_args, g_c1, g_ci, g_cL]) (by simp [lg_sl, g_c1, g_ci, g_cL]) (fun p e s m args below meth c hC => wb_J0_shift hC ⟨Nat.le_refl _, Nat.le_refl _⟩ (fun pc lv st1 cb sb hd hq => j_return hC rfl hd ⟨rfl, hq⟩) hvc)
abbrev wp_J0_insert (l : Launch) (E : g_E) (mc ms : Nat) (av : List Value) (st : g_St) (Q : Option Nat → g_St → Prop) : Prop := g_WPa l E yJ0_insert cJ0_insert 3 (some (.object "java/lang/AbstractStringBuilder")) 4 110 mc ms av st Q
def vc_J0_insert (l : Launch) (E : g_E) (a0 : Nat) (p0 : Int32) (p1 : Int32) (st : g_St) (cb sb : Nat) (Q : Option Nat → g_St → Prop) : Prop :=
  ∃ x1 : Int32, g_gi st a0 0 3 x1 ∧ wp_J2_checkOffset l E 0 0 [.int p0, .int x1] st (fun stx => stx = st ∧ ∃ x2 : Int32, g_gi st a0 0 3 x2 ∧ ∃ mc4 ms5 : Nat, mc4 ≤ cb ∧ ms5 ≤ sb ∧ g_is st a0 0 ∧ wp_J0_ensureCapacityInternal l E mc4 ms5 [va_rf (some a0), .int (x2 + (nI 1))] st (fun st3 => g_Ext st st3 → g_is st3 a0 0 ∧ wp_J0_shift l E 0 0 [va_rf (some a0), .int p0, .int (nI 1)] st3 (fun st6 => g_Ext st3 st6 → ∃ x7 : Int32, g_gi st6 a0 0 3 x7 ∧ ∃ fs8 : List Value, st6.2.1 a0 = some (.inr (0, fs8)) ∧ ∀ st9 : g_St, st9 = g_put st6 a0 (.inr (0, fs8.set 3 (.int (x7 + (nI 1))))) → g_is st9 a0 0 ∧ wp_J0_isLatin1 l E 0 0 [va_rf (some a0)] st9 (fun x10 stx => stx = st9 ∧ g_jn0 (fun (K11 : Prop) => (x10 = 0 → K11) ∧ (¬ x10 = 0 → wp_J7_canEncode l E 0 0 [.int p1] st9 (fun x17 stx => stx = st9 ∧ (x17 = 0 → K11) ∧ (¬ x17 = 0 → ∃ o19 : Option Nat, g_gr st9 a0 0 0 o19 ∧ ∃ a20 : Nat, o19 = some a20 ∧ ∃ (n21 : Nat) (f22 : Nat → Int32) (j23 : Nat), st9.2.1 a20 = some (.inl (1, n21, .inl (f22))) ∧ p0 = nI j23 ∧ j23 < n21 ∧ j23 < 2 ^ 31 ∧ ∀ st24 : g_St, st24 = g_put st9 a20 (.inl (1, n21, .inl (va_up f22 j23 (vp_nar .byte ((p1).toInt8.toInt32))))) → Q (some a0) st24)))) (g_is st9 a0 0 ∧ wp_J0_isLatin1 l E 0 0 [va_rf (some a0)] st9 (fun x13 stx => stx = st9 ∧ (x13 = 0 → ∃ o15 : Option Nat, g_gr st9 a0 0 0 o15 ∧ False) ∧ (¬ x13 = 0 → False)))))))
set_option maxHeartbeats 4000000 in
theorem wb_J0_insert {p : Program} {l : Launch} {e : Env} {R : Room} {s : State} {m : MethodId} {args : Array Value} {below : List Frame} {meth : Method} {c : Code} {E : g_E} {st0 : g_St} {Z : State → Prop} (hC : g_Cx p s m args meth c cJ0_insert 3 "java/lang/AbstractStringBuilder" (some (.object "java/lang/AbstractStringBuilder")) "insert" E st0) (hR : g_Rm 4 110 R) {a0 : Nat} {p0 : Int32} {p1 : Int32} {st : g_St} {cb sb : Nat} {Q : Option Nat → g_St → Prop} (hret : ∀ (pc : Nat) (lv : List (Nat × Value)) (v : Option Nat) (st1 : g_St) (cb sb : Nat), decode cJ0_insert pc = .ok (.areturn, 1) → Q v st1 → g_J p l e R s m args below meth c 3 E st0 Z pc lv [va_rf v] st1 cb sb) (hvc : vc_J0_insert l E a0 p0 p1 st cb sb Q) : g_J p l e R s m args below meth c 3 E st0 Z 0 [(0, va_rf (some a0)), (1, .int p0), (2, .int p1)] [] st cb sb := by
  unfold vc_J0_insert at hvc
  refine j_iload_n hC dJ0_insert_0 rfl 1 rfl ?_
  refine j_aload_n hC dJ0_insert_1 rfl 0 rfl ?_
  obtain ⟨x1, ⟨fs, hr, hv⟩, hvc⟩ := hvc
  refine j_get hC fkJ0_79_J1 dJ0_insert_2 hr hv ?_
  clear hv hr fs
  refine j_callS (As := [.int p0, .int x1]) (rest := []) (n := 2) hC hvc (lw_S q1778 q585 q44 q586) (by decide +kernel) (g_rm hR rfl rfl) rfl rfl (g_sum rfl) dJ0_insert_5 (Nat.zero_le _) (Nat.zero_le _) (g_Kvp fun hv2 => ?_)
  replace hvc := hv2; clear hv2
  refine j_aload_n hC dJ0_insert_8 rfl 0 rfl ?_
  refine j_aload_n hC dJ0_insert_9 rfl 0 rfl ?_
  obtain ⟨x2, ⟨fs, hr, hv⟩, hvc⟩ := hvc
  refine j_get hC fkJ0_79_J1 dJ0_insert_10 hr hv ?_
  clear hv hr fs
  refine j_iconst hC (nI 1) dJ0_insert_13 rfl ?_
  refine j_iadd hC dJ0_insert_14 ?_
  obtain ⟨mc4, ms5, h1, h2, hvc⟩ := hvc
  obtain ⟨⟨fs, hr⟩, hvc⟩ := hvc
  refine j_callP (As := [.int (x2 + (nI 1))]) (rest := []) (n := 1) (ci := 0) hC hvc (lw_meth q277) q274 q276 ge_85 q42 g_sbP (by decide +kernel) (g_rm hR rfl rfl) rfl hr rfl rfl (g_sum rfl) dJ0_insert_15 h1 h2 (g_Kv fun st3 hv2 hx => ?_)
  replace hvc := hv2 hx; clear hx hv2
  clear hr fs
  refine j_aload_n hC dJ0_insert_18 rfl 0 rfl ?_
  refine j_iload_n hC dJ0_insert_19 rfl 1 rfl ?_
  refine j_iconst hC (nI 1) dJ0_insert_20 rfl ?_
  obtain ⟨⟨fs, hr⟩, hvc⟩ := hvc
  refine j_callP (As := [.int p0, .int (nI 1)]) (rest := []) (n := 2) (ci := 0) hC hvc (lw_meth q1782) q1779 q1781 ge_91 q42 g_sbP (by decide +kernel) (g_rm hR rfl rfl) rfl hr rfl rfl (g_sum rfl) dJ0_insert_21 (Nat.zero_le _) (Nat.zero_le _) (g_Kv fun st6 hv2 hx => ?_)
  replace hvc := hv2 hx; clear hx hv2
  clear hr fs
  refine j_aload_n hC dJ0_insert_24 rfl 0 rfl ?_
  refine j_dup hC dJ0_insert_25 g_c1 ?_
  obtain ⟨x7, ⟨fs, hr, hv⟩, hvc⟩ := hvc
  refine j_get hC fkJ0_79_J1 dJ0_insert_26 hr hv ?_
  clear hv hr fs
  refine j_iconst hC (nI 1) dJ0_insert_29 rfl ?_
  refine j_iadd hC dJ0_insert_30 ?_
  obtain ⟨fs8, hm, hvc⟩ := hvc
  refine j_put hC fkJ0_79_J1 dJ0_insert_31 hm rfl rfl (fun st9 e1 => ?_)
  replace hvc := hvc st9 e1; clear hm e1
  refine j_aload_n hC dJ0_insert_34 rfl 0 rfl ?_
  obtain ⟨⟨fs, hr⟩, hvc⟩ := hvc
  refine j_callU (As := []) (rest := []) (n := 0) (x := ⟨"java/lang/AbstractStringBuilder", "isLatin1", "()Z"⟩) (C := "java/lang/StringBuilder") (owner := "java/lang/AbstractStringBuilder") (ci := 0) hC hvc (lw_U q309 q311 q312 q310 q42 q313) rfl (by decide +kernel) (g_rm hR rfl rfl) rfl hr rfl rfl (g_sum rfl) dJ0_insert_35 (Nat.zero_le _) (Nat.zero_le _) (g_Kip fun x10 hv2 => ?_)
  replace hvc := hv2; clear hv2
  clear hr fs
  replace hvc := g_jn0_o hvc
  obtain ⟨K11, hK25, hvc⟩ := hvc
  have kh12 : K11 → g_J p l e R s m args below meth c 3 E st0 Z 59 [(0, va_rf (some a0)), (1, .int p0), (2, .int p1)] [] st9 (cb - mc4) (sb - ms5) := by
    clear hvc
    intro hvc
    replace hvc := hK25 hvc
    refine j_aload_n hC dJ0_insert_59 rfl 0 rfl ?_
    obtain ⟨⟨fs, hr⟩, hvc⟩ := hvc
    refine j_callU (As := []) (rest := []) (n := 0) (x := ⟨"java/lang/AbstractStringBuilder", "isLatin1", "()Z"⟩) (C := "java/lang/StringBuilder") (owner := "java/lang/AbstractStringBuilder") (ci := 0) hC hvc (lw_U q309 q311 q312 q310 q42 q313) rfl (by decide +kernel) (g_rm hR rfl rfl) rfl hr rfl rfl (g_sum rfl) dJ0_insert_60 (Nat.zero_le _) (Nat.zero_le _) (g_Kip fun x13 hv2 => ?_)
    replace hvc := hv2; clear hv2
    clear hr fs
    refine j_if_eq (tgt := 70) hC dJ0_insert_63 rfl (fun c14 => ?_) (fun c14 => ?_)
    · replace hvc := hvc.1 c14
      refine j_aload_n hC dJ0_insert_70 rfl 0 rfl ?_
      obtain ⟨o15, ⟨fs, hr, hv⟩, hvc⟩ := hvc
      refine j_get hC fkJ0_15_J1 dJ0_insert_71 hr hv ?_
      clear hv hr fs
      refine j_iload_n hC dJ0_insert_74 rfl 1 rfl ?_
      refine j_iload_n hC dJ0_insert_75 rfl 2 rfl ?_
      exact hvc.elim
    · replace hvc := hvc.2 c14
      refine j_aload_n hC dJ0_insert_66 rfl 0 rfl ?_
      exact hvc.elim
  refine j_if_eq (tgt := 59) hC dJ0_insert_38 rfl (fun c16 => ?_) (fun c16 => ?_)
  · replace hvc := hvc.1 c16
    exact j_sub [0, 1, 2] rfl (kh12 hvc)
  · replace hvc := hvc.2 c16
    refine j_iload_n hC dJ0_insert_41 rfl 2 rfl ?_
    refine j_callS (As := [.int p1]) (rest := []) (n := 1) hC hvc (lw_S q1178 q1179 q49 q1180) (by decide +kernel) (g_rm hR rfl rfl) rfl rfl (g_sum rfl) dJ0_insert_42 (Nat.zero_le _) (Nat.zero_le _) (g_Kip fun x17 hv2 => ?_)
    replace hvc := hv2; clear hv2
    refine j_if_eq (tgt := 59) hC dJ0_insert_45 rfl (fun c18 => ?_) (fun c18 => ?_)
    · replace hvc := hvc.1 c18
      exact j_sub [0, 1, 2] rfl (kh12 hvc)
    · replace hvc := hvc.2 c18
      refine j_aload_n hC dJ0_insert_48 rfl 0 rfl ?_
      obtain ⟨o19, ⟨fs, hr, hv⟩, hvc⟩ := hvc
      refine j_get hC fkJ0_15_J1 dJ0_insert_49 hr hv ?_
      clear hv hr fs
      refine j_iload_n hC dJ0_insert_52 rfl 1 rfl ?_
      refine j_iload_n hC dJ0_insert_53 rfl 2 rfl ?_
      refine j_i2b hC dJ0_insert_54 ?_
      obtain ⟨a20, rfl, hvc⟩ := hvc
      obtain ⟨n21, f22, j23, hm, hi, hj, hJ, hvc⟩ := hvc
      refine j_ix1 hi ?_
      refine j_stb hC hm hj hJ dJ0_insert_55 (fun st24 e1 => ?_)
      replace hvc := hvc st24 e1; clear hm hi hj hJ e1
      refine j_goto (tgt := 79) hC dJ0_insert_56 rfl ?_
      refine j_aload_n hC dJ0_insert_79 rfl 0 rfl ?_
      exact hret _ _ _ _ _ _ dJ0_insert_80 hvc
theorem wk_J0_insert {l : Launch} {E : g_E} {a0 : Nat} {p0 : Int32} {p1 : Int32} {st : g_St} {mc ms : Nat} {Q : Option Nat → g_St → Prop} (hvc : vc_J0_insert l E a0 p0 p1 st mc ms Q) : wp_J0_insert l E mc ms [va_rf (some a0), .int p0, .int p1] st Q :=
  g_enter (lv0 := [(0, va_rf (some a0)), (1, .int p0), (2, .int p1)]) (plainFor_of_name (by decide +kernel)) (by simp [lv_args, g_c1, g_ci, g_cL]) (by simp [lg_sl, g_c1, g_ci, g_cL]) (fun p e s m args below meth c hC => wb_J0_insert hC ⟨Nat.le_refl _, Nat.le_refl _⟩ (fun pc lv v st1 cb sb hd hq => j_areturn hC rfl (by first | exact Or.inl ⟨_, rfl⟩ | exact Or.inr ⟨_, rfl⟩) hd (g_av hq)) hvc)
abbrev wp_J1_insert (l : Launch) (E : g_E) (mc ms : Nat) (av : List Value) (st : g_St) (Q : Option Nat → g_St → Prop) : Prop := g_WPa l E yJ1_insert cJ1_insert 3 (some (.object "java/lang/StringBuilder")) 5 132 mc ms av st Q
def vc_J1_insert (l : Launch) (E : g_E) (a0 : Nat) (p0 : Int32) (p1 : Int32) (st : g_St) (cb sb : Nat) (Q : Option Nat → g_St → Prop) : Prop :=
  ∃ mc3 ms4 : Nat, mc3 ≤ cb ∧ ms4 ≤ sb ∧ g_is st a0 0 ∧ wp_J0_insert l E mc3 ms4 [va_rf (some a0), .int p0, .int p1] st (fun o1 st2 => g_Ext st st2 → Q (some a0) st2)
set_option maxHeartbeats 4000000 in
theorem wb_J1_insert {p : Program} {l : Launch} {e : Env} {R : Room} {s : State} {m : MethodId} {args : Array Value} {below : List Frame} {meth : Method} {c : Code} {E : g_E} {st0 : g_St} {Z : State → Prop} (hC : g_Cx p s m args meth c cJ1_insert 3 "java/lang/StringBuilder" (some (.object "java/lang/StringBuilder")) "insert" E st0) (hR : g_Rm 5 132 R) {a0 : Nat} {p0 : Int32} {p1 : Int32} {st : g_St} {cb sb : Nat} {Q : Option Nat → g_St → Prop} (hret : ∀ (pc : Nat) (lv : List (Nat × Value)) (v : Option Nat) (st1 : g_St) (cb sb : Nat), decode cJ1_insert pc = .ok (.areturn, 1) → Q v st1 → g_J p l e R s m args below meth c 3 E st0 Z pc lv [va_rf v] st1 cb sb) (hvc : vc_J1_insert l E a0 p0 p1 st cb sb Q) : g_J p l e R s m args below meth c 3 E st0 Z 0 [(0, va_rf (some a0)), (1, .int p0), (2, .int p1)] [] st cb sb := by
  unfold vc_J1_insert at hvc
  refine j_aload_n hC dJ1_insert_0 rfl 0 rfl ?_
  refine j_iload_n hC dJ1_insert_1 rfl 1 rfl ?_
  refine j_iload_n hC dJ1_insert_2 rfl 2 rfl ?_
  obtain ⟨mc3, ms4, h1, h2, hvc⟩ := hvc
  obtain ⟨⟨fs, hr⟩, hvc⟩ := hvc
  refine j_callSU (As := [.int p0, .int p1]) (rest := []) (n := 2) (ci := 0) hC hvc (lw_SU q1775 q2470 q132 q1776 q42 q1777) (by decide +kernel) (g_rm hR rfl rfl) rfl hr rfl rfl (g_sum rfl) dJ1_insert_3 h1 h2 (g_Ka fun o1 st2 hv2 hx => ?_)
  replace hvc := hv2 hx; clear hx hv2
  clear hr fs
  refine j_pop hC dJ1_insert_6 g_c1 ?_
  refine j_aload_n hC dJ1_insert_7 rfl 0 rfl ?_
  exact hret _ _ _ _ _ _ dJ1_insert_8 hvc
theorem wk_J1_insert {l : Launch} {E : g_E} {a0 : Nat} {p0 : Int32} {p1 : Int32} {st : g_St} {mc ms : Nat} {Q : Option Nat → g_St → Prop} (hvc : vc_J1_insert l E a0 p0 p1 st mc ms Q) : wp_J1_insert l E mc ms [va_rf (some a0), .int p0, .int p1] st Q :=
  g_enter (lv0 := [(0, va_rf (some a0)), (1, .int p0), (2, .int p1)]) (plainFor_of_name (by decide +kernel)) (by simp [lv_args, g_c1, g_ci, g_cL]) (by simp [lg_sl, g_c1, g_ci, g_cL]) (fun p e s m args below meth c hC => wb_J1_insert hC ⟨Nat.le_refl _, Nat.le_refl _⟩ (fun pc lv v st1 cb sb hd hq => j_areturn hC rfl (by first | exact Or.inl ⟨_, rfl⟩ | exact Or.inr ⟨_, rfl⟩) hd (g_av hq)) hvc)
abbrev wp_J0_deleteCharAt (l : Launch) (E : g_E) (mc ms : Nat) (av : List Value) (st : g_St) (Q : Option Nat → g_St → Prop) : Prop := g_WPa l E yJ0_deleteCharAt cJ0_deleteCharAt 2 (some (.object "java/lang/AbstractStringBuilder")) 3 83 mc ms av st Q
def vc_J0_deleteCharAt (l : Launch) (E : g_E) (a0 : Nat) (p0 : Int32) (st : g_St) (Q : Option Nat → g_St → Prop) : Prop :=
  ∃ x1 : Int32, g_gi st a0 0 3 x1 ∧ wp_J2_checkIndex l E 0 0 [.int p0, .int x1] st (fun stx => stx = st ∧ g_is st a0 0 ∧ wp_J0_shift l E 0 0 [va_rf (some a0), .int (p0 + (nI 1)), .int (-1)] st (fun st2 => g_Ext st st2 → ∃ x3 : Int32, g_gi st2 a0 0 3 x3 ∧ ∃ fs4 : List Value, st2.2.1 a0 = some (.inr (0, fs4)) ∧ ∀ st5 : g_St, st5 = g_put st2 a0 (.inr (0, fs4.set 3 (.int (x3 - (nI 1))))) → ∃ fs6 : List Value, st5.2.1 a0 = some (.inr (0, fs6)) ∧ ∀ st7 : g_St, st7 = g_put st5 a0 (.inr (0, fs6.set 2 (.int (nI 1)))) → Q (some a0) st7))
set_option maxHeartbeats 4000000 in
theorem wb_J0_deleteCharAt {p : Program} {l : Launch} {e : Env} {R : Room} {s : State} {m : MethodId} {args : Array Value} {below : List Frame} {meth : Method} {c : Code} {E : g_E} {st0 : g_St} {Z : State → Prop} (hC : g_Cx p s m args meth c cJ0_deleteCharAt 2 "java/lang/AbstractStringBuilder" (some (.object "java/lang/AbstractStringBuilder")) "deleteCharAt" E st0) (hR : g_Rm 3 83 R) {a0 : Nat} {p0 : Int32} {st : g_St} {cb sb : Nat} {Q : Option Nat → g_St → Prop} (hret : ∀ (pc : Nat) (lv : List (Nat × Value)) (v : Option Nat) (st1 : g_St) (cb sb : Nat), decode cJ0_deleteCharAt pc = .ok (.areturn, 1) → Q v st1 → g_J p l e R s m args below meth c 2 E st0 Z pc lv [va_rf v] st1 cb sb) (hvc : vc_J0_deleteCharAt l E a0 p0 st Q) : g_J p l e R s m args below meth c 2 E st0 Z 0 [(0, va_rf (some a0)), (1, .int p0)] [] st cb sb := by
  unfold vc_J0_deleteCharAt at hvc
  refine j_iload_n hC dJ0_deleteCharAt_0 rfl 1 rfl ?_
  refine j_aload_n hC dJ0_deleteCharAt_1 rfl 0 rfl ?_
  obtain ⟨x1, ⟨fs, hr, hv⟩, hvc⟩ := hvc
  refine j_get hC fkJ0_79_J1 dJ0_deleteCharAt_2 hr hv ?_
  clear hv hr fs
  refine j_callS (As := [.int p0, .int x1]) (rest := []) (n := 2) hC hvc (lw_S q1699 q1188 q44 q1189) (by decide +kernel) (g_rm hR rfl rfl) rfl rfl (g_sum rfl) dJ0_deleteCharAt_5 (Nat.zero_le _) (Nat.zero_le _) (g_Kvp fun hv2 => ?_)
  replace hvc := hv2; clear hv2
  refine j_aload_n hC dJ0_deleteCharAt_8 rfl 0 rfl ?_
  refine j_iload_n hC dJ0_deleteCharAt_9 rfl 1 rfl ?_
  refine j_iconst hC (nI 1) dJ0_deleteCharAt_10 rfl ?_
  refine j_iadd hC dJ0_deleteCharAt_11 ?_
  refine j_iconst hC (-1) dJ0_deleteCharAt_12 rfl ?_
  obtain ⟨⟨fs, hr⟩, hvc⟩ := hvc
  refine j_callP (As := [.int (p0 + (nI 1)), .int (-1)]) (rest := []) (n := 2) (ci := 0) hC hvc (lw_meth q1782) q1779 q1781 ge_91 q42 g_sbP (by decide +kernel) (g_rm hR rfl rfl) rfl hr rfl rfl (g_sum rfl) dJ0_deleteCharAt_13 (Nat.zero_le _) (Nat.zero_le _) (g_Kv fun st2 hv2 hx => ?_)
  replace hvc := hv2 hx; clear hx hv2
  clear hr fs
  refine j_aload_n hC dJ0_deleteCharAt_16 rfl 0 rfl ?_
  refine j_dup hC dJ0_deleteCharAt_17 g_c1 ?_
  obtain ⟨x3, ⟨fs, hr, hv⟩, hvc⟩ := hvc
  refine j_get hC fkJ0_79_J1 dJ0_deleteCharAt_18 hr hv ?_
  clear hv hr fs
  refine j_iconst hC (nI 1) dJ0_deleteCharAt_21 rfl ?_
  refine j_isub hC dJ0_deleteCharAt_22 ?_
  obtain ⟨fs4, hm, hvc⟩ := hvc
  refine j_put hC fkJ0_79_J1 dJ0_deleteCharAt_23 hm rfl rfl (fun st5 e1 => ?_)
  replace hvc := hvc st5 e1; clear hm e1
  refine j_aload_n hC dJ0_deleteCharAt_26 rfl 0 rfl ?_
  refine j_iconst hC (nI 1) dJ0_deleteCharAt_27 rfl ?_
  obtain ⟨fs6, hm, hvc⟩ := hvc
  refine j_put hC fkJ0_73_J1 dJ0_deleteCharAt_28 hm rfl rfl (fun st7 e1 => ?_)
  replace hvc := hvc st7 e1; clear hm e1
  refine j_aload_n hC dJ0_deleteCharAt_31 rfl 0 rfl ?_
  exact hret _ _ _ _ _ _ dJ0_deleteCharAt_32 hvc
theorem wk_J0_deleteCharAt {l : Launch} {E : g_E} {a0 : Nat} {p0 : Int32} {st : g_St} {mc ms : Nat} {Q : Option Nat → g_St → Prop} (hvc : vc_J0_deleteCharAt l E a0 p0 st Q) : wp_J0_deleteCharAt l E mc ms [va_rf (some a0), .int p0] st Q :=
  g_enter (lv0 := [(0, va_rf (some a0)), (1, .int p0)]) (plainFor_of_name (by decide +kernel)) (by simp [lv_args, g_c1, g_ci, g_cL]) (by simp [lg_sl, g_c1, g_ci, g_cL]) (fun p e s m args below meth c hC => wb_J0_deleteCharAt hC ⟨Nat.le_refl _, Nat.le_refl _⟩ (fun pc lv v st1 cb sb hd hq => j_areturn hC rfl (by first | exact Or.inl ⟨_, rfl⟩ | exact Or.inr ⟨_, rfl⟩) hd (g_av hq)) hvc)
abbrev wp_J1_deleteCharAt (l : Launch) (E : g_E) (mc ms : Nat) (av : List Value) (st : g_St) (Q : Option Nat → g_St → Prop) : Prop := g_WPa l E yJ1_deleteCharAt cJ1_deleteCharAt 2 (some (.object "java/lang/StringBuilder")) 4 104 mc ms av st Q
def vc_J1_deleteCharAt (l : Launch) (E : g_E) (a0 : Nat) (p0 : Int32) (st : g_St) (Q : Option Nat → g_St → Prop) : Prop :=
  g_is st a0 0 ∧ wp_J0_deleteCharAt l E 0 0 [va_rf (some a0), .int p0] st (fun o1 st2 => g_Ext st st2 → Q (some a0) st2)
set_option maxHeartbeats 4000000 in
theorem wb_J1_deleteCharAt {p : Program} {l : Launch} {e : Env} {R : Room} {s : State} {m : MethodId} {args : Array Value} {below : List Frame} {meth : Method} {c : Code} {E : g_E} {st0 : g_St} {Z : State → Prop} (hC : g_Cx p s m args meth c cJ1_deleteCharAt 2 "java/lang/StringBuilder" (some (.object "java/lang/StringBuilder")) "deleteCharAt" E st0) (hR : g_Rm 4 104 R) {a0 : Nat} {p0 : Int32} {st : g_St} {cb sb : Nat} {Q : Option Nat → g_St → Prop} (hret : ∀ (pc : Nat) (lv : List (Nat × Value)) (v : Option Nat) (st1 : g_St) (cb sb : Nat), decode cJ1_deleteCharAt pc = .ok (.areturn, 1) → Q v st1 → g_J p l e R s m args below meth c 2 E st0 Z pc lv [va_rf v] st1 cb sb) (hvc : vc_J1_deleteCharAt l E a0 p0 st Q) : g_J p l e R s m args below meth c 2 E st0 Z 0 [(0, va_rf (some a0)), (1, .int p0)] [] st cb sb := by
  unfold vc_J1_deleteCharAt at hvc
  refine j_aload_n hC dJ1_deleteCharAt_0 rfl 0 rfl ?_
  refine j_iload_n hC dJ1_deleteCharAt_1 rfl 1 rfl ?_
  obtain ⟨⟨fs, hr⟩, hvc⟩ := hvc
  refine j_callSU (As := [.int p0]) (rest := []) (n := 1) (ci := 0) hC hvc (lw_SU q1796 q2472 q132 q1797 q42 q1798) (by decide +kernel) (g_rm hR rfl rfl) rfl hr rfl rfl (g_sum rfl) dJ1_deleteCharAt_2 (Nat.zero_le _) (Nat.zero_le _) (g_Ka fun o1 st2 hv2 hx => ?_)
  replace hvc := hv2 hx; clear hx hv2
  clear hr fs
  refine j_pop hC dJ1_deleteCharAt_5 g_c1 ?_
  refine j_aload_n hC dJ1_deleteCharAt_6 rfl 0 rfl ?_
  exact hret _ _ _ _ _ _ dJ1_deleteCharAt_7 hvc
theorem wk_J1_deleteCharAt {l : Launch} {E : g_E} {a0 : Nat} {p0 : Int32} {st : g_St} {mc ms : Nat} {Q : Option Nat → g_St → Prop} (hvc : vc_J1_deleteCharAt l E a0 p0 st Q) : wp_J1_deleteCharAt l E mc ms [va_rf (some a0), .int p0] st Q :=
  g_enter (lv0 := [(0, va_rf (some a0)), (1, .int p0)]) (plainFor_of_name (by decide +kernel)) (by simp [lv_args, g_c1, g_ci, g_cL]) (by simp [lg_sl, g_c1, g_ci, g_cL]) (fun p e s m args below meth c hC => wb_J1_deleteCharAt hC ⟨Nat.le_refl _, Nat.le_refl _⟩ (fun pc lv v st1 cb sb hd hq => j_areturn hC rfl (by first | exact Or.inl ⟨_, rfl⟩ | exact Or.inr ⟨_, rfl⟩) hd (g_av hq)) hvc)
abbrev wp_J0_delete (l : Launch) (E : g_E) (mc ms : Nat) (av : List Value) (st : g_St) (Q : Option Nat → g_St → Prop) : Prop := g_WPa l E yJ0_delete cJ0_delete 5 (some (.object "java/lang/AbstractStringBuilder")) 2 63 mc ms av st Q
def vc_J0_delete (l : Launch) (E : g_E) (a0 : Nat) (p0 : Int32) (p1 : Int32) (st : g_St) (Q : Option Nat → g_St → Prop) : Prop :=
  ∃ x1 : Int32, g_gi st a0 0 3 x1 ∧ g_jn1 (fun (K3 : Int32 → Prop) => (p1 ≤ x1 → K3 p1) ∧ (¬ p1 ≤ x1 → K3 x1)) (fun (x2 : Int32) => ∀ o5 : Option Nat, o5 = E.2.2.2.2.1 6 → wp_J6_checkFromToIndex l E 0 0 [.int p0, .int x2, .int x1, va_rf o5] st (fun x6 stx => stx = st ∧ g_jn1 (fun (K8 : g_St → Prop) => ((x2 - p0) ≤ 0 → K8 st) ∧ (¬ (x2 - p0) ≤ 0 → g_is st a0 0 ∧ wp_J0_shift l E 0 0 [va_rf (some a0), .int x2, .int (-(x2 - p0))] st (fun st11 => g_Ext st st11 → ∃ fs12 : List Value, st11.2.1 a0 = some (.inr (0, fs12)) ∧ ∀ st13 : g_St, st13 = g_put st11 a0 (.inr (0, fs12.set 3 (.int (x1 - (x2 - p0))))) → ∃ fs14 : List Value, st13.2.1 a0 = some (.inr (0, fs14)) ∧ ∀ st15 : g_St, st15 = g_put st13 a0 (.inr (0, fs14.set 2 (.int (nI 1)))) → K8 st15))) (fun (st7 : g_St) => Q (some a0) st7)))
set_option maxHeartbeats 4000000 in
theorem wb_J0_delete {p : Program} {l : Launch} {e : Env} {R : Room} {s : State} {m : MethodId} {args : Array Value} {below : List Frame} {meth : Method} {c : Code} {E : g_E} {st0 : g_St} {Z : State → Prop} (hC : g_Cx p s m args meth c cJ0_delete 5 "java/lang/AbstractStringBuilder" (some (.object "java/lang/AbstractStringBuilder")) "delete" E st0) (hR : g_Rm 2 63 R) {a0 : Nat} {p0 : Int32} {p1 : Int32} {st : g_St} {cb sb : Nat} {Q : Option Nat → g_St → Prop} (hret : ∀ (pc : Nat) (lv : List (Nat × Value)) (v : Option Nat) (st1 : g_St) (cb sb : Nat), decode cJ0_delete pc = .ok (.areturn, 1) → Q v st1 → g_J p l e R s m args below meth c 5 E st0 Z pc lv [va_rf v] st1 cb sb) (hvc : vc_J0_delete l E a0 p0 p1 st Q) : g_J p l e R s m args below meth c 5 E st0 Z 0 [(0, va_rf (some a0)), (1, .int p0), (2, .int p1)] [] st cb sb := by
  unfold vc_J0_delete at hvc
  refine j_aload_n hC dJ0_delete_0 rfl 0 rfl ?_
  obtain ⟨x1, ⟨fs, hr, hv⟩, hvc⟩ := hvc
  refine j_get hC fkJ0_79_J1 dJ0_delete_1 hr hv ?_
  clear hv hr fs
  refine j_istore_n (lv0 := [(2, .int p1), (0, va_rf (some a0)), (1, .int p0)]) hC dJ0_delete_4 rfl rfl [2, 0, 1] rfl (g_okS.h rfl rfl rfl) ?_
  refine j_iload_n hC dJ0_delete_5 rfl 1 rfl ?_
  refine j_iload_n hC dJ0_delete_6 rfl 0 rfl ?_
  replace hvc := g_jn1_o hvc
  obtain ⟨K3, hK18, hvc⟩ := hvc
  have kh4 : ∀ (x2 : Int32), K3 x2 → g_J p l e R s m args below meth c 5 E st0 Z 12 [(0, va_rf (some a0)), (1, .int p0), (2, .int x2), (3, .int x1)] [] st cb sb := by
    clear hvc
    intro x2 hvc
    replace hvc := hK18 _ hvc
    refine j_iload_n hC dJ0_delete_12 rfl 1 rfl ?_
    refine j_iload_n hC dJ0_delete_13 rfl 2 rfl ?_
    refine j_iload_n hC dJ0_delete_14 rfl 3 rfl ?_
    refine j_gets hC gs_5 q1577 (Or.inl rfl) dJ0_delete_15 ?_
    obtain ⟨o5, ho5⟩ : ∃ z : Option Nat, z = E.2.2.2.2.1 6 := ⟨_, rfl⟩
    rw [← ho5]
    replace hvc := hvc _ ho5
    refine j_callS (As := [.int p0, .int x2, .int x1, va_rf o5]) (rest := []) (n := 4) hC hvc (lw_S q1578 q196 q48 q197) (by decide +kernel) (g_rm hR rfl rfl) rfl rfl (g_sum rfl) dJ0_delete_18 (Nat.zero_le _) (Nat.zero_le _) (g_Kip fun x6 hv2 => ?_)
    replace hvc := hv2; clear hv2
    refine j_pop hC dJ0_delete_21 rfl ?_
    refine j_iload_n hC dJ0_delete_22 rfl 2 rfl ?_
    refine j_iload_n hC dJ0_delete_23 rfl 1 rfl ?_
    refine j_isub hC dJ0_delete_24 ?_
    refine j_istore (lv0 := [(3, .int x1), (0, va_rf (some a0)), (1, .int p0), (2, .int x2)]) hC dJ0_delete_25 rfl [3, 0, 1, 2] rfl (g_okS.h rfl rfl rfl) ?_
    refine j_iload hC dJ0_delete_27 0 rfl ?_
    replace hvc := g_jn1_o hvc
    obtain ⟨K8, hK16, hvc⟩ := hvc
    have kh9 : ∀ (st7 : g_St), K8 st7 → g_J p l e R s m args below meth c 5 E st0 Z 53 [(0, va_rf (some a0))] [] st7 cb sb := by
      clear hvc
      intro st7 hvc
      replace hvc := hK16 _ hvc
      refine j_aload_n hC dJ0_delete_53 rfl 0 rfl ?_
      exact hret _ _ _ _ _ _ dJ0_delete_54 hvc
    refine j_if_le (tgt := 53) hC dJ0_delete_29 rfl (fun c10 => ?_) (fun c10 => ?_)
    · replace hvc := hvc.1 c10
      exact j_sub [2] rfl (kh9 st hvc)
    · replace hvc := hvc.2 c10
      refine j_aload_n hC dJ0_delete_32 rfl 2 rfl ?_
      refine j_iload_n hC dJ0_delete_33 rfl 4 rfl ?_
      refine j_iload hC dJ0_delete_34 0 rfl ?_
      refine j_ineg hC dJ0_delete_36 ?_
      obtain ⟨⟨fs, hr⟩, hvc⟩ := hvc
      refine j_callP (As := [.int x2, .int (-(x2 - p0))]) (rest := []) (n := 2) (ci := 0) hC hvc (lw_meth q1782) q1779 q1781 ge_91 q42 g_sbP (by decide +kernel) (g_rm hR rfl rfl) rfl hr rfl rfl (g_sum rfl) dJ0_delete_37 (Nat.zero_le _) (Nat.zero_le _) (g_Kv fun st11 hv2 hx => ?_)
      replace hvc := hv2 hx; clear hx hv2
      clear hr fs
      refine j_aload_n hC dJ0_delete_40 rfl 2 rfl ?_
      refine j_iload_n hC dJ0_delete_41 rfl 1 rfl ?_
      refine j_iload hC dJ0_delete_42 0 rfl ?_
      refine j_isub hC dJ0_delete_44 ?_
      obtain ⟨fs12, hm, hvc⟩ := hvc
      refine j_put hC fkJ0_79_J1 dJ0_delete_45 hm rfl rfl (fun st13 e1 => ?_)
      replace hvc := hvc st13 e1; clear hm e1
      refine j_aload_n hC dJ0_delete_48 rfl 2 rfl ?_
      refine j_iconst hC (nI 1) dJ0_delete_49 rfl ?_
      obtain ⟨fs14, hm, hvc⟩ := hvc
      refine j_put hC fkJ0_73_J1 dJ0_delete_50 hm rfl rfl (fun st15 e1 => ?_)
      replace hvc := hvc st15 e1; clear hm e1
      exact j_sub [2] rfl (kh9 st15 hvc)
  refine j_icmp_le (tgt := 12) hC dJ0_delete_7 rfl (fun c17 => ?_) (fun c17 => ?_)
  · replace hvc := hvc.1 c17
    exact j_sub [2, 3, 1, 0] rfl (kh4 p1 hvc)
  · replace hvc := hvc.2 c17
    refine j_iload_n hC dJ0_delete_10 rfl 0 rfl ?_
    refine j_istore_n (lv0 := [(1, .int p0), (3, .int x1), (0, va_rf (some a0))]) hC dJ0_delete_11 rfl rfl [3, 0, 2] rfl (g_okS.h rfl rfl rfl) ?_
    exact j_sub [3, 1, 0, 2] rfl (kh4 x1 hvc)
theorem wk_J0_delete {l : Launch} {E : g_E} {a0 : Nat} {p0 : Int32} {p1 : Int32} {st : g_St} {mc ms : Nat} {Q : Option Nat → g_St → Prop} (hvc : vc_J0_delete l E a0 p0 p1 st Q) : wp_J0_delete l E mc ms [va_rf (some a0), .int p0, .int p1] st Q :=
  g_enter (lv0 := [(0, va_rf (some a0)), (1, .int p0), (2, .int p1)]) (plainFor_of_name (by decide +kernel)) (by simp [lv_args, g_c1, g_ci, g_cL]) (by simp [lg_sl, g_c1, g_ci, g_cL]) (fun p e s m args below meth c hC => wb_J0_delete hC ⟨Nat.le_refl _, Nat.le_refl _⟩ (fun pc lv v st1 cb sb hd hq => j_areturn hC rfl (by first | exact Or.inl ⟨_, rfl⟩ | exact Or.inr ⟨_, rfl⟩) hd (g_av hq)) hvc)
abbrev wp_J1_delete (l : Launch) (E : g_E) (mc ms : Nat) (av : List Value) (st : g_St) (Q : Option Nat → g_St → Prop) : Prop := g_WPa l E yJ1_delete cJ1_delete 3 (some (.object "java/lang/StringBuilder")) 3 87 mc ms av st Q
def vc_J1_delete (l : Launch) (E : g_E) (a0 : Nat) (p0 : Int32) (p1 : Int32) (st : g_St) (Q : Option Nat → g_St → Prop) : Prop :=
  g_is st a0 0 ∧ wp_J0_delete l E 0 0 [va_rf (some a0), .int p0, .int p1] st (fun o1 st2 => g_Ext st st2 → Q (some a0) st2)
set_option maxHeartbeats 4000000 in
theorem wb_J1_delete {p : Program} {l : Launch} {e : Env} {R : Room} {s : State} {m : MethodId} {args : Array Value} {below : List Frame} {meth : Method} {c : Code} {E : g_E} {st0 : g_St} {Z : State → Prop} (hC : g_Cx p s m args meth c cJ1_delete 3 "java/lang/StringBuilder" (some (.object "java/lang/StringBuilder")) "delete" E st0) (hR : g_Rm 3 87 R) {a0 : Nat} {p0 : Int32} {p1 : Int32} {st : g_St} {cb sb : Nat} {Q : Option Nat → g_St → Prop} (hret : ∀ (pc : Nat) (lv : List (Nat × Value)) (v : Option Nat) (st1 : g_St) (cb sb : Nat), decode cJ1_delete pc = .ok (.areturn, 1) → Q v st1 → g_J p l e R s m args below meth c 3 E st0 Z pc lv [va_rf v] st1 cb sb) (hvc : vc_J1_delete l E a0 p0 p1 st Q) : g_J p l e R s m args below meth c 3 E st0 Z 0 [(0, va_rf (some a0)), (1, .int p0), (2, .int p1)] [] st cb sb := by
  unfold vc_J1_delete at hvc
  refine j_aload_n hC dJ1_delete_0 rfl 0 rfl ?_
  refine j_iload_n hC dJ1_delete_1 rfl 1 rfl ?_
  refine j_iload_n hC dJ1_delete_2 rfl 2 rfl ?_
  obtain ⟨⟨fs, hr⟩, hvc⟩ := hvc
  refine j_callSU (As := [.int p0, .int p1]) (rest := []) (n := 2) (ci := 0) hC hvc (lw_SU q1810 q2473 q132 q1811 q42 q1812) (by decide +kernel) (g_rm hR rfl rfl) rfl hr rfl rfl (g_sum rfl) dJ1_delete_3 (Nat.zero_le _) (Nat.zero_le _) (g_Ka fun o1 st2 hv2 hx => ?_)
  replace hvc := hv2 hx; clear hx hv2
  clear hr fs
  refine j_pop hC dJ1_delete_6 g_c1 ?_
  refine j_aload_n hC dJ1_delete_7 rfl 0 rfl ?_
  exact hret _ _ _ _ _ _ dJ1_delete_8 hvc
theorem wk_J1_delete {l : Launch} {E : g_E} {a0 : Nat} {p0 : Int32} {p1 : Int32} {st : g_St} {mc ms : Nat} {Q : Option Nat → g_St → Prop} (hvc : vc_J1_delete l E a0 p0 p1 st Q) : wp_J1_delete l E mc ms [va_rf (some a0), .int p0, .int p1] st Q :=
  g_enter (lv0 := [(0, va_rf (some a0)), (1, .int p0), (2, .int p1)]) (plainFor_of_name (by decide +kernel)) (by simp [lv_args, g_c1, g_ci, g_cL]) (by simp [lg_sl, g_c1, g_ci, g_cL]) (fun p e s m args below meth c hC => wb_J1_delete hC ⟨Nat.le_refl _, Nat.le_refl _⟩ (fun pc lv v st1 cb sb hd hq => j_areturn hC rfl (by first | exact Or.inl ⟨_, rfl⟩ | exact Or.inr ⟨_, rfl⟩) hd (g_av hq)) hvc)
abbrev wp_J13_init (l : Launch) (E : g_E) (mc ms : Nat) (av : List Value) (st : g_St) (Q : g_St → Prop) : Prop := g_WPv l E yJ13_init cJ13_init 1 none 1 40 mc ms av st Q
def vc_J13_init (l : Launch) (E : g_E) (a0 : Nat) (st : g_St) (Q : g_St → Prop) : Prop :=
  Q st
set_option maxHeartbeats 4000000 in
theorem wb_J13_init {p : Program} {l : Launch} {e : Env} {R : Room} {s : State} {m : MethodId} {args : Array Value} {below : List Frame} {meth : Method} {c : Code} {E : g_E} {st0 : g_St} {Z : State → Prop} (hC : g_Cx p s m args meth c cJ13_init 1 "java/lang/Number" none "<init>" E st0) (hR : g_Rm 1 40 R) {a0 : Nat} {st : g_St} {cb sb : Nat} {Q : g_St → Prop} (hret : ∀ (pc : Nat) (lv : List (Nat × Value)) (st1 : g_St) (cb sb : Nat), decode cJ13_init pc = .ok (.return_, 1) → Q st1 → g_J p l e R s m args below meth c 1 E st0 Z pc lv [] st1 cb sb) (hvc : vc_J13_init l E a0 st Q) : g_J p l e R s m args below meth c 1 E st0 Z 0 [(0, va_rf (some a0))] [] st cb sb := by
  unfold vc_J13_init at hvc
  refine j_aload_n hC dJ13_init_0 rfl 0 rfl ?_
  refine j_objInit hC q1857 q99 q100 (Nat.le_trans (Nat.le_of_ble_eq_true rfl) hR.1) (Nat.le_trans (g_sumO rfl) hR.2) dJ13_init_1 ?_
  exact hret _ _ _ _ _ dJ13_init_4 hvc
theorem wk_J13_init {l : Launch} {E : g_E} {a0 : Nat} {st : g_St} {mc ms : Nat} {Q : g_St → Prop} (hvc : vc_J13_init l E a0 st Q) : wp_J13_init l E mc ms [va_rf (some a0)] st Q :=
  g_enter (lv0 := [(0, va_rf (some a0))]) (plainFor_of_name (by decide +kernel)) (by simp [lv_args, g_c1, g_ci, g_cL]) (by simp [lg_sl, g_c1, g_ci, g_cL]) (fun p e s m args below meth c hC => wb_J13_init hC ⟨Nat.le_refl _, Nat.le_refl _⟩ (fun pc lv st1 cb sb hd hq => j_return hC rfl hd ⟨rfl, hq⟩) hvc)
abbrev wp_J14_init (l : Launch) (E : g_E) (mc ms : Nat) (av : List Value) (st : g_St) (Q : g_St → Prop) : Prop := g_WPv l E yJ14_init cJ14_init 2 none 2 60 mc ms av st Q
def vc_J14_init (l : Launch) (E : g_E) (a0 : Nat) (p0 : Int32) (st : g_St) (Q : g_St → Prop) : Prop :=
  wp_J13_init l E 0 0 [va_rf (some a0)] st (fun stx => stx = st ∧ ∃ fs1 : List Value, st.2.1 a0 = some (.inr (2, fs1)) ∧ ∀ st2 : g_St, st2 = g_put st a0 (.inr (2, fs1.set 0 (.int p0))) → Q st2)
set_option maxHeartbeats 4000000 in
theorem wb_J14_init {p : Program} {l : Launch} {e : Env} {R : Room} {s : State} {m : MethodId} {args : Array Value} {below : List Frame} {meth : Method} {c : Code} {E : g_E} {st0 : g_St} {Z : State → Prop} (hC : g_Cx p s m args meth c cJ14_init 2 "java/lang/Integer" none "<init>" E st0) (hR : g_Rm 2 60 R) {a0 : Nat} {p0 : Int32} {st : g_St} {cb sb : Nat} {Q : g_St → Prop} (hret : ∀ (pc : Nat) (lv : List (Nat × Value)) (st1 : g_St) (cb sb : Nat), decode cJ14_init pc = .ok (.return_, 1) → Q st1 → g_J p l e R s m args below meth c 2 E st0 Z pc lv [] st1 cb sb) (hvc : vc_J14_init l E a0 p0 st Q) : g_J p l e R s m args below meth c 2 E st0 Z 0 [(0, va_rf (some a0)), (1, .int p0)] [] st cb sb := by
  unfold vc_J14_init at hvc
  refine j_aload_n hC dJ14_init_0 rfl 0 rfl ?_
  refine j_callI (As := []) (rest := []) (n := 0) hC hvc (lw_meth q1856) q55 q1854 q1855 rfl (by decide +kernel) (g_rm hR rfl rfl) rfl rfl (g_sum rfl) dJ14_init_1 (Nat.zero_le _) (Nat.zero_le _) (g_Kvp fun hv2 => ?_)
  replace hvc := hv2; clear hv2
  refine j_aload_n hC dJ14_init_4 rfl 0 rfl ?_
  refine j_iload_n hC dJ14_init_5 rfl 1 rfl ?_
  obtain ⟨fs1, hm, hvc⟩ := hvc
  refine j_putF hC fkJ14_205_J14 rfl dJ14_init_6 hm rfl rfl (fun st2 e1 => ?_)
  replace hvc := hvc st2 e1; clear hm e1
  exact hret _ _ _ _ _ dJ14_init_9 hvc
theorem wk_J14_init {l : Launch} {E : g_E} {a0 : Nat} {p0 : Int32} {st : g_St} {mc ms : Nat} {Q : g_St → Prop} (hvc : vc_J14_init l E a0 p0 st Q) : wp_J14_init l E mc ms [va_rf (some a0), .int p0] st Q :=
  g_enter (lv0 := [(0, va_rf (some a0)), (1, .int p0)]) (plainFor_of_name (by decide +kernel)) (by simp [lv_args, g_c1, g_ci, g_cL]) (by simp [lg_sl, g_c1, g_ci, g_cL]) (fun p e s m args below meth c hC => wb_J14_init hC ⟨Nat.le_refl _, Nat.le_refl _⟩ (fun pc lv st1 cb sb hd hq => j_return hC rfl hd ⟨rfl, hq⟩) hvc)
abbrev wp_J14_valueOf (l : Launch) (E : g_E) (mc ms : Nat) (av : List Value) (st : g_St) (Q : Option Nat → g_St → Prop) : Prop := g_WPa l E yJ14_valueOf cJ14_valueOf 1 (some (.object "java/lang/Integer")) 3 81 mc ms av st Q
def vc_J14_valueOf (l : Launch) (E : g_E) (p0 : Int32) (st : g_St) (cb sb : Nat) (Q : Option Nat → g_St → Prop) : Prop :=
  g_jn0 (fun (K1 : Prop) => (p0 < (-128) → K1) ∧ (¬ p0 < (-128) → ((nI 127) < p0 → K1) ∧ (¬ (nI 127) < p0 → ∀ o8 : Option Nat, o8 = E.2.2.2.2.1 3 → ∃ a9 : Nat, o8 = some a9 ∧ ∃ (n10 : Nat) (f11 : Nat → Option Nat) (j12 : Nat), g_ar st a9 5 n10 f11 ∧ (p0 + (nI 128)) = nI j12 ∧ j12 < n10 ∧ j12 < 2 ^ 31 ∧ ∀ o13 : Option Nat, o13 = f11 j12 → Q o13 st))) (1 ≤ cb ∧ 1 ≤ sb ∧ ∀ (q3 : Nat) (st4 : g_St), q3 = st.2.2 → st4 = g_new st (.inr (2, [.int 0])) → wp_J14_init l E 0 0 [va_rf (some q3), .int p0] st4 (fun st5 => g_Ext st4 st5 → Q (some q3) st5))
set_option maxHeartbeats 4000000 in
theorem wb_J14_valueOf {p : Program} {l : Launch} {e : Env} {R : Room} {s : State} {m : MethodId} {args : Array Value} {below : List Frame} {meth : Method} {c : Code} {E : g_E} {st0 : g_St} {Z : State → Prop} (hC : g_Cx p s m args meth c cJ14_valueOf 1 "java/lang/Integer" (some (.object "java/lang/Integer")) "valueOf" E st0) (hR : g_Rm 3 81 R) {p0 : Int32} {st : g_St} {cb sb : Nat} {Q : Option Nat → g_St → Prop} (hret : ∀ (pc : Nat) (lv : List (Nat × Value)) (v : Option Nat) (st1 : g_St) (cb sb : Nat), decode cJ14_valueOf pc = .ok (.areturn, 1) → Q v st1 → g_J p l e R s m args below meth c 1 E st0 Z pc lv [va_rf v] st1 cb sb) (hvc : vc_J14_valueOf l E p0 st cb sb Q) : g_J p l e R s m args below meth c 1 E st0 Z 0 [(0, .int p0)] [] st cb sb := by
  unfold vc_J14_valueOf at hvc
  refine j_iload_n hC dJ14_valueOf_0 rfl 0 rfl ?_
  refine j_bipush hC (-128) dJ14_valueOf_1 rfl ?_
  replace hvc := g_jn0_o hvc
  obtain ⟨K1, hK14, hvc⟩ := hvc
  have kh2 : K1 → g_J p l e R s m args below meth c 1 E st0 Z 23 [(0, .int p0)] [] st cb sb := by
    clear hvc
    intro hvc
    replace hvc := hK14 hvc
    obtain ⟨h1, h2, hvc⟩ := hvc
    refine j_new hC nwJ14_1 dJ14_valueOf_23 (n := 1) rfl h1 h2 (fun q3 st4 e1 e2 => ?_)
    replace hvc := hvc q3 st4 e1 e2; clear h1 h2 e1 e2
    refine j_dup hC dJ14_valueOf_26 g_c1 ?_
    refine j_iload_n hC dJ14_valueOf_27 rfl 0 rfl ?_
    refine j_callI (As := [.int p0]) (rest := [va_rf (some q3)]) (n := 1) hC hvc (lw_meth q1853) q56 q1851 q1852 rfl (by decide +kernel) (g_rm hR rfl rfl) rfl rfl (g_sum rfl) dJ14_valueOf_28 (Nat.zero_le _) (Nat.zero_le _) (g_Kv fun st5 hv2 hx => ?_)
    replace hvc := hv2 hx; clear hx hv2
    exact hret _ _ _ _ _ _ dJ14_valueOf_31 hvc
  refine j_icmp_lt (tgt := 23) hC dJ14_valueOf_3 rfl (fun c6 => ?_) (fun c6 => ?_)
  · replace hvc := hvc.1 c6
    exact j_sub [0] rfl (kh2 hvc)
  · replace hvc := hvc.2 c6
    refine j_iload_n hC dJ14_valueOf_6 rfl 0 rfl ?_
    refine j_gets (v := .int (nI 127)) hC gs_1 q1846 (Or.inl rfl) dJ14_valueOf_7 ?_
    refine j_icmp_gt (tgt := 23) hC dJ14_valueOf_10 rfl (fun c7 => ?_) (fun c7 => ?_)
    · replace hvc := hvc.1 c7
      exact j_sub [0] rfl (kh2 hvc)
    · replace hvc := hvc.2 c7
      refine j_gets hC gs_2 q1848 (Or.inl rfl) dJ14_valueOf_13 ?_
      obtain ⟨o8, ho8⟩ : ∃ z : Option Nat, z = E.2.2.2.2.1 3 := ⟨_, rfl⟩
      rw [← ho8]
      replace hvc := hvc _ ho8
      refine j_iload_n hC dJ14_valueOf_16 rfl 0 rfl ?_
      refine j_sipush hC (nI 128) dJ14_valueOf_17 rfl ?_
      refine j_iadd hC dJ14_valueOf_20 ?_
      obtain ⟨a9, rfl, hvc⟩ := hvc
      obtain ⟨n10, f11, j12, hr, hi, hj, hJ, hvc⟩ := hvc
      replace hvc := hvc _ rfl
      refine j_ix hi ?_
      refine j_aald hC (by decide) hr hj hJ dJ14_valueOf_21 ?_
      generalize f11 j12 = o13 at hvc ⊢
      clear hr hi hj hJ
      exact hret _ _ _ _ _ _ dJ14_valueOf_22 hvc
theorem wk_J14_valueOf {l : Launch} {E : g_E} {p0 : Int32} {st : g_St} {mc ms : Nat} {Q : Option Nat → g_St → Prop} (hvc : vc_J14_valueOf l E p0 st mc ms Q) : wp_J14_valueOf l E mc ms [.int p0] st Q :=
  g_enter (lv0 := [(0, .int p0)]) (plainFor_of_name (by decide +kernel)) (by simp [lv_args, g_c1, g_ci, g_cL]) (by simp [lg_sl, g_c1, g_ci, g_cL]) (fun p e s m args below meth c hC => wb_J14_valueOf hC ⟨Nat.le_refl _, Nat.le_refl _⟩ (fun pc lv v st1 cb sb hd hq => j_areturn hC rfl (by first | exact Or.inl ⟨_, rfl⟩ | exact Or.inr ⟨_, rfl⟩) hd (g_av hq)) hvc)
abbrev wp_J24_equals (l : Launch) (E : g_E) (mc ms : Nat) (av : List Value) (st : g_St) (Q : Int32 → g_St → Prop) : Prop := g_WPi l E yJ24_equals cJ24_equals 2 (some .boolean) 1 40 mc ms av st Q
def vc_J24_equals (l : Launch) (E : g_E) (p0 : Option Nat) (p1 : Option Nat) (st : g_St) (Q : Int32 → g_St → Prop) : Prop :=
  g_jn1 (fun (K2 : Int32 → Prop) => (p0 = p1 → K2 (nI 1)) ∧ (¬ p0 = p1 → (p0 = none → K2 (nI 0)) ∧ (∀ a6 : Nat, p0 = some a6 → False))) (fun (x1 : Int32) => narrow .boolean (.int x1) = .int x1 ∧ Q x1 st)
set_option maxHeartbeats 4000000 in
theorem wb_J24_equals {p : Program} {l : Launch} {e : Env} {R : Room} {s : State} {m : MethodId} {args : Array Value} {below : List Frame} {meth : Method} {c : Code} {E : g_E} {st0 : g_St} {Z : State → Prop} (hC : g_Cx p s m args meth c cJ24_equals 2 "java/util/Objects" (some .boolean) "equals" E st0) (hR : g_Rm 1 40 R) {p0 : Option Nat} {p1 : Option Nat} {st : g_St} {cb sb : Nat} {Q : Int32 → g_St → Prop} (hret : ∀ (pc : Nat) (lv : List (Nat × Value)) (v : Int32) (st1 : g_St) (cb sb : Nat), decode cJ24_equals pc = .ok (.ireturn, 1) → narrow .boolean (.int v) = .int v → Q v st1 → g_J p l e R s m args below meth c 2 E st0 Z pc lv [.int v] st1 cb sb) (hvc : vc_J24_equals l E p0 p1 st Q) : g_J p l e R s m args below meth c 2 E st0 Z 0 [(0, va_rf p0), (1, va_rf p1)] [] st cb sb := by
  unfold vc_J24_equals at hvc
  refine j_aload_n hC dJ24_equals_0 rfl 0 rfl ?_
  refine j_aload_n hC dJ24_equals_1 rfl 1 rfl ?_
  replace hvc := g_jn1_o hvc
  obtain ⟨K2, hK7, hvc⟩ := hvc
  have kh3 : ∀ (x1 : Int32), K2 x1 → g_J p l e R s m args below meth c 2 E st0 Z 22 [] [.int x1] st cb sb := by
    clear hvc
    intro x1 hvc
    replace hvc := hK7 _ hvc
    exact hret _ _ _ _ _ _ dJ24_equals_22 hvc.1 hvc.2
  refine j_acmp_eq (tgt := 17) hC dJ24_equals_2 rfl (fun c4 => ?_) (fun c4 => ?_)
  · replace hvc := hvc.1 c4
    refine j_iconst hC (nI 1) dJ24_equals_17 rfl ?_
    refine j_goto (tgt := 22) hC dJ24_equals_18 rfl ?_
    exact j_sub [] rfl (kh3 (nI 1) hvc)
  · replace hvc := hvc.2 c4
    refine j_aload_n hC dJ24_equals_5 rfl 0 rfl ?_
    refine j_ifnull (tgt := 21) hC dJ24_equals_6 rfl (fun c5 => ?_) (fun a6 c5 => ?_)
    · subst c5; replace hvc := hvc.1 rfl
      refine j_iconst hC (nI 0) dJ24_equals_21 rfl ?_
      exact j_sub [] rfl (kh3 (nI 0) hvc)
    · subst c5; replace hvc := hvc.2 a6 rfl
      refine j_aload_n hC dJ24_equals_9 rfl 0 rfl ?_
      refine j_aload_n hC dJ24_equals_10 rfl 1 rfl ?_
      exact hvc.elim
theorem wk_J24_equals {l : Launch} {E : g_E} {p0 : Option Nat} {p1 : Option Nat} {st : g_St} {mc ms : Nat} {Q : Int32 → g_St → Prop} (hvc : vc_J24_equals l E p0 p1 st Q) : wp_J24_equals l E mc ms [va_rf p0, va_rf p1] st Q :=
  g_enter (lv0 := [(0, va_rf p0), (1, va_rf p1)]) (plainFor_of_name (by decide +kernel)) (by simp [lv_args, g_c1, g_ci, g_cL]) (by simp [lg_sl, g_c1, g_ci, g_cL]) (fun p e s m args below meth c hC => wb_J24_equals hC ⟨Nat.le_refl _, Nat.le_refl _⟩ (fun pc lv v st1 cb sb hd hn hq => j_ireturn hC rfl hn hd (g_iv hq)) hvc)
