/-! BASE 15: methods with an exception table -/
section GB15
variable {p : Program} {l : Launch} {e : Env} {R : Room} {s : State} {m : MethodId} {args : Array Value} {below : List Frame} {meth : Method} {c : Code} {cc : ByteArray} {nL : Nat} {own : String} {ret : Option FieldType} {nm : String} {E : g_E} {st0 : g_St} {Z : State → Prop} {pc : Nat} {lv lv0 : List (Nat × Value)} {rest stk : List Value} {st : g_St} {cb sb : Nat} {index : Nat}
/-- a method with handlers, called with av in st, returns -/
def g_WPW (l : Launch) (E : g_E) (y : MethodName) (cc : ByteArray) (nL : Nat) (ret : Option FieldType) (hh : List (Nat × Nat × Nat × Nat)) (fr lo mc ms : Nat) (av : List Value) (st : g_St) (Q : Option Value → g_St → Prop) : Prop :=
  Met l y (wsW_ y cc nL ret hh) { frames := fr, cells := mc, slots := ms, locals := lo } (va_Pc av (fun U => g_Own E st U.heap ∧ g_T E U ∧ g_Z E U U.heap)) (g_Q E st Q) mc ms (g_A st)
theorem g_WPW.mono {y : MethodName} {hh : List (Nat × Nat × Nat × Nat)} {fr lo mc ms : Nat} {av : List Value} {Q Q' : Option Value → g_St → Prop} (h : g_WPW l E y cc nL ret hh fr lo mc ms av st Q) (hq : ∀ v st', g_Ext st st' → Q v st' → Q' v st') : g_WPW l E y cc nL ret hh fr lo mc ms av st Q' := by
  intro p e a1 a2 a3 s m args below a4 a5 a6 a7
  obtain ⟨k, o, h1, h2, h3, ⟨v, st', r1, r2, r3, r4⟩, h4⟩ := h p e a1 a2 a3 s m args below a4 a5 a6 a7
  exact ⟨k, o, h1, h2, h3, ⟨v, st', r1, hq v st' r3 r2, r3, r4⟩, h4⟩
theorem g_enterW {y : MethodName} {rt : Option FieldType} {hh : List (Nat × Nat × Nat × Nat)} {fr lo mc ms : Nat} {av : List Value} {Q : Option Value → g_St → Prop} (hy : plainName y.cls = true) (hlv : lv_args 0 av = lv0) (hle : (lg_sl av).length ≤ nL)
    (body : ∀ (p : Program) (e : Env) (s : State) (m : MethodId) (args : Array Value) (below : List Frame) (meth : Method) (c : Code), g_Cx p s m args meth c cc nL y.cls rt y.name E st → c.exceptionTable.toList = tableOf hh → g_J p l e { frames := fr, cells := mc, slots := ms, locals := lo } s m args below meth c nL E st (MQ below (g_Q E st Q) args s mc ms (g_A st)) 0 lv0 [] st mc ms) : g_WPW l E y cc nL rt hh fr lo mc ms av st Q := by
  refine va_MetW (cc := cc) (maxL := nL) (ret := rt) (hh := hh) hy rfl ?_
  intro p e s m args below meth c s₁ B hml hv
  obtain ⟨rfl, hO, hT, hZ⟩ := hv
  have hts0 := atoms_spec (ws := wsW_ y cc nL rt hh) B.pre
  have hts : ∀ w ∈ lw_all, w.before _ s = true := fun w h => hts0 w (List.mem_cons_of_mem _ h)
  have htab : c.exceptionTable.toList = tableOf hh := vx_table (x := y) B (hts0 _ List.mem_cons_self)
  have hC : g_Cx p s m av.toArray meth c cc nL y.cls rt y.name E st := ⟨B.exec, B.bytes, hml, findClass_of_methodNamed B.named, hts, B.notSynchronized, B.returns, (name_of_methodNamed B.named B.method).1, hT, hZ, hO⟩
  have hl := lv_entry av (n := nL) hle
  rw [lg_entry_eq]
  rw [hlv] at hl
  exact body p e s m av.toArray below meth c hC htab s.heap [] _ 0 0 hl hO g_Ext.rf va_S.rf (Nat.le_of_eq (Nat.zero_add mc)) (Nat.le_of_eq (Nat.zero_add ms))
theorem j_callVW {C : String} {T : u_T} {N ci maxL fr lo mc ms n b : Nat} {y : MethodName} {bytes : ByteArray} {rt : Option FieldType} {hh : List (Nat × Nat × Nat × Nat)} {As fs : List Value} {Qc : Option Value → g_St → Prop} (hC : g_Cx p s m args meth c cc nL own ret nm E st0) (hM : g_WPW l E y bytes maxL rt hh fr lo mc ms (va_rf (some b) :: As) st Qc) (hw : GoodIn lw_all (wsV own index C y (wsW_ y bytes maxL rt hh))) (hy : y.cls = C ∧ y.cls ≠ "java/lang/invoke/MethodHandle" ∧ y.cls ≠ "java/lang/invoke/VarHandle" ∧ (parseMethodDescriptor y.desc).map (fun d => d.parameters.length) = some n) (hR : fr + 1 ≤ R.frames ∧ 8 + (maxL + 11) + lo ≤ R.locals) (hc : g_cl[ci]? = some (C, T, N)) (hr : g_Rd st b (.inr (ci, fs))) (hn : As.length = n) (hs : stk = As.reverse ++ va_rf (some b) :: rest) (hk : (rest.map fun v => v.category).sum ≤ 8) (hd : decode cc pc = .ok (.invokevirtual index, 3)) (h1 : mc ≤ cb) (h2 : ms ≤ sb)
    (K : ∀ (v : Option Value) (st' : g_St), Qc v st' → g_Ext st st' → g_J p l e R s m args below meth c nL E st0 Z (pc + 3) lv (v.toList ++ rest) st' (cb - mc) (sb - ms)) : g_J p l e R s m args below meth c nL E st0 Z pc lv stk st cb sb :=
  j_run (fun H locs ls cells slots k1 k2 k3 k4 k5 => vx_runVW (b := b) (rest := rest) ⟨hC.x, hC.b, hC.ml, hC.ow, hC.ts⟩ hM (vx_cwVW n hC.ts hw rfl rfl rfl hy hR) ⟨g_blind, g_recv hC k2 hr hc, g_pre hC k2 k4 _⟩ rfl hn k1.1 (by subst hs; rfl) (lv_room hk) hd k5) h1 h2 K
theorem j_callSW {maxL fr lo mc ms n : Nat} {y : MethodName} {bytes : ByteArray} {rt : Option FieldType} {hh : List (Nat × Nat × Nat × Nat)} {As : List Value} {Qc : Option Value → g_St → Prop} (hC : g_Cx p s m args meth c cc nL own ret nm E st0) (hM : g_WPW l E y bytes maxL rt hh fr lo mc ms As st Qc) (hw : GoodIn lw_all (va_wsS own index y (wsW_ y bytes maxL rt hh))) (hy : y.cls ≠ "java/lang/invoke/MethodHandle" ∧ y.cls ≠ "java/lang/invoke/VarHandle" ∧ (parseMethodDescriptor y.desc).map (fun d => d.parameters.length) = some n) (hR : fr + 1 ≤ R.frames ∧ 8 + (maxL + 11) + lo ≤ R.locals) (hn : As.length = n) (hs : stk = As.reverse ++ rest) (hk : (rest.map fun v => v.category).sum ≤ 8) (hd : decode cc pc = .ok (.invokestatic index, 3)) (h1 : mc ≤ cb) (h2 : ms ≤ sb)
    (K : ∀ (v : Option Value) (st' : g_St), Qc v st' → g_Ext st st' → g_J p l e R s m args below meth c nL E st0 Z (pc + 3) lv (v.toList ++ rest) st' (cb - mc) (sb - ms)) : g_J p l e R s m args below meth c nL E st0 Z pc lv stk st cb sb :=
  j_run (fun H locs ls cells slots k1 k2 k3 k4 k5 => vx_runSW (rest := rest) ⟨hC.x, hC.b, hC.ml, hC.ow, hC.ts⟩ hM (vx_cwSW n hC.ts hw rfl rfl rfl hy hR) ⟨g_blind, g_pre hC k2 k4 _⟩ rfl hn k1.1 (by subst hs; rfl) (lv_room hk) hd k5) h1 h2 K
def g_WPWi (l : Launch) (E : g_E) (y : MethodName) (cc : ByteArray) (nL : Nat) (rt : Option FieldType) (hh : List (Nat × Nat × Nat × Nat)) (fr lo mc ms : Nat) (av : List Value) (st : g_St) (Q : Int32 → g_St → Prop) : Prop := g_WPW l E y cc nL rt hh fr lo mc ms av st (fun v st' => ∃ r : Int32, v = some (.int r) ∧ Q r st')
def g_WPWv (l : Launch) (E : g_E) (y : MethodName) (cc : ByteArray) (nL : Nat) (rt : Option FieldType) (hh : List (Nat × Nat × Nat × Nat)) (fr lo mc ms : Nat) (av : List Value) (st : g_St) (Q : g_St → Prop) : Prop := g_WPW l E y cc nL rt hh fr lo mc ms av st (fun v st' => v = none ∧ Q st')
end GB15
