/-! BASE 17: methods that return or throw -/
section GB17
variable {p : Program} {l : Launch} {e : Env} {R : Room} {s : State} {m : MethodId} {args : Array Value} {below : List Frame} {meth : Method} {c : Code} {cc : ByteArray} {nL : Nat} {own : String} {ret : Option FieldType} {nm : String} {E : g_E} {st0 : g_St} {Z : State → Prop} {pc : Nat} {lv lv0 : List (Nat × Value)} {rest stk : List Value} {st : g_St} {cb sb : Nat} {index : Nat}
theorem g_Ext.grow {st : g_St} {n : Nat} (h : st.2.2 ≤ n) : g_Ext st (st.1, st.2.1, n) := ⟨h, fun _ _ h => h, fun _ _ h => h, fun _ _ _ h => h⟩
theorem g_Own.grow {st : g_St} {H H1 : Heap} (h : g_Own E st H) (hz : H.size ≤ H1.size) (oq : ∀ q : Nat, q < H.size → H1[q]? = H[q]?) : g_Own E (st.1, st.2.1, H1.size) H1 := by
  obtain ⟨h1, h2, h3, h4⟩ := h
  refine ⟨rfl, ?_, fun a o ha => ?_, fun a o ha => ?_⟩
  · show E.2.2.2.1 ≤ H1.size
    omega
  · have k := h3 a o ha
    exact k.kept (oq a k.lt)
  · obtain ⟨k1, k2, k3⟩ := h4 a o ha
    exact ⟨k1.kept (oq a k1.fz.lt), k2, k3⟩
/-- what is so where a method has thrown -/
def g_XC (E : g_E) (st : g_St) (X : String → g_St → Prop) : String → State → State → Prop := fun C s0 t => ∃ (st1 : g_St) (n : Nat), X C st1 ∧ st1.2.2 ≤ n ∧ g_Ext st (st1.1, st1.2.1, n) ∧ g_Own E (st1.1, st1.2.1, n) t.heap ∧ va_F (g_A st) s0 t
def g_WPX (l : Launch) (E : g_E) (y : MethodName) (cc : ByteArray) (nL : Nat) (ret : Option FieldType) (fr lo mc ms : Nat) (av : List Value) (st : g_St) (Q : Option Value → g_St → Prop) (X : String → g_St → Prop) : Prop :=
  vx_Met l y (ws_ y cc nL ret) { frames := fr, cells := mc, slots := ms, locals := lo } (va_Pc av (fun U => g_Own E st U.heap ∧ g_T E U ∧ g_Z E U U.heap)) (g_Q E st Q) (g_XC E st X) mc ms (g_A st)
theorem g_WPX.mono {y : MethodName} {fr lo mc ms : Nat} {av : List Value} {Q Q' : Option Value → g_St → Prop} {X X' : String → g_St → Prop} (h : g_WPX l E y cc nL ret fr lo mc ms av st Q X) (hq : ∀ v st', g_Ext st st' → Q v st' → Q' v st') (hx : ∀ C st', X C st' → X' C st') : g_WPX l E y cc nL ret fr lo mc ms av st Q' X' := by
  intro p e a1 a2 a3 s m args below a4 a5 a6 a7
  obtain ⟨k, o, h1, h2, h3, h4⟩ := h p e a1 a2 a3 s m args below a4 a5 a6 a7
  refine ⟨k, o, h1, h2, h3, ?_⟩
  rcases h4 with ⟨⟨v, st', r1, r2, r3, r4⟩, h5⟩ | ⟨q, h5, C, ce, L, ⟨st1, n, r1, r2⟩, h6⟩
  · exact Or.inl ⟨⟨v, st', r1, hq v st' r3 r2, r3, r4⟩, h5⟩
  · exact Or.inr ⟨q, h5, C, ce, L, ⟨st1, n, hx C st1 r1, r2⟩, h6⟩
theorem j_xret {Qc : Array Value → State → Outcome → State → Prop} {XC : String → State → State → Prop} {mc ms : Nat} {free : Addr → Prop} (h : g_J p l e R s m args below meth c nL E st0 (MQ below Qc args s mc ms free) pc lv stk st cb sb) : g_J p l e R s m args below meth c nL E st0 (vx_MQ below Qc XC args s mc ms free) pc lv stk st cb sb :=
  fun H locs ls cells slots k1 k2 k3 k4 k5 k6 => vx_ret (h H locs ls cells slots k1 k2 k3 k4 k5 k6)
theorem g_enterX {y : MethodName} {rt : Option FieldType} {fr lo mc ms : Nat} {av : List Value} {Q : Option Value → g_St → Prop} {X : String → g_St → Prop} (hy : plainName y.cls = true) (hlv : lv_args 0 av = lv0) (hle : (lg_sl av).length ≤ nL)
    (body : ∀ (p : Program) (e : Env) (s : State) (m : MethodId) (args : Array Value) (below : List Frame) (meth : Method) (c : Code), g_Cx p s m args meth c cc nL y.cls rt y.name E st → (∀ x ∈ c.exceptionTable.toList, False) → g_J p l e { frames := fr, cells := mc, slots := ms, locals := lo } s m args below meth c nL E st (vx_MQ below (g_Q E st Q) (g_XC E st X) args s mc ms (g_A st)) 0 lv0 [] st mc ms) : g_WPX l E y cc nL rt fr lo mc ms av st Q X := by
  refine vx_ofW (cc := cc) (maxL := nL) (ret := rt) hy rfl ?_
  intro p e s m args below meth c s₁ B hml ht hv
  obtain ⟨rfl, hO, hT, hZ⟩ := hv
  have hts := atoms_spec (ws := ws_ y cc nL rt) B.pre
  have hts : ∀ w ∈ lw_all, w.before _ s = true := fun w h => hts w (List.mem_cons_of_mem _ h)
  have hC : g_Cx p s m av.toArray meth c cc nL y.cls rt y.name E st := ⟨B.exec, B.bytes, hml, findClass_of_methodNamed B.named, hts, B.notSynchronized, B.returns, (name_of_methodNamed B.named B.method).1, hT, hZ, hO⟩
  have hl := lv_entry av (n := nL) hle
  rw [lg_entry_eq]
  rw [hlv] at hl
  exact body p e s m av.toArray below meth c hC ht s.heap [] _ 0 0 hl hO g_Ext.rf va_S.rf (Nat.le_of_eq (Nat.zero_add mc)) (Nat.le_of_eq (Nat.zero_add ms))
/-- throw new E() -/
theorem j_throw0 {fr lo mc ms : Nat} {Q : Option Value → g_St → Prop} {X : String → g_St → Prop} (hC : g_Cx p s m args meth c cc nL own ret nm E st0) (hl : l.stackTraces = false) {cls : String} {names : List String} {ik ic : Nat} (hfit : Bundle.fit cls = true ∧ ∀ n ∈ names, Bundle.fit n = true) (hk : Cond.classLink own ik cls ∈ lw_all) (hini : Cond.initialized cls ∈ lw_all) (hat : ∀ w ∈ vx_at0 own ic cls names, w ∈ lw_all ∨ (w ∈ g_ext ∧ w.onTables = true))
    (hgood : ∀ w ∈ Cond.classLink own ik cls :: Cond.initialized cls :: vx_at0 own ic cls names, vx_ot w = true) (ht : ∀ x ∈ c.exceptionTable.toList, False)
    (d0 : decode cc pc = .ok (.new ik, 3)) (d3 : decode cc (pc + 3) = .ok (.dup, 1)) (d4 : decode cc (pc + 4) = .ok (.invokespecial ic, 3)) (d7 : decode cc (pc + 7) = .ok (.athrow, 1)) (hf : names.length + 3 < fr) (hlo : 13 * (names.length + 1) + 42 ≤ lo) (hcb : 1 ≤ cb) (hsb : 6 ≤ sb) (hq : X cls st) :
    g_J p l e { frames := fr, cells := mc, slots := ms, locals := lo } s m args below meth c nL E st0 (vx_MQ below (g_Q E st0 Q) (g_XC E st0 X) args s mc ms (g_A st0)) pc lv [] st cb sb := by
  intro H locs ls cells slots k1 k2 k3 k4 k5 k6
  have k5 : cells + cb ≤ mc := k5
  have k6 : slots + sb ≤ ms := k6
  refine vx_throw0 hC.x hC.b hl hC.ow hfit.1 hfit.2 (hC.ts _ hk) (hC.ts _ hini) (fun w hw => ?_) hgood (hC.zz.2.2.1.narrow fun _ h => hC.O.base h) (hC.zz.2.2.2.narrow fun _ h => hC.O.base h) k4 (by rw [hC.ml]; exact k1.1) d0 d3 d4 d7 (fun x hx => (ht x hx).elim) hf (by show 0 + _ ≤ lo; omega) (by show cells + 1 ≤ mc; omega) (by show slots + 6 ≤ ms; omega) hC.lk (fun t ha hz oq => ?_) k4.2.2 (by omega) (by omega)
  · rcases hat w hw with h | h
    · exact hC.ts _ h
    · exact va_Nw.use h.2 (hC.T.2.2.1 _ h.1)
  · refine ⟨st, t.heap.size, hq, by rw [← k2.1]; exact hz, k3.tr (g_Ext.grow (by rw [← k2.1]; exact hz)), k2.grow hz oq, Nat.le_trans k4.1 hz, fun q h1 h2 => ?_⟩
    rw [oq q (Nat.lt_of_lt_of_le h1 k4.1)]
    exact k4.2.1 q h1 h2
/-- the frame at pc with q, of class C, thrown over it -/
def g_JX (p : Program) (l : Launch) (e : Env) (R : Room) (s : State) (m : MethodId) (args : Array Value) (below : List Frame) (meth : Method) (c : Code) (nL : Nat) (E : g_E) (st0 : g_St) (Z : State → Prop) (C : String) (q pc : Nat) (lv : List (Nat × Value)) (stk : List Value) (st : g_St) (cb sb : Nat) : Prop :=
  ∀ (H : Heap) (locs : List Loc) (ls : Array Slot) (cells slots : Nat) (ce : Cell), lv_has ls nL lv → g_Own E st H → g_Ext st0 st → va_S (g_A st0) s.heap H locs → cells + cb ≤ R.cells → slots + sb ≤ R.slots → H[q]? = some ce → ce.vm = .none → s.vm.findClass C = some ce.cls → vx_W p l e R s m args below meth c H locs cells slots Z (F0 m pc ls stk) q
theorem j_catch (hC : g_Cx p s m args meth c cc nL own ret nm E st0) {C name : String} {q : Nat} {hh : List (Nat × Nat × Nat × Nat)} (htab : c.exceptionTable.toList = tableOf hh) (pre : List ExceptionTableEntry) (x : ExceptionTableEntry) (suf : List ExceptionTableEntry) (hsplit : tableOf hh = pre ++ x :: suf)
    (hpass : ∀ z ∈ pre, z.catchType ≠ 0 ∧ ∃ nm1 : String, Cond.classLink own z.catchType nm1 ∈ lw_all ∧ (C, nm1) ∈ g_nc) (hx : covers x pc = true) (h0 : x.catchType ≠ 0) (hlink : Cond.classLink own x.catchType name ∈ lw_all) (hcast : Cond.castable C name ∈ g_ext)
    (K : g_J p l e R s m args below meth c nL E st0 Z x.handlerPc lv [va_rf (some q)] st cb sb) : g_JX p l e R s m args below meth c nL E st0 Z C q pc lv rest st cb sb := by
  intro H locs ls cells slots ce k1 k2 k3 k4 k5 k6 k7 k8 k9
  exact vx_catch hC.ow pre x suf (htab.trans hsplit) (fun z hz => Or.inr ⟨(hpass z hz).1, by obtain ⟨-, n1, h1, h2⟩ := hpass z hz; exact ⟨n1, hC.ts _ h1, hC.T.2.2.2.2.2.2.2 _ h2⟩⟩) hx h0 (hC.ts _ hlink) (va_Nw.use rfl (hC.T.2.2.1 _ hcast)) k7 k8 k9 (K H locs ls cells slots k1 k2 k3 k4 k5 k6)
theorem j_callVX {C : String} {T : u_T} {N ci maxL fr lo mc ms n b : Nat} {y : MethodName} {bytes : ByteArray} {rt : Option FieldType} {As fs : List Value} {Qc : Option Value → g_St → Prop} {X : String → g_St → Prop} (hC : g_Cx p s m args meth c cc nL own ret nm E st0) (hM : g_WPX l E y bytes maxL rt fr lo mc ms (va_rf (some b) :: As) st Qc X) (hw : GoodIn lw_all (wsV own index C y (ws_ y bytes maxL rt))) (hy : y.cls = C ∧ y.cls ≠ "java/lang/invoke/MethodHandle" ∧ y.cls ≠ "java/lang/invoke/VarHandle" ∧ (parseMethodDescriptor y.desc).map (fun d => d.parameters.length) = some n) (hR : fr + 1 ≤ R.frames ∧ 8 + (maxL + 11) + lo ≤ R.locals) (hc : g_cl[ci]? = some (C, T, N)) (hr : g_Rd st b (.inr (ci, fs))) (hn : As.length = n) (hs : stk = As.reverse ++ va_rf (some b) :: rest) (hk : (rest.map fun v => v.category).sum ≤ 8) (hd : decode cc pc = .ok (.invokevirtual index, 3)) (h1 : mc ≤ cb) (h2 : ms ≤ sb)
    (KX : ∀ (C1 : String) (q : Nat) (st1 : g_St) (n1 : Nat), X C1 st1 → st1.2.2 ≤ n1 → g_Ext st (st1.1, st1.2.1, n1) → g_JX p l e R s m args below meth c nL E st0 Z C1 q pc lv rest (st1.1, st1.2.1, n1) (cb - mc) (sb - ms))
    (K : ∀ (v : Option Value) (st' : g_St), Qc v st' → g_Ext st st' → g_J p l e R s m args below meth c nL E st0 Z (pc + 3) lv (v.toList ++ rest) st' (cb - mc) (sb - ms)) : g_J p l e R s m args below meth c nL E st0 Z pc lv stk st cb sb := by
  intro H locs ls cells slots k1 k2 k3 k4 k5 k6 T hT X
  have hrun := vx_runV (e := e) (b := b) (rest := rest) ⟨hC.x, hC.b, hC.ml, hC.ow, hC.ts⟩ hM (cwV n hC.ts hw rfl rfl rfl hy hR) ⟨g_blind, g_recv hC k2 hr hc, g_pre hC k2 k4 _⟩ (g := F0 m pc ls stk) rfl hn k1.1 (by subst hs; rfl) (lv_room hk) hd (cells := cells) (slots := slots) (locs := locs) (below := below) (meth := meth) ⟨by omega, by omega⟩
  rcases hrun T hT X with ⟨v, st₀, t, T', L, h0, X', hL, e1, e2, hq, stp⟩ | ⟨q, st₀, t, T', L, C1, ce, h0, X', hL, e1, e2, ⟨st1, n1, hx, hn1, hxt, hown, hF⟩, hce, hcv, hcl, stp⟩
  · obtain ⟨st', r2, r3, r4, r5, r6⟩ := g_after (mc := mc) (ms := ms) k3 k4 h0 hL e1 hq
    obtain ⟨t2, a1, b1⟩ := K v st' r2 r3 T'.heap (locs ++ L) ls (cells + mc) (slots + ms) k1 r4 r5 r6 (by omega) (by omega) T' rfl X'
    exact ⟨t2, stp t2 a1, b1⟩
  · have hS : va_S (g_A st0) s.heap T'.heap (locs ++ L) := by
      refine ⟨by rw [e1]; exact Nat.le_trans k4.1 (by rw [← h0]; exact hF.1), fun q h1 h2 => ?_, fun q hq => ?_⟩
      · rw [e1, hF.2 q (by rw [h0]; exact Nat.lt_of_lt_of_le h1 k4.1) (fun z => h2 (g_A.mono k3 z)), h0]
        exact k4.2.1 q h1 h2
      · rcases List.mem_append.mp hq with h | h
        · exact k4.2.2 q h
        · exact g_A.mono k3 (hL q h)
    obtain ⟨t2, a1, b1⟩ := KX C1 q st1 n1 hx hn1 hxt T'.heap (locs ++ L) ls (cells + mc) (slots + ms) ce k1 (by rw [e1]; exact hown) (k3.tr hxt) hS (by omega) (by omega) (by rw [e1]; exact hce) hcv hcl T' rfl X'
    exact ⟨t2, stp.trans a1, b1⟩
end GB17
