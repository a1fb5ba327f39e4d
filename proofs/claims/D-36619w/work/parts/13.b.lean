section GB13
variable {p : Program} {l : Launch} {e : Env} {R : Room} {s : State} {m : MethodId} {args : Array Value} {below : List Frame} {meth : Method} {c : Code} {cc : ByteArray} {nL : Nat} {own : String} {ret : Option FieldType} {nm : String} {E : g_E} {st0 : g_St} {Z : State → Prop} {pc : Nat} {lv lv0 : List (Nat × Value)} {rest : List Value} {st : g_St} {cb sb : Nat} {index : Nat}
theorem j_ldcw (hC : g_Cx p s m args meth c cc nL own ret nm E st0) (v : Int32) (hq : Cond.constant own index v ∈ lw_all) (hd : decode cc pc = .ok (.ldc_w index, 3)) (k : g_J p l e R s m args below meth c nL E st0 Z (pc + 3) lv (.int v :: rest) st cb sb) : g_J p l e R s m args below meth c nL E st0 Z pc lv rest st cb sb := j_pure (fun _ _ _ _ _ _ => lv_ldcw hC.x hC.b hC.ow (hC.ts _ hq) hd) k
theorem j_mmin (hC : g_Cx p s m args meth c cc nL own ret nm E st0) {x y : Int32} (q1 : Cond.methodLink own index Lib.Math.min.name ∈ lw_all) (hf : 1 ≤ R.frames) (hr : (rest.map fun v => v.category).sum + 13 ≤ R.locals) (hd : decode cc pc = .ok (.invokestatic index, 3)) (k : g_J p l e R s m args below meth c nL E st0 Z (pc + 3) lv (.int (if y < x then y else x) :: rest) st cb sb) : g_J p l e R s m args below meth c nL E st0 Z pc lv (.int y :: .int x :: rest) st cb sb :=
  fun H locs ls cells slots k1 k2 k3 k4 k5 k6 => va_mmin hC.x hC.b (by rw [hC.ml]; exact k1.1.symm) hC.ow (hC.ts _ q1) (hC.ts _ q304) (hC.ts _ q58) (hC.ts _ q305) hf hr (Nat.le_trans (Nat.le_add_right _ _) k5) (Nat.le_trans (Nat.le_add_right _ _) k6) hd (k H locs ls cells slots k1 k2 k3 k4 k5 k6)
theorem j_mmax (hC : g_Cx p s m args meth c cc nL own ret nm E st0) {x y : Int32} (q1 : Cond.methodLink own index Lib.Math.max.name ∈ lw_all) (hf : 1 ≤ R.frames) (hr : (rest.map fun v => v.category).sum + 13 ≤ R.locals) (hd : decode cc pc = .ok (.invokestatic index, 3)) (k : g_J p l e R s m args below meth c nL E st0 Z (pc + 3) lv (.int (if x < y then y else x) :: rest) st cb sb) : g_J p l e R s m args below meth c nL E st0 Z pc lv (.int y :: .int x :: rest) st cb sb :=
  fun H locs ls cells slots k1 k2 k3 k4 k5 k6 => va_mmax hC.x hC.b (by rw [hC.ml]; exact k1.1.symm) hC.ow (hC.ts _ q1) (hC.ts _ q286) (hC.ts _ q58) (hC.ts _ q287) hf hr (Nat.le_trans (Nat.le_add_right _ _) k5) (Nat.le_trans (Nat.le_add_right _ _) k6) hd (k H locs ls cells slots k1 k2 k3 k4 k5 k6)
theorem g_sumM {vs : List Value} {k : Nat} (h : Nat.ble (2 * vs.length + 13) k = true) : (vs.map fun v => v.category).sum + 13 ≤ k := Nat.le_trans (Nat.add_le_add_right (g_cat2 vs) 13) (Nat.le_of_ble_eq_true h)
theorem g_sum17 {vs : List Value} {k : Nat} (h : (vs.map fun v => v.category).sum + 32 ≤ k) : (vs.map fun v => v.category).sum + 17 ≤ k := by omega
theorem j_getU (hC : g_Cx p s m args meth c cc nL own ret nm E st0) {want : FieldType} {n1 md : String} (hw : want = .long ∨ want = .int) (hdesc : parseMethodDescriptor md = some { parameters := [.object "java/lang/Object", .long], returnType := some want }) {row : NativeRow} (hrow : NativeRow.find? p.tables.natives "jdk/internal/misc/Unsafe" n1 md = some row)
    (hsem : ∀ (b a : Nat) (off : Int64), row.sem #[.ref b, .ref a, .long off] = (do let v ← UnsafeMem.get want (.ref a) off .plain; mark "nat.jdk_internal_misc_Unsafe.get"; Pure.pure (some v)))
    (q1 : Cond.methodLink own index ⟨"jdk/internal/misc/Unsafe", n1, md⟩ ∈ lw_all) (q2 : Cond.native ⟨"jdk/internal/misc/Unsafe", n1, md⟩ ∈ lw_all) (q3 : Cond.instanceMethod ⟨"jdk/internal/misc/Unsafe", n1, md⟩ ∈ lw_all) (q4 : Cond.selects "jdk/internal/misc/Unsafe" ⟨"jdk/internal/misc/Unsafe", n1, md⟩ ⟨"jdk/internal/misc/Unsafe", n1, md⟩ ∈ lw_all)
    {a b n j : Nat} {f : Nat → Int32} {off : Int64} (hr : g_Rd st a (.inl (1, n, .inl f))) (hu : some b = E.2.2.2.2.1 5) (h0 : off = Int64.ofNat (16 + j)) (hj : j + UnsafeMem.scaleOf want ≤ n ∧ 8 ≤ n) (hn : n < 2 ^ 31) (hfr : 1 ≤ R.frames) (hlo : (rest.map fun v => v.category).sum + 17 ≤ R.locals) (hd : decode cc pc = .ok (.invokevirtual index, 3))
    (K : g_J p l e R s m args below meth c nL E st0 Z (pc + 3) lv (UnsafeMem.ofBits want (g_pk f j (UnsafeMem.scaleOf want)) :: rest) st cb sb) : g_J p l e R s m args below meth c nL E st0 Z pc lv (.long off :: va_rf (some a) :: va_rf (some b) :: rest) st cb sb := by
  intro H locs ls cells slots k1 k2 k3 k4 k5 k6
  obtain ⟨cell, s1, s2, s3, s4, s5, s6, s7, s9, s8⟩ := k2.rd hr
  obtain ⟨b', u1, u2⟩ := hC.zz.2.1
  have e0 : b = b' := Option.some.inj (hu.trans u1)
  subst e0
  obtain ⟨cB, o1, o2, o3, -⟩ := (u2.narrow (fun _ h => hC.O.base h)).kept k4.2.1
  obtain ⟨hs6, k0, hk0, cm0, hkk0⟩ := g_arr (hC.A (t := 1) (by decide)) s2 s3
  intro T hT X
  obtain ⟨vm', X', step⟩ := g_unsafe (rest := rest) (off := off) (a := a) (v := UnsafeMem.ofBits want (g_pk f j (UnsafeMem.scaleOf want))) X hC.x hC.ow (hC.ts _ q1) (hC.ts _ q2) (hC.ts _ q3) (hC.ts _ q4) hdesc hrow (b := b) (cellB := cB) (by rw [hT]; exact o1) (fun k h => by rw [h] at o2; cases o2) o3
    (fun u hu hA Q hq => by
      obtain ⟨k9, hk9, he9⟩ := hA.2.2 _ _ hk0
      rw [hsem]
      simp only [wp_bind']
      refine g_unsGet (f := f) (j := j) (n := n) hw (A := cell) (k := k9) (comp := cm0) (by rw [hu, hT]; exact s1) s3 s4 ?_ hk9 (by rw [he9]; exact hkk0) h0 (by have := hj.1; omega) (fun z hz => s8 (j + z) (by have := hj.1; show _ < n; omega)) fun d' acts' => ?_
      · exact s9 rfl hj.2
      · simp
        exact hq _ _)
    (g := F0 m pc ls (.long off :: .ref a :: .ref b :: rest)) rfl (by rw [hC.ml, ← k1.1]) rfl (by rw [hC.b]; exact hd) hfr (by show 2 * 0 + _ + _ ≤ _; omega)
  obtain ⟨t, a1, b1⟩ := K H locs ls cells slots k1 k2 k3 k4 k5 k6 (T.setVm vm') hT X'
  exact ⟨t, step t a1, b1⟩
theorem j_getLong (hC : g_Cx p s m args meth c cc nL own ret nm E st0) {fr lo : Nat} (q1 : Cond.methodLink own index ⟨"jdk/internal/misc/Unsafe", "getLong", "(Ljava/lang/Object;J)J"⟩ ∈ lw_all) {a b n j : Nat} {f : Nat → Int32} {off : Int64} (hr : g_Rd st a (.inl (1, n, .inl f))) (hu : some b = E.2.2.2.2.1 5) (hg : g_getL off n f j) (hfr : 1 ≤ R.frames) (hlo : (rest.map fun v => v.category).sum + 32 ≤ R.locals) (hd : decode cc pc = .ok (.invokevirtual index, 3))
    (K : g_J p l e R s m args below meth c nL E st0 Z (pc + 3) lv (.long (g_getLv f j) :: rest) st cb sb) : g_J p l e R s m args below meth c nL E st0 Z pc lv (.long off :: va_rf (some a) :: va_rf (some b) :: rest) st cb sb :=
  j_getU hC (want := .long) (Or.inl rfl) (by decide +kernel) (g_rowL p) (fun _ _ _ => rfl) q1 q701 q699 q700 hr hu hg.1 hg.2.1 hg.2.2 hfr (g_sum17 hlo) hd K
theorem j_getInt (hC : g_Cx p s m args meth c cc nL own ret nm E st0) {fr lo : Nat} (q1 : Cond.methodLink own index ⟨"jdk/internal/misc/Unsafe", "getInt", "(Ljava/lang/Object;J)I"⟩ ∈ lw_all) {a b n j : Nat} {f : Nat → Int32} {off : Int64} (hr : g_Rd st a (.inl (1, n, .inl f))) (hu : some b = E.2.2.2.2.1 5) (hg : g_getI off n f j) (hfr : 1 ≤ R.frames) (hlo : (rest.map fun v => v.category).sum + 32 ≤ R.locals) (hd : decode cc pc = .ok (.invokevirtual index, 3))
    (K : g_J p l e R s m args below meth c nL E st0 Z (pc + 3) lv (.int (g_getIv f j) :: rest) st cb sb) : g_J p l e R s m args below meth c nL E st0 Z pc lv (.long off :: va_rf (some a) :: va_rf (some b) :: rest) st cb sb :=
  j_getU hC (want := .int) (Or.inr rfl) (by decide +kernel) (g_rowI p) (fun _ _ _ => rfl) q1 q706 q704 q705 hr hu hg.1 hg.2.1 hg.2.2 hfr (g_sum17 hlo) hd K
set_option maxRecDepth 1000000 in
set_option maxHeartbeats 4000000 in
theorem g_pf_getLongUnaligned : plainFor yJ25_getLongUnaligned = true := by decide +kernel
set_option maxRecDepth 1000000 in
set_option maxHeartbeats 4000000 in
theorem g_pf_getIntUnaligned : plainFor yJ25_getIntUnaligned = true := by decide +kernel

theorem g_callUX {T : State} {locs : List Loc} {cells slots : Nat} (X : Stand p l e R s m args below meth c T locs cells slots) (hexec : p.tables.exec = Jvm.exec) {C I J n1 d1 : String} {count : Nat} {y : MethodName} {bytes : ByteArray} {maxL : Nat} {rt : Option FieldType}
    (hown : s.vm.findClass own = some m.cls) (hU : g_UXw own index C I J n1 d1 y s) (hsel : (Cond.selects C ⟨J, n1, d1⟩ y).before args s = true) (hinst : (Cond.instanceMethod y).before args s = true) (hcode : (Cond.code y bytes maxL rt).before args s = true)
    (hIJ : I ≠ J) (hI : I ≠ "java/lang/invoke/MethodHandle" ∧ I ≠ "java/lang/invoke/VarHandle") (hJ : J ≠ "java/lang/invoke/MethodHandle" ∧ J ≠ "java/lang/invoke/VarHandle")
    {W : Nat} {Pre : Pt → Array Value → Prop} {Post : Pt → Array Value → Option Value → Pt → Prop} (hK : Back l R p e below s args y 5 W Pre Post)
    {b : Addr} {cellB : Cell} {kB : Class} (hcell : T.heap[b]? = some cellB) (hobj : cellB.vm.isStatics = false) (hcls : s.vm.findClass C = some cellB.cls) (hkB : s.vm.classes[cellB.cls]? = some kB)
    {g : JFrame} (hg : g.method = m) (hsize : g.locals.size = c.maxLocals) {argsL : List Value} (hlen : ∀ sig, parseMethodDescriptor d1 = some sig → argsL.length = sig.parameters.length)
    (hstack : g.stack = argsL.reverse ++ .ref b :: rest) (hW : 2 * g.monitorRoom + (rest.map fun v => v.category).sum ≤ W) (hdg : decode c.code g.pc = .ok (.invokeinterface index count, 5))
    (hpre : ∀ vm₁, s.WarmedH vm₁ → Pre ⟨T.setVm vm₁, locs, cells, slots⟩ (Value.ref b :: argsL).toArray) :
    ∃ (v : Option Value) (vm₁ : Vm) (B : Pt), s.WarmedH vm₁ ∧ Stand p l e R s m args below meth c B.U B.locs B.cells B.slots ∧ Post ⟨T.setVm vm₁, locs, cells, slots⟩ (Value.ref b :: argsL).toArray v B ∧
      ∀ target, Steps p.tables e below (B.U.setTop { g with pc := g.pc + 5, stack := v.toList ++ rest }) target → Steps p.tables e below (T.setTop g) target := by
  obtain ⟨u1, u2, u3, u4, u5, u6, u7⟩ := hU
  obtain ⟨r0, r, hn, hrm, hstR, hsigR⟩ := Cond.declares_spec u3
  obtain ⟨cL, kL, r1, hcL, hkL, hiL, hfoundL, hn1⟩ := Cond.interfaceMethod_spec u2
  cases hn.symm.trans hn1
  obtain ⟨hnameR, hdescR⟩ := name_of_methodNamed hn hrm
  obtain ⟨mk, methM, hnamed, hmethM, -, habM⟩ := Cond.instanceMethod_spec hinst
  obtain ⟨c2, r2, m2, q1, q2, q3, q4, -⟩ := Cond.selects_spec hsel
  cases hcls.symm.trans q1
  cases (State.methodFound?_of_named hn hJ).symm.trans q2
  cases hnamed.symm.trans q3
  have hselP : selectMethod e.platform s.vm cellB.cls r0 = .method mk := by rw [Launch.admits_selectMethod X.admits]; exact q4
  have hpubM : hasFlag methM.accessFlags Acc.public_ = true := Cond.publicMethod_spec hnamed hmethM u5
  have hway : ((cellB.cls :: s.vm.superclasses cellB.cls).any fun k => (declaredIn s.vm r.name r.desc k).any fun (_, z) => z.isPrivate || z.isStatic) = false := by
    rw [hnameR, hdescR]; exact Cond.unhidden_spec hcls u6
  obtain ⟨c3, t3, w1, w2, w3⟩ := Cond.castable_spec u7
  cases hcls.symm.trans w1
  cases hcL.symm.trans w2
  obtain ⟨vm₁, X₁, hstep₁⟩ := X.invokeinterfaceUp hexec (J := J) (x := ⟨I, n1, d1⟩) hown (va_any rfl u1) (va_any rfl u2) (va_any rfl u3) (va_any rfl u4) hIJ hI (a := b) (cell := cellB) (kcell := kB) hcL hcell
    (fun z h => by rw [h] at hobj; cases hobj) hkB w3 hn hrm hselP hmethM hway hpubM habM (g := g) hg (argsL := argsL) (rest := rest) (hlen _ hsigR) hstack hdg
  obtain ⟨v, B, X', hpost, hsteps⟩ := hK m meth c ⟨T.setVm vm₁, locs, cells, slots⟩ { g with stack := rest } (.invokeinterface index count) mk (Value.ref b :: argsL).toArray X₁ hg hsize hdg hW (X₁.named hnamed) (hpre vm₁ X₁.warmed)
  exact ⟨v, vm₁, B, X₁.warmed, X', hpost, fun target h => hstep₁ _ fun acts => by rw [doInvoke_state]; exact hsteps.trans h⟩
theorem j_callUX {C I J n1 d1 : String} {T : u_T} {N ci maxL fr lo mc ms n b count : Nat} {y : MethodName} {bytes : ByteArray} {rt : Option FieldType} {As fs stk : List Value} {Qc : Option Value → g_St → Prop} (hC : g_Cx p s m args meth c cc nL own ret nm E st0) (hU : g_UXw own index C I J n1 d1 y s) (hM : g_WP l E y bytes maxL rt fr lo mc ms (va_rf (some b) :: As) st Qc) (hw : GoodIn lw_all (ws_ y bytes maxL rt)) (q1 : Cond.selects C ⟨J, n1, d1⟩ y ∈ lw_all) (q2 : Cond.instanceMethod y ∈ lw_all) (q4 : Cond.initialized y.cls ∈ lw_all) (hIJ : I ≠ J) (hI : I ≠ "java/lang/invoke/MethodHandle" ∧ I ≠ "java/lang/invoke/VarHandle") (hJ : J ≠ "java/lang/invoke/MethodHandle" ∧ J ≠ "java/lang/invoke/VarHandle") (hdd : (parseMethodDescriptor d1).map (fun d => d.parameters.length) = some n) (hR : fr + 1 ≤ R.frames ∧ 8 + (maxL + 11) + lo ≤ R.locals) (hc : g_cl[ci]? = some (C, T, N)) (hr : g_Rd st b (.inr (ci, fs))) (hn : As.length = n) (hs : stk = As.reverse ++ va_rf (some b) :: rest) (hk : (rest.map fun v => v.category).sum ≤ 8) (hd : decode cc pc = .ok (.invokeinterface index count, 5)) (h1 : mc ≤ cb) (h2 : ms ≤ sb)
    (K : ∀ (v : Option Value) (st' : g_St), Qc v st' → g_Ext st st' → g_J p l e R s m args below meth c nL E st0 Z (pc + 5) lv (v.toList ++ rest) st' (cb - mc) (sb - ms)) : g_J p l e R s m args below meth c nL E st0 Z pc lv stk st cb sb := by
  refine j_run5 (rest := rest) (av := (Value.ref b :: As).toArray) (fun H locs ls cells slots k1 k2 k3 k4 k5 => ?_) h1 h2 K
  obtain ⟨cellB, hcB, hoB, hclB⟩ := g_recv hC k2 hr hc
  obtain ⟨hfc, kB, hkB, -⟩ := (hC.K.1 ci _ hc).2
  have ecl : E.1 ci = cellB.cls := Option.some.inj (hfc.symm.trans hclB)
  have hkB : s.vm.classes[cellB.cls]? = some kB := by rw [← ecl]; exact hkB
  have hcd : Cond.code y bytes maxL rt ∈ ws_ y bytes maxL rt := List.mem_cons_self
  have hK : Back l R p e below s args y 5 8 (PreOf R mc ms (va_Pc (va_rf (some b) :: As) (fun U => g_Own E st U.heap ∧ g_T E U ∧ g_Z E U U.heap))) (PostOf (g_Q E st Qc) mc ms (g_A st)) :=
    back_of (bytes := bytes) (maxL := maxL) (ret := rt) hM g_blind rfl rfl hR.1 hR.2 (pay_in hC.ts hw) hcd (fun a' U hW => word_at hW (Or.inl (by first | rfl | simp [Cond.onTables, Cond.keeps, Cond.steady])) (hC.ts _ q4))
  intro T hT X
  have hlen : ∀ sig, parseMethodDescriptor d1 = some sig → As.length = sig.parameters.length := fun sig h => by
    have h3 := hdd
    rw [h] at h3
    exact hn.trans (Option.some.inj h3).symm
  obtain ⟨v, vm₁, ⟨U', l2, c2, s2⟩, hW₁, X', ⟨g', mk, t, L, e1, e2, hq, z1, hL, z2, z3⟩, stp⟩ := g_callUX X hC.x (bytes := bytes) (maxL := maxL) (rt := rt) hC.ow hU (hC.ts _ q1) (hC.ts _ q2) (hC.ts _ (hw _ hcd).1) hIJ hI hJ hK (b := b) (by rw [hT]; exact hcB) hoB hclB hkB (g := F0 m pc ls stk) rfl (k1.1.trans hC.ml.symm) (argsL := As) (rest := rest) hlen (by subst hs; rfl) (lv_room hk) (by rw [hC.b]; exact hd)
    (fun vm₁ hW₁ => ⟨k5.1, k5.2, g_pre hC k2 k4 _ (T.setVm vm₁) hT hW₁⟩)
  dsimp only [Pt.U, Pt.locs, Pt.cells, Pt.slots] at X' e1 e2 z1 z2 z3 stp
  subst z1; subst z2; subst z3
  exact ⟨v, (T.setVm vm₁).calling g' mk (Value.ref b :: As).toArray, t, U', L, hT, X', hL, e1, e2, hq, stp⟩
theorem j_callFX_size {fr lo mc ms b : Nat} {fs : List Value} {Qc : Option Value → g_St → Prop} {stk : List Value} {nL : Nat} (hC : g_Cx p s m args meth c cc nL "Stemspan" ret nm E st0) (hM : g_WP l E yJ28_size cJ28_size 1 (some .int) fr lo mc ms [va_rf (some b)] st Qc) (hR : fr + 1 ≤ R.frames ∧ 8 + (1 + 11) + lo ≤ R.locals) (hr : g_Rd st b (.inr (5, fs))) (hs : stk = va_rf (some b) :: rest) (hk : (rest.map fun v => v.category).sum ≤ 8) {count : Nat} (hd : decode cc pc = .ok (.invokeinterface 128 count, 5)) (h1 : mc ≤ cb) (h2 : ms ≤ sb)
    (K : ∀ (v : Option Value) (st' : g_St), Qc v st' → g_Ext st st' → g_J p l e R s m args below meth c nL E st0 Z (pc + 5) lv (v.toList ++ rest) st' (cb - mc) (sb - ms)) : g_J p l e R s m args below meth c nL E st0 Z pc lv stk st cb sb :=
  j_callUX (As := []) (n := 0) (ci := 5) hC hC.T.2.2.2.2.2.1 hM (lw_meth q891) q887 q889 q74 (by decide) (by decide) (by decide) (by decide +kernel) hR rfl hr rfl hs hk hd h1 h2 K
theorem j_callFX_clear {fr lo mc ms b : Nat} {fs : List Value} {Qc : Option Value → g_St → Prop} {stk : List Value} {nL : Nat} (hC : g_Cx p s m args meth c cc nL "Stemspan" ret nm E st0) (hM : g_WP l E yJ4_clear cJ4_clear 1 none fr lo mc ms [va_rf (some b)] st Qc) (hR : fr + 1 ≤ R.frames ∧ 8 + (1 + 11) + lo ≤ R.locals) (hr : g_Rd st b (.inr (5, fs))) (hs : stk = va_rf (some b) :: rest) (hk : (rest.map fun v => v.category).sum ≤ 8) {count : Nat} (hd : decode cc pc = .ok (.invokeinterface 202 count, 5)) (h1 : mc ≤ cb) (h2 : ms ≤ sb)
    (K : ∀ (v : Option Value) (st' : g_St), Qc v st' → g_Ext st st' → g_J p l e R s m args below meth c nL E st0 Z (pc + 5) lv (v.toList ++ rest) st' (cb - mc) (sb - ms)) : g_J p l e R s m args below meth c nL E st0 Z pc lv stk st cb sb :=
  j_callUX (As := []) (n := 0) (ci := 5) hC hC.T.2.2.2.2.2.2.1 hM (lw_meth q1406) q1402 q1404 q46 (by decide) (by decide) (by decide) (by decide +kernel) hR rfl hr rfl hs hk hd h1 h2 K
end GB13
