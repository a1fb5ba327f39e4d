/-! BASE 12: Math.min, Math.max, ldc_w, Unsafe.getLong, Unsafe.getInt -/
section GB12
set_option maxRecDepth 1000000 in
set_option maxHeartbeats 4000000 in
theorem g_rowL (p : Program) : NativeRow.find? p.tables.natives "jdk/internal/misc/Unsafe" "getLong" "(Ljava/lang/Object;J)J" = some (Native.jdk_internal_misc_Unsafe.memory.getRow "Long" "J" .long "" .plain) := by
  cases p <;> rfl
set_option maxRecDepth 1000000 in
set_option maxHeartbeats 4000000 in
theorem g_rowI (p : Program) : NativeRow.find? p.tables.natives "jdk/internal/misc/Unsafe" "getInt" "(Ljava/lang/Object;J)I" = some (Native.jdk_internal_misc_Unsafe.memory.getRow "Int" "I" .int "" .plain) := by
  cases p <;> rfl
/-- n bytes from place j on as one number, the lowest first -/
def g_pk (f : Nat → Int32) : Nat → Nat → Nat
  | _, 0 => 0
  | j, n + 1 => (f j).toUInt32.toNat % 256 + 256 * g_pk f (j + 1) n
def g_getL (off : Int64) (n : Nat) (f : Nat → Int32) (j : Nat) : Prop := off = Int64.ofNat (16 + j) ∧ (j + 8 ≤ n ∧ 8 ≤ n) ∧ n < 2 ^ 31
def g_getLv (f : Nat → Int32) (j : Nat) : Int64 := (g_pk f j 8).toUInt64.toInt64
def g_getI (off : Int64) (n : Nat) (f : Nat → Int32) (j : Nat) : Prop := off = Int64.ofNat (16 + j) ∧ (j + 4 ≤ n ∧ 8 ≤ n) ∧ n < 2 ^ 31
def g_getIv (f : Nat → Int32) (j : Nat) : Int32 := (g_pk f j 4).toUInt32.toInt32
theorem g_off {off : Int64} {j : Nat} (h : off = Int64.ofNat (16 + j)) (hj : j < 2 ^ 31) : ¬ off < 0 ∧ off.toNatClampNeg = 16 + j := by
  subst h
  have h1 : (Int64.ofNat (16 + j)).toInt = ((16 + j : Nat) : Int) := Int64.toInt_ofNat_of_lt (by omega)
  refine ⟨?_, ?_⟩
  · rw [Int64.lt_iff_toInt_lt, h1]
    show ¬ (_ : Int) < 0
    omega
  · show (Int64.ofNat (16 + j)).toInt.toNat = _
    rw [h1]
    rfl
def g_sm : Nat → List Nat → Nat
  | _, [] => 0
  | k, b :: bs => b * 2 ^ (8 * k) + g_sm (k + 1) bs
theorem g_sm_z : ∀ (bs : List Nat) (k : Nat), (List.map (fun (x : Nat × Nat) => x.fst * 2 ^ (8 * x.snd)) (bs.zipIdx k)).sum = g_sm k bs
  | [], _ => rfl
  | b :: bs, k => by
    rw [List.zipIdx_cons, List.map_cons, List.sum_cons, g_sm_z bs (k + 1)]
    rfl
theorem g_sm_m : ∀ (n : Nat) (f : Nat → Int32) (j k : Nat), g_sm k ((List.range' j n).map fun z => (f z).toUInt32.toNat % 256) = 2 ^ (8 * k) * g_pk f j n
  | 0, _, _, _ => rfl
  | n + 1, f, j, k => by
    show (f j).toUInt32.toNat % 256 * 2 ^ (8 * k) + g_sm (k + 1) ((List.range' (j + 1) n).map fun z => (f z).toUInt32.toNat % 256) = 2 ^ (8 * k) * ((f j).toUInt32.toNat % 256 + 256 * g_pk f (j + 1) n)
    rw [g_sm_m n f (j + 1) (k + 1), show 8 * (k + 1) = 8 * k + 8 from rfl, Nat.pow_add, Nat.mul_add, Nat.mul_comm, Nat.mul_assoc]
theorem g_hloc {e : Env} {E : CtlPost} {d : Bool} {acts : List Action} {u : State} {want : FieldType} {a : Addr} {A : Cell} {k : Class} {comp : ClassId} {j : Nat} {off : Int64} {Q : UnsafeMem.Target → Pre} (hw : want = .long ∨ want = .int)
    (hA : u.heap[a]? = some A) (hv : A.vm.isStatics = false) (hm : ∀ c, A.vm ≠ .mirror c) (hk : u.vm.classes[A.cls]? = some k) (hkind : k.kind = .array comp .byte) (h1 : ¬ off < 0) (h2 : off.toNatClampNeg = 16 + j) : wp (UnsafeMem.locate (.ref a) off want) Q E e d acts u ↔ Q (UnsafeMem.Target.bytes a .byte j) d acts u := by
  rcases hw with rfl | rfl
  · cases hvm : A.vm <;> simp_all [UnsafeMem.locate, Cell.info, UnsafeMem.arrayBase, UnsafeMem.scaleOf, UnsafeMem.isRefType]
  · cases hvm : A.vm <;> simp_all [UnsafeMem.locate, Cell.info, UnsafeMem.arrayBase, UnsafeMem.scaleOf, UnsafeMem.isRefType]
theorem g_unsGet {e : Env} {E : CtlPost} {d : Bool} {acts : List Action} {u : State} {want : FieldType} {a : Addr} {A : Cell} {k : Class} {comp : ClassId} {j n : Nat} {off : Int64} {f : Nat → Int32} {Q : Value → Pre} (hw : want = .long ∨ want = .int)
    (hA : u.heap[a]? = some A) (hv : A.vm.isStatics = false) (hu : A.vm ≠ .unknown) (hm : ∀ c, A.vm ≠ .mirror c) (hk : u.vm.classes[A.cls]? = some k) (hkind : k.kind = .array comp .byte) (h0 : off = Int64.ofNat (16 + j)) (hj : j < 2 ^ 31)
    (hb : ∀ z : Nat, z < UnsafeMem.scaleOf want → A.slots[j + z]? = some (.int (f (j + z)))) (hQ : ∀ d' acts', Q (UnsafeMem.ofBits want (g_pk f j (UnsafeMem.scaleOf want))) d' acts' u) : wp (UnsafeMem.get want (.ref a) off .plain) Q E e d acts u := by
  obtain ⟨h1, h2⟩ := g_off h0 hj
  have hloc : ∀ (Q : UnsafeMem.Target → Pre) (d : Bool) (acts : List Action), wp (UnsafeMem.locate (.ref a) off want) Q E e d acts u ↔ Q (UnsafeMem.Target.bytes a .byte j) d acts u := fun Q d acts => g_hloc hw hA hv hm hk hkind h1 h2
  have hrd : ∀ (i : Nat) (x : Int32) (Q : Nat → Pre) (d : Bool) (acts : List Action), A.slots[i]? = some (.int x) → (∀ d' acts', Q (x.toUInt32.toNat % 256) d' acts' u) → wp (UnsafeMem.readByte a .byte i .plain) Q E e d acts u := by
    intro i x Q d acts hs hq
    have : ∀ k, A.vm ≠ .statics k := fun k hk => by rw [hk] at hv; cases hv
    simp [UnsafeMem.readByte, UnsafeMem.scaleOf, UnsafeMem.bitsOf, hA, hs, Nat.mod_one, hu, this]
    exact hq _ _
  rcases hw with rfl | rfl
  · have hr : List.range (UnsafeMem.scaleOf .long) = [0, 1, 2, 3, 4, 5, 6, 7] := rfl
    simp only [UnsafeMem.get, wp_bind', hloc, hr, List.mapM, List.mapM.loop, wp_pure']
    refine hrd _ _ _ _ _ (hb 0 (by decide)) fun _ _ => ?_
    simp only [wp_bind']
    refine hrd _ _ _ _ _ (hb 1 (by decide)) fun _ _ => ?_
    simp only [wp_bind']
    refine hrd _ _ _ _ _ (hb 2 (by decide)) fun _ _ => ?_
    simp only [wp_bind']
    refine hrd _ _ _ _ _ (hb 3 (by decide)) fun _ _ => ?_
    simp only [wp_bind']
    refine hrd _ _ _ _ _ (hb 4 (by decide)) fun _ _ => ?_
    simp only [wp_bind']
    refine hrd _ _ _ _ _ (hb 5 (by decide)) fun _ _ => ?_
    simp only [wp_bind']
    refine hrd _ _ _ _ _ (hb 6 (by decide)) fun _ _ => ?_
    simp only [wp_bind']
    refine hrd _ _ _ _ _ (hb 7 (by decide)) fun d' acts' => ?_
    have e2 : (List.map (fun (x : Nat × Nat) => x.fst * 2 ^ (8 * x.snd)) (([(f (j + 7)).toUInt32.toNat % 256, (f (j + 6)).toUInt32.toNat % 256, (f (j + 5)).toUInt32.toNat % 256, (f (j + 4)).toUInt32.toNat % 256, (f (j + 3)).toUInt32.toNat % 256, (f (j + 2)).toUInt32.toNat % 256, (f (j + 1)).toUInt32.toNat % 256, (f (j + 0)).toUInt32.toNat % 256] : List Nat).reverse).zipIdx).sum = g_pk f j 8 := by
      refine (g_sm_z _ 0).trans (Eq.trans ?_ (((g_sm_m 8 f j 0)).trans (Nat.one_mul _)))
      rfl
    simp only [wp_pure']
    rw [e2]
    exact hQ _ _
  · have hr : List.range (UnsafeMem.scaleOf .int) = [0, 1, 2, 3] := rfl
    simp only [UnsafeMem.get, wp_bind', hloc, hr, List.mapM, List.mapM.loop, wp_pure']
    refine hrd _ _ _ _ _ (hb 0 (by decide)) fun _ _ => ?_
    simp only [wp_bind']
    refine hrd _ _ _ _ _ (hb 1 (by decide)) fun _ _ => ?_
    simp only [wp_bind']
    refine hrd _ _ _ _ _ (hb 2 (by decide)) fun _ _ => ?_
    simp only [wp_bind']
    refine hrd _ _ _ _ _ (hb 3 (by decide)) fun d' acts' => ?_
    have e2 : (List.map (fun (x : Nat × Nat) => x.fst * 2 ^ (8 * x.snd)) (([(f (j + 3)).toUInt32.toNat % 256, (f (j + 2)).toUInt32.toNat % 256, (f (j + 1)).toUInt32.toNat % 256, (f (j + 0)).toUInt32.toNat % 256] : List Nat).reverse).zipIdx).sum = g_pk f j 4 := by
      refine (g_sm_z _ 0).trans (Eq.trans ?_ (((g_sm_m 4 f j 0)).trans (Nat.one_mul _)))
      rfl
    simp only [wp_pure']
    rw [e2]
    exact hQ _ _
variable {p : Program} {l : Launch} {e : Env} {R : Room} {s : State} {m : MethodId} {args : Array Value} {below : List Frame} {meth : Method} {c : Code} {cc : ByteArray} {nL : Nat} {own : String} {ret : Option FieldType} {nm : String} {E : g_E} {st0 : g_St} {Z : State → Prop} {pc : Nat} {lv lv0 : List (Nat × Value)} {rest : List Value} {st : g_St} {cb sb : Nat} {index : Nat}
/-- a native question of the Unsafe object -/
theorem g_unsafe {T : State} {locs : List Loc} {cells slots : Nat} (X : Stand p l e R s m args below meth c T locs cells slots) (hexec : p.tables.exec = Jvm.exec) {n1 md : String} {rt : Option FieldType} (hown : s.vm.findClass own = some m.cls)
    (hlink : (Cond.methodLink own index ⟨"jdk/internal/misc/Unsafe", n1, md⟩).before args s = true) (hnat : (Cond.native ⟨"jdk/internal/misc/Unsafe", n1, md⟩).before args s = true) (hinst : (Cond.instanceMethod ⟨"jdk/internal/misc/Unsafe", n1, md⟩).before args s = true)
    (hsel : (Cond.selects "jdk/internal/misc/Unsafe" ⟨"jdk/internal/misc/Unsafe", n1, md⟩ ⟨"jdk/internal/misc/Unsafe", n1, md⟩).before args s = true)
    (hdesc : parseMethodDescriptor md = some { parameters := [.object "java/lang/Object", .long], returnType := rt })
    {row : NativeRow} (hrow : NativeRow.find? p.tables.natives "jdk/internal/misc/Unsafe" n1 md = some row) {b a : Addr} {cellB : Cell} {off : Int64} {v : Value}
    (hcell : T.heap[b]? = some cellB) (hobj : ∀ k, cellB.vm ≠ .statics k) (hcls : s.vm.findClass "jdk/internal/misc/Unsafe" = some cellB.cls)
    (hw : ∀ (u : State), u.heap = T.heap → s.vm.Alike u.vm → ∀ Q : Option Value → Pre, (∀ d' acts', Q (some v) d' acts' u) → wp (row.sem #[.ref b, .ref a, .long off]) Q (fun _ _ _ => False) e false [] u)
    {g : JFrame} (hg : g.method = m) (hsize : g.locals.size = c.maxLocals) (hstack : g.stack = .long off :: .ref a :: .ref b :: rest) (hdg : decode c.code g.pc = .ok (.invokevirtual index, 3)) (hframes : 1 ≤ R.frames) (hlocals : 2 * g.monitorRoom + (rest.map fun v => v.category).sum + 17 ≤ R.locals) :
    ∃ vm', Stand p l e R s m args below meth c (T.setVm vm') locs cells slots ∧ ∀ target, Steps p.tables e below ((T.setVm vm').setTop { g with pc := g.pc + 3, stack := v :: rest }) target → Steps p.tables e below (T.setTop g) target := by
  obtain ⟨r, kO, methO, hnO, hmO, hkO, N⟩ := NativeOf.of_instance hnat hinst (ps := [.object "java/lang/Object", .long]) (ret := rt) hdesc
  obtain ⟨r', methO', hnO', hmO', -, habs⟩ := Cond.instanceMethod_spec hinst
  cases hnO.symm.trans hnO'
  cases hmO.symm.trans hmO'
  obtain ⟨c2, r2, m2, q1, q2, q3, q4, mk, hmk, hmki⟩ := Cond.selects_spec hsel
  cases hcls.symm.trans q1
  cases hnO.symm.trans q3
  cases hkO.symm.trans hmk
  have hr2 : r2 = r := Option.some.inj (q2.symm.trans (State.methodFound?_of_named (x := ⟨"jdk/internal/misc/Unsafe", n1, md⟩) hnO ⟨by show ("jdk/internal/misc/Unsafe" : String) ≠ _; decide, by show ("jdk/internal/misc/Unsafe" : String) ≠ _; decide⟩))
  subst hr2
  have hselP : selectMethod e.platform s.vm cellB.cls r2 = .method r2 := by rw [Launch.admits_selectMethod X.admits]; exact q4
  obtain ⟨vm', X', step⟩ := X.invokevirtual hexec hown hlink hnO hmO N.static hkO hmki ⟨by show ("jdk/internal/misc/Unsafe" : String) ≠ _; decide, by show ("jdk/internal/misc/Unsafe" : String) ≠ _; decide⟩ hcell hobj hselP hmO habs hkO hmki hg (argsL := [.ref a, .long off]) (rest := rest) (by rw [N.sig]; rfl) hstack hdg
  refine ⟨vm', X', fun target hrest => step target fun acts => ?_⟩
  subst hg
  obtain ⟨kO', N'⟩ := N.alike X'.warmed.alike
  have hseen : seenByNative methO #[.ref b, .ref a, .long off] = #[.ref b, .ref a, .long off] := by simp [seenByNative, N.static, N.sig, narrow]
  refine Steps.nativeEnds (g := { g with stack := rest }) (ig := .invokevirtual index) (len := 3) (row := row) (v := some v) (T := id) X'.here acts N'.cls N'.meth N'.boot N'.native N'.noCode N'.noLock
    (by rw [N'.className, N'.name, N'.desc]; exact hrow) (by rw [N'.className, N'.name]; exact X'.notFull (g := { g with stack := rest }) hsize (vars := nativeFrameWords "jdk/internal/misc/Unsafe" n1 4) hframes (by rw [show nativeFrameWords "jdk/internal/misc/Unsafe" n1 4 = 6 from rfl]; exact hlocals)) (fun _ => rfl) rfl (fun _ => X'.here.code) ?_ hdg hrest
  intro Q hq
  rw [show ((Value.ref b :: [.ref a, .long off]) : List Value).toArray = (#[.ref b, .ref a, .long off] : Array Value) from rfl] at hq ⊢
  rw [hseen] at hq ⊢
  refine hw _ ?_ ?_ Q hq
  · rfl
  · exact X'.warmed.alike
end GB12
