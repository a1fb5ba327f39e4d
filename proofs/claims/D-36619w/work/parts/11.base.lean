/-! BASE 0: a call through an interface that inherits the method -/
section GB0
variable {args : Array Value} {s : State} {vm' : Vm}
theorem g_linkI (h : s.Shifted vm') {cls : String} {x : MethodName} {index : Nat} (hl : (Cond.methodLink cls index x).before args s = true) : (Cond.methodLink cls index x).before args (s.setVm vm') = true := by
  have hfd := State.methodFound?_setVm h.1 x.cls x.name x.desc
  simp only [Cond.before, Cond.holds, Cond.value] at hl ⊢
  cases hme : s.memberEntry? cls index with
  | none => simp [hme] at hl
  | some me =>
    obtain ⟨ci, via⟩ := me
    cases hd : s.vm.findClass cls with
    | none => simp [hme, hd] at hl
    | some d =>
      cases hc : s.vm.findClass x.cls with
      | none => simp [hme, hd, hc] at hl
      | some c =>
        cases hfound : s.methodFound? x.cls x.name x.desc with
        | none => simp [hme, hd, hc, hfound] at hl
        | some m' =>
          rw [hfound] at hfd
          cases hcl : s.classLinks cls ci x.cls with
          | none => simp [hme, hd, hc, hfound, hcl] at hl
          | some linked =>
            cases hdk : s.vm.classes[d]? with
            | none => simp [hme, hd, hc, hfound, hcl, hdk] at hl
            | some dk =>
              cases hck : s.vm.classes[c]? with
              | none => simp [hme, hd, hc, hfound, hcl, hdk, hck] at hl
              | some ck =>
                cases hmk : s.vm.classes[m'.cls]? with
                | none => simp [hme, hd, hc, hfound, hcl, hdk, hck, hmk] at hl
                | some mk =>
                  cases hmeth : s.vm.method? m' with
                  | none => simp [hme, hd, hc, hfound, hcl, hdk, hck, hmk, hmeth] at hl
                  | some meth =>
                    simp only [hme, hd, hc, hfound, hcl, hdk, hck, hmk, hmeth, Option.bind_eq_bind, Option.bind_some, Option.pure_def, beq_iff_eq, bne_iff_ne, ne_eq, Option.some.injEq, Bool.and_eq_true, Option.isNone_iff_eq_none] at hl
                    obtain ⟨⟨⟨⟨⟨⟨⟨rfl, hnm⟩, ho⟩, hvia⟩, hx1⟩, hx2⟩, hml⟩, hacc⟩ := hl
                    obtain ⟨dk', hdk', hed⟩ := h.1.2.2 _ _ hdk
                    obtain ⟨ck', hck', hec⟩ := h.1.2.2 _ _ hck
                    obtain ⟨mk', hmk', hem⟩ := h.1.2.2 _ _ hmk
                    simp only [State.memberEntry?_setVm h.1, hme, State.vm_setVm, h.1.findClass, hd, hc, hfd, State.classLinks_shifted h hcl, hdk', hck', hmk', h.1.method?, hmeth, Option.bind_eq_bind, Option.bind_some, Option.pure_def, beq_iff_eq, bne_iff_ne, ne_eq,
                      Option.some.injEq, Bool.and_eq_true, Option.isNone_iff_eq_none]
                    have hright : s.rightAt d index (.method m') = true := by
                      have hn' := hnm
                      simp only [State.names, State.poolOf?, hd, hdk, Option.bind_eq_bind, Option.bind_some, Option.pure_def, decide_eq_true_eq] at hn'
                      cases hcf : dk.cf with
                      | none => simp [hcf] at hn'
                      | some cf =>
                        simp only [hcf, Option.bind_some] at hn'
                        simp [State.rightAt, hdk, hcf, hn', hfound]
                    refine ⟨⟨⟨⟨⟨⟨⟨trivial, by rw [State.names_setVm h.1]; exact hnm⟩, State.openOr_shifted h hd hright ho⟩, by rw [hec]; exact hvia⟩, hx1⟩, hx2⟩, by rw [hem]; exact hml⟩, ?_⟩
                    rw [plainAccess_alike h.1 hem hed, show ck'.isArray = ck.isArray from by rw [hec]; rfl]; exact hacc
theorem g_faceI (h : s.vm.Alike vm') {ref own name desc : String} : (Cond.interfaceMethod ref own name desc).before args (s.setVm vm') = (Cond.interfaceMethod ref own name desc).before args s := by
  simp only [Cond.before, Cond.holds, Cond.value, State.vm_setVm, h.findClass, State.methodFound?_setVm h, State.methodNamed?_setVm h, arm_isInterface_setVm h]
/-- the words that such a call asks -/
def g_UXw (own : String) (index : Nat) (C I J n d : String) (y : MethodName) (U : State) : Prop := (Cond.methodLink own index ⟨I, n, d⟩).before #[] U = true ∧ (Cond.interfaceMethod I J n d).before #[] U = true ∧ (Cond.declares ⟨J, n, d⟩).before #[] U = true ∧ (Cond.publicMethod ⟨J, n, d⟩).before #[] U = true ∧ (Cond.publicMethod y).before #[] U = true ∧ (Cond.unhidden C n d).before #[] U = true ∧ (Cond.castable C I).before #[] U = true
theorem g_UXw.set {own : String} {index : Nat} {C I J n d : String} {y : MethodName} (h : s.Shifted vm') (hx : g_UXw own index C I J n d y s) : g_UXw own index C I J n d y (s.setVm vm') := by
  obtain ⟨h1, h2, h3, h4, h5, h6, h7⟩ := hx
  exact ⟨g_linkI h h1, by rw [g_faceI h.1]; exact h2, by rw [Cond.declares_setVm h.1]; exact h3, by rw [Cond.publicMethod_setVm h.1]; exact h4, by rw [Cond.publicMethod_setVm h.1]; exact h5, by rw [Cond.unhidden_setVm h.1]; exact h6, by rw [Cond.castable_setVm h.1]; exact h7⟩
theorem g_UXw.same {own : String} {index : Nat} {C I J n d : String} {y : MethodName} {u U : State} (hv : u.vm = U.vm) (hx : g_UXw own index C I J n d y u) : g_UXw own index C I J n d y U := by
  obtain ⟨h1, h2, h3, h4, h5, h6, h7⟩ := hx
  exact ⟨va_tabs rfl hv h1, va_tabs rfl hv h2, va_tabs rfl hv h3, va_tabs rfl hv h4, va_tabs rfl hv h5, va_tabs rfl hv h6, va_tabs rfl hv h7⟩
theorem g_UXw.moved {own : String} {index : Nat} {C I J n d : String} {y : MethodName} {u U : State} (hW : u.WarmedH U.vm) (hx : g_UXw own index C I J n d y u) : g_UXw own index C I J n d y U :=
  g_UXw.same (u := u.setVm U.vm) rfl (g_UXw.set (State.Shifted.of_warmed hW) hx)
end GB0
/-! BASE 1: abstract states over the kit's W -/
section GB1
/-- an abstract object: an array (its type's number, its length and contents) or an object (its class's number, its fields) -/
abbrev g_Ob : Type := (Nat × vp_A) ⊕ (Nat × List Value)
abbrev g_H : Type := Nat → Option g_Ob
/-- frozen cells, mutable cells, the heap's size -/
abbrev g_St : Type := g_H × g_H × Nat
/-- class ids, slots, array class ids, base, reference statics, the small Integers' addresses -/
abbrev g_E : Type := (Nat → ClassId) × (Nat → Nat → Nat) × (Nat → ClassId) × Nat × (Nat → Option Nat) × (Nat → Nat)
def g_el (x : (Nat → Int32) ⊕ (Nat → Int64) ⊕ (Nat → UInt32) ⊕ (Nat → UInt64) ⊕ (Nat → Option Nat)) (j : Nat) : Value := match x with
  | .inl f => .int (f j)
  | .inr (.inl f) => .long (f j)
  | .inr (.inr (.inl f)) => .float (f j)
  | .inr (.inr (.inr (.inl f))) => .double (f j)
  | .inr (.inr (.inr (.inr f))) => va_rf (f j)
def g_ty : Nat → FieldType := fun t => match t with
  | 0 => .int
  | 1 => .byte
  | 2 => .char
  | 3 => .long
  | 4 => .object "java/lang/String"
  | _ => .object "java/lang/Integer"
abbrev g_tys (E : g_E) : List (ClassId × FieldType) := [(E.2.2.1 0, g_ty 0), (E.2.2.1 1, g_ty 1), (E.2.2.1 2, g_ty 2), (E.2.2.1 3, g_ty 3), (E.2.2.1 4, g_ty 4)]
theorem vp_cell_el (cA : ClassId) (x : vp_A) : vp_cell cA x = arrV cA x.1 (g_el x.2) := by
  obtain ⟨n, f | f | f | f | f⟩ := x <;> rfl
/-- a mutable cell -/
def g_at (E : g_E) (a : Nat) (o : g_Ob) (H : Heap) : Prop := match o with
  | .inl x => H[a]? = some (vp_cell (E.2.2.1 x.1) x.2) ∧ x.1 < 5
  | .inr y => ∃ r : vw_C, g_cl[y.1]? = some r ∧ t_OB a (E.1 y.1) r.2.2 (E.2.1 y.1) H (vp_V y.2) ∧ y.2.length = r.2.2
/-- a cell as it may be read -/
def g_fz (E : g_E) (a : Nat) (o : g_Ob) (H : Heap) : Prop := match o with
  | .inl x => ∃ cell : Cell, H[a]? = some cell ∧ cell.cls = E.2.2.1 x.1 ∧ cell.vm.isStatics = false ∧ cell.vm ≠ .unknown ∧ x.2.1 ≤ cell.slots.size ∧ cell.slots.size.toInt32 = Int32.ofNat x.2.1 ∧ x.1 < 6 ∧ (x.1 = 1 → 8 ≤ x.2.1 → ∀ k, cell.vm ≠ .mirror k) ∧ ∀ j : Nat, j < x.2.1 → cell.slots[j]? = some (g_el x.2.2 j)
  | .inr y => ∃ (cell : Cell) (r : vw_C), g_cl[y.1]? = some r ∧ H[a]? = some cell ∧ cell.cls = E.1 y.1 ∧ cell.vm.isStatics = false ∧ cell.vm ≠ .unknown ∧ ∀ (k : Nat) (v : Value), y.2[k]? = some v → k < r.2.2 ∧ cell.slots[E.2.1 y.1 k]? = some v
theorem g_at.fz {E : g_E} {a : Nat} {o : g_Ob} {H : Heap} (h : g_at E a o H) : g_fz E a o H := by
  cases o with
  | inl x =>
    obtain ⟨h, h5⟩ := h
    refine ⟨_, h, ?_, ?_, ?_, ?_, ?_, by omega, (by intro _ _ k; rw [vp_cell_el]; exact fun q => by cases q), ?_⟩
    · rw [vp_cell_el]; rfl
    · rw [vp_cell_el]; rfl
    · rw [vp_cell_el]; exact fun q => by cases q
    · rw [vp_cell_el, arrV_size]; exact Nat.le_refl _
    · rw [vp_cell_el, arrV_size] <;> rfl
    · intro j hj
      rw [vp_cell_el, arrV_read _ _ hj]
  | inr y =>
    obtain ⟨r, h1, ⟨cell, q1, q2, q3, q4⟩, h3⟩ := h
    refine ⟨cell, r, h1, q1, q2, by rw [q3]; rfl, by rw [q3]; exact fun q => (by cases q), fun k v hv => ?_⟩
    have hk : k < r.2.2 := by rw [← h3]; exact (List.getElem?_eq_some_iff.mp hv).1
    refine ⟨hk, ?_⟩
    rw [q4 k hk]
    simp [vp_V, hv]
theorem g_at.kept {E : g_E} {a : Nat} {o : g_Ob} {H H1 : Heap} (h : g_at E a o H) (hq : H1[a]? = H[a]?) : g_at E a o H1 := by
  cases o with
  | inl x => exact ⟨hq.trans h.1, h.2⟩
  | inr y =>
    obtain ⟨r, h1, h2, h3⟩ := h
    exact ⟨r, h1, h2.kept hq, h3⟩
theorem g_fz.kept {E : g_E} {a : Nat} {o : g_Ob} {H H1 : Heap} (h : g_fz E a o H) (hq : H1[a]? = H[a]?) : g_fz E a o H1 := by
  cases o with
  | inl x =>
    obtain ⟨cell, h1, h2⟩ := h
    exact ⟨cell, hq.trans h1, h2⟩
  | inr y =>
    obtain ⟨cell, r, h1, h2, h3⟩ := h
    exact ⟨cell, r, h1, hq.trans h2, h3⟩
theorem g_fz.lt {E : g_E} {a : Nat} {o : g_Ob} {H : Heap} (h : g_fz E a o H) : a < H.size := by
  cases o with
  | inl x =>
    obtain ⟨cell, h1, -⟩ := h
    exact (Array.getElem?_eq_some_iff.mp h1).1
  | inr y =>
    obtain ⟨cell, r, -, h1, -⟩ := h
    exact (Array.getElem?_eq_some_iff.mp h1).1
/-- the heap holds the state -/
def g_Own (E : g_E) (st : g_St) (H : Heap) : Prop := H.size = st.2.2 ∧ E.2.2.2.1 ≤ st.2.2 ∧ (∀ (a : Nat) (o : g_Ob), st.1 a = some o → g_fz E a o H) ∧ ∀ (a : Nat) (o : g_Ob), st.2.1 a = some o → g_at E a o H ∧ E.2.2.2.1 ≤ a ∧ st.1 a = none
/-- a cell that may be read -/
def g_Rd (st : g_St) (a : Nat) (o : g_Ob) : Prop := st.2.1 a = some o ∨ st.1 a = some o
theorem g_Own.rd {E : g_E} {st : g_St} {H : Heap} (h : g_Own E st H) {a : Nat} {o : g_Ob} (hr : g_Rd st a o) : g_fz E a o H := by
  rcases hr with hr | hr
  · exact (h.2.2.2 a o hr).1.fz
  · exact h.2.2.1 a o hr
def g_upd (h : g_H) (a : Nat) (o : g_Ob) : g_H := fun q => if q = a then some o else h q
theorem g_upd_s {h : g_H} {a : Nat} {o : g_Ob} : g_upd h a o a = some o := by simp [g_upd]
theorem g_upd_n {h : g_H} {a q : Nat} {o : g_Ob} (hn : q ≠ a) : g_upd h a o q = h q := by simp [g_upd, hn]
/-- a mutable cell is written -/
def g_put (st : g_St) (a : Nat) (o : g_Ob) : g_St := (st.1, g_upd st.2.1 a o, st.2.2)
/-- a cell is made -/
def g_new (st : g_St) (o : g_Ob) : g_St := (st.1, g_upd st.2.1 st.2.2 o, st.2.2 + 1)
/-- what a run may do to a state, whatever it does -/
def g_Ext (st st' : g_St) : Prop := st.2.2 ≤ st'.2.2 ∧ (∀ (a : Nat) (o : g_Ob), st.1 a = some o → st'.1 a = some o) ∧ (∀ a : Nat, a < st.2.2 → st.2.1 a = none → st'.2.1 a = none) ∧ ∀ a : Nat, a < st.2.2 → st.2.1 a = none → st.1 a = none → st'.1 a = none
theorem g_Ext.rf {st : g_St} : g_Ext st st := ⟨Nat.le_refl _, fun _ _ h => h, fun _ _ h => h, fun _ _ _ h => h⟩
theorem g_Ext.tr {a b c : g_St} (h1 : g_Ext a b) (h2 : g_Ext b c) : g_Ext a c :=
  ⟨Nat.le_trans h1.1 h2.1, fun q o h => h2.2.1 q o (h1.2.1 q o h), fun q hq h => h2.2.2.1 q (Nat.lt_of_lt_of_le hq h1.1) (h1.2.2.1 q hq h), fun q hq h h' => h2.2.2.2 q (Nat.lt_of_lt_of_le hq h1.1) (h1.2.2.1 q hq h) (h1.2.2.2 q hq h h')⟩
/-- which cells a run from st may change -/
def g_A (st : g_St) : Nat → Prop := fun q => st.2.1 q ≠ none ∨ st.2.2 ≤ q
theorem g_A.mono {a b : g_St} (h : g_Ext a b) {q : Nat} (hq : g_A b q) : g_A a q := by
  rcases Nat.lt_or_ge q a.2.2 with hl | hl
  · rcases hq with hq | hq
    · exact Or.inl fun z => hq (h.2.2.1 q hl z)
    · exact absurd (Nat.lt_of_lt_of_le hl (Nat.le_trans h.1 hq)) (Nat.lt_irrefl _)
  · exact Or.inr hl
theorem g_Own.base {E : g_E} {st : g_St} {H : Heap} (h : g_Own E st H) {q : Nat} (hq : g_A st q) : E.2.2.2.1 ≤ q := by
  rcases hq with hq | hq
  · cases he : st.2.1 q with
    | none => exact absurd he hq
    | some o => exact (h.2.2.2 q o he).2.1
  · exact Nat.le_trans h.2.1 hq
theorem g_Ext.put {st0 st : g_St} {a : Nat} {o o0 : g_Ob} (h : g_Ext st0 st) (ha : st.2.1 a = some o0) : g_Ext st0 (g_put st a o) := by
  refine h.tr ⟨Nat.le_refl _, fun _ _ h => h, fun q _ hq => ?_, fun _ _ _ h => h⟩
  show g_upd st.2.1 a o q = none
  by_cases e : q = a
  · rw [e, ha] at hq; cases hq
  · rw [g_upd_n e]; exact hq
theorem g_Ext.new {st0 st : g_St} {o : g_Ob} (h : g_Ext st0 st) : g_Ext st0 (g_new st o) := by
  refine h.tr ⟨Nat.le_succ _, fun _ _ h => h, fun q hl hq => ?_, fun _ _ _ h => h⟩
  show g_upd st.2.1 st.2.2 o q = none
  rw [g_upd_n (Nat.ne_of_lt hl)]; exact hq
theorem g_Own.put {E : g_E} {st : g_St} {H H1 : Heap} {a : Nat} {o o0 : g_Ob} (h : g_Own E st H) (ha : st.2.1 a = some o0) (ho : g_at E a o H1) (hz : H1.size = H.size) (oq : ∀ q : Nat, q ≠ a → H1[q]? = H[q]?) : g_Own E (g_put st a o) H1 := by
  obtain ⟨h1, h2, h3, h4⟩ := h
  obtain ⟨-, hb, hf⟩ := h4 a o0 ha
  refine ⟨hz.trans h1, h2, fun q x hx => ?_, fun q x hx => ?_⟩
  · have hne : q ≠ a := fun e => by
      have hx' : st.1 q = some x := hx
      rw [e, hf] at hx'; cases hx'
    exact (h3 q x hx).kept (oq q hne)
  · by_cases e : q = a
    · subst e
      have hx' : g_upd st.2.1 q o q = some x := hx
      rw [g_upd_s] at hx'
      cases hx'
      exact ⟨ho, hb, hf⟩
    · have hx' : g_upd st.2.1 a o q = some x := hx
      rw [g_upd_n e] at hx'
      obtain ⟨k1, k2, k3⟩ := h4 q x hx'
      exact ⟨k1.kept (oq q e), k2, k3⟩
theorem g_Own.new {E : g_E} {st : g_St} {H H1 : Heap} {o : g_Ob} (h : g_Own E st H) (ho : g_at E st.2.2 o H1) (hz : H1.size = H.size + 1) (oq : ∀ q : Nat, q < H.size → H1[q]? = H[q]?) : g_Own E (g_new st o) H1 := by
  obtain ⟨h1, h2, h3, h4⟩ := h
  refine ⟨?_, Nat.le_succ_of_le h2, fun q x hx => ?_, fun q x hx => ?_⟩
  · show H1.size = st.2.2 + 1
    rw [hz, h1]
  · exact (h3 q x hx).kept (oq q (h3 q x hx).lt)
  · by_cases e : q = st.2.2
    · have hx' : g_upd st.2.1 st.2.2 o q = some x := hx
      subst e
      rw [g_upd_s] at hx'
      cases hx'
      refine ⟨ho, h2, ?_⟩
      show st.1 st.2.2 = none
      cases he : st.1 st.2.2 with
      | none => rfl
      | some y =>
        have := (h3 _ y he).lt
        omega
    · have hx' : g_upd st.2.1 st.2.2 o q = some x := hx
      rw [g_upd_n e] at hx'
      obtain ⟨k1, k2, k3⟩ := h4 q x hx'
      exact ⟨k1.kept (oq q k1.fz.lt), k2, k3⟩
theorem g_S.put {st0 st : g_St} {H0 H H1 : Heap} {locs : List Loc} {a k : Nat} {o0 : g_Ob} (h : va_S (g_A st0) H0 H locs) (hx : g_Ext st0 st) (ha : st.2.1 a = some o0) (z : H1.size = H.size) (oq : ∀ q : Nat, q ≠ a → H1[q]? = H[q]?) : va_S (g_A st0) H0 H1 (locs ++ [⟨a, k⟩]) :=
  h.put z oq (g_A.mono hx (Or.inl (by rw [ha]; exact fun e => by cases e)))
theorem g_S.new {A : Nat → Prop} {H0 H H1 : Heap} {locs : List Loc} (h : va_S A H0 H locs) (z : H1.size = H.size + 1) (oq : ∀ q : Nat, q < H.size → H1[q]? = H[q]?) : va_S A H0 H1 locs :=
  ⟨Nat.le_trans h.1 (by omega), fun q h1 h2 => (oq q (Nat.lt_of_lt_of_le h1 h.1)).trans (h.2.1 q h1 h2), h.2.2⟩
/-- what the tables say, all through a run -/
def g_T (E : g_E) (U : State) : Prop := va_K (E.1, E.2.1) g_cl (g_tys E) U ∧ ArrOfT U (E.2.2.1 5) (g_ty 5) ∧ (∀ w ∈ g_ext, va_Nw w U) ∧ (∀ q ∈ g_faces, va_Fw q.1 q.2.1 q.2.2 U) ∧ (∀ q ∈ g_strs, (∃ a : Nat, E.2.2.2.2.1 q.2.2.2 = some a ∧ vk_R q.1 q.2.1 q.2.2.1 a U)) ∧ g_UXw "Stemspan" 128 "java/util/TreeMap$AscendingSubMap" "java/util/SortedMap" "java/util/Map" "size" "()I" ⟨"java/util/TreeMap$NavigableSubMap", "size", "()I"⟩ U ∧ g_UXw "Stemspan" 202 "java/util/TreeMap$AscendingSubMap" "java/util/SortedMap" "java/util/Map" "clear" "()V" ⟨"java/util/AbstractMap", "clear", "()V"⟩ U ∧ ∀ q ∈ g_nc, va_Nc q.1 q.2 U
/-- what the statics hold -/
def g_Z (E : g_E) (U : State) (H : Heap) : Prop := (∀ q ∈ g_stat E, va_Z q.1 q.2.1 q.2.2.1 q.2.2.2 (fun a => E.2.2.2.1 ≤ a) U H) ∧ (∃ a : Nat, E.2.2.2.2.1 5 = some a ∧ va_O "jdk/internal/misc/Unsafe" a (fun a => E.2.2.2.1 ≤ a) U H) ∧ vx_Zq Bundle.tN "UNASSIGNED_STACK" Bundle.steD (fun a => E.2.2.2.1 ≤ a) U H ∧ vx_Zq Bundle.tN "SUPPRESSED_SENTINEL" Bundle.listD (fun a => E.2.2.2.1 ≤ a) U H
theorem g_Z.moved {E : g_E} {u U : State} {H : Heap} (hvm : u.vm.Alike U.vm) (h : g_Z E u H) : g_Z E U H := by
  obtain ⟨h1, ⟨a, h2, h3⟩, h4, h5⟩ := h
  exact ⟨fun q hq => (h1 q hq).moved hvm, ⟨a, h2, h3.moved hvm⟩, h4.moved hvm, h5.moved hvm⟩
theorem g_Z.kept {E : g_E} {U : State} {H H1 : Heap} (h : g_Z E U H) (hq : ∀ a : Nat, a < H.size → ¬ E.2.2.2.1 ≤ a → H1[a]? = H[a]?) : g_Z E U H1 := by
  obtain ⟨h1, ⟨a, h2, h3⟩, h4, h5⟩ := h
  exact ⟨fun q hm => (h1 q hm).kept hq, ⟨a, h2, h3.kept hq⟩, h4.kept hq, h5.kept hq⟩
theorem g_Ow.moved {w : Cond} (hk : g_okw w = true) {s U : State} (hW : s.WarmedH U.vm) (h : va_Nw w s) : va_Nw w U := by
  cases w with
  | castable a b => exact va_Nw.warmC hW h
  | declares x => exact va_Nw.warmD hW h
  | privateMethod x => exact va_tabs rfl (rfl : (s.setVm U.vm).vm = U.vm) (by rw [Cond.privateMethod_setVm hW.alike]; exact h)
  | fieldLinkNest a i b n d h0 => exact va_Nw.warmF hW h
  | methodLinkNest a i x h0 => exact va_Nw.warmM hW h
  | arrayOver t =>
    cases t with
    | object C => exact va_AO.moved hW.alike h
    | _ => cases hk
  | _ => cases hk
theorem g_Ow.same {w : Cond} (hk : g_okw w = true) {u U : State} (hv : u.vm = U.vm) (h : va_Nw w u) : va_Nw w U := by
  cases w with
  | castable a b => exact va_Nw.same rfl hv h
  | declares x => exact va_Nw.same rfl hv h
  | privateMethod x => exact va_Nw.same rfl hv h
  | fieldLinkNest a i b n d h0 => exact va_Nw.same rfl hv h
  | methodLinkNest a i x h0 => exact va_Nw.same rfl hv h
  | arrayOver t =>
    cases t with
    | object C => exact va_AO.moved (by rw [hv]; exact Vm.Alike.refl _) h
    | _ => cases hk
  | _ => cases hk
theorem g_T.moved {E : g_E} {s U : State} (hW : s.WarmedH U.vm) (h : g_T E s) : g_T E U := by
  obtain ⟨h1, h2, h3, h4, h5, h6, h7, h8⟩ := h
  refine ⟨va_K.moved hW.alike h1, arrOfT_moved hW.alike h2, fun w hw => g_Ow.moved (List.all_eq_true.mp g_ext_ok w hw) hW (h3 w hw), fun q hq => va_Fw.moved (g_faces_ok q hq) hW.alike (h4 q hq), fun q hq => ?_, h6.moved hW, h7.moved hW, fun q hq => va_Nc.moved hW.alike (h8 q hq)⟩
  obtain ⟨a, e, k⟩ := h5 q hq
  exact ⟨a, e, k.warm hW⟩
theorem g_T.same {E : g_E} {u U : State} (hv : u.vm = U.vm) (h : g_T E u) : g_T E U := by
  have hA : u.vm.Alike U.vm := by rw [hv]; exact Vm.Alike.refl _
  obtain ⟨h1, h2, h3, h4, h5, h6, h7, h8⟩ := h
  refine ⟨va_K.moved hA h1, arrOfT_moved hA h2, fun w hw => g_Ow.same (List.all_eq_true.mp g_ext_ok w hw) hv (h3 w hw), fun q hq => va_Fw.moved (g_faces_ok q hq) hA (h4 q hq), fun q hq => ?_, h6.same hv, h7.same hv, fun q hq => va_Nc.moved hA (h8 q hq)⟩
  obtain ⟨a, e, k⟩ := h5 q hq
  exact ⟨a, e, vk_R.same hv.symm k⟩
end GB1
/-! BASE 2: the judgement g_J, its rows -/
section GB2
variable {p : Program} {l : Launch} {e : Env} {R : Room} {s : State} {m : MethodId} {args : Array Value} {below : List Frame} {meth : Method} {c : Code} {cc : ByteArray} {nL : Nat} {own : String} {ret : Option FieldType} {nm : String} {E : g_E} {st0 : g_St} {Z : State → Prop} {pc : Nat} {lv lv0 : List (Nat × Value)} {rest : List Value} {st : g_St} {cb sb : Nat}
/-- what holds all through a method's body -/
def g_Cx (p : Program) (s : State) (m : MethodId) (args : Array Value) (meth : Method) (c : Code) (cc : ByteArray) (nL : Nat) (own : String) (ret : Option FieldType) (nm : String) (E : g_E) (st0 : g_St) : Prop :=
  p.tables.exec = Jvm.exec ∧ c.code = cc ∧ c.maxLocals = nL ∧ s.vm.findClass own = some m.cls ∧ (∀ w ∈ lw_all, w.before args s = true) ∧ meth.locks = false ∧ meth.sig.returnType = ret ∧ meth.name = nm ∧ g_T E s ∧ g_Z E s s.heap ∧ g_Own E st0 s.heap
/-- from the frame at pc with these locals and this operand stack, in any heap that holds st, the machine comes to Z; cb cells and sb slots are left -/
def g_J (p : Program) (l : Launch) (e : Env) (R : Room) (s : State) (m : MethodId) (args : Array Value) (below : List Frame) (meth : Method) (c : Code) (nL : Nat) (E : g_E) (st0 : g_St) (Z : State → Prop) (pc : Nat) (lv : List (Nat × Value)) (stk : List Value) (st : g_St) (cb sb : Nat) : Prop :=
  ∀ (H : Heap) (locs : List Loc) (ls : Array Slot) (cells slots : Nat), lv_has ls nL lv → g_Own E st H → g_Ext st0 st → va_S (g_A st0) s.heap H locs → cells + cb ≤ R.cells → slots + sb ≤ R.slots → W p l e R s m args below meth c H locs cells slots Z (F0 m pc ls stk)
theorem g_Cx.x (h : g_Cx p s m args meth c cc nL own ret nm E st0) : p.tables.exec = Jvm.exec := h.1
theorem g_Cx.b (h : g_Cx p s m args meth c cc nL own ret nm E st0) : c.code = cc := h.2.1
theorem g_Cx.ml (h : g_Cx p s m args meth c cc nL own ret nm E st0) : c.maxLocals = nL := h.2.2.1
theorem g_Cx.ow (h : g_Cx p s m args meth c cc nL own ret nm E st0) : s.vm.findClass own = some m.cls := h.2.2.2.1
theorem g_Cx.ts (h : g_Cx p s m args meth c cc nL own ret nm E st0) : ∀ w ∈ lw_all, w.before args s = true := h.2.2.2.2.1
theorem g_Cx.lk (h : g_Cx p s m args meth c cc nL own ret nm E st0) : meth.locks = false := h.2.2.2.2.2.1
theorem g_Cx.rt (h : g_Cx p s m args meth c cc nL own ret nm E st0) : meth.sig.returnType = ret := h.2.2.2.2.2.2.1
theorem g_Cx.na (h : g_Cx p s m args meth c cc nL own ret nm E st0) : meth.name = nm := h.2.2.2.2.2.2.2.1
theorem g_Cx.T (h : g_Cx p s m args meth c cc nL own ret nm E st0) : g_T E s := h.2.2.2.2.2.2.2.2.1
theorem g_Cx.K (h : g_Cx p s m args meth c cc nL own ret nm E st0) : va_K (E.1, E.2.1) g_cl (g_tys E) s := h.T.1
theorem g_Cx.zz (h : g_Cx p s m args meth c cc nL own ret nm E st0) : g_Z E s s.heap := h.2.2.2.2.2.2.2.2.2.1
theorem g_Cx.O (h : g_Cx p s m args meth c cc nL own ret nm E st0) : g_Own E st0 s.heap := h.2.2.2.2.2.2.2.2.2.2
theorem j_pure {stk stk' : List Value} {pc' : Nat} (h : ∀ (H : Heap) (locs : List Loc) (ls : Array Slot) (cells slots : Nat), lv_has ls nL lv → W p l e R s m args below meth c H locs cells slots Z (F0 m pc' ls stk') → W p l e R s m args below meth c H locs cells slots Z (F0 m pc ls stk)) (k : g_J p l e R s m args below meth c nL E st0 Z pc' lv stk' st cb sb) : g_J p l e R s m args below meth c nL E st0 Z pc lv stk st cb sb :=
  fun H locs ls cells slots h1 h2 h3 h4 h5 h6 => h H locs ls cells slots h1 (k H locs ls cells slots h1 h2 h3 h4 h5 h6)
/-- fewer locals, fewer cells left -/
theorem j_sub {stk : List Value} (ks : List Nat) (h : lv_pick lv ks = lv0) (k : g_J p l e R s m args below meth c nL E st0 Z pc lv0 stk st cb sb) : g_J p l e R s m args below meth c nL E st0 Z pc lv stk st cb sb :=
  fun H locs ls cells slots h1 h2 h3 h4 h5 h6 => k H locs ls cells slots (lv_sub h1 ks h) h2 h3 h4 h5 h6
theorem j_less {stk : List Value} {cb' sb' : Nat} (hc : cb' ≤ cb) (hs : sb' ≤ sb) (k : g_J p l e R s m args below meth c nL E st0 Z pc lv stk st cb' sb') : g_J p l e R s m args below meth c nL E st0 Z pc lv stk st cb sb :=
  fun H locs ls cells slots h1 h2 h3 h4 h5 h6 => k H locs ls cells slots h1 h2 h3 h4 (by omega) (by omega)
-- constants, locals
theorem j_iconst (hC : g_Cx p s m args meth c cc nL own ret nm E st0) {n : Int} (v : Int32) (hd : decode cc pc = .ok (.iconst n, 1)) (hv : Int32.ofInt n = v) (k : g_J p l e R s m args below meth c nL E st0 Z (pc + 1) lv (.int v :: rest) st cb sb) : g_J p l e R s m args below meth c nL E st0 Z pc lv rest st cb sb := j_pure (fun _ _ _ _ _ _ => lv_iconst hC.x hC.b hd hv) k
theorem j_bipush (hC : g_Cx p s m args meth c cc nL own ret nm E st0) {n : Int} (v : Int32) (hd : decode cc pc = .ok (.bipush n, 2)) (hv : (Int8.ofInt n).toInt32 = v) (k : g_J p l e R s m args below meth c nL E st0 Z (pc + 2) lv (.int v :: rest) st cb sb) : g_J p l e R s m args below meth c nL E st0 Z pc lv rest st cb sb := j_pure (fun _ _ _ _ _ _ => lv_bipush hC.x hC.b hd hv) k
theorem j_sipush (hC : g_Cx p s m args meth c cc nL own ret nm E st0) {n : Int} (v : Int32) (hd : decode cc pc = .ok (.sipush n, 3)) (hv : (Int16.ofInt n).toInt32 = v) (k : g_J p l e R s m args below meth c nL E st0 Z (pc + 3) lv (.int v :: rest) st cb sb) : g_J p l e R s m args below meth c nL E st0 Z pc lv rest st cb sb := j_pure (fun _ _ _ _ _ _ => lv_sipush hC.x hC.b hd hv) k
theorem j_lconst (hC : g_Cx p s m args meth c cc nL own ret nm E st0) {n : Fin 2} (v : Int64) (hd : decode cc pc = .ok (.lconst n, 1)) (hv : Int64.ofNat (n : Nat) = v) (k : g_J p l e R s m args below meth c nL E st0 Z (pc + 1) lv (.long v :: rest) st cb sb) : g_J p l e R s m args below meth c nL E st0 Z pc lv rest st cb sb := j_pure (fun _ _ _ _ _ _ => lv_lconst hC.x hC.b hd hv) k
theorem j_null (hC : g_Cx p s m args meth c cc nL own ret nm E st0) (hd : decode cc pc = .ok (.aconst_null, 1)) (k : g_J p l e R s m args below meth c nL E st0 Z (pc + 1) lv (va_rf none :: rest) st cb sb) : g_J p l e R s m args below meth c nL E st0 Z pc lv rest st cb sb := j_pure (fun _ _ _ _ _ _ => lv_null hC.x hC.b hd) k
theorem j_ldc (hC : g_Cx p s m args meth c cc nL own ret nm E st0) {index : Nat} (v : Int32) (hq : Cond.constant own index v ∈ lw_all) (hd : decode cc pc = .ok (.ldc index, 2)) (k : g_J p l e R s m args below meth c nL E st0 Z (pc + 2) lv (.int v :: rest) st cb sb) : g_J p l e R s m args below meth c nL E st0 Z pc lv rest st cb sb := j_pure (fun _ _ _ _ _ _ => lv_ldc hC.x hC.b hC.ow (hC.ts _ hq) hd) k
theorem j_ldc2 (hC : g_Cx p s m args meth c cc nL own ret nm E st0) {index : Nat} (v : Int64) (hq : Cond.constantLong own index v ∈ lw_all) (hd : decode cc pc = .ok (.ldc2_w index, 3)) (k : g_J p l e R s m args below meth c nL E st0 Z (pc + 3) lv (.long v :: rest) st cb sb) : g_J p l e R s m args below meth c nL E st0 Z pc lv rest st cb sb := j_pure (fun _ _ _ _ _ _ => lv_ldc2 hC.x hC.b hC.ow (hC.ts _ hq) hd) k
theorem j_ldcS (hC : g_Cx p s m args meth c cc nL own ret nm E st0) {index k : Nat} {tx : String} (hq : (own, index, tx, k) ∈ g_strs) (hd : decode cc pc = .ok (.ldc index, 2)) (K : g_J p l e R s m args below meth c nL E st0 Z (pc + 2) lv (va_rf (E.2.2.2.2.1 k) :: rest) st cb sb) : g_J p l e R s m args below meth c nL E st0 Z pc lv rest st cb sb := by
  obtain ⟨a, h1, h2⟩ := hC.T.2.2.2.2.1 _ hq
  have h1 : E.2.2.2.2.1 k = some a := h1
  rw [h1] at K
  exact j_pure (fun _ _ _ _ _ _ => va_ldcS hC.x hC.b hC.ow h2 hd) K
theorem j_iload_n (hC : g_Cx p s m args meth c cc nL own ret nm E st0) {i : Fin 4} {j : Nat} {x : Int32} (hd : decode cc pc = .ok (.iload_n i, 1)) (hi : (i : Nat) = j) (n : Nat) (hn : lv[n]? = some (j, .int x)) (k : g_J p l e R s m args below meth c nL E st0 Z (pc + 1) lv (.int x :: rest) st cb sb) : g_J p l e R s m args below meth c nL E st0 Z pc lv rest st cb sb := j_pure (fun _ _ _ _ _ hl => lv_iload_n hC.x hC.b hd hi (lv_at hl n hn)) k
theorem j_iload (hC : g_Cx p s m args meth c cc nL own ret nm E st0) {j : Nat} {x : Int32} (hd : decode cc pc = .ok (.iload j, 2)) (n : Nat) (hn : lv[n]? = some (j, .int x)) (k : g_J p l e R s m args below meth c nL E st0 Z (pc + 2) lv (.int x :: rest) st cb sb) : g_J p l e R s m args below meth c nL E st0 Z pc lv rest st cb sb := j_pure (fun _ _ _ _ _ hl => lv_iload hC.x hC.b hd (lv_at hl n hn)) k
theorem j_lload_n (hC : g_Cx p s m args meth c cc nL own ret nm E st0) {i : Fin 4} {j : Nat} {x : Int64} (hd : decode cc pc = .ok (.lload_n i, 1)) (hi : (i : Nat) = j) (n : Nat) (hn : lv[n]? = some (j, .long x)) (k : g_J p l e R s m args below meth c nL E st0 Z (pc + 1) lv (.long x :: rest) st cb sb) : g_J p l e R s m args below meth c nL E st0 Z pc lv rest st cb sb := j_pure (fun _ _ _ _ _ hl => lv_lload_n hC.x hC.b hd hi (lv_at hl n hn)) k
theorem j_lload (hC : g_Cx p s m args meth c cc nL own ret nm E st0) {j : Nat} {x : Int64} (hd : decode cc pc = .ok (.lload j, 2)) (n : Nat) (hn : lv[n]? = some (j, .long x)) (k : g_J p l e R s m args below meth c nL E st0 Z (pc + 2) lv (.long x :: rest) st cb sb) : g_J p l e R s m args below meth c nL E st0 Z pc lv rest st cb sb := j_pure (fun _ _ _ _ _ hl => lv_lload hC.x hC.b hd (lv_at hl n hn)) k
theorem j_aload_n (hC : g_Cx p s m args meth c cc nL own ret nm E st0) {i : Fin 4} {j : Nat} {o : Option Nat} (hd : decode cc pc = .ok (.aload_n i, 1)) (hi : (i : Nat) = j) (n : Nat) (hn : lv[n]? = some (j, va_rf o)) (k : g_J p l e R s m args below meth c nL E st0 Z (pc + 1) lv (va_rf o :: rest) st cb sb) : g_J p l e R s m args below meth c nL E st0 Z pc lv rest st cb sb := by
  cases o with
  | none => exact j_pure (fun _ _ _ _ _ hl => lv_aload_nN hC.x hC.b hd hi (lv_at hl n hn)) k
  | some a => exact j_pure (fun _ _ _ _ _ hl => lv_aload_n hC.x hC.b hd hi (lv_at hl n hn)) k
theorem j_aload (hC : g_Cx p s m args meth c cc nL own ret nm E st0) {j : Nat} {o : Option Nat} (hd : decode cc pc = .ok (.aload j, 2)) (n : Nat) (hn : lv[n]? = some (j, va_rf o)) (k : g_J p l e R s m args below meth c nL E st0 Z (pc + 2) lv (va_rf o :: rest) st cb sb) : g_J p l e R s m args below meth c nL E st0 Z pc lv rest st cb sb := by
  cases o with
  | none => exact j_pure (fun _ _ _ _ _ hl => lv_aloadN hC.x hC.b hd (lv_at hl n hn)) k
  | some a => exact j_pure (fun _ _ _ _ _ hl => lv_aload hC.x hC.b hd (lv_at hl n hn)) k
def g_okS (i : Nat) (l0 : List (Nat × Value)) : Prop := ∀ q ∈ l0, q.1 ≠ i ∧ (q.1 + 1 ≠ i ∨ q.2.category = 1)
theorem g_okS.n {i : Nat} {l0 : List (Nat × Value)} (h : l0.all (fun q => q.1 != i && q.1 + 1 != i) = true) : g_okS i l0 := by
  intro q hq
  have h1 := List.all_eq_true.mp h q hq
  simp only [Bool.and_eq_true, bne_iff_ne] at h1
  exact ⟨h1.1, Or.inl h1.2⟩
theorem g_okS.h {i j : Nat} {w : Value} {l0 : List (Nat × Value)} (hj : (j != i) = true) (hw : w.category = 1) (h : l0.all (fun q => q.1 != i && q.1 + 1 != i) = true) : g_okS i ((j, w) :: l0) := by
  intro q hq
  rcases List.mem_cons.mp hq with e | e
  · rw [e]; exact ⟨by simpa using hj, Or.inr hw⟩
  · exact g_okS.n h q e
theorem g_c1 {o : Option Nat} : (va_rf o).category = 1 := by cases o <;> rfl
theorem g_ci {x : Int32} : (Value.int x).category = 1 := rfl
theorem g_cL {x : Int64} : (Value.long x).category = 2 := rfl
theorem g_pick {ks : List Nat} (h : lv_pick lv ks = lv0) : ∀ q ∈ lv0, q ∈ lv := by
  intro q hq
  rw [← h] at hq
  obtain ⟨k, -, hk⟩ := List.mem_filterMap.mp hq
  exact List.mem_of_getElem? hk
theorem g_sto1 {ls : Array Slot} {i : Nat} {v : Value} {ks : List Nat} (h : lv_pick lv ks = lv0) (ho : g_okS i lv0) (hl : lv_has ls nL ((i, v) :: lv.filter (fun q => !(q.1 == i) && !(q.1 + 1 == i && q.2.category == 2)))) : lv_has ls nL ((i, v) :: lv0) := by
  refine ⟨hl.1, hl.2.1, fun q hq => hl.2.2 q ?_⟩
  rcases List.mem_cons.mp hq with e | e
  · rw [e]; exact List.mem_cons_self
  · refine List.mem_cons_of_mem _ (List.mem_filter.mpr ⟨g_pick h q e, ?_⟩)
    obtain ⟨h1, h2⟩ := ho q e
    rcases h2 with h2 | h2
    · simp [h1, h2]
    · simp [h1, h2]
theorem g_sto2 {ls : Array Slot} {i : Nat} {v : Value} {ks : List Nat} (h : lv_pick lv ks = lv0) (ho : g_okS i lv0) (ho2 : lv0.all (fun q => q.1 != i + 1) = true) (hl : lv_has ls nL ((i, v) :: lv.filter (fun q => !(q.1 == i) && (!(q.1 == i + 1) && !(q.1 + 1 == i && q.2.category == 2))))) : lv_has ls nL ((i, v) :: lv0) := by
  refine ⟨hl.1, hl.2.1, fun q hq => hl.2.2 q ?_⟩
  rcases List.mem_cons.mp hq with e | e
  · rw [e]; exact List.mem_cons_self
  · refine List.mem_cons_of_mem _ (List.mem_filter.mpr ⟨g_pick h q e, ?_⟩)
    obtain ⟨h1, h2⟩ := ho q e
    have h3 := List.all_eq_true.mp ho2 q e
    simp only [bne_iff_ne] at h3
    rcases h2 with h2 | h2
    · simp [h1, h2, h3]
    · simp [h1, h2, h3]
theorem j_istore_n (hC : g_Cx p s m args meth c cc nL own ret nm E st0) {i : Fin 4} {j : Nat} {x : Int32} (hd : decode cc pc = .ok (.istore_n i, 1)) (hi : (i : Nat) = j) (hn : (j < nL : Bool) = true) (ks : List Nat) (h : lv_pick lv ks = lv0) (ho : g_okS j lv0) (k : g_J p l e R s m args below meth c nL E st0 Z (pc + 1) ((j, .int x) :: lv0) rest st cb sb) : g_J p l e R s m args below meth c nL E st0 Z pc lv (.int x :: rest) st cb sb :=
  fun H locs ls cells slots h1 h2 h3 h4 h5 h6 => lv_istore_n hC.x hC.b hd hi h1 (of_decide_eq_true hn) rfl fun ls' hl => k H locs ls' cells slots (g_sto1 h ho hl) h2 h3 h4 h5 h6
theorem j_istore (hC : g_Cx p s m args meth c cc nL own ret nm E st0) {j : Nat} {x : Int32} (hd : decode cc pc = .ok (.istore j, 2)) (hn : (j < nL : Bool) = true) (ks : List Nat) (h : lv_pick lv ks = lv0) (ho : g_okS j lv0) (k : g_J p l e R s m args below meth c nL E st0 Z (pc + 2) ((j, .int x) :: lv0) rest st cb sb) : g_J p l e R s m args below meth c nL E st0 Z pc lv (.int x :: rest) st cb sb :=
  fun H locs ls cells slots h1 h2 h3 h4 h5 h6 => lv_istore hC.x hC.b hd h1 (of_decide_eq_true hn) rfl fun ls' hl => k H locs ls' cells slots (g_sto1 h ho hl) h2 h3 h4 h5 h6
theorem j_lstore_n (hC : g_Cx p s m args meth c cc nL own ret nm E st0) {i : Fin 4} {j : Nat} {x : Int64} (hd : decode cc pc = .ok (.lstore_n i, 1)) (hi : (i : Nat) = j) (hn : (j + 1 < nL : Bool) = true) (ks : List Nat) (h : lv_pick lv ks = lv0) (ho : g_okS j lv0) (ho2 : lv0.all (fun q => q.1 != j + 1) = true) (k : g_J p l e R s m args below meth c nL E st0 Z (pc + 1) ((j, .long x) :: lv0) rest st cb sb) : g_J p l e R s m args below meth c nL E st0 Z pc lv (.long x :: rest) st cb sb :=
  fun H locs ls cells slots h1 h2 h3 h4 h5 h6 => lv_lstore_n hC.x hC.b hd hi h1 (of_decide_eq_true hn) rfl fun ls' hl => k H locs ls' cells slots (g_sto2 h ho ho2 hl) h2 h3 h4 h5 h6
theorem j_lstore (hC : g_Cx p s m args meth c cc nL own ret nm E st0) {j : Nat} {x : Int64} (hd : decode cc pc = .ok (.lstore j, 2)) (hn : (j + 1 < nL : Bool) = true) (ks : List Nat) (h : lv_pick lv ks = lv0) (ho : g_okS j lv0) (ho2 : lv0.all (fun q => q.1 != j + 1) = true) (k : g_J p l e R s m args below meth c nL E st0 Z (pc + 2) ((j, .long x) :: lv0) rest st cb sb) : g_J p l e R s m args below meth c nL E st0 Z pc lv (.long x :: rest) st cb sb :=
  fun H locs ls cells slots h1 h2 h3 h4 h5 h6 => lv_lstore hC.x hC.b hd h1 (of_decide_eq_true hn) rfl fun ls' hl => k H locs ls' cells slots (g_sto2 h ho ho2 hl) h2 h3 h4 h5 h6
theorem j_astore_n (hC : g_Cx p s m args meth c cc nL own ret nm E st0) {i : Fin 4} {j : Nat} {o : Option Nat} (hd : decode cc pc = .ok (.astore_n i, 1)) (hi : (i : Nat) = j) (hn : (j < nL : Bool) = true) (ks : List Nat) (h : lv_pick lv ks = lv0) (ho : g_okS j lv0) (k : g_J p l e R s m args below meth c nL E st0 Z (pc + 1) ((j, va_rf o) :: lv0) rest st cb sb) : g_J p l e R s m args below meth c nL E st0 Z pc lv (va_rf o :: rest) st cb sb := by
  cases o with
  | none => exact fun H locs ls cells slots h1 h2 h3 h4 h5 h6 => lv_astore_nN hC.x hC.b hd hi h1 (of_decide_eq_true hn) rfl fun ls' hl => k H locs ls' cells slots (g_sto1 h ho hl) h2 h3 h4 h5 h6
  | some a => exact fun H locs ls cells slots h1 h2 h3 h4 h5 h6 => lv_astore_n hC.x hC.b hd hi h1 (of_decide_eq_true hn) rfl fun ls' hl => k H locs ls' cells slots (g_sto1 h ho hl) h2 h3 h4 h5 h6
theorem j_astore (hC : g_Cx p s m args meth c cc nL own ret nm E st0) {j : Nat} {o : Option Nat} (hd : decode cc pc = .ok (.astore j, 2)) (hn : (j < nL : Bool) = true) (ks : List Nat) (h : lv_pick lv ks = lv0) (ho : g_okS j lv0) (k : g_J p l e R s m args below meth c nL E st0 Z (pc + 2) ((j, va_rf o) :: lv0) rest st cb sb) : g_J p l e R s m args below meth c nL E st0 Z pc lv (va_rf o :: rest) st cb sb := by
  cases o with
  | none => exact fun H locs ls cells slots h1 h2 h3 h4 h5 h6 => lv_astoreN hC.x hC.b hd h1 (of_decide_eq_true hn) rfl fun ls' hl => k H locs ls' cells slots (g_sto1 h ho hl) h2 h3 h4 h5 h6
  | some a => exact fun H locs ls cells slots h1 h2 h3 h4 h5 h6 => lv_astore hC.x hC.b hd h1 (of_decide_eq_true hn) rfl fun ls' hl => k H locs ls' cells slots (g_sto1 h ho hl) h2 h3 h4 h5 h6
theorem j_iinc (hC : g_Cx p s m args meth c cc nL own ret nm E st0) {j : Nat} {n : Int} {x : Int32} (v : Int32) (hd : decode cc pc = .ok (.iinc j n, 3)) (kx : Nat) (hk : lv[kx]? = some (j, .int x)) (hv : Int32.ofInt n = v) (hn : (j < nL : Bool) = true) (ks : List Nat) (h : lv_pick lv ks = lv0) (ho : g_okS j lv0) (k : g_J p l e R s m args below meth c nL E st0 Z (pc + 3) ((j, .int (x + v)) :: lv0) rest st cb sb) : g_J p l e R s m args below meth c nL E st0 Z pc lv rest st cb sb := by
  subst hv
  exact fun H locs ls cells slots h1 h2 h3 h4 h5 h6 => lv_iinc hC.x hC.b hd h1 hk rfl (of_decide_eq_true hn) rfl fun ls' hl => k H locs ls' cells slots (g_sto1 h ho hl) h2 h3 h4 h5 h6
theorem j_iadd (hC : g_Cx p s m args meth c cc nL own ret nm E st0) {x y : Int32} (hd : decode cc pc = .ok (.iadd, 1)) (k : g_J p l e R s m args below meth c nL E st0 Z (pc + 1) lv (.int (x + y) :: rest) st cb sb) : g_J p l e R s m args below meth c nL E st0 Z pc lv (.int y :: .int x :: rest) st cb sb := j_pure (fun _ _ _ _ _ _ => lv_iadd hC.x hC.b hd) k
theorem j_isub (hC : g_Cx p s m args meth c cc nL own ret nm E st0) {x y : Int32} (hd : decode cc pc = .ok (.isub, 1)) (k : g_J p l e R s m args below meth c nL E st0 Z (pc + 1) lv (.int (x - y) :: rest) st cb sb) : g_J p l e R s m args below meth c nL E st0 Z pc lv (.int y :: .int x :: rest) st cb sb := j_pure (fun _ _ _ _ _ _ => lv_isub hC.x hC.b hd) k
theorem j_imul (hC : g_Cx p s m args meth c cc nL own ret nm E st0) {x y : Int32} (hd : decode cc pc = .ok (.imul, 1)) (k : g_J p l e R s m args below meth c nL E st0 Z (pc + 1) lv (.int (x * y) :: rest) st cb sb) : g_J p l e R s m args below meth c nL E st0 Z pc lv (.int y :: .int x :: rest) st cb sb := j_pure (fun _ _ _ _ _ _ => lv_imul hC.x hC.b hd) k
theorem j_iand (hC : g_Cx p s m args meth c cc nL own ret nm E st0) {x y : Int32} (hd : decode cc pc = .ok (.iand, 1)) (k : g_J p l e R s m args below meth c nL E st0 Z (pc + 1) lv (.int (x &&& y) :: rest) st cb sb) : g_J p l e R s m args below meth c nL E st0 Z pc lv (.int y :: .int x :: rest) st cb sb := j_pure (fun _ _ _ _ _ _ => lv_iand hC.x hC.b hd) k
theorem j_ior (hC : g_Cx p s m args meth c cc nL own ret nm E st0) {x y : Int32} (hd : decode cc pc = .ok (.ior, 1)) (k : g_J p l e R s m args below meth c nL E st0 Z (pc + 1) lv (.int (x ||| y) :: rest) st cb sb) : g_J p l e R s m args below meth c nL E st0 Z pc lv (.int y :: .int x :: rest) st cb sb := j_pure (fun _ _ _ _ _ _ => lv_ior hC.x hC.b hd) k
theorem j_ixor (hC : g_Cx p s m args meth c cc nL own ret nm E st0) {x y : Int32} (hd : decode cc pc = .ok (.ixor, 1)) (k : g_J p l e R s m args below meth c nL E st0 Z (pc + 1) lv (.int (x ^^^ y) :: rest) st cb sb) : g_J p l e R s m args below meth c nL E st0 Z pc lv (.int y :: .int x :: rest) st cb sb := j_pure (fun _ _ _ _ _ _ => lv_ixor hC.x hC.b hd) k
theorem j_idiv (hC : g_Cx p s m args meth c cc nL own ret nm E st0) {x y : Int32} (hd : decode cc pc = .ok (.idiv, 1)) (hne : ¬ y = 0) (k : g_J p l e R s m args below meth c nL E st0 Z (pc + 1) lv (.int (x / y) :: rest) st cb sb) : g_J p l e R s m args below meth c nL E st0 Z pc lv (.int y :: .int x :: rest) st cb sb := j_pure (fun _ _ _ _ _ _ => lv_idiv hC.x hC.b hd hne) k
theorem j_irem (hC : g_Cx p s m args meth c cc nL own ret nm E st0) {x y : Int32} (hd : decode cc pc = .ok (.irem, 1)) (hne : ¬ y = 0) (k : g_J p l e R s m args below meth c nL E st0 Z (pc + 1) lv (.int (x - x / y * y) :: rest) st cb sb) : g_J p l e R s m args below meth c nL E st0 Z pc lv (.int y :: .int x :: rest) st cb sb := j_pure (fun _ _ _ _ _ _ => lv_irem hC.x hC.b hd hne) k
theorem j_ladd (hC : g_Cx p s m args meth c cc nL own ret nm E st0) {x y : Int64} (hd : decode cc pc = .ok (.ladd, 1)) (k : g_J p l e R s m args below meth c nL E st0 Z (pc + 1) lv (.long (x + y) :: rest) st cb sb) : g_J p l e R s m args below meth c nL E st0 Z pc lv (.long y :: .long x :: rest) st cb sb := j_pure (fun _ _ _ _ _ _ => lv_ladd hC.x hC.b hd) k
theorem j_lsub (hC : g_Cx p s m args meth c cc nL own ret nm E st0) {x y : Int64} (hd : decode cc pc = .ok (.lsub, 1)) (k : g_J p l e R s m args below meth c nL E st0 Z (pc + 1) lv (.long (x - y) :: rest) st cb sb) : g_J p l e R s m args below meth c nL E st0 Z pc lv (.long y :: .long x :: rest) st cb sb := j_pure (fun _ _ _ _ _ _ => lv_lsub hC.x hC.b hd) k
theorem j_lmul (hC : g_Cx p s m args meth c cc nL own ret nm E st0) {x y : Int64} (hd : decode cc pc = .ok (.lmul, 1)) (k : g_J p l e R s m args below meth c nL E st0 Z (pc + 1) lv (.long (x * y) :: rest) st cb sb) : g_J p l e R s m args below meth c nL E st0 Z pc lv (.long y :: .long x :: rest) st cb sb := j_pure (fun _ _ _ _ _ _ => lv_lmul hC.x hC.b hd) k
theorem j_land (hC : g_Cx p s m args meth c cc nL own ret nm E st0) {x y : Int64} (hd : decode cc pc = .ok (.land, 1)) (k : g_J p l e R s m args below meth c nL E st0 Z (pc + 1) lv (.long (x &&& y) :: rest) st cb sb) : g_J p l e R s m args below meth c nL E st0 Z pc lv (.long y :: .long x :: rest) st cb sb := j_pure (fun _ _ _ _ _ _ => lv_land hC.x hC.b hd) k
theorem j_lor (hC : g_Cx p s m args meth c cc nL own ret nm E st0) {x y : Int64} (hd : decode cc pc = .ok (.lor, 1)) (k : g_J p l e R s m args below meth c nL E st0 Z (pc + 1) lv (.long (x ||| y) :: rest) st cb sb) : g_J p l e R s m args below meth c nL E st0 Z pc lv (.long y :: .long x :: rest) st cb sb := j_pure (fun _ _ _ _ _ _ => lv_lor hC.x hC.b hd) k
theorem j_lxor (hC : g_Cx p s m args meth c cc nL own ret nm E st0) {x y : Int64} (hd : decode cc pc = .ok (.lxor, 1)) (k : g_J p l e R s m args below meth c nL E st0 Z (pc + 1) lv (.long (x ^^^ y) :: rest) st cb sb) : g_J p l e R s m args below meth c nL E st0 Z pc lv (.long y :: .long x :: rest) st cb sb := j_pure (fun _ _ _ _ _ _ => lv_lxor hC.x hC.b hd) k
theorem j_ineg (hC : g_Cx p s m args meth c cc nL own ret nm E st0) {x : Int32} (hd : decode cc pc = .ok (.ineg, 1)) (k : g_J p l e R s m args below meth c nL E st0 Z (pc + 1) lv (.int (-x) :: rest) st cb sb) : g_J p l e R s m args below meth c nL E st0 Z pc lv (.int x :: rest) st cb sb := j_pure (fun _ _ _ _ _ _ => lv_ineg hC.x hC.b hd) k
theorem j_i2l (hC : g_Cx p s m args meth c cc nL own ret nm E st0) {x : Int32} (hd : decode cc pc = .ok (.i2l, 1)) (k : g_J p l e R s m args below meth c nL E st0 Z (pc + 1) lv (.long (x.toInt64) :: rest) st cb sb) : g_J p l e R s m args below meth c nL E st0 Z pc lv (.int x :: rest) st cb sb := j_pure (fun _ _ _ _ _ _ => lv_i2l hC.x hC.b hd rfl) k
theorem j_l2i (hC : g_Cx p s m args meth c cc nL own ret nm E st0) {x : Int64} (hd : decode cc pc = .ok (.l2i, 1)) (k : g_J p l e R s m args below meth c nL E st0 Z (pc + 1) lv (.int (x.toInt32) :: rest) st cb sb) : g_J p l e R s m args below meth c nL E st0 Z pc lv (.long x :: rest) st cb sb := j_pure (fun _ _ _ _ _ _ => lv_l2i hC.x hC.b hd rfl) k
theorem j_i2b (hC : g_Cx p s m args meth c cc nL own ret nm E st0) {x : Int32} (hd : decode cc pc = .ok (.i2b, 1)) (k : g_J p l e R s m args below meth c nL E st0 Z (pc + 1) lv (.int (x.toInt8.toInt32) :: rest) st cb sb) : g_J p l e R s m args below meth c nL E st0 Z pc lv (.int x :: rest) st cb sb := j_pure (fun _ _ _ _ _ _ => lv_i2b hC.x hC.b hd rfl) k
theorem j_i2s (hC : g_Cx p s m args meth c cc nL own ret nm E st0) {x : Int32} (hd : decode cc pc = .ok (.i2s, 1)) (k : g_J p l e R s m args below meth c nL E st0 Z (pc + 1) lv (.int (x.toInt16.toInt32) :: rest) st cb sb) : g_J p l e R s m args below meth c nL E st0 Z pc lv (.int x :: rest) st cb sb := j_pure (fun _ _ _ _ _ _ => lv_i2s hC.x hC.b hd rfl) k
theorem j_i2c (hC : g_Cx p s m args meth c cc nL own ret nm E st0) {x : Int32} (hd : decode cc pc = .ok (.i2c, 1)) (k : g_J p l e R s m args below meth c nL E st0 Z (pc + 1) lv (.int ((x.toUInt32 % 65536).toInt32) :: rest) st cb sb) : g_J p l e R s m args below meth c nL E st0 Z pc lv (.int x :: rest) st cb sb := j_pure (fun _ _ _ _ _ _ => lv_i2c hC.x hC.b hd rfl) k
theorem j_iushr (hC : g_Cx p s m args meth c cc nL own ret nm E st0) {x : Int32} {y : Int32} (hd : decode cc pc = .ok (.iushr, 1)) (k : g_J p l e R s m args below meth c nL E st0 Z (pc + 1) lv (.int ((x.toUInt32 >>> (y.toUInt32 &&& Int32.toUInt32 31)).toInt32) :: rest) st cb sb) : g_J p l e R s m args below meth c nL E st0 Z pc lv (.int y :: .int x :: rest) st cb sb := j_pure (fun _ _ _ _ _ _ => lv_iushr hC.x hC.b hd rfl) k
theorem j_lushr (hC : g_Cx p s m args meth c cc nL own ret nm E st0) {x : Int64} {y : Int32} (hd : decode cc pc = .ok (.lushr, 1)) (k : g_J p l e R s m args below meth c nL E st0 Z (pc + 1) lv (.long ((x.toUInt64 >>> (y.toInt64.toUInt64 &&& Int64.toUInt64 63)).toInt64) :: rest) st cb sb) : g_J p l e R s m args below meth c nL E st0 Z pc lv (.int y :: .long x :: rest) st cb sb := j_pure (fun _ _ _ _ _ _ => lv_lushr hC.x hC.b hd rfl) k
theorem j_lshl (hC : g_Cx p s m args meth c cc nL own ret nm E st0) {x : Int64} {y : Int32} (hd : decode cc pc = .ok (.lshl, 1)) (k : g_J p l e R s m args below meth c nL E st0 Z (pc + 1) lv (.long (x <<< (y.toInt64 &&& 63)) :: rest) st cb sb) : g_J p l e R s m args below meth c nL E st0 Z pc lv (.int y :: .long x :: rest) st cb sb := j_pure (fun _ _ _ _ _ _ => lv_lshl hC.x hC.b hd rfl) k
theorem j_lshr (hC : g_Cx p s m args meth c cc nL own ret nm E st0) {x : Int64} {y : Int32} (hd : decode cc pc = .ok (.lshr, 1)) (k : g_J p l e R s m args below meth c nL E st0 Z (pc + 1) lv (.long (x >>> (y.toInt64 &&& 63)) :: rest) st cb sb) : g_J p l e R s m args below meth c nL E st0 Z pc lv (.int y :: .long x :: rest) st cb sb := j_pure (fun _ _ _ _ _ _ => lv_lshr hC.x hC.b hd rfl) k
theorem j_ishl (hC : g_Cx p s m args meth c cc nL own ret nm E st0) {x y : Int32} (hd : decode cc pc = .ok (.ishl, 1)) (k : g_J p l e R s m args below meth c nL E st0 Z (pc + 1) lv (.int (x <<< (y &&& 31)) :: rest) st cb sb) : g_J p l e R s m args below meth c nL E st0 Z pc lv (.int y :: .int x :: rest) st cb sb := j_pure (fun _ _ _ _ _ _ => lv_ishl hC.x hC.b hd) k
theorem j_ishr (hC : g_Cx p s m args meth c cc nL own ret nm E st0) {x y : Int32} (hd : decode cc pc = .ok (.ishr, 1)) (k : g_J p l e R s m args below meth c nL E st0 Z (pc + 1) lv (.int (x >>> (y &&& 31)) :: rest) st cb sb) : g_J p l e R s m args below meth c nL E st0 Z pc lv (.int y :: .int x :: rest) st cb sb := j_pure (fun _ _ _ _ _ _ => lv_ishr hC.x hC.b hd) k
theorem j_lcmp (hC : g_Cx p s m args meth c cc nL own ret nm E st0) {x y : Int64} (hd : decode cc pc = .ok (.lcmp, 1)) (k : g_J p l e R s m args below meth c nL E st0 Z (pc + 1) lv (.int (lg_cmp x y) :: rest) st cb sb) : g_J p l e R s m args below meth c nL E st0 Z pc lv (.long y :: .long x :: rest) st cb sb := j_pure (fun _ _ _ _ _ _ => W.lcmp hC.x hC.b hd) k
theorem j_dup (hC : g_Cx p s m args meth c cc nL own ret nm E st0) {v : Value} (hd : decode cc pc = .ok (.dup, 1)) (hv : v.category = 1) (k : g_J p l e R s m args below meth c nL E st0 Z (pc + 1) lv (v :: v :: rest) st cb sb) : g_J p l e R s m args below meth c nL E st0 Z pc lv (v :: rest) st cb sb := j_pure (fun _ _ _ _ _ _ => lv_dup hC.x hC.b hd hv) k
theorem j_pop (hC : g_Cx p s m args meth c cc nL own ret nm E st0) {v : Value} (hd : decode cc pc = .ok (.pop, 1)) (hv : v.category = 1) (k : g_J p l e R s m args below meth c nL E st0 Z (pc + 1) lv rest st cb sb) : g_J p l e R s m args below meth c nL E st0 Z pc lv (v :: rest) st cb sb := j_pure (fun _ _ _ _ _ _ => lv_pop hC.x hC.b hd hv) k
theorem j_dup_x1 (hC : g_Cx p s m args meth c cc nL own ret nm E st0) {v w : Value} (hd : decode cc pc = .ok (.dup_x1, 1)) (hv : v.category = 1) (hw : w.category = 1) (k : g_J p l e R s m args below meth c nL E st0 Z (pc + 1) lv (v :: w :: v :: rest) st cb sb) : g_J p l e R s m args below meth c nL E st0 Z pc lv (v :: w :: rest) st cb sb := j_pure (fun _ _ _ _ _ _ => lv_dup_x1 hC.x hC.b hd hv hw) k
theorem j_dup2 (hC : g_Cx p s m args meth c cc nL own ret nm E st0) {v w : Value} (hd : decode cc pc = .ok (.dup2, 1)) (hv : v.category = 1) (hw : w.category = 1) (k : g_J p l e R s m args below meth c nL E st0 Z (pc + 1) lv (v :: w :: v :: w :: rest) st cb sb) : g_J p l e R s m args below meth c nL E st0 Z pc lv (v :: w :: rest) st cb sb := j_pure (fun _ _ _ _ _ _ => lv_dup2_11 hC.x hC.b hd hv hw) k
theorem j_if_eq (hC : g_Cx p s m args meth c cc nL own ret nm E st0) {x : Int32} {off : Int} {tgt : Nat} (hd : decode cc pc = .ok (.ifCond .eq off, 3)) (ht : (pc : Int) + off = (tgt : Int)) (kt : x = 0 → g_J p l e R s m args below meth c nL E st0 Z tgt lv rest st cb sb) (kf : ¬ x = 0 → g_J p l e R s m args below meth c nL E st0 Z (pc + 3) lv rest st cb sb) : g_J p l e R s m args below meth c nL E st0 Z pc lv (.int x :: rest) st cb sb := fun H locs ls cells slots h1 h2 h3 h4 h5 h6 => lv_if_eq hC.x hC.b hd ht (fun q => kt q H locs ls cells slots h1 h2 h3 h4 h5 h6) (fun q => kf q H locs ls cells slots h1 h2 h3 h4 h5 h6)
theorem j_if_ne (hC : g_Cx p s m args meth c cc nL own ret nm E st0) {x : Int32} {off : Int} {tgt : Nat} (hd : decode cc pc = .ok (.ifCond .ne off, 3)) (ht : (pc : Int) + off = (tgt : Int)) (kt : ¬ x = 0 → g_J p l e R s m args below meth c nL E st0 Z tgt lv rest st cb sb) (kf : x = 0 → g_J p l e R s m args below meth c nL E st0 Z (pc + 3) lv rest st cb sb) : g_J p l e R s m args below meth c nL E st0 Z pc lv (.int x :: rest) st cb sb := fun H locs ls cells slots h1 h2 h3 h4 h5 h6 => lv_if_ne hC.x hC.b hd ht (fun q => kt q H locs ls cells slots h1 h2 h3 h4 h5 h6) (fun q => kf q H locs ls cells slots h1 h2 h3 h4 h5 h6)
theorem j_if_lt (hC : g_Cx p s m args meth c cc nL own ret nm E st0) {x : Int32} {off : Int} {tgt : Nat} (hd : decode cc pc = .ok (.ifCond .lt off, 3)) (ht : (pc : Int) + off = (tgt : Int)) (kt : x < 0 → g_J p l e R s m args below meth c nL E st0 Z tgt lv rest st cb sb) (kf : ¬ x < 0 → g_J p l e R s m args below meth c nL E st0 Z (pc + 3) lv rest st cb sb) : g_J p l e R s m args below meth c nL E st0 Z pc lv (.int x :: rest) st cb sb := fun H locs ls cells slots h1 h2 h3 h4 h5 h6 => lv_if_lt hC.x hC.b hd ht (fun q => kt q H locs ls cells slots h1 h2 h3 h4 h5 h6) (fun q => kf q H locs ls cells slots h1 h2 h3 h4 h5 h6)
theorem j_if_ge (hC : g_Cx p s m args meth c cc nL own ret nm E st0) {x : Int32} {off : Int} {tgt : Nat} (hd : decode cc pc = .ok (.ifCond .ge off, 3)) (ht : (pc : Int) + off = (tgt : Int)) (kt : 0 ≤ x → g_J p l e R s m args below meth c nL E st0 Z tgt lv rest st cb sb) (kf : ¬ 0 ≤ x → g_J p l e R s m args below meth c nL E st0 Z (pc + 3) lv rest st cb sb) : g_J p l e R s m args below meth c nL E st0 Z pc lv (.int x :: rest) st cb sb := fun H locs ls cells slots h1 h2 h3 h4 h5 h6 => lv_if_ge hC.x hC.b hd ht (fun q => kt q H locs ls cells slots h1 h2 h3 h4 h5 h6) (fun q => kf q H locs ls cells slots h1 h2 h3 h4 h5 h6)
theorem j_if_gt (hC : g_Cx p s m args meth c cc nL own ret nm E st0) {x : Int32} {off : Int} {tgt : Nat} (hd : decode cc pc = .ok (.ifCond .gt off, 3)) (ht : (pc : Int) + off = (tgt : Int)) (kt : 0 < x → g_J p l e R s m args below meth c nL E st0 Z tgt lv rest st cb sb) (kf : ¬ 0 < x → g_J p l e R s m args below meth c nL E st0 Z (pc + 3) lv rest st cb sb) : g_J p l e R s m args below meth c nL E st0 Z pc lv (.int x :: rest) st cb sb := fun H locs ls cells slots h1 h2 h3 h4 h5 h6 => lv_if_gt hC.x hC.b hd ht (fun q => kt q H locs ls cells slots h1 h2 h3 h4 h5 h6) (fun q => kf q H locs ls cells slots h1 h2 h3 h4 h5 h6)
theorem j_if_le (hC : g_Cx p s m args meth c cc nL own ret nm E st0) {x : Int32} {off : Int} {tgt : Nat} (hd : decode cc pc = .ok (.ifCond .le off, 3)) (ht : (pc : Int) + off = (tgt : Int)) (kt : x ≤ 0 → g_J p l e R s m args below meth c nL E st0 Z tgt lv rest st cb sb) (kf : ¬ x ≤ 0 → g_J p l e R s m args below meth c nL E st0 Z (pc + 3) lv rest st cb sb) : g_J p l e R s m args below meth c nL E st0 Z pc lv (.int x :: rest) st cb sb := fun H locs ls cells slots h1 h2 h3 h4 h5 h6 => lv_if_le hC.x hC.b hd ht (fun q => kt q H locs ls cells slots h1 h2 h3 h4 h5 h6) (fun q => kf q H locs ls cells slots h1 h2 h3 h4 h5 h6)
theorem j_icmp_eq (hC : g_Cx p s m args meth c cc nL own ret nm E st0) {x y : Int32} {off : Int} {tgt : Nat} (hd : decode cc pc = .ok (.if_icmp .eq off, 3)) (ht : (pc : Int) + off = (tgt : Int)) (kt : x = y → g_J p l e R s m args below meth c nL E st0 Z tgt lv rest st cb sb) (kf : ¬ x = y → g_J p l e R s m args below meth c nL E st0 Z (pc + 3) lv rest st cb sb) : g_J p l e R s m args below meth c nL E st0 Z pc lv (.int y :: .int x :: rest) st cb sb := fun H locs ls cells slots h1 h2 h3 h4 h5 h6 => lv_icmp_eq hC.x hC.b hd ht (fun q => kt q H locs ls cells slots h1 h2 h3 h4 h5 h6) (fun q => kf q H locs ls cells slots h1 h2 h3 h4 h5 h6)
theorem j_icmp_ne (hC : g_Cx p s m args meth c cc nL own ret nm E st0) {x y : Int32} {off : Int} {tgt : Nat} (hd : decode cc pc = .ok (.if_icmp .ne off, 3)) (ht : (pc : Int) + off = (tgt : Int)) (kt : ¬ x = y → g_J p l e R s m args below meth c nL E st0 Z tgt lv rest st cb sb) (kf : x = y → g_J p l e R s m args below meth c nL E st0 Z (pc + 3) lv rest st cb sb) : g_J p l e R s m args below meth c nL E st0 Z pc lv (.int y :: .int x :: rest) st cb sb := fun H locs ls cells slots h1 h2 h3 h4 h5 h6 => lv_icmp_ne hC.x hC.b hd ht (fun q => kt q H locs ls cells slots h1 h2 h3 h4 h5 h6) (fun q => kf q H locs ls cells slots h1 h2 h3 h4 h5 h6)
theorem j_icmp_lt (hC : g_Cx p s m args meth c cc nL own ret nm E st0) {x y : Int32} {off : Int} {tgt : Nat} (hd : decode cc pc = .ok (.if_icmp .lt off, 3)) (ht : (pc : Int) + off = (tgt : Int)) (kt : x < y → g_J p l e R s m args below meth c nL E st0 Z tgt lv rest st cb sb) (kf : ¬ x < y → g_J p l e R s m args below meth c nL E st0 Z (pc + 3) lv rest st cb sb) : g_J p l e R s m args below meth c nL E st0 Z pc lv (.int y :: .int x :: rest) st cb sb := fun H locs ls cells slots h1 h2 h3 h4 h5 h6 => lv_icmp_lt hC.x hC.b hd ht (fun q => kt q H locs ls cells slots h1 h2 h3 h4 h5 h6) (fun q => kf q H locs ls cells slots h1 h2 h3 h4 h5 h6)
theorem j_icmp_ge (hC : g_Cx p s m args meth c cc nL own ret nm E st0) {x y : Int32} {off : Int} {tgt : Nat} (hd : decode cc pc = .ok (.if_icmp .ge off, 3)) (ht : (pc : Int) + off = (tgt : Int)) (kt : y ≤ x → g_J p l e R s m args below meth c nL E st0 Z tgt lv rest st cb sb) (kf : ¬ y ≤ x → g_J p l e R s m args below meth c nL E st0 Z (pc + 3) lv rest st cb sb) : g_J p l e R s m args below meth c nL E st0 Z pc lv (.int y :: .int x :: rest) st cb sb := fun H locs ls cells slots h1 h2 h3 h4 h5 h6 => lv_icmp_ge hC.x hC.b hd ht (fun q => kt q H locs ls cells slots h1 h2 h3 h4 h5 h6) (fun q => kf q H locs ls cells slots h1 h2 h3 h4 h5 h6)
theorem j_icmp_gt (hC : g_Cx p s m args meth c cc nL own ret nm E st0) {x y : Int32} {off : Int} {tgt : Nat} (hd : decode cc pc = .ok (.if_icmp .gt off, 3)) (ht : (pc : Int) + off = (tgt : Int)) (kt : y < x → g_J p l e R s m args below meth c nL E st0 Z tgt lv rest st cb sb) (kf : ¬ y < x → g_J p l e R s m args below meth c nL E st0 Z (pc + 3) lv rest st cb sb) : g_J p l e R s m args below meth c nL E st0 Z pc lv (.int y :: .int x :: rest) st cb sb := fun H locs ls cells slots h1 h2 h3 h4 h5 h6 => lv_icmp_gt hC.x hC.b hd ht (fun q => kt q H locs ls cells slots h1 h2 h3 h4 h5 h6) (fun q => kf q H locs ls cells slots h1 h2 h3 h4 h5 h6)
theorem j_icmp_le (hC : g_Cx p s m args meth c cc nL own ret nm E st0) {x y : Int32} {off : Int} {tgt : Nat} (hd : decode cc pc = .ok (.if_icmp .le off, 3)) (ht : (pc : Int) + off = (tgt : Int)) (kt : x ≤ y → g_J p l e R s m args below meth c nL E st0 Z tgt lv rest st cb sb) (kf : ¬ x ≤ y → g_J p l e R s m args below meth c nL E st0 Z (pc + 3) lv rest st cb sb) : g_J p l e R s m args below meth c nL E st0 Z pc lv (.int y :: .int x :: rest) st cb sb := fun H locs ls cells slots h1 h2 h3 h4 h5 h6 => lv_icmp_le hC.x hC.b hd ht (fun q => kt q H locs ls cells slots h1 h2 h3 h4 h5 h6) (fun q => kf q H locs ls cells slots h1 h2 h3 h4 h5 h6)
theorem j_acmp_eq (hC : g_Cx p s m args meth c cc nL own ret nm E st0) {rx ry : Option Nat} {off : Int} {tgt : Nat} (hd : decode cc pc = .ok (.if_acmp .eq off, 3)) (ht : (pc : Int) + off = (tgt : Int)) (kt : rx = ry → g_J p l e R s m args below meth c nL E st0 Z tgt lv rest st cb sb) (kf : ¬ rx = ry → g_J p l e R s m args below meth c nL E st0 Z (pc + 3) lv rest st cb sb) : g_J p l e R s m args below meth c nL E st0 Z pc lv (va_rf ry :: va_rf rx :: rest) st cb sb := fun H locs ls cells slots h1 h2 h3 h4 h5 h6 => lv_acmp_eq hC.x hC.b hd ht (fun q => kt q H locs ls cells slots h1 h2 h3 h4 h5 h6) (fun q => kf q H locs ls cells slots h1 h2 h3 h4 h5 h6)
theorem j_acmp_ne (hC : g_Cx p s m args meth c cc nL own ret nm E st0) {rx ry : Option Nat} {off : Int} {tgt : Nat} (hd : decode cc pc = .ok (.if_acmp .ne off, 3)) (ht : (pc : Int) + off = (tgt : Int)) (kt : ¬ rx = ry → g_J p l e R s m args below meth c nL E st0 Z tgt lv rest st cb sb) (kf : rx = ry → g_J p l e R s m args below meth c nL E st0 Z (pc + 3) lv rest st cb sb) : g_J p l e R s m args below meth c nL E st0 Z pc lv (va_rf ry :: va_rf rx :: rest) st cb sb := fun H locs ls cells slots h1 h2 h3 h4 h5 h6 => lv_acmp_ne hC.x hC.b hd ht (fun q => kt q H locs ls cells slots h1 h2 h3 h4 h5 h6) (fun q => kf q H locs ls cells slots h1 h2 h3 h4 h5 h6)
theorem j_goto (hC : g_Cx p s m args meth c cc nL own ret nm E st0) {off : Int} {tgt : Nat} {stk : List Value} (hd : decode cc pc = .ok (.goto off, 3)) (ht : (pc : Int) + off = (tgt : Int)) (k : g_J p l e R s m args below meth c nL E st0 Z tgt lv stk st cb sb) : g_J p l e R s m args below meth c nL E st0 Z pc lv stk st cb sb := j_pure (fun _ _ _ _ _ _ => lv_goto hC.x hC.b hd ht) k
theorem j_ifnull (hC : g_Cx p s m args meth c cc nL own ret nm E st0) {o : Option Nat} {off : Int} {tgt : Nat} (hd : decode cc pc = .ok (.ifnull off, 3)) (ht : (pc : Int) + off = (tgt : Int)) (kt : o = none → g_J p l e R s m args below meth c nL E st0 Z tgt lv rest st cb sb) (kf : (∀ a : Nat, o = some a → g_J p l e R s m args below meth c nL E st0 Z (pc + 3) lv rest st cb sb)) : g_J p l e R s m args below meth c nL E st0 Z pc lv (va_rf o :: rest) st cb sb := by
  cases o with
  | none => exact j_pure (fun _ _ _ _ _ _ => lv_ifnullN hC.x hC.b hd ht) (kt rfl)
  | some a => exact j_pure (fun _ _ _ _ _ _ => lv_ifnull hC.x hC.b hd) (kf a rfl)
theorem j_ifnonnull (hC : g_Cx p s m args meth c cc nL own ret nm E st0) {o : Option Nat} {off : Int} {tgt : Nat} (hd : decode cc pc = .ok (.ifnonnull off, 3)) (ht : (pc : Int) + off = (tgt : Int)) (kt : (∀ a : Nat, o = some a → g_J p l e R s m args below meth c nL E st0 Z tgt lv rest st cb sb)) (kf : o = none → g_J p l e R s m args below meth c nL E st0 Z (pc + 3) lv rest st cb sb) : g_J p l e R s m args below meth c nL E st0 Z pc lv (va_rf o :: rest) st cb sb := by
  cases o with
  | none => exact j_pure (fun _ _ _ _ _ _ => lv_ifnonnullN hC.x hC.b hd) (kf rfl)
  | some a => exact j_pure (fun _ _ _ _ _ _ => lv_ifnonnull hC.x hC.b hd ht) (kt a rfl)
theorem g_declT {args : Array Value} {s : State} {C O f d : String} (h : (Cond.lays C O f d).before args s = true ∨ (Cond.laysFinal C O f d).before args s = true) {cf kf fi fd} (hi : s.fieldFound? O f d = some (cf, kf, fi, fd)) : ∃ (k : ClassId) (q : Class × Field), s.vm.findClass C = some k ∧ Jmm.declares? s.vm fd.slot (k + 1) k = some q ∧ q.2.type = fd.type := by
  rcases h with h | h
  · obtain ⟨c, k, c', k', i, f0, h1, -, h2, -, -, -, -, q, h3, -, -, h4⟩ := Cond.lays_spec h
    cases hi.symm.trans h2
    exact ⟨c, q, h1, h3, h4⟩
  · obtain ⟨c, k, c', k', i, f0, h1, -, h2, -, -, -, -, -, q, h3, -, -, h4⟩ := Cond.laysFinal_spec h
    cases hi.symm.trans h2
    exact ⟨c, q, h1, h3, h4⟩
theorem g_apartT {args : Array Value} {s : State} {C O f d O' f' d' : String} (h : (Cond.lays C O f d).before args s = true ∨ (Cond.laysFinal C O f d).before args s = true) (h' : (Cond.lays C O' f' d').before args s = true ∨ (Cond.laysFinal C O' f' d').before args s = true)
    {cf kf fi fd cf' kf' fi' fd'} (hi : s.fieldFound? O f d = some (cf, kf, fi, fd)) (hi' : s.fieldFound? O' f' d' = some (cf', kf', fi', fd')) (hne : fd.type ≠ fd'.type) : fd.slot ≠ fd'.slot := by
  obtain ⟨k, q, a1, a2, a3⟩ := g_declT h hi
  obtain ⟨k', q', b1, b2, b3⟩ := g_declT h' hi'
  cases a1.symm.trans b1
  intro hs
  rw [hs] at a2
  cases a2.symm.trans b2
  exact hne (a3.symm.trans b3)
theorem g_apart {s : State} {args : Array Value} {D : va_G} {cl : List vw_C} {tys : List (ClassId × FieldType)} {C : String} {T : u_T} {N ci : Nat} {Ts : List Cond} (hts : ∀ w ∈ Ts, w.before args s = true) (hin : ∀ w ∈ u_ws C T N, w ∈ Ts) (ty : Nat → FieldType) (hty : ∀ k, k < N → parseFieldDescriptor (T k).2.2.1 = some (ty k)) (hnm : ∀ a, a < N → ∀ b, b < N → a ≠ b → (T a).2.1 ≠ (T b).2.1 ∨ ty a ≠ ty b) (hK : va_K D cl tys s) (hc : cl[ci]? = some (C, T, N)) : ∀ x y, x < N → y < N → x ≠ y → D.2 ci x ≠ D.2 ci y := by
  intro x y hx hy hne
  obtain ⟨hS, -⟩ := hK.1 ci _ hc
  obtain ⟨_, _, _, fa, hia, ea⟩ := hS x hx
  obtain ⟨_, _, _, fb, hib, eb⟩ := hS y hy
  rw [← ea, ← eb]
  rcases hnm x hx y hy hne with h | h
  · refine u_apart (u_lays hts hin hx) (u_lays hts hin hy) hia hib ?_
    rw [(State.fieldFound?_type hia (hty x hx)).1, (State.fieldFound?_type hib (hty y hy)).1]
    exact h
  · refine g_apartT (u_lays hts hin hx) (u_lays hts hin hy) hia hib ?_
    rw [(State.fieldFound?_type hia (hty x hx)).2, (State.fieldFound?_type hib (hty y hy)).2]
    exact h
theorem g_nmL {T : u_T} {N : Nat} {ty : Nat → FieldType} (h : ∀ a, a < N → ∀ b, b < N → a ≠ b → (T a).2.1 ≠ (T b).2.1) : ∀ a, a < N → ∀ b, b < N → a ≠ b → (T a).2.1 ≠ (T b).2.1 ∨ ty a ≠ ty b := fun a ha b hb hn => Or.inl (h a ha b hb hn)
theorem g_nm33 : ∀ a, a < 4 → ∀ b, b < 4 → a ≠ b → (TJ33 a).2.1 ≠ (TJ33 b).2.1 ∨ tyJ33 a ≠ tyJ33 b := by decide +kernel
-- fields
/-- field k of the objects of number ci, as the method's file names it -/
def g_Fd (own : String) (index ci k : Nat) (ty : FieldType) (fin : Bool) : Prop := ∃ (C : String) (T : u_T) (N : Nat) (ty0 : Nat → FieldType) (ref : String), g_cl[ci]? = some (C, T, N) ∧ (∀ w ∈ u_ws C T N, w ∈ lw_all) ∧ k < N ∧ Cond.fieldLink own index ref (T k).2.1 (T k).2.2.1 ∈ lw_all ∧ (ref = (T k).1 ∨ Cond.sameField ref (T k).1 (T k).2.1 (T k).2.2.1 ∈ lw_all) ∧ (∀ j, j < N → parseFieldDescriptor (T j).2.2.1 = some (ty0 j)) ∧ (∀ a, a < N → ∀ b, b < N → a ≠ b → (T a).2.1 ≠ (T b).2.1 ∨ ty0 a ≠ ty0 b) ∧ ty0 k = ty ∧ (T k).2.2.2 = fin ∧ (fin = true → (T k).1 = own)
theorem g_same (hC : g_Cx p s m args meth c cc nL own ret nm E st0) {ref o n d : String} (h : ref = o ∨ Cond.sameField ref o n d ∈ lw_all) : ∀ x, s.fieldFound? o n d = some x → s.fieldFound? ref n d = some x := by
  rcases h with h | h
  · rw [h]; exact fun _ h => h
  · exact u_same (hC.ts _ h)
theorem j_get (hC : g_Cx p s m args meth c cc nL own ret nm E st0) {index ci k a : Nat} {ty : FieldType} {fin : Bool} (hF : g_Fd own index ci k ty fin) (hd : decode cc pc = .ok (.getfield index, 3)) {fs : List Value} {v : Value} (hr : g_Rd st a (.inr (ci, fs))) (hv : fs[k]? = some v) (K : g_J p l e R s m args below meth c nL E st0 Z (pc + 3) lv (v :: rest) st cb sb) : g_J p l e R s m args below meth c nL E st0 Z pc lv (va_rf (some a) :: rest) st cb sb := by
  intro H locs ls cells slots h1 h2 h3 h4 h5 h6
  obtain ⟨C, T, N, ty0, ref, g1, g2, g3, g4, g5, g6, g7, g8, g9, g10⟩ := hF
  obtain ⟨cell, r, q1, q2, q3, q4, q5, q6⟩ := h2.rd hr
  have hr : r = (C, T, N) := Option.some.inj (q1.symm.trans g1)
  subst hr
  obtain ⟨hS, hfc, kC, hkC, hkind⟩ := hC.K.1 ci _ g1
  obtain ⟨cf, kf, fi, f, hi, hsl⟩ := hS k g3
  refine W.getf hC.x hC.b hC.ow (hC.ts _ g4) (g_same hC g5 _ hi) (u_facts hfc hkC (u_lays hC.ts g2 g3) hi).1 q2 q5 (v := v) ?_ rfl rfl hd (K H locs ls cells slots h1 h2 h3 h4 h5 h6)
  rw [hsl]
  exact (q6 k v hv).2
theorem j_put (hC : g_Cx p s m args meth c cc nL own ret nm E st0) {index ci k a : Nat} {ty : FieldType} (hF : g_Fd own index ci k ty false) (hd : decode cc pc = .ok (.putfield index, 3)) {fs : List Value} {v : Value} (hm : st.2.1 a = some (.inr (ci, fs))) (hn : narrow ty v = v) (hfit : fits ty v = true) (K : ∀ st1 : g_St, st1 = g_put st a (.inr (ci, fs.set k v)) → g_J p l e R s m args below meth c nL E st0 Z (pc + 3) lv rest st1 cb sb) : g_J p l e R s m args below meth c nL E st0 Z pc lv (v :: va_rf (some a) :: rest) st cb sb := by
  intro H locs ls cells slots h1 h2 h3 h4 h5 h6
  obtain ⟨C, T, N, ty0, ref, g1, g2, g3, g4, g5, g6, g7, g8, g9, g10⟩ := hF
  have hap := g_apart hC.ts g2 ty0 g6 g7 hC.K g1
  obtain ⟨⟨r, q0, ⟨cell, q1, q2, q3, q4⟩, q5⟩, hb, hf⟩ := h2.2.2.2 a _ hm
  have hr : r = (C, T, N) := Option.some.inj (q0.symm.trans g1)
  subst hr
  obtain ⟨hS, hfc, kC, hkC, hkind⟩ := hC.K.1 ci _ g1
  obtain ⟨cf, kf, fi, f, hi, hsl⟩ := hS k g3
  have hlay := hC.ts _ (g2 _ (u_in_lay g3))
  unfold u_lay at hlay
  rw [if_neg (by rw [g9]; decide)] at hlay
  have hst := (u_facts hfc hkC (u_lays hC.ts g2 g3) hi).1
  have h7 := u_store hfc hkC hkind hlay hi ((g6 k g3).trans (congrArg some g8)) hn hfit
  have hl : k < fs.length := by rw [q5]; exact g3
  refine W.putK hC.x hC.b (f := f) ⟨hC.ow, hC.ts _ g4, ⟨_, _, _, g_same hC g5 _ hi⟩, hst⟩ (by rw [q2]; exact h7) q1 q3 (by rw [hsl]; exact k2_hasslot (q4 k g3)) rfl rfl hd fun H' e1 e2 e3 => ?_
  rw [hsl] at e1 ⊢
  have ho : g_at E a (.inr (ci, fs.set k v)) H' := ⟨_, g1, t_OB.to (V := updV (vp_V fs) k v) ⟨_, e1, q2, q3, t_set q4 hap g3 v⟩ (fun j _ => vp_updV_set hl v j), by rw [List.length_set]; exact q5⟩
  exact K _ rfl H' _ ls cells slots h1 (h2.put hm ho e2 e3) (h3.put hm) (g_S.put h4 h3 hm e2 e3) h5 h6
theorem j_putF (hC : g_Cx p s m args meth c cc nL own ret nm E st0) {index ci k a : Nat} {ty : FieldType} (hF : g_Fd own index ci k ty true) (hnm : nm = "<init>") (hd : decode cc pc = .ok (.putfield index, 3)) {fs : List Value} {v : Value} (hm : st.2.1 a = some (.inr (ci, fs))) (hn : narrow ty v = v) (hfit : fits ty v = true) (K : ∀ st1 : g_St, st1 = g_put st a (.inr (ci, fs.set k v)) → g_J p l e R s m args below meth c nL E st0 Z (pc + 3) lv rest st1 cb sb) : g_J p l e R s m args below meth c nL E st0 Z pc lv (v :: va_rf (some a) :: rest) st cb sb := by
  intro H locs ls cells slots h1 h2 h3 h4 h5 h6
  obtain ⟨C, T, N, ty0, ref, g1, g2, g3, g4, g5, g6, g7, g8, g9, g10⟩ := hF
  have hap := g_apart hC.ts g2 ty0 g6 g7 hC.K g1
  obtain ⟨⟨r, q0, ⟨cell, q1, q2, q3, q4⟩, q5⟩, hb, hf⟩ := h2.2.2.2 a _ hm
  have hr : r = (C, T, N) := Option.some.inj (q0.symm.trans g1)
  subst hr
  obtain ⟨hS, hfc, kC, hkC, hkind⟩ := hC.K.1 ci _ g1
  obtain ⟨cf, kf, fi, f, hi, hsl⟩ := hS k g3
  have hlay := hC.ts _ (g2 _ (u_in_lay g3))
  unfold u_lay at hlay
  rw [if_pos g9] at hlay
  have hst := (u_facts hfc hkC (u_lays hC.ts g2 g3) hi).1
  have hcf : m.cls = cf := by
    obtain ⟨_, _, c', _, _, _, -, -, hf', -, -, -, hown2, -⟩ := Cond.laysFinal_spec hlay
    have e1 : c' = cf := by have := hi.symm.trans hf'; simp at this; exact this.1.symm
    rw [g10 rfl] at hown2
    rw [← e1]; exact Option.some.inj (hC.ow.symm.trans hown2)
  have h7 := u_fits hfc hkC hkind (Or.inr hlay) hi ((g6 k g3).trans (congrArg some g8)) hn hfit
  have hl : k < fs.length := by rw [q5]; exact g3
  refine W.putFinK hC.x hC.b hC.ow (hC.ts _ g4) (g_same hC g5 _ hi) hst hcf (hC.na.trans hnm) (by rw [q2]; exact h7) q1 q3 (by rw [hsl]; exact k2_hasslot (q4 k g3)) rfl rfl hd fun H' e1 e2 e3 => ?_
  rw [hsl] at e1 ⊢
  have ho : g_at E a (.inr (ci, fs.set k v)) H' := ⟨_, g1, t_OB.to (V := updV (vp_V fs) k v) ⟨_, e1, q2, q3, t_set q4 hap g3 v⟩ (fun j _ => vp_updV_set hl v j), by rw [List.length_set]; exact q5⟩
  exact K _ rfl H' _ ls cells slots h1 (h2.put hm ho e2 e3) (h3.put hm) (g_S.put h4 h3 hm e2 e3) h5 h6
/-- a nest mate's field -/
def g_FdN (own : String) (index ci k : Nat) (ty : FieldType) (fin : Bool) : Prop := ∃ (C : String) (T : u_T) (N : Nat) (ty0 : Nat → FieldType) (ref host : String), g_cl[ci]? = some (C, T, N) ∧ (∀ w ∈ u_ws C T N, w ∈ lw_all) ∧ k < N ∧ Cond.fieldLinkNest own index ref (T k).2.1 (T k).2.2.1 host ∈ g_ext ∧ ref = (T k).1 ∧ (∀ j, j < N → parseFieldDescriptor (T j).2.2.1 = some (ty0 j)) ∧ (∀ a, a < N → ∀ b, b < N → a ≠ b → (T a).2.1 ≠ (T b).2.1 ∨ ty0 a ≠ ty0 b) ∧ ty0 k = ty ∧ (T k).2.2.2 = fin
theorem j_getN (hC : g_Cx p s m args meth c cc nL own ret nm E st0) {index ci k a : Nat} {ty : FieldType} {fin : Bool} (hF : g_FdN own index ci k ty fin) (hd : decode cc pc = .ok (.getfield index, 3)) {fs : List Value} {v : Value} (hr : g_Rd st a (.inr (ci, fs))) (hv : fs[k]? = some v) (K : g_J p l e R s m args below meth c nL E st0 Z (pc + 3) lv (v :: rest) st cb sb) : g_J p l e R s m args below meth c nL E st0 Z pc lv (va_rf (some a) :: rest) st cb sb := by
  intro H locs ls cells slots h1 h2 h3 h4 h5 h6
  obtain ⟨C, T, N, ty0, ref, host, g1, g2, g3, g4, g5, g6, g7, g8, g9⟩ := hF
  obtain ⟨cell, r, q1, q2, q3, q4, q5, q6⟩ := h2.rd hr
  have hr : r = (C, T, N) := Option.some.inj (q1.symm.trans g1)
  subst hr
  obtain ⟨hS, hfc, kC, hkC, hkind⟩ := hC.K.1 ci _ g1
  obtain ⟨cf, kf, fi, f, hi, hsl⟩ := hS k g3
  refine va_Wgetf hC.x hC.b hC.ow (va_Nw.use (A := args) rfl (hC.T.2.2.1 _ g4)) (by rw [g5]; exact hi) (u_facts hfc hkC (u_lays hC.ts g2 g3) hi).1 q2 q5 (v := v) ?_ rfl rfl hd (K H locs ls cells slots h1 h2 h3 h4 h5 h6)
  rw [hsl]
  exact (q6 k v hv).2
/-- a new object of number ci, its fields fs -/
def g_Nw (own : String) (index ci : Nat) (fs : List Value) : Prop := ∃ (C : String) (T : u_T) (ty0 : Nat → FieldType), g_cl[ci]? = some (C, T, fs.length) ∧ (∀ w ∈ u_ws C T fs.length, w ∈ lw_all) ∧ (∀ j, j < fs.length → parseFieldDescriptor (T j).2.2.1 = some (ty0 j)) ∧ Cond.classLink own index C ∈ lw_all ∧ Cond.instantiable C fs.length ∈ lw_all ∧ Cond.initialized C ∈ lw_all ∧ ∀ j, j < fs.length → defaultValue (ty0 j) = vp_V fs j
theorem j_new (hC : g_Cx p s m args meth c cc nL own ret nm E st0) {index ci : Nat} {fs : List Value} (hN : g_Nw own index ci fs) (hd : decode cc pc = .ok (.new index, 3)) {n : Nat} (hn : fs.length = n) (hcb : 1 ≤ cb) (hsb : n ≤ sb) (K : ∀ (q : Nat) (st1 : g_St), q = st.2.2 → st1 = g_new st (.inr (ci, fs)) → g_J p l e R s m args below meth c nL E st0 Z (pc + 3) lv (va_rf (some q) :: rest) st1 (cb - 1) (sb - n)) : g_J p l e R s m args below meth c nL E st0 Z pc lv rest st cb sb := by
  intro H locs ls cells slots h1 h2 h3 h4 h5 h6
  subst hn
  obtain ⟨C, T, ty0, g1, g2, g3, g4, g5, g6, g7⟩ := hN
  have hKn := hC.K.1 ci _ g1
  refine W.newcK hC.x hC.b hC.ow (hC.ts _ g4) (hC.ts _ g5) (hC.ts _ g6) rfl hd (by omega) (by omega) hKn.2.1 rfl fun H1 kC hkC e1 z1 o1 => ?_
  have ho : g_at E st.2.2 (.inr (ci, fs)) H1 := ⟨_, g1, by rw [← h2.1]; exact (u_born ty0 hC.ts g2 hKn hkC e1 g3).to g7, rfl⟩
  rw [h2.1]
  exact K _ _ rfl rfl H1 locs ls _ _ h1 (h2.new ho z1 o1) h3.new (g_S.new h4 z1 o1) (by omega) (by omega)
-- arrays
theorem g_arr {U : State} {cA : ClassId} {ty : FieldType} (h : ArrOfT U cA ty) {cell : Cell} (hc : cell.cls = cA) (hs : cell.vm.isStatics = false) : U.isArrayOf cell ty := by
  obtain ⟨-, k, hk, comp, hkind⟩ := h 0 (fun _ => .null)
  refine ⟨fun z hz => ?_, k, by rw [hc]; exact hk, comp, hkind⟩
  rw [hz] at hs
  cases hs
theorem g_Cx.A (h : g_Cx p s m args meth c cc nL own ret nm E st0) {t : Nat} (ht : t < 6) : ArrOfT s (E.2.2.1 t) (g_ty t) := by
  rcases (show t = 0 ∨ t = 1 ∨ t = 2 ∨ t = 3 ∨ t = 4 ∨ t = 5 by omega) with rfl | rfl | rfl | rfl | rfl | rfl
  · exact (h.K.2 0 _ rfl).1
  · exact (h.K.2 1 _ rfl).1
  · exact (h.K.2 2 _ rfl).1
  · exact (h.K.2 3 _ rfl).1
  · exact (h.K.2 4 _ rfl).1
  · exact h.T.2.1
theorem g_in {j n z : Nat} (hj : j < n) (hJ : j < 2 ^ 31) (hz : n ≤ z) : ¬ (nI j < 0 ∨ z ≤ (nI j).toNatClampNeg) := by
  intro h
  rcases h with h | h
  · exact nI_pos hJ h
  · rw [nI_clamp hJ] at h; omega
theorem j_alen (hC : g_Cx p s m args meth c cc nL own ret nm E st0) {a t : Nat} {x : vp_A} (hr : g_Rd st a (.inl (t, x))) (hd : decode cc pc = .ok (.arraylength, 1)) (K : g_J p l e R s m args below meth c nL E st0 Z (pc + 1) lv (.int (nI x.1) :: rest) st cb sb) : g_J p l e R s m args below meth c nL E st0 Z pc lv (va_rf (some a) :: rest) st cb sb := by
  intro H locs ls cells slots h1 h2 h3 h4 h5 h6
  obtain ⟨cell, q1, q2, q3, q4, q5, q6, q7, -, q8⟩ := h2.rd hr
  exact W.alen (n := nI x.1) hC.x hC.b q1 (g_arr (hC.A q7) q2 q3) q6 rfl rfl hd (K H locs ls cells slots h1 h2 h3 h4 h5 h6)
theorem j_iald (hC : g_Cx p s m args meth c cc nL own ret nm E st0) {a n j : Nat} {f : Nat → Int32} (hr : g_Rd st a (.inl (0, n, .inl f))) (hj : j < n) (hJ : j < 2 ^ 31) (hd : decode cc pc = .ok (.iaload, 1)) (K : g_J p l e R s m args below meth c nL E st0 Z (pc + 1) lv (.int (f j) :: rest) st cb sb) : g_J p l e R s m args below meth c nL E st0 Z pc lv (.int (nI j) :: va_rf (some a) :: rest) st cb sb := by
  intro H locs ls cells slots h1 h2 h3 h4 h5 h6
  obtain ⟨cell, q1, q2, q3, q4, q5, q6, q7, -, q8⟩ := h2.rd hr
  have q8 := q8 j hj
  exact W.iald (v := .int (f j)) hC.x hC.b q1 (g_arr (hC.A (t := 0) (by decide)) q2 q3) q4 (g_in hj hJ q5) (by rw [nI_clamp hJ]; exact q8) rfl rfl hd (K H locs ls cells slots h1 h2 h3 h4 h5 h6)
theorem j_bald (hC : g_Cx p s m args meth c cc nL own ret nm E st0) {a n j : Nat} {f : Nat → Int32} (hr : g_Rd st a (.inl (1, n, .inl f))) (hj : j < n) (hJ : j < 2 ^ 31) (hd : decode cc pc = .ok (.baload, 1)) (K : g_J p l e R s m args below meth c nL E st0 Z (pc + 1) lv (.int (f j) :: rest) st cb sb) : g_J p l e R s m args below meth c nL E st0 Z pc lv (.int (nI j) :: va_rf (some a) :: rest) st cb sb := by
  intro H locs ls cells slots h1 h2 h3 h4 h5 h6
  obtain ⟨cell, q1, q2, q3, q4, q5, q6, q7, -, q8⟩ := h2.rd hr
  have q8 := q8 j hj
  exact W.bald (v := .int (f j)) hC.x hC.b q1 (g_arr (hC.A (t := 1) (by decide)) q2 q3) q4 (g_in hj hJ q5) (by rw [nI_clamp hJ]; exact q8) rfl rfl hd (K H locs ls cells slots h1 h2 h3 h4 h5 h6)
theorem j_cald (hC : g_Cx p s m args meth c cc nL own ret nm E st0) {a n j : Nat} {f : Nat → Int32} (hr : g_Rd st a (.inl (2, n, .inl f))) (hj : j < n) (hJ : j < 2 ^ 31) (hd : decode cc pc = .ok (.caload, 1)) (K : g_J p l e R s m args below meth c nL E st0 Z (pc + 1) lv (.int (f j) :: rest) st cb sb) : g_J p l e R s m args below meth c nL E st0 Z pc lv (.int (nI j) :: va_rf (some a) :: rest) st cb sb := by
  intro H locs ls cells slots h1 h2 h3 h4 h5 h6
  obtain ⟨cell, q1, q2, q3, q4, q5, q6, q7, -, q8⟩ := h2.rd hr
  have q8 := q8 j hj
  exact W.cald (v := .int (f j)) hC.x hC.b q1 (g_arr (hC.A (t := 2) (by decide)) q2 q3) q4 (g_in hj hJ q5) (by rw [nI_clamp hJ]; exact q8) rfl rfl hd (K H locs ls cells slots h1 h2 h3 h4 h5 h6)
theorem j_lald (hC : g_Cx p s m args meth c cc nL own ret nm E st0) {a n j : Nat} {f : Nat → Int64} (hr : g_Rd st a (.inl (3, n, .inr (.inl f)))) (hj : j < n) (hJ : j < 2 ^ 31) (hd : decode cc pc = .ok (.laload, 1)) (K : g_J p l e R s m args below meth c nL E st0 Z (pc + 1) lv (.long (f j) :: rest) st cb sb) : g_J p l e R s m args below meth c nL E st0 Z pc lv (.int (nI j) :: va_rf (some a) :: rest) st cb sb := by
  intro H locs ls cells slots h1 h2 h3 h4 h5 h6
  obtain ⟨cell, q1, q2, q3, q4, q5, q6, q7, -, q8⟩ := h2.rd hr
  have q8 := q8 j hj
  exact W.lald (v := .long (f j)) hC.x hC.b q1 (g_arr (hC.A (t := 3) (by decide)) q2 q3) q4 (g_in hj hJ q5) (by rw [nI_clamp hJ]; exact q8) rfl rfl hd (K H locs ls cells slots h1 h2 h3 h4 h5 h6)
theorem j_aald (hC : g_Cx p s m args meth c cc nL own ret nm E st0) {a t n j : Nat} {f : Nat → Option Nat} (ht : 4 ≤ t) (hr : g_Rd st a (.inl (t, n, .inr (.inr (.inr (.inr f)))))) (hj : j < n) (hJ : j < 2 ^ 31) (hd : decode cc pc = .ok (.aaload, 1)) (K : g_J p l e R s m args below meth c nL E st0 Z (pc + 1) lv (va_rf (f j) :: rest) st cb sb) : g_J p l e R s m args below meth c nL E st0 Z pc lv (.int (nI j) :: va_rf (some a) :: rest) st cb sb := by
  intro H locs ls cells slots h1 h2 h3 h4 h5 h6
  obtain ⟨cell, q1, q2, q3, q4, q5, q6, q7, -, q8⟩ := h2.rd hr
  have q8 := q8 j hj
  have q7 : t < 6 := q7
  have hty : (g_ty t).isReference = true := by
    rcases (show t = 4 ∨ t = 5 by omega) with rfl | rfl <;> rfl
  exact W.aald (v := va_rf (f j)) hC.x hC.b q1 (g_arr (hC.A q7) q2 q3) hty q4 (g_in hj hJ q5) (by rw [nI_clamp hJ]; exact q8) rfl rfl hd (K H locs ls cells slots h1 h2 h3 h4 h5 h6)
theorem j_sti (hC : g_Cx p s m args meth c cc nL own ret nm E st0) {a n j : Nat} {f : Nat → Int32} {x : Int32} (hm : st.2.1 a = some (.inl (0, n, .inl (f)))) (hj : j < n) (hJ : j < 2 ^ 31) (hd : decode cc pc = .ok (.iastore, 1)) (K : ∀ st1 : g_St, st1 = g_put st a (.inl (0, n, .inl (va_up f j x))) → g_J p l e R s m args below meth c nL E st0 Z (pc + 1) lv rest st1 cb sb) : g_J p l e R s m args below meth c nL E st0 Z pc lv (.int x :: .int (nI j) :: va_rf (some a) :: rest) st cb sb := by
  intro H locs ls cells slots h1 h2 h3 h4 h5 h6
  obtain ⟨⟨q1, q5⟩, hb, hf⟩ := h2.2.2.2 a _ hm
  refine W.iast hC.x hC.b q1 (hC.A (t := 0) (by decide) n (fun j => .int (f j))) (fun q => by cases q) (by show ¬ (nI j < 0 ∨ (arrV _ _ _).slots.size ≤ _); rw [arrV_size]; exact g_in hj hJ (Nat.le_refl _)) rfl rfl hd fun H1 e1 z oq => ?_
  have ho : g_at E a (.inl (0, n, .inl (va_up f j x))) H1 := by
    refine ⟨?_, q5⟩
    show H1[a]? = some (vp_cell _ _)
    rw [e1, nI_clamp hJ]
    rw [vp_cell_i, vp_cell_i, arrV_store]
    congr 2
    funext q
    by_cases hq : q = j
    · subst hq
      simp [updV, va_up, vp_nar, narrow]
    · simp [updV, va_up, hq]
  exact K _ rfl H1 _ ls cells slots h1 (h2.put hm ho z oq) (h3.put hm) (g_S.put h4 h3 hm z oq) h5 h6
theorem j_stb (hC : g_Cx p s m args meth c cc nL own ret nm E st0) {a n j : Nat} {f : Nat → Int32} {x : Int32} (hm : st.2.1 a = some (.inl (1, n, .inl (f)))) (hj : j < n) (hJ : j < 2 ^ 31) (hd : decode cc pc = .ok (.bastore, 1)) (K : ∀ st1 : g_St, st1 = g_put st a (.inl (1, n, .inl (va_up f j (vp_nar .byte x)))) → g_J p l e R s m args below meth c nL E st0 Z (pc + 1) lv rest st1 cb sb) : g_J p l e R s m args below meth c nL E st0 Z pc lv (.int x :: .int (nI j) :: va_rf (some a) :: rest) st cb sb := by
  intro H locs ls cells slots h1 h2 h3 h4 h5 h6
  obtain ⟨⟨q1, q5⟩, hb, hf⟩ := h2.2.2.2 a _ hm
  refine W.bast hC.x hC.b q1 (hC.A (t := 1) (by decide) n (fun j => .int (f j))) (fun q => by cases q) (by show ¬ (nI j < 0 ∨ (arrV _ _ _).slots.size ≤ _); rw [arrV_size]; exact g_in hj hJ (Nat.le_refl _)) rfl rfl hd fun H1 e1 z oq => ?_
  have ho : g_at E a (.inl (1, n, .inl (va_up f j (vp_nar .byte x)))) H1 := by
    refine ⟨?_, q5⟩
    show H1[a]? = some (vp_cell _ _)
    rw [e1, nI_clamp hJ]
    rw [vp_cell_i, vp_cell_i, arrV_store]
    congr 2
    funext q
    by_cases hq : q = j
    · subst hq
      simp [updV, va_up, vp_nar, narrow]
    · simp [updV, va_up, hq]
  exact K _ rfl H1 _ ls cells slots h1 (h2.put hm ho z oq) (h3.put hm) (g_S.put h4 h3 hm z oq) h5 h6
theorem j_stc (hC : g_Cx p s m args meth c cc nL own ret nm E st0) {a n j : Nat} {f : Nat → Int32} {x : Int32} (hm : st.2.1 a = some (.inl (2, n, .inl (f)))) (hj : j < n) (hJ : j < 2 ^ 31) (hd : decode cc pc = .ok (.castore, 1)) (K : ∀ st1 : g_St, st1 = g_put st a (.inl (2, n, .inl (va_up f j (vp_nar .char x)))) → g_J p l e R s m args below meth c nL E st0 Z (pc + 1) lv rest st1 cb sb) : g_J p l e R s m args below meth c nL E st0 Z pc lv (.int x :: .int (nI j) :: va_rf (some a) :: rest) st cb sb := by
  intro H locs ls cells slots h1 h2 h3 h4 h5 h6
  obtain ⟨⟨q1, q5⟩, hb, hf⟩ := h2.2.2.2 a _ hm
  refine W.cast hC.x hC.b q1 (hC.A (t := 2) (by decide) n (fun j => .int (f j))) (fun q => by cases q) (by show ¬ (nI j < 0 ∨ (arrV _ _ _).slots.size ≤ _); rw [arrV_size]; exact g_in hj hJ (Nat.le_refl _)) rfl rfl hd fun H1 e1 z oq => ?_
  have ho : g_at E a (.inl (2, n, .inl (va_up f j (vp_nar .char x)))) H1 := by
    refine ⟨?_, q5⟩
    show H1[a]? = some (vp_cell _ _)
    rw [e1, nI_clamp hJ]
    rw [vp_cell_i, vp_cell_i, arrV_store]
    congr 2
    funext q
    by_cases hq : q = j
    · subst hq
      simp [updV, va_up, vp_nar, narrow]
    · simp [updV, va_up, hq]
  exact K _ rfl H1 _ ls cells slots h1 (h2.put hm ho z oq) (h3.put hm) (g_S.put h4 h3 hm z oq) h5 h6
theorem j_stl (hC : g_Cx p s m args meth c cc nL own ret nm E st0) {a n j : Nat} {f : Nat → Int64} {x : Int64} (hm : st.2.1 a = some (.inl (3, n, .inr (.inl (f))))) (hj : j < n) (hJ : j < 2 ^ 31) (hd : decode cc pc = .ok (.lastore, 1)) (K : ∀ st1 : g_St, st1 = g_put st a (.inl (3, n, .inr (.inl (va_up f j x)))) → g_J p l e R s m args below meth c nL E st0 Z (pc + 1) lv rest st1 cb sb) : g_J p l e R s m args below meth c nL E st0 Z pc lv (.long x :: .int (nI j) :: va_rf (some a) :: rest) st cb sb := by
  intro H locs ls cells slots h1 h2 h3 h4 h5 h6
  obtain ⟨⟨q1, q5⟩, hb, hf⟩ := h2.2.2.2 a _ hm
  refine W.last hC.x hC.b q1 (hC.A (t := 3) (by decide) n (fun j => .long (f j))) (fun q => by cases q) (by show ¬ (nI j < 0 ∨ (arrV _ _ _).slots.size ≤ _); rw [arrV_size]; exact g_in hj hJ (Nat.le_refl _)) rfl rfl hd fun H1 e1 z oq => ?_
  have ho : g_at E a (.inl (3, n, .inr (.inl (va_up f j x)))) H1 := by
    refine ⟨?_, q5⟩
    show H1[a]? = some (vp_cell _ _)
    rw [e1, nI_clamp hJ]
    rw [vp_cell_l, vp_cell_l, arrV_store]
    congr 2
    funext q
    by_cases hq : q = j
    · subst hq
      simp [updV, va_up, vp_nar, narrow]
    · simp [updV, va_up, hq]
  exact K _ rfl H1 _ ls cells slots h1 (h2.put hm ho z oq) (h3.put hm) (g_S.put h4 h3 hm z oq) h5 h6
theorem j_newa (hC : g_Cx p s m args meth c cc nL own ret nm E st0) {atype : ArrayType} {t n : Nat} {a0 : vp_A} (ht : t < 5) (hty : newarray.typeOf atype = g_ty t) (harr : Cond.arrayClass (newarray.typeOf atype) ∈ lw_all) (h0 : a0.1 = n) (ha : ∀ j : Nat, g_el a0.2 j = defaultValue (newarray.typeOf atype)) (hn : n ≤ 67108864) (hcb : 1 ≤ cb) (hsb : n ≤ sb) (hbyt : componentBytes (newarray.typeOf atype) ≤ 8) (hnm : ∀ cA : ClassId, s.vm.findClass ("[" ++ (newarray.typeOf atype).toString) = some cA → cA = E.2.2.1 t) (hd : decode cc pc = .ok (.newarray atype, 2)) (K : ∀ (q : Nat) (st1 : g_St), q = st.2.2 → st1 = g_new st (.inl (t, a0)) → g_J p l e R s m args below meth c nL E st0 Z (pc + 2) lv (va_rf (some q) :: rest) st1 (cb - 1) (sb - n)) : g_J p l e R s m args below meth c nL E st0 Z pc lv (.int (nI n) :: rest) st cb sb := by
  intro H locs ls cells slots h1 h2 h3 h4 h5 h6
  have hb8 : n * componentBytes (newarray.typeOf atype) ≤ 536870912 := Nat.le_trans (Nat.mul_le_mul hn hbyt) (Nat.le_of_ble_eq_true rfl)
  refine va_newaK hC.x hC.b (hC.ts _ harr) rfl hd rfl (nI_pos (by omega)) (nI_clamp (by omega)) hb8 (by omega) (by omega) h2.1 fun H1 cA e1 z1 o1 hAr hNm => ?_
  have hcA := hnm cA hNm
  have ho : g_at E st.2.2 (.inl (t, a0)) H1 := by
    refine ⟨?_, ht⟩
    rw [e1, ← hcA, vp_cell_el]
    subst h0
    congr 1
    show arrV _ _ _ = arrV _ _ _
    congr 1
    funext j
    exact (ha j).symm
  have z1' : H1.size = H.size + 1 := by rw [z1, h2.1]
  have o1' : ∀ q, q < H.size → H1[q]? = H[q]? := fun q hq => o1 q (by rw [← h2.1]; exact hq)
  exact K _ _ rfl rfl H1 locs ls _ _ h1 (h2.new ho z1' o1') h3.new (g_S.new h4 z1' o1') (by omega) (by omega)
theorem g_nmP (hC : g_Cx p s m args meth c cc nL own ret nm E st0) (t : Nat) {ty : FieldType} (ht : (g_tys E)[t]? = some (E.2.2.1 t, ty)) (hp : ∀ C, ty ≠ .object C) : ∀ cA : ClassId, s.vm.findClass ("[" ++ ty.toString) = some cA → cA = E.2.2.1 t := by
  intro cA h
  have h1 := (hC.K.2 t _ ht).2
  have h2 : s.vm.findClass ("[" ++ ty.toString) = some (E.2.2.1 t) := by
    cases ty with
    | object C => exact absurd rfl (hp C)
    | _ => exact h1
  exact Option.some.inj (h.symm.trans h2)
theorem j_newI (hC : g_Cx p s m args meth c cc nL own ret nm E st0) {n : Nat} (harr : Cond.arrayClass .int ∈ lw_all) (hn : n ≤ 67108864) (hcb : 1 ≤ cb) (hsb : n ≤ sb) (hd : decode cc pc = .ok (.newarray .int, 2)) (K : ∀ (q : Nat) (st1 : g_St), q = st.2.2 → st1 = g_new st (.inl (0, n, .inl fun _ => 0)) → g_J p l e R s m args below meth c nL E st0 Z (pc + 2) lv (va_rf (some q) :: rest) st1 (cb - 1) (sb - n)) : g_J p l e R s m args below meth c nL E st0 Z pc lv (.int (nI n) :: rest) st cb sb :=
  j_newa hC (atype := .int) (by decide) rfl harr rfl (fun _ => rfl) hn hcb hsb (by decide) (g_nmP hC 0 rfl (fun _ h => by cases h)) hd K
theorem j_newB (hC : g_Cx p s m args meth c cc nL own ret nm E st0) {n : Nat} (harr : Cond.arrayClass .byte ∈ lw_all) (hn : n ≤ 67108864) (hcb : 1 ≤ cb) (hsb : n ≤ sb) (hd : decode cc pc = .ok (.newarray .byte, 2)) (K : ∀ (q : Nat) (st1 : g_St), q = st.2.2 → st1 = g_new st (.inl (1, n, .inl fun _ => 0)) → g_J p l e R s m args below meth c nL E st0 Z (pc + 2) lv (va_rf (some q) :: rest) st1 (cb - 1) (sb - n)) : g_J p l e R s m args below meth c nL E st0 Z pc lv (.int (nI n) :: rest) st cb sb :=
  j_newa hC (atype := .byte) (by decide) rfl harr rfl (fun _ => rfl) hn hcb hsb (by decide) (g_nmP hC 1 rfl (fun _ h => by cases h)) hd K
theorem j_newC (hC : g_Cx p s m args meth c cc nL own ret nm E st0) {n : Nat} (harr : Cond.arrayClass .char ∈ lw_all) (hn : n ≤ 67108864) (hcb : 1 ≤ cb) (hsb : n ≤ sb) (hd : decode cc pc = .ok (.newarray .char, 2)) (K : ∀ (q : Nat) (st1 : g_St), q = st.2.2 → st1 = g_new st (.inl (2, n, .inl fun _ => 0)) → g_J p l e R s m args below meth c nL E st0 Z (pc + 2) lv (va_rf (some q) :: rest) st1 (cb - 1) (sb - n)) : g_J p l e R s m args below meth c nL E st0 Z pc lv (.int (nI n) :: rest) st cb sb :=
  j_newa hC (atype := .char) (by decide) rfl harr rfl (fun _ => rfl) hn hcb hsb (by decide) (g_nmP hC 2 rfl (fun _ h => by cases h)) hd K
theorem j_newL (hC : g_Cx p s m args meth c cc nL own ret nm E st0) {n : Nat} (harr : Cond.arrayClass .long ∈ lw_all) (hn : n ≤ 67108864) (hcb : 1 ≤ cb) (hsb : n ≤ sb) (hd : decode cc pc = .ok (.newarray .long, 2)) (K : ∀ (q : Nat) (st1 : g_St), q = st.2.2 → st1 = g_new st (.inl (3, n, .inr (.inl fun _ => 0))) → g_J p l e R s m args below meth c nL E st0 Z (pc + 2) lv (va_rf (some q) :: rest) st1 (cb - 1) (sb - n)) : g_J p l e R s m args below meth c nL E st0 Z pc lv (.int (nI n) :: rest) st cb sb :=
  j_newa hC (atype := .long) (by decide) rfl harr rfl (fun _ => rfl) hn hcb hsb (by decide) (g_nmP hC 3 rfl (fun _ h => by cases h)) hd K
/-- a new array of Strings -/
theorem j_newS (hC : g_Cx p s m args meth c cc nL own ret nm E st0) {index n : Nat} (hq : Cond.classLink own index "java/lang/String" ∈ lw_all) (ho : Cond.arrayOver (.object "java/lang/String") ∈ g_ext) (hn : n ≤ 67108864) (hcb : 1 ≤ cb) (hsb : n ≤ sb) (hd : decode cc pc = .ok (.anewarray index, 3)) (K : ∀ (q : Nat) (st1 : g_St), q = st.2.2 → st1 = g_new st (.inl (4, n, .inr (.inr (.inr (.inr fun _ => none))))) → g_J p l e R s m args below meth c nL E st0 Z (pc + 3) lv (va_rf (some q) :: rest) st1 (cb - 1) (sb - n)) : g_J p l e R s m args below meth c nL E st0 Z pc lv (.int (nI n) :: rest) st cb sb := by
  intro H locs ls cells slots h1 h2 h3 h4 h5 h6
  have hcl : (nI n).toNatClampNeg = n := nI_clamp (by omega)
  refine W.anew hC.x hC.b hC.ow (hC.ts _ hq) (va_AO.use (hC.T.2.2.1 _ ho)) rfl hd rfl (nI_pos (by omega)) (by rw [hcl]; omega) (by omega) (by rw [hcl]; omega) fun cA kA comp f1 f2 f3 f4 => ?_
  rw [hcl]
  have hcA : cA = E.2.2.1 4 := by
    obtain ⟨kA', comp', k1, k2, k3, k4⟩ := (hC.K.2 4 _ rfl).2
    exact Option.some.inj (f1.symm.trans k4)
  generalize hH1 : H.push ({ cls := cA, slots := Array.replicate n .null, vm := .none } : Cell) = H1
  have z1 : H1.size = H.size + 1 := by rw [← hH1, Array.size_push]
  have e1 : H1[H.size]? = some (arrV cA n (fun _ => .null)) := by rw [← hH1, Array.getElem?_push_size, ← arrV_new]
  have o1 : ∀ q : Nat, q < H.size → H1[q]? = H[q]? := fun q hq => by rw [← hH1, Array.getElem?_push, if_neg (Nat.ne_of_lt hq)]
  have hob : g_at E st.2.2 (.inl (4, n, .inr (.inr (.inr (.inr fun _ => none))))) H1 := by
    refine ⟨?_, show 4 < 5 by decide⟩
    show H1[st.2.2]? = some (vp_cell (E.2.2.1 4) _)
    rw [← h2.1, e1, ← hcA, vp_cell_q]
    rfl
  rw [h2.1]
  exact K _ _ rfl rfl H1 locs ls _ _ h1 (h2.new hob z1 o1) h3.new (g_S.new h4 z1 o1) (by omega) (by omega)
/-- an object's class, as a call, a cast asks it -/
theorem g_recv (hC : g_Cx p s m args meth c cc nL own ret nm E st0) {H : Heap} (h2 : g_Own E st H) {a ci : Nat} {fs : List Value} (hr : g_Rd st a (.inr (ci, fs))) {C : String} {T : u_T} {N : Nat} (hc : g_cl[ci]? = some (C, T, N)) : ∃ cell : Cell, H[a]? = some cell ∧ cell.vm.isStatics = false ∧ s.vm.findClass C = some cell.cls := by
  obtain ⟨cell, r, q1, q2, q3, q4, -⟩ := h2.rd hr
  exact ⟨cell, q2, q4, by rw [q3]; exact (hC.K.1 ci _ hc).2.1⟩
/-- a String, or null, into an array of Strings -/
theorem j_aast (hC : g_Cx p s m args meth c cc nL own ret nm E st0) {a n j ci : Nat} {f : Nat → Option Nat} {o : Option Nat} (hm : st.2.1 a = some (.inl (4, n, .inr (.inr (.inr (.inr f)))))) (hj : j < n) (hJ : j < 2 ^ 31) {T : u_T} {N : Nat} (hc : g_cl[ci]? = some ("java/lang/String", T, N)) (hv : ∀ v : Nat, o = some v → ∃ fs : List Value, g_Rd st v (.inr (ci, fs))) (hd : decode cc pc = .ok (.aastore, 1)) (K : ∀ st1 : g_St, st1 = g_put st a (.inl (4, n, .inr (.inr (.inr (.inr (va_up f j o)))))) → g_J p l e R s m args below meth c nL E st0 Z (pc + 1) lv rest st1 cb sb) : g_J p l e R s m args below meth c nL E st0 Z pc lv (va_rf o :: .int (nI j) :: va_rf (some a) :: rest) st cb sb := by
  intro H locs ls cells slots h1 h2 h3 h4 h5 h6
  obtain ⟨⟨q1, q5⟩, hb, hf⟩ := h2.2.2.2 a _ hm
  have fin : ∀ H1 : Heap, H1[a]? = some ((vp_cell (E.2.2.1 4) (n, .inr (.inr (.inr (.inr f))))).setSlot (nI j).toNatClampNeg (va_rf o)) → g_at E a (.inl (4, n, .inr (.inr (.inr (.inr (va_up f j o)))))) H1 := by
    intro H1 e1
    refine ⟨?_, q5⟩
    show H1[a]? = some (vp_cell _ _)
    rw [e1, nI_clamp hJ, vp_cell_q, vp_cell_q, arrV_store]
    congr 2
    funext q
    by_cases hq : q = j
    · subst hq
      simp [updV, va_up]
    · simp [updV, va_up, hq]
  have hin : ¬ (nI j < 0 ∨ (vp_cell (E.2.2.1 4) (n, .inr (.inr (.inr (.inr f))))).slots.size ≤ (nI j).toNatClampNeg) := by
    rw [vp_cell_q, arrV_size]; exact g_in hj hJ (Nat.le_refl _)
  cases o with
  | none =>
    refine va_WaastN (C := "java/lang/String") hC.x hC.b q1 (hC.A (t := 4) (by decide) n (fun j => va_rf (f j))) (fun h => by cases h) hin rfl rfl hd fun H1 e1 z oq => ?_
    exact K _ rfl H1 _ ls cells slots h1 (h2.put hm (fin H1 e1) z oq) (h3.put hm) (g_S.put h4 h3 hm z oq) h5 h6
  | some v =>
    obtain ⟨fs, hfs⟩ := hv v rfl
    obtain ⟨cv, p1, p2, p3⟩ := g_recv hC h2 hfs hc
    obtain ⟨kA, comp, k1, k2, k3, k4⟩ := (hC.K.2 4 _ rfl).2
    obtain ⟨hfc, kC, hkC, hkind⟩ := (hC.K.1 ci _ hc).2
    have ecv : comp = cv.cls := Option.some.inj (k3.symm.trans p3)
    have ecc : E.1 ci = comp := Option.some.inj (hfc.symm.trans k3)
    refine W.aast hC.x hC.b (v := v) (cv := cv) (k := kA) (comp := comp) (t := .object "java/lang/String") q1 (fun z hz => by cases hz) (fun h => by cases h) k1 k2 rfl (kcomp := kC) (by rw [← ecc]; exact hkC) ⟨fun h => hin (Or.inl h), Nat.not_le.mp fun h => hin (Or.inr h)⟩ p1 (fun z hz => by rw [hz] at p2; cases p2) (kv := kC) (by rw [← ecv, ← ecc]; exact hkC) (by rw [ecv]; exact va_asg _ _) rfl rfl hd fun H1 e1 z oq => ?_
    exact K _ rfl H1 _ ls cells slots h1 (h2.put hm (fin H1 e1) z oq) (h3.put hm) (g_S.put h4 h3 hm z oq) h5 h6
-- statics, casts
theorem g_Z0 (hC : g_Cx p s m args meth c cc nL own ret nm E st0) {q : String × String × String × Value} (hq : q ∈ g_stat E) : va_Z q.1 q.2.1 q.2.2.1 q.2.2.2 (g_A st0) s s.heap := (hC.zz.1 q hq).narrow fun _ h => hC.O.base h
theorem j_gets (hC : g_Cx p s m args meth c cc nL own ret nm E st0) {C n d ref : String} {v : Value} {index : Nat} (hq : (C, n, d, v) ∈ g_stat E) (hl : Cond.fieldLink own index ref n d ∈ lw_all) (hsame : ref = C ∨ Cond.sameField ref C n d ∈ lw_all) (hd : decode cc pc = .ok (.getstatic index, 3)) (K : g_J p l e R s m args below meth c nL E st0 Z (pc + 3) lv (v :: rest) st cb sb) : g_J p l e R s m args below meth c nL E st0 Z pc lv rest st cb sb := by
  intro H locs ls cells slots h1 h2 h3 h4 h5 h6
  exact va_gets hC.x hC.b (g_Z0 hC hq) h4 hC.ow (hC.ts _ hl) (g_same hC hsame) hd (K H locs ls cells slots h1 h2 h3 h4 h5 h6)
theorem j_cast (hC : g_Cx p s m args meth c cc nL own ret nm E st0) {index ci : Nat} {C to : String} {T : u_T} {N : Nat} {o : Option Nat} (hq : Cond.classLink own index to ∈ lw_all) (hc : g_cl[ci]? = some (C, T, N)) (hto : to = C ∨ Cond.castable C to ∈ g_ext) (hv : ∀ v : Nat, o = some v → ∃ fs : List Value, g_Rd st v (.inr (ci, fs))) (hd : decode cc pc = .ok (.checkcast index, 3)) (K : g_J p l e R s m args below meth c nL E st0 Z (pc + 3) lv (va_rf o :: rest) st cb sb) : g_J p l e R s m args below meth c nL E st0 Z pc lv (va_rf o :: rest) st cb sb := by
  intro H locs ls cells slots h1 h2 h3 h4 h5 h6
  have k := K H locs ls cells slots h1 h2 h3 h4 h5 h6
  cases o with
  | none => exact lv_castN hC.x hC.b hd k
  | some v =>
    obtain ⟨fs, hfs⟩ := hv v rfl
    have hr := g_recv hC h2 hfs hc
    rcases hto with h | h
    · subst h
      exact va_castE hC.x hC.b hC.ow (hC.ts _ hq) hr hd k
    · exact va_castY hC.x hC.b hC.ow (hC.ts _ hq) (hC.T.2.2.1 _ h) hr hd k
theorem j_inst (hC : g_Cx p s m args meth c cc nL own ret nm E st0) {index ci a : Nat} {C to : String} {T : u_T} {N : Nat} {fs : List Value} (hq : Cond.classLink own index to ∈ lw_all) (hc : g_cl[ci]? = some (C, T, N)) (hto : to = C ∨ Cond.castable C to ∈ g_ext) (hfs : g_Rd st a (.inr (ci, fs))) (hd : decode cc pc = .ok (.instanceof index, 3)) (K : g_J p l e R s m args below meth c nL E st0 Z (pc + 3) lv (.int 1 :: rest) st cb sb) : g_J p l e R s m args below meth c nL E st0 Z pc lv (va_rf (some a) :: rest) st cb sb := by
  intro H locs ls cells slots h1 h2 h3 h4 h5 h6
  have k := K H locs ls cells slots h1 h2 h3 h4 h5 h6
  have hr := g_recv hC h2 hfs hc
  rcases hto with h | h
  · subst h
    exact va_instE hC.x hC.b hC.ow (hC.ts _ hq) hr hd k
  · exact va_instY hC.x hC.b hC.ow (hC.ts _ hq) (hC.T.2.2.1 _ h) hr hd k
theorem j_objInit (hC : g_Cx p s m args meth c cc nL own ret nm E st0) {index a : Nat} (hq : Cond.methodLink own index objectInit ∈ lw_all) (h1 : Cond.instanceMethod objectInit ∈ lw_all) (h2 : Cond.code objectInit ⟨#[0xb1]⟩ 1 none ∈ lw_all) (hf : 1 ≤ R.frames) (hl : (rest.map fun v => v.category).sum + 12 ≤ R.locals) (hd : decode cc pc = .ok (.invokespecial index, 3)) (K : g_J p l e R s m args below meth c nL E st0 Z (pc + 3) lv rest st cb sb) : g_J p l e R s m args below meth c nL E st0 Z pc lv (va_rf (some a) :: rest) st cb sb := by
  intro H locs ls cells slots k1 k2 k3 k4 k5 k6
  exact W.objInit hC.x hC.b hC.ow (hC.ts _ hq) (hC.ts _ h1) (hC.ts _ h2) rfl (by rw [hC.ml]; exact k1.1) rfl hd hf (by show 2 * 0 + _ + 12 ≤ _; omega) (K H locs ls cells slots k1 k2 k3 k4 k5 k6)
end GB2
/-! BASE 3: contracts -/
section GB3
/-- a contract's end: an answer v and a state st' that the heap holds -/
def g_Q (E : g_E) (st : g_St) (Q : Option Value → g_St → Prop) : Array Value → State → Outcome → State → Prop := fun _ s0 oc t => ∃ (v : Option Value) (st' : g_St), oc = .returned v ∧ Q v st' ∧ g_Ext st st' ∧ g_Own E st' t.heap ∧ va_F (g_A st) s0 t
/-- method y, called with av in st, returns v with Q v st'; mc new cells of ms slots suffice -/
def g_WP (l : Launch) (E : g_E) (y : MethodName) (cc : ByteArray) (nL : Nat) (ret : Option FieldType) (fr lo mc ms : Nat) (av : List Value) (st : g_St) (Q : Option Value → g_St → Prop) : Prop :=
  Met l y (ws_ y cc nL ret) { frames := fr, cells := mc, slots := ms, locals := lo } (va_Pc av (fun U => g_Own E st U.heap ∧ g_T E U ∧ g_Z E U U.heap)) (g_Q E st Q) mc ms (g_A st)
theorem g_WP.mono {l : Launch} {E : g_E} {y : MethodName} {cc : ByteArray} {nL : Nat} {ret : Option FieldType} {fr lo mc ms : Nat} {av : List Value} {st : g_St} {Q Q' : Option Value → g_St → Prop} (h : g_WP l E y cc nL ret fr lo mc ms av st Q) (hq : ∀ v st', g_Ext st st' → Q v st' → Q' v st') : g_WP l E y cc nL ret fr lo mc ms av st Q' := by
  intro p e a1 a2 a3 s m args below a4 a5 a6 a7
  obtain ⟨k, o, h1, h2, h3, ⟨v, st', r1, r2, r3, r4⟩, h4⟩ := h p e a1 a2 a3 s m args below a4 a5 a6 a7
  exact ⟨k, o, h1, h2, h3, ⟨v, st', r1, hq v st' r3 r2, r3, r4⟩, h4⟩
end GB3
section GB4
variable {p : Program} {l : Launch} {e : Env} {R : Room} {s : State} {m : MethodId} {args : Array Value} {below : List Frame} {meth : Method} {c : Code} {cc : ByteArray} {nL : Nat} {own : String} {ret : Option FieldType} {nm : String} {E : g_E} {st0 : g_St} {Z : State → Prop} {pc : Nat} {lv lv0 : List (Nat × Value)} {rest stk : List Value} {st : g_St} {cb sb : Nat}
theorem g_blind {E : g_E} {st : g_St} {av : List Value} : FrameBlind (va_Pc av (fun U => g_Own E st U.heap ∧ g_T E U ∧ g_Z E U U.heap)) := by
  intro a U g mk h
  obtain ⟨h1, h2, h3, h4⟩ := h
  exact ⟨h1, h2, g_T.same (u := U) (U := U.calling g mk a) rfl h3, g_Z.moved (u := U) (U := U.calling g mk a) (Vm.Alike.refl _) h4⟩
theorem g_pre (hC : g_Cx p s m args meth c cc nL own ret nm E st0) {H : Heap} {locs : List Loc} (k2 : g_Own E st H) (k4 : va_S (g_A st0) s.heap H locs) (av : List Value) : ∀ U : State, U.heap = H → s.WarmedH U.vm → (va_Pc av (fun U => g_Own E st U.heap ∧ g_T E U ∧ g_Z E U U.heap)) av.toArray U := by
  intro U hU hW
  refine ⟨rfl, by rw [hU]; exact k2, hC.T.moved hW, ?_⟩
  rw [hU]
  exact (hC.zz.kept (fun a ha hb => k4.2.1 a ha (fun z => hb (hC.O.base z)))).moved hW.alike
theorem g_after {mc ms : Nat} {Qc : Option Value → g_St → Prop} {av : Array Value} {H : Heap} {locs L : List Loc} {st₀ t T' : State} {v : Option Value} (k3 : g_Ext st0 st) (k4 : va_S (g_A st0) s.heap H locs) (h0 : st₀.heap = H) (hL : ∀ q ∈ L, g_A st q.base) (e1 : T'.heap = t.heap) (hq : g_Q E st Qc av st₀ (.returned v) t) : ∃ st' : g_St, Qc v st' ∧ g_Ext st st' ∧ g_Own E st' T'.heap ∧ g_Ext st0 st' ∧ va_S (g_A st0) s.heap T'.heap (locs ++ L) := by
  obtain ⟨v', st', r1, r2, r3, r4, r5⟩ := hq
  cases r1
  refine ⟨st', r2, r3, by rw [e1]; exact r4, k3.tr r3, ?_, fun q h1 h2 => ?_, fun q hq => ?_⟩
  · rw [e1]
    exact Nat.le_trans k4.1 (by rw [← h0]; exact r5.1)
  · rw [e1, r5.2 q (by rw [h0]; exact Nat.lt_of_lt_of_le h1 k4.1) (fun z => h2 (g_A.mono k3 z)), h0]
    exact k4.2.1 q h1 h2
  · rcases List.mem_append.mp hq with h | h
    · exact k4.2.2 q h
    · exact g_A.mono k3 (hL q h)
theorem j_run {mc ms : Nat} {Qc : Option Value → g_St → Prop} {av : Array Value} (hrun : ∀ (H : Heap) (locs : List Loc) (ls : Array Slot) (cells slots : Nat), lv_has ls nL lv → g_Own E st H → g_Ext st0 st → va_S (g_A st0) s.heap H locs → cells + mc ≤ R.cells ∧ slots + ms ≤ R.slots → va_Run p l e R s m args below meth c H locs cells slots mc ms (F0 m pc ls stk) rest (g_Q E st Qc av) (g_A st)) (h1 : mc ≤ cb) (h2 : ms ≤ sb) (K : ∀ (v : Option Value) (st' : g_St), Qc v st' → g_Ext st st' → g_J p l e R s m args below meth c nL E st0 Z (pc + 3) lv (v.toList ++ rest) st' (cb - mc) (sb - ms)) : g_J p l e R s m args below meth c nL E st0 Z pc lv stk st cb sb := by
  intro H locs ls cells slots k1 k2 k3 k4 k5 k6 T hT X
  obtain ⟨v, st₀, t, T', L, h0, X', hL, e1, e2, hq, stp⟩ := hrun H locs ls cells slots k1 k2 k3 k4 ⟨by omega, by omega⟩ T hT X
  obtain ⟨st', r2, r3, r4, r5, r6⟩ := g_after (mc := mc) (ms := ms) k3 k4 h0 hL e1 hq
  obtain ⟨t2, a1, b1⟩ := K v st' r2 r3 T'.heap (locs ++ L) ls (cells + mc) (slots + ms) k1 r4 r5 r6 (by omega) (by omega) T' rfl X'
  exact ⟨t2, stp t2 a1, b1⟩
theorem j_run5 {mc ms : Nat} {Qc : Option Value → g_St → Prop} {av : Array Value} (hrun : ∀ (H : Heap) (locs : List Loc) (ls : Array Slot) (cells slots : Nat), lv_has ls nL lv → g_Own E st H → g_Ext st0 st → va_S (g_A st0) s.heap H locs → cells + mc ≤ R.cells ∧ slots + ms ≤ R.slots → va_Run5 p l e R s m args below meth c H locs cells slots mc ms (F0 m pc ls stk) rest (g_Q E st Qc av) (g_A st)) (h1 : mc ≤ cb) (h2 : ms ≤ sb) (K : ∀ (v : Option Value) (st' : g_St), Qc v st' → g_Ext st st' → g_J p l e R s m args below meth c nL E st0 Z (pc + 5) lv (v.toList ++ rest) st' (cb - mc) (sb - ms)) : g_J p l e R s m args below meth c nL E st0 Z pc lv stk st cb sb := by
  intro H locs ls cells slots k1 k2 k3 k4 k5 k6 T hT X
  obtain ⟨v, st₀, t, T', L, h0, X', hL, e1, e2, hq, stp⟩ := hrun H locs ls cells slots k1 k2 k3 k4 ⟨by omega, by omega⟩ T hT X
  obtain ⟨st', r2, r3, r4, r5, r6⟩ := g_after (mc := mc) (ms := ms) k3 k4 h0 hL e1 hq
  obtain ⟨t2, a1, b1⟩ := K v st' r2 r3 T'.heap (locs ++ L) ls (cells + mc) (slots + ms) k1 r4 r5 r6 (by omega) (by omega) T' rfl X'
  exact ⟨t2, stp t2 a1, b1⟩
variable {C : String} {T : u_T} {N ci index maxL fr lo mc ms n b : Nat} {x y : MethodName} {bytes : ByteArray} {rt : Option FieldType} {As fs : List Value} {Qc : Option Value → g_St → Prop}
/-- the method of the receiver's own kind -/
theorem j_callV (hC : g_Cx p s m args meth c cc nL own ret nm E st0) (hM : g_WP l E y bytes maxL rt fr lo mc ms (va_rf (some b) :: As) st Qc) (hw : GoodIn lw_all (wsV own index C y (ws_ y bytes maxL rt))) (hy : y.cls = C ∧ y.cls ≠ "java/lang/invoke/MethodHandle" ∧ y.cls ≠ "java/lang/invoke/VarHandle" ∧ (parseMethodDescriptor y.desc).map (fun d => d.parameters.length) = some n) (hR : fr + 1 ≤ R.frames ∧ 8 + (maxL + 11) + lo ≤ R.locals) (hc : g_cl[ci]? = some (C, T, N)) (hr : g_Rd st b (.inr (ci, fs))) (hn : As.length = n) (hs : stk = As.reverse ++ va_rf (some b) :: rest) (hk : (rest.map fun v => v.category).sum ≤ 8) (hd : decode cc pc = .ok (.invokevirtual index, 3)) (h1 : mc ≤ cb) (h2 : ms ≤ sb)
    (K : ∀ (v : Option Value) (st' : g_St), Qc v st' → g_Ext st st' → g_J p l e R s m args below meth c nL E st0 Z (pc + 3) lv (v.toList ++ rest) st' (cb - mc) (sb - ms)) : g_J p l e R s m args below meth c nL E st0 Z pc lv stk st cb sb :=
  j_run (fun H locs ls cells slots k1 k2 k3 k4 k5 => va_runV (b := b) (rest := rest) ⟨hC.x, hC.b, hC.ml, hC.ow, hC.ts⟩ hM (cwV n hC.ts hw rfl rfl rfl hy hR) ⟨g_blind, g_recv hC k2 hr hc, g_pre hC k2 k4 _⟩ rfl hn k1.1 (by subst hs; rfl) (lv_room hk) hd k5) h1 h2 K
theorem j_callS (hC : g_Cx p s m args meth c cc nL own ret nm E st0) (hM : g_WP l E y bytes maxL rt fr lo mc ms As st Qc) (hw : GoodIn lw_all (va_wsS own index y (ws_ y bytes maxL rt))) (hy : y.cls ≠ "java/lang/invoke/MethodHandle" ∧ y.cls ≠ "java/lang/invoke/VarHandle" ∧ (parseMethodDescriptor y.desc).map (fun d => d.parameters.length) = some n) (hR : fr + 1 ≤ R.frames ∧ 8 + (maxL + 11) + lo ≤ R.locals) (hn : As.length = n) (hs : stk = As.reverse ++ rest) (hk : (rest.map fun v => v.category).sum ≤ 8) (hd : decode cc pc = .ok (.invokestatic index, 3)) (h1 : mc ≤ cb) (h2 : ms ≤ sb)
    (K : ∀ (v : Option Value) (st' : g_St), Qc v st' → g_Ext st st' → g_J p l e R s m args below meth c nL E st0 Z (pc + 3) lv (v.toList ++ rest) st' (cb - mc) (sb - ms)) : g_J p l e R s m args below meth c nL E st0 Z pc lv stk st cb sb :=
  j_run (fun H locs ls cells slots k1 k2 k3 k4 k5 => va_runS (rest := rest) ⟨hC.x, hC.b, hC.ml, hC.ow, hC.ts⟩ hM (va_cwS n hC.ts hw rfl rfl rfl hy hR) ⟨g_blind, g_pre hC k2 k4 _⟩ rfl hn k1.1 (by subst hs; rfl) (lv_room hk) hd k5) h1 h2 K
/-- a constructor -/
theorem j_callI (hC : g_Cx p s m args meth c cc nL own ret nm E st0) (hM : g_WP l E y bytes maxL none fr lo mc ms (va_rf (some b) :: As) st Qc) (hw : GoodIn lw_all (ws_ y bytes maxL none)) (q1 : Cond.initialized y.cls ∈ lw_all) (q2 : Cond.methodLink own index y ∈ lw_all) (q3 : Cond.instanceMethod y ∈ lw_all) (hy1 : y.name = "<init>") (hy : y.cls ≠ "java/lang/invoke/MethodHandle" ∧ y.cls ≠ "java/lang/invoke/VarHandle" ∧ (parseMethodDescriptor y.desc).map (fun d => d.parameters.length) = some n) (hR : fr + 1 ≤ R.frames ∧ 8 + (maxL + 11) + lo ≤ R.locals) (hn : As.length = n) (hs : stk = As.reverse ++ va_rf (some b) :: rest) (hk : (rest.map fun v => v.category).sum ≤ 8) (hd : decode cc pc = .ok (.invokespecial index, 3)) (h1 : mc ≤ cb) (h2 : ms ≤ sb)
    (K : ∀ (v : Option Value) (st' : g_St), Qc v st' → g_Ext st st' → g_J p l e R s m args below meth c nL E st0 Z (pc + 3) lv (v.toList ++ rest) st' (cb - mc) (sb - ms)) : g_J p l e R s m args below meth c nL E st0 Z pc lv stk st cb sb :=
  j_run (fun H locs ls cells slots k1 k2 k3 k4 k5 => va_runI (b := b) (rest := rest) ⟨hC.x, hC.b, hC.ml, hC.ow, hC.ts⟩ hM (cwI n hC.ts hw rfl rfl rfl (hC.ts _ q1) (hC.ts _ q2) (hC.ts _ q3) hy1 hy hR) ⟨g_blind, g_pre hC k2 k4 _⟩ rfl hn k1.1 (by subst hs; rfl) (lv_room hk) hd k5) h1 h2 K
/-- super.m(..) -/
theorem j_callSU (hC : g_Cx p s m args meth c cc nL own ret nm E st0) (hM : g_WP l E y bytes maxL rt fr lo mc ms (va_rf (some b) :: As) st Qc) (hw : GoodIn lw_all (va_wsSU own index y (ws_ y bytes maxL rt))) (hy : y.name ≠ "<init>" ∧ (parseMethodDescriptor y.desc).map (fun d => d.parameters.length) = some n) (hR : fr + 1 ≤ R.frames ∧ 8 + (maxL + 11) + lo ≤ R.locals) (hc : g_cl[ci]? = some (C, T, N)) (hr : g_Rd st b (.inr (ci, fs))) (hn : As.length = n) (hs : stk = As.reverse ++ va_rf (some b) :: rest) (hk : (rest.map fun v => v.category).sum ≤ 8) (hd : decode cc pc = .ok (.invokespecial index, 3)) (h1 : mc ≤ cb) (h2 : ms ≤ sb)
    (K : ∀ (v : Option Value) (st' : g_St), Qc v st' → g_Ext st st' → g_J p l e R s m args below meth c nL E st0 Z (pc + 3) lv (v.toList ++ rest) st' (cb - mc) (sb - ms)) : g_J p l e R s m args below meth c nL E st0 Z pc lv stk st cb sb :=
  j_run (fun H locs ls cells slots k1 k2 k3 k4 k5 => va_runSU (b := b) (rest := rest) (hC.K.1 ci _ hc).2 ⟨hC.x, hC.b, hC.ml, hC.ow, hC.ts⟩ hM (va_cwSU n hC.ts hw rfl rfl rfl hy hR) ⟨g_blind, g_recv hC k2 hr hc, g_pre hC k2 k4 _⟩ rfl hn k1.1 (by subst hs; rfl) (lv_room hk) hd k5) h1 h2 K
/-- a method that the receiver's kind inherits: x is named, the owner's y runs -/
theorem j_callU {owner : String} (hC : g_Cx p s m args meth c cc nL own ret nm E st0) (hM : g_WP l E y bytes maxL rt fr lo mc ms (va_rf (some b) :: As) st Qc) (hw : GoodIn lw_all (va_wsU own index C owner x y (ws_ y bytes maxL rt))) (hyx : y = ⟨owner, x.name, x.desc⟩) (hy : owner ≠ "java/lang/invoke/MethodHandle" ∧ owner ≠ "java/lang/invoke/VarHandle" ∧ (parseMethodDescriptor x.desc).map (fun d => d.parameters.length) = some n) (hR : fr + 1 ≤ R.frames ∧ 8 + (maxL + 11) + lo ≤ R.locals) (hc : g_cl[ci]? = some (C, T, N)) (hr : g_Rd st b (.inr (ci, fs))) (hn : As.length = n) (hs : stk = As.reverse ++ va_rf (some b) :: rest) (hk : (rest.map fun v => v.category).sum ≤ 8) (hd : decode cc pc = .ok (.invokevirtual index, 3)) (h1 : mc ≤ cb) (h2 : ms ≤ sb)
    (K : ∀ (v : Option Value) (st' : g_St), Qc v st' → g_Ext st st' → g_J p l e R s m args below meth c nL E st0 Z (pc + 3) lv (v.toList ++ rest) st' (cb - mc) (sb - ms)) : g_J p l e R s m args below meth c nL E st0 Z pc lv stk st cb sb :=
  j_run (fun H locs ls cells slots k1 k2 k3 k4 k5 => va_runU (b := b) (rest := rest) ⟨hC.x, hC.b, hC.ml, hC.ow, hC.ts⟩ hM (va_cwU n hC.ts hw rfl rfl rfl hyx hy hR) ⟨g_blind, g_recv hC k2 hr hc, g_pre hC k2 k4 _⟩ rfl hn k1.1 (by subst hs; rfl) (lv_room hk) hd k5) h1 h2 K
/-- an overriding method; what the reference names has code -/
theorem j_callO {owner : String} {b0 : ByteArray} {m0 : Nat} {r0 : Option FieldType} (hC : g_Cx p s m args meth c cc nL own ret nm E st0) (hM : g_WP l E y bytes maxL rt fr lo mc ms (va_rf (some b) :: As) st Qc) (hw : GoodIn lw_all (va_wsO own index C owner x y (ws_ y bytes maxL rt))) (h0 : Cond.code ⟨owner, x.name, x.desc⟩ b0 m0 r0 ∈ lw_all) (hy : owner ≠ "java/lang/invoke/MethodHandle" ∧ owner ≠ "java/lang/invoke/VarHandle" ∧ (parseMethodDescriptor x.desc).map (fun d => d.parameters.length) = some n) (hR : fr + 1 ≤ R.frames ∧ 8 + (maxL + 11) + lo ≤ R.locals) (hc : g_cl[ci]? = some (C, T, N)) (hr : g_Rd st b (.inr (ci, fs))) (hn : As.length = n) (hs : stk = As.reverse ++ va_rf (some b) :: rest) (hk : (rest.map fun v => v.category).sum ≤ 8) (hd : decode cc pc = .ok (.invokevirtual index, 3)) (h1 : mc ≤ cb) (h2 : ms ≤ sb)
    (K : ∀ (v : Option Value) (st' : g_St), Qc v st' → g_Ext st st' → g_J p l e R s m args below meth c nL E st0 Z (pc + 3) lv (v.toList ++ rest) st' (cb - mc) (sb - ms)) : g_J p l e R s m args below meth c nL E st0 Z pc lv stk st cb sb :=
  j_run (fun H locs ls cells slots k1 k2 k3 k4 k5 => va_runU (b := b) (rest := rest) ⟨hC.x, hC.b, hC.ml, hC.ow, hC.ts⟩ hM (va_cwO n hC.ts hw rfl rfl rfl h0 hy hR) ⟨g_blind, g_recv hC k2 hr hc, g_pre hC k2 k4 _⟩ rfl hn k1.1 (by subst hs; rfl) (lv_room hk) hd k5) h1 h2 K
/-- what the reference names is abstract -/
theorem j_callA {owner : String} (hC : g_Cx p s m args meth c cc nL own ret nm E st0) (hM : g_WP l E y bytes maxL rt fr lo mc ms (va_rf (some b) :: As) st Qc) (hw : GoodIn lw_all (va_wsU own index C owner x y (ws_ y bytes maxL rt))) (hz : Cond.declares ⟨owner, x.name, x.desc⟩ ∈ g_ext) (hy : owner ≠ "java/lang/invoke/MethodHandle" ∧ owner ≠ "java/lang/invoke/VarHandle" ∧ (parseMethodDescriptor x.desc).map (fun d => d.parameters.length) = some n) (hR : fr + 1 ≤ R.frames ∧ 8 + (maxL + 11) + lo ≤ R.locals) (hc : g_cl[ci]? = some (C, T, N)) (hr : g_Rd st b (.inr (ci, fs))) (hn : As.length = n) (hs : stk = As.reverse ++ va_rf (some b) :: rest) (hk : (rest.map fun v => v.category).sum ≤ 8) (hd : decode cc pc = .ok (.invokevirtual index, 3)) (h1 : mc ≤ cb) (h2 : ms ≤ sb)
    (K : ∀ (v : Option Value) (st' : g_St), Qc v st' → g_Ext st st' → g_J p l e R s m args below meth c nL E st0 Z (pc + 3) lv (v.toList ++ rest) st' (cb - mc) (sb - ms)) : g_J p l e R s m args below meth c nL E st0 Z pc lv stk st cb sb :=
  j_run (fun H locs ls cells slots k1 k2 k3 k4 k5 => va_runU (b := b) (rest := rest) ⟨hC.x, hC.b, hC.ml, hC.ow, hC.ts⟩ hM (va_cwA n hC.ts hw rfl rfl rfl (hC.T.2.2.1 _ hz) hy hR) ⟨g_blind, g_recv hC k2 hr hc, g_pre hC k2 k4 _⟩ rfl hn k1.1 (by subst hs; rfl) (lv_room hk) hd k5) h1 h2 K
/-- through an interface -/
theorem j_callF {count : Nat} (hC : g_Cx p s m args meth c cc nL own ret nm E st0) (hM : g_WP l E y bytes maxL rt fr lo mc ms (va_rf (some b) :: As) st Qc) (hw : GoodIn lw_all (va_wsF own index C x y (ws_ y bytes maxL rt))) (hz : (C, x, y) ∈ g_faces) (hy : x.cls ≠ "java/lang/invoke/MethodHandle" ∧ x.cls ≠ "java/lang/invoke/VarHandle" ∧ (parseMethodDescriptor x.desc).map (fun d => d.parameters.length) = some n) (hR : fr + 1 ≤ R.frames ∧ 8 + (maxL + 11) + lo ≤ R.locals) (hc : g_cl[ci]? = some (C, T, N)) (hr : g_Rd st b (.inr (ci, fs))) (hn : As.length = n) (hs : stk = As.reverse ++ va_rf (some b) :: rest) (hk : (rest.map fun v => v.category).sum ≤ 8) (hd : decode cc pc = .ok (.invokeinterface index count, 5)) (h1 : mc ≤ cb) (h2 : ms ≤ sb)
    (K : ∀ (v : Option Value) (st' : g_St), Qc v st' → g_Ext st st' → g_J p l e R s m args below meth c nL E st0 Z (pc + 5) lv (v.toList ++ rest) st' (cb - mc) (sb - ms)) : g_J p l e R s m args below meth c nL E st0 Z pc lv stk st cb sb :=
  j_run5 (fun H locs ls cells slots k1 k2 k3 k4 k5 => va_runF (b := b) (rest := rest) (hC.K.1 ci _ hc).2 ⟨hC.x, hC.b, hC.ml, hC.ow, hC.ts⟩ hM (va_cwF n hC.ts hw rfl rfl rfl (hC.T.2.2.2.1 _ hz) hy hR) ⟨g_blind, g_recv hC k2 hr hc, g_pre hC k2 k4 _⟩ rfl hn k1.1 (by subst hs; rfl) (lv_room hk) hd k5) h1 h2 K
/-- a nest mate's method -/
theorem j_callVN {host : String} (hC : g_Cx p s m args meth c cc nL own ret nm E st0) (hM : g_WP l E y bytes maxL rt fr lo mc ms (va_rf (some b) :: As) st Qc) (hw : GoodIn lw_all (ws_ y bytes maxL rt)) (hz : Cond.methodLinkNest own index y host ∈ g_ext) (q1 : Cond.initialized y.cls ∈ lw_all) (q2 : Cond.instanceMethod y ∈ lw_all) (q3 : Cond.selects C y y ∈ lw_all) (hy : y.cls ≠ "java/lang/invoke/MethodHandle" ∧ y.cls ≠ "java/lang/invoke/VarHandle" ∧ (parseMethodDescriptor y.desc).map (fun d => d.parameters.length) = some n) (hR : fr + 1 ≤ R.frames ∧ 8 + (maxL + 11) + lo ≤ R.locals) (hc : g_cl[ci]? = some (C, T, N)) (hr : g_Rd st b (.inr (ci, fs))) (hn : As.length = n) (hs : stk = As.reverse ++ va_rf (some b) :: rest) (hk : (rest.map fun v => v.category).sum ≤ 8) (hd : decode cc pc = .ok (.invokevirtual index, 3)) (h1 : mc ≤ cb) (h2 : ms ≤ sb)
    (K : ∀ (v : Option Value) (st' : g_St), Qc v st' → g_Ext st st' → g_J p l e R s m args below meth c nL E st0 Z (pc + 3) lv (v.toList ++ rest) st' (cb - mc) (sb - ms)) : g_J p l e R s m args below meth c nL E st0 Z pc lv stk st cb sb :=
  j_run (fun H locs ls cells slots k1 k2 k3 k4 k5 => va_runVN (b := b) (rest := rest) ⟨hC.x, hC.b, hC.ml, hC.ow, hC.ts⟩ hM ⟨va_cnB n hC.ts hw rfl rfl rfl (hC.T.2.2.1 _ hz) (hC.ts _ q1) hy hR, hC.ts _ q2, hC.ts _ q3⟩ ⟨g_blind, g_recv hC k2 hr hc, g_pre hC k2 k4 _⟩ rfl hn k1.1 (by subst hs; rfl) (lv_room hk) hd k5) h1 h2 K
-- the end
theorem j_end (hC : g_Cx p s m args meth c cc nL own ret nm E st0) {Qc : Option Value → g_St → Prop} {v : Option Value} (hq : Qc v st) (h : ∀ (H : Heap) (locs : List Loc) (ls : Array Slot), (∀ t : State, t.heap = H → s.WarmedH t.vm → g_Q E st0 Qc args s (.returned v) t) → (∀ q ∈ locs, g_A st0 q.base) → W p l e R s m args below meth c H locs R.cells R.slots (MQ below (g_Q E st0 Qc) args s R.cells R.slots (g_A st0)) (F0 m pc ls stk)) : g_J p l e R s m args below meth c nL E st0 (MQ below (g_Q E st0 Qc) args s R.cells R.slots (g_A st0)) pc lv stk st cb sb :=
  fun H locs ls cells slots k1 k2 k3 k4 k5 k6 => W.widen (by omega) (by omega) (h H locs ls (fun t ht hW => ⟨v, st, rfl, hq, k3, by rw [ht]; exact k2, k4.F ht⟩) k4.2.2)
theorem j_ireturn (hC : g_Cx p s m args meth c cc nL own ret nm E st0) {Qc : Option Value → g_St → Prop} {v : Int32} {ty : FieldType} (hr : ret = some ty) (hn : narrow ty (.int v) = .int v) (hd : decode cc pc = .ok (.ireturn, 1)) (hq : Qc (some (.int v)) st) : g_J p l e R s m args below meth c nL E st0 (MQ below (g_Q E st0 Qc) args s R.cells R.slots (g_A st0)) pc lv [.int v] st cb sb :=
  j_end hC hq (fun H locs ls h1 h2 => W.zret hC.x hC.b (hC.rt.trans hr) hn h1 h2 hd hC.lk)
theorem j_lreturn (hC : g_Cx p s m args meth c cc nL own ret nm E st0) {Qc : Option Value → g_St → Prop} {v : Int64} (hr : ret = some .long) (hd : decode cc pc = .ok (.lreturn, 1)) (hq : Qc (some (.long v)) st) : g_J p l e R s m args below meth c nL E st0 (MQ below (g_Q E st0 Qc) args s R.cells R.slots (g_A st0)) pc lv [.long v] st cb sb :=
  j_end hC hq (fun H locs ls h1 h2 => W.lret hC.x hC.b (hC.rt.trans hr) h1 h2 hd hC.lk)
theorem j_return (hC : g_Cx p s m args meth c cc nL own ret nm E st0) {Qc : Option Value → g_St → Prop} (hr : ret = none) (hd : decode cc pc = .ok (.return_, 1)) (hq : Qc none st) : g_J p l e R s m args below meth c nL E st0 (MQ below (g_Q E st0 Qc) args s R.cells R.slots (g_A st0)) pc lv [] st cb sb :=
  j_end hC hq (fun H locs ls h1 h2 => W.vret hC.x hC.b (hC.rt.trans hr) h1 h2 hd hC.lk)
theorem j_areturn (hC : g_Cx p s m args meth c cc nL own ret nm E st0) {Qc : Option Value → g_St → Prop} {o : Option Nat} {ty : FieldType} (hr : ret = some ty) (hty : (∃ n, ty = .object n) ∨ ∃ t, ty = .array t) (hd : decode cc pc = .ok (.areturn, 1)) (hq : Qc (some (va_rf o)) st) : g_J p l e R s m args below meth c nL E st0 (MQ below (g_Q E st0 Qc) args s R.cells R.slots (g_A st0)) pc lv [va_rf o] st cb sb :=
  j_end hC hq (fun H locs ls h1 h2 => W.aret hC.x hC.b (hC.rt.trans hr) hty (by cases o with
    | none => exact Or.inl rfl
    | some a => exact Or.inr ⟨a, rfl⟩) h1 h2 hd hC.lk)
/-- into a method -/
theorem g_enter {l : Launch} {E : g_E} {y : MethodName} {cc : ByteArray} {nL : Nat} {rt : Option FieldType} {fr lo mc ms : Nat} {av : List Value} {st : g_St} {Q : Option Value → g_St → Prop} {lv0 : List (Nat × Value)} (hy : plainFor y = true) (hlv : lv_args 0 av = lv0) (hle : (lg_sl av).length ≤ nL)
    (body : ∀ (p : Program) (e : Env) (s : State) (m : MethodId) (args : Array Value) (below : List Frame) (meth : Method) (c : Code), g_Cx p s m args meth c cc nL y.cls rt y.name E st → g_J p l e { frames := fr, cells := mc, slots := ms, locals := lo } s m args below meth c nL E st (MQ below (g_Q E st Q) args s mc ms (g_A st)) 0 lv0 [] st mc ms) : g_WP l E y cc nL rt fr lo mc ms av st Q := by
  refine va_MetF (cc := cc) (maxL := nL) (ret := rt) hy rfl ?_
  intro p e s m args below meth c s₁ B hml hv
  obtain ⟨rfl, hO, hT, hZ⟩ := hv
  have hts := atoms_spec (ws := ws_ y cc nL rt) B.pre
  have hts : ∀ w ∈ lw_all, w.before _ s = true := fun w h => hts w (List.mem_cons_of_mem _ h)
  have hC : g_Cx p s m av.toArray meth c cc nL y.cls rt y.name E st := ⟨B.exec, B.bytes, hml, findClass_of_methodNamed B.named, hts, B.notSynchronized, B.returns, (name_of_methodNamed B.named B.method).1, hT, hZ, hO⟩
  have hl := lv_entry av (n := nL) hle
  rw [lg_entry_eq]
  rw [hlv] at hl
  exact body p e s m av.toArray below meth c hC s.heap [] _ 0 0 hl hO g_Ext.rf va_S.rf (Nat.le_of_eq (Nat.zero_add mc)) (Nat.le_of_eq (Nat.zero_add ms))
end GB4
/-! BASE 4: what the verification conditions are made of -/
section GB5
def g_LP1 {A1 : Type} (F : (A1 → Prop) → A1 → Prop) : Nat → A1 → Prop
  | 0, _ => False
  | n + 1, a1 => F (g_LP1 F n) a1
def g_lp1 {A1 : Type} (F : (A1 → Prop) → A1 → Prop) (a1 : A1) : Prop := ∃ n : Nat, g_LP1 F n a1
theorem g_LP1_e {A1 : Type} {F : (A1 → Prop) → A1 → Prop} {n : Nat} {a1 : A1} (h : g_LP1 F (n + 1) a1) : F (g_LP1 F n) a1 := h
theorem g_lp1_i {A1 : Type} {F : (A1 → Prop) → A1 → Prop} (I : A1 → Prop) (μ : A1 → Nat) (h : ∀ (a1 : A1) (K : A1 → Prop), I a1 → (∀ (b1 : A1), I b1 → μ b1 < μ a1 → K b1) → F K a1) : ∀ (a1 : A1), I a1 → g_lp1 F a1 := by
  have key : ∀ (n : Nat) (a1 : A1), I a1 → μ a1 < n → g_LP1 F n a1 := by
    intro n
    induction n with
    | zero => intro a1 _ hn; exact absurd hn (Nat.not_lt_zero _)
    | succ n ih =>
      intro a1 hI hn
      exact h a1 (g_LP1 F n) hI (fun b1 hb hm => ih b1 hb (by omega))
  intro a1 hI
  exact ⟨_, key _ a1 hI (Nat.lt_succ_self _)⟩
def g_LP2 {A1 A2 : Type} (F : (A1 → A2 → Prop) → A1 → A2 → Prop) : Nat → A1 → A2 → Prop
  | 0, _, _ => False
  | n + 1, a1, a2 => F (g_LP2 F n) a1 a2
def g_lp2 {A1 A2 : Type} (F : (A1 → A2 → Prop) → A1 → A2 → Prop) (a1 : A1) (a2 : A2) : Prop := ∃ n : Nat, g_LP2 F n a1 a2
theorem g_LP2_e {A1 A2 : Type} {F : (A1 → A2 → Prop) → A1 → A2 → Prop} {n : Nat} {a1 : A1} {a2 : A2} (h : g_LP2 F (n + 1) a1 a2) : F (g_LP2 F n) a1 a2 := h
theorem g_lp2_i {A1 A2 : Type} {F : (A1 → A2 → Prop) → A1 → A2 → Prop} (I : A1 → A2 → Prop) (μ : A1 → A2 → Nat) (h : ∀ (a1 : A1) (a2 : A2) (K : A1 → A2 → Prop), I a1 a2 → (∀ (b1 : A1) (b2 : A2), I b1 b2 → μ b1 b2 < μ a1 a2 → K b1 b2) → F K a1 a2) : ∀ (a1 : A1) (a2 : A2), I a1 a2 → g_lp2 F a1 a2 := by
  have key : ∀ (n : Nat) (a1 : A1) (a2 : A2), I a1 a2 → μ a1 a2 < n → g_LP2 F n a1 a2 := by
    intro n
    induction n with
    | zero => intro a1 a2 _ hn; exact absurd hn (Nat.not_lt_zero _)
    | succ n ih =>
      intro a1 a2 hI hn
      exact h a1 a2 (g_LP2 F n) hI (fun b1 b2 hb hm => ih b1 b2 hb (by omega))
  intro a1 a2 hI
  exact ⟨_, key _ a1 a2 hI (Nat.lt_succ_self _)⟩
def g_LP3 {A1 A2 A3 : Type} (F : (A1 → A2 → A3 → Prop) → A1 → A2 → A3 → Prop) : Nat → A1 → A2 → A3 → Prop
  | 0, _, _, _ => False
  | n + 1, a1, a2, a3 => F (g_LP3 F n) a1 a2 a3
def g_lp3 {A1 A2 A3 : Type} (F : (A1 → A2 → A3 → Prop) → A1 → A2 → A3 → Prop) (a1 : A1) (a2 : A2) (a3 : A3) : Prop := ∃ n : Nat, g_LP3 F n a1 a2 a3
theorem g_LP3_e {A1 A2 A3 : Type} {F : (A1 → A2 → A3 → Prop) → A1 → A2 → A3 → Prop} {n : Nat} {a1 : A1} {a2 : A2} {a3 : A3} (h : g_LP3 F (n + 1) a1 a2 a3) : F (g_LP3 F n) a1 a2 a3 := h
theorem g_lp3_i {A1 A2 A3 : Type} {F : (A1 → A2 → A3 → Prop) → A1 → A2 → A3 → Prop} (I : A1 → A2 → A3 → Prop) (μ : A1 → A2 → A3 → Nat) (h : ∀ (a1 : A1) (a2 : A2) (a3 : A3) (K : A1 → A2 → A3 → Prop), I a1 a2 a3 → (∀ (b1 : A1) (b2 : A2) (b3 : A3), I b1 b2 b3 → μ b1 b2 b3 < μ a1 a2 a3 → K b1 b2 b3) → F K a1 a2 a3) : ∀ (a1 : A1) (a2 : A2) (a3 : A3), I a1 a2 a3 → g_lp3 F a1 a2 a3 := by
  have key : ∀ (n : Nat) (a1 : A1) (a2 : A2) (a3 : A3), I a1 a2 a3 → μ a1 a2 a3 < n → g_LP3 F n a1 a2 a3 := by
    intro n
    induction n with
    | zero => intro a1 a2 a3 _ hn; exact absurd hn (Nat.not_lt_zero _)
    | succ n ih =>
      intro a1 a2 a3 hI hn
      exact h a1 a2 a3 (g_LP3 F n) hI (fun b1 b2 b3 hb hm => ih b1 b2 b3 hb (by omega))
  intro a1 a2 a3 hI
  exact ⟨_, key _ a1 a2 a3 hI (Nat.lt_succ_self _)⟩
def g_LP4 {A1 A2 A3 A4 : Type} (F : (A1 → A2 → A3 → A4 → Prop) → A1 → A2 → A3 → A4 → Prop) : Nat → A1 → A2 → A3 → A4 → Prop
  | 0, _, _, _, _ => False
  | n + 1, a1, a2, a3, a4 => F (g_LP4 F n) a1 a2 a3 a4
def g_lp4 {A1 A2 A3 A4 : Type} (F : (A1 → A2 → A3 → A4 → Prop) → A1 → A2 → A3 → A4 → Prop) (a1 : A1) (a2 : A2) (a3 : A3) (a4 : A4) : Prop := ∃ n : Nat, g_LP4 F n a1 a2 a3 a4
theorem g_LP4_e {A1 A2 A3 A4 : Type} {F : (A1 → A2 → A3 → A4 → Prop) → A1 → A2 → A3 → A4 → Prop} {n : Nat} {a1 : A1} {a2 : A2} {a3 : A3} {a4 : A4} (h : g_LP4 F (n + 1) a1 a2 a3 a4) : F (g_LP4 F n) a1 a2 a3 a4 := h
theorem g_lp4_i {A1 A2 A3 A4 : Type} {F : (A1 → A2 → A3 → A4 → Prop) → A1 → A2 → A3 → A4 → Prop} (I : A1 → A2 → A3 → A4 → Prop) (μ : A1 → A2 → A3 → A4 → Nat) (h : ∀ (a1 : A1) (a2 : A2) (a3 : A3) (a4 : A4) (K : A1 → A2 → A3 → A4 → Prop), I a1 a2 a3 a4 → (∀ (b1 : A1) (b2 : A2) (b3 : A3) (b4 : A4), I b1 b2 b3 b4 → μ b1 b2 b3 b4 < μ a1 a2 a3 a4 → K b1 b2 b3 b4) → F K a1 a2 a3 a4) : ∀ (a1 : A1) (a2 : A2) (a3 : A3) (a4 : A4), I a1 a2 a3 a4 → g_lp4 F a1 a2 a3 a4 := by
  have key : ∀ (n : Nat) (a1 : A1) (a2 : A2) (a3 : A3) (a4 : A4), I a1 a2 a3 a4 → μ a1 a2 a3 a4 < n → g_LP4 F n a1 a2 a3 a4 := by
    intro n
    induction n with
    | zero => intro a1 a2 a3 a4 _ hn; exact absurd hn (Nat.not_lt_zero _)
    | succ n ih =>
      intro a1 a2 a3 a4 hI hn
      exact h a1 a2 a3 a4 (g_LP4 F n) hI (fun b1 b2 b3 b4 hb hm => ih b1 b2 b3 b4 hb (by omega))
  intro a1 a2 a3 a4 hI
  exact ⟨_, key _ a1 a2 a3 a4 hI (Nat.lt_succ_self _)⟩
def g_LP5 {A1 A2 A3 A4 A5 : Type} (F : (A1 → A2 → A3 → A4 → A5 → Prop) → A1 → A2 → A3 → A4 → A5 → Prop) : Nat → A1 → A2 → A3 → A4 → A5 → Prop
  | 0, _, _, _, _, _ => False
  | n + 1, a1, a2, a3, a4, a5 => F (g_LP5 F n) a1 a2 a3 a4 a5
def g_lp5 {A1 A2 A3 A4 A5 : Type} (F : (A1 → A2 → A3 → A4 → A5 → Prop) → A1 → A2 → A3 → A4 → A5 → Prop) (a1 : A1) (a2 : A2) (a3 : A3) (a4 : A4) (a5 : A5) : Prop := ∃ n : Nat, g_LP5 F n a1 a2 a3 a4 a5
theorem g_LP5_e {A1 A2 A3 A4 A5 : Type} {F : (A1 → A2 → A3 → A4 → A5 → Prop) → A1 → A2 → A3 → A4 → A5 → Prop} {n : Nat} {a1 : A1} {a2 : A2} {a3 : A3} {a4 : A4} {a5 : A5} (h : g_LP5 F (n + 1) a1 a2 a3 a4 a5) : F (g_LP5 F n) a1 a2 a3 a4 a5 := h
theorem g_lp5_i {A1 A2 A3 A4 A5 : Type} {F : (A1 → A2 → A3 → A4 → A5 → Prop) → A1 → A2 → A3 → A4 → A5 → Prop} (I : A1 → A2 → A3 → A4 → A5 → Prop) (μ : A1 → A2 → A3 → A4 → A5 → Nat) (h : ∀ (a1 : A1) (a2 : A2) (a3 : A3) (a4 : A4) (a5 : A5) (K : A1 → A2 → A3 → A4 → A5 → Prop), I a1 a2 a3 a4 a5 → (∀ (b1 : A1) (b2 : A2) (b3 : A3) (b4 : A4) (b5 : A5), I b1 b2 b3 b4 b5 → μ b1 b2 b3 b4 b5 < μ a1 a2 a3 a4 a5 → K b1 b2 b3 b4 b5) → F K a1 a2 a3 a4 a5) : ∀ (a1 : A1) (a2 : A2) (a3 : A3) (a4 : A4) (a5 : A5), I a1 a2 a3 a4 a5 → g_lp5 F a1 a2 a3 a4 a5 := by
  have key : ∀ (n : Nat) (a1 : A1) (a2 : A2) (a3 : A3) (a4 : A4) (a5 : A5), I a1 a2 a3 a4 a5 → μ a1 a2 a3 a4 a5 < n → g_LP5 F n a1 a2 a3 a4 a5 := by
    intro n
    induction n with
    | zero => intro a1 a2 a3 a4 a5 _ hn; exact absurd hn (Nat.not_lt_zero _)
    | succ n ih =>
      intro a1 a2 a3 a4 a5 hI hn
      exact h a1 a2 a3 a4 a5 (g_LP5 F n) hI (fun b1 b2 b3 b4 b5 hb hm => ih b1 b2 b3 b4 b5 hb (by omega))
  intro a1 a2 a3 a4 a5 hI
  exact ⟨_, key _ a1 a2 a3 a4 a5 hI (Nat.lt_succ_self _)⟩
def g_LP6 {A1 A2 A3 A4 A5 A6 : Type} (F : (A1 → A2 → A3 → A4 → A5 → A6 → Prop) → A1 → A2 → A3 → A4 → A5 → A6 → Prop) : Nat → A1 → A2 → A3 → A4 → A5 → A6 → Prop
  | 0, _, _, _, _, _, _ => False
  | n + 1, a1, a2, a3, a4, a5, a6 => F (g_LP6 F n) a1 a2 a3 a4 a5 a6
def g_lp6 {A1 A2 A3 A4 A5 A6 : Type} (F : (A1 → A2 → A3 → A4 → A5 → A6 → Prop) → A1 → A2 → A3 → A4 → A5 → A6 → Prop) (a1 : A1) (a2 : A2) (a3 : A3) (a4 : A4) (a5 : A5) (a6 : A6) : Prop := ∃ n : Nat, g_LP6 F n a1 a2 a3 a4 a5 a6
theorem g_LP6_e {A1 A2 A3 A4 A5 A6 : Type} {F : (A1 → A2 → A3 → A4 → A5 → A6 → Prop) → A1 → A2 → A3 → A4 → A5 → A6 → Prop} {n : Nat} {a1 : A1} {a2 : A2} {a3 : A3} {a4 : A4} {a5 : A5} {a6 : A6} (h : g_LP6 F (n + 1) a1 a2 a3 a4 a5 a6) : F (g_LP6 F n) a1 a2 a3 a4 a5 a6 := h
theorem g_lp6_i {A1 A2 A3 A4 A5 A6 : Type} {F : (A1 → A2 → A3 → A4 → A5 → A6 → Prop) → A1 → A2 → A3 → A4 → A5 → A6 → Prop} (I : A1 → A2 → A3 → A4 → A5 → A6 → Prop) (μ : A1 → A2 → A3 → A4 → A5 → A6 → Nat) (h : ∀ (a1 : A1) (a2 : A2) (a3 : A3) (a4 : A4) (a5 : A5) (a6 : A6) (K : A1 → A2 → A3 → A4 → A5 → A6 → Prop), I a1 a2 a3 a4 a5 a6 → (∀ (b1 : A1) (b2 : A2) (b3 : A3) (b4 : A4) (b5 : A5) (b6 : A6), I b1 b2 b3 b4 b5 b6 → μ b1 b2 b3 b4 b5 b6 < μ a1 a2 a3 a4 a5 a6 → K b1 b2 b3 b4 b5 b6) → F K a1 a2 a3 a4 a5 a6) : ∀ (a1 : A1) (a2 : A2) (a3 : A3) (a4 : A4) (a5 : A5) (a6 : A6), I a1 a2 a3 a4 a5 a6 → g_lp6 F a1 a2 a3 a4 a5 a6 := by
  have key : ∀ (n : Nat) (a1 : A1) (a2 : A2) (a3 : A3) (a4 : A4) (a5 : A5) (a6 : A6), I a1 a2 a3 a4 a5 a6 → μ a1 a2 a3 a4 a5 a6 < n → g_LP6 F n a1 a2 a3 a4 a5 a6 := by
    intro n
    induction n with
    | zero => intro a1 a2 a3 a4 a5 a6 _ hn; exact absurd hn (Nat.not_lt_zero _)
    | succ n ih =>
      intro a1 a2 a3 a4 a5 a6 hI hn
      exact h a1 a2 a3 a4 a5 a6 (g_LP6 F n) hI (fun b1 b2 b3 b4 b5 b6 hb hm => ih b1 b2 b3 b4 b5 b6 hb (by omega))
  intro a1 a2 a3 a4 a5 a6 hI
  exact ⟨_, key _ a1 a2 a3 a4 a5 a6 hI (Nat.lt_succ_self _)⟩
def g_LP7 {A1 A2 A3 A4 A5 A6 A7 : Type} (F : (A1 → A2 → A3 → A4 → A5 → A6 → A7 → Prop) → A1 → A2 → A3 → A4 → A5 → A6 → A7 → Prop) : Nat → A1 → A2 → A3 → A4 → A5 → A6 → A7 → Prop
  | 0, _, _, _, _, _, _, _ => False
  | n + 1, a1, a2, a3, a4, a5, a6, a7 => F (g_LP7 F n) a1 a2 a3 a4 a5 a6 a7
def g_lp7 {A1 A2 A3 A4 A5 A6 A7 : Type} (F : (A1 → A2 → A3 → A4 → A5 → A6 → A7 → Prop) → A1 → A2 → A3 → A4 → A5 → A6 → A7 → Prop) (a1 : A1) (a2 : A2) (a3 : A3) (a4 : A4) (a5 : A5) (a6 : A6) (a7 : A7) : Prop := ∃ n : Nat, g_LP7 F n a1 a2 a3 a4 a5 a6 a7
theorem g_LP7_e {A1 A2 A3 A4 A5 A6 A7 : Type} {F : (A1 → A2 → A3 → A4 → A5 → A6 → A7 → Prop) → A1 → A2 → A3 → A4 → A5 → A6 → A7 → Prop} {n : Nat} {a1 : A1} {a2 : A2} {a3 : A3} {a4 : A4} {a5 : A5} {a6 : A6} {a7 : A7} (h : g_LP7 F (n + 1) a1 a2 a3 a4 a5 a6 a7) : F (g_LP7 F n) a1 a2 a3 a4 a5 a6 a7 := h
theorem g_lp7_i {A1 A2 A3 A4 A5 A6 A7 : Type} {F : (A1 → A2 → A3 → A4 → A5 → A6 → A7 → Prop) → A1 → A2 → A3 → A4 → A5 → A6 → A7 → Prop} (I : A1 → A2 → A3 → A4 → A5 → A6 → A7 → Prop) (μ : A1 → A2 → A3 → A4 → A5 → A6 → A7 → Nat) (h : ∀ (a1 : A1) (a2 : A2) (a3 : A3) (a4 : A4) (a5 : A5) (a6 : A6) (a7 : A7) (K : A1 → A2 → A3 → A4 → A5 → A6 → A7 → Prop), I a1 a2 a3 a4 a5 a6 a7 → (∀ (b1 : A1) (b2 : A2) (b3 : A3) (b4 : A4) (b5 : A5) (b6 : A6) (b7 : A7), I b1 b2 b3 b4 b5 b6 b7 → μ b1 b2 b3 b4 b5 b6 b7 < μ a1 a2 a3 a4 a5 a6 a7 → K b1 b2 b3 b4 b5 b6 b7) → F K a1 a2 a3 a4 a5 a6 a7) : ∀ (a1 : A1) (a2 : A2) (a3 : A3) (a4 : A4) (a5 : A5) (a6 : A6) (a7 : A7), I a1 a2 a3 a4 a5 a6 a7 → g_lp7 F a1 a2 a3 a4 a5 a6 a7 := by
  have key : ∀ (n : Nat) (a1 : A1) (a2 : A2) (a3 : A3) (a4 : A4) (a5 : A5) (a6 : A6) (a7 : A7), I a1 a2 a3 a4 a5 a6 a7 → μ a1 a2 a3 a4 a5 a6 a7 < n → g_LP7 F n a1 a2 a3 a4 a5 a6 a7 := by
    intro n
    induction n with
    | zero => intro a1 a2 a3 a4 a5 a6 a7 _ hn; exact absurd hn (Nat.not_lt_zero _)
    | succ n ih =>
      intro a1 a2 a3 a4 a5 a6 a7 hI hn
      exact h a1 a2 a3 a4 a5 a6 a7 (g_LP7 F n) hI (fun b1 b2 b3 b4 b5 b6 b7 hb hm => ih b1 b2 b3 b4 b5 b6 b7 hb (by omega))
  intro a1 a2 a3 a4 a5 a6 a7 hI
  exact ⟨_, key _ a1 a2 a3 a4 a5 a6 a7 hI (Nat.lt_succ_self _)⟩
def g_LP8 {A1 A2 A3 A4 A5 A6 A7 A8 : Type} (F : (A1 → A2 → A3 → A4 → A5 → A6 → A7 → A8 → Prop) → A1 → A2 → A3 → A4 → A5 → A6 → A7 → A8 → Prop) : Nat → A1 → A2 → A3 → A4 → A5 → A6 → A7 → A8 → Prop
  | 0, _, _, _, _, _, _, _, _ => False
  | n + 1, a1, a2, a3, a4, a5, a6, a7, a8 => F (g_LP8 F n) a1 a2 a3 a4 a5 a6 a7 a8
def g_lp8 {A1 A2 A3 A4 A5 A6 A7 A8 : Type} (F : (A1 → A2 → A3 → A4 → A5 → A6 → A7 → A8 → Prop) → A1 → A2 → A3 → A4 → A5 → A6 → A7 → A8 → Prop) (a1 : A1) (a2 : A2) (a3 : A3) (a4 : A4) (a5 : A5) (a6 : A6) (a7 : A7) (a8 : A8) : Prop := ∃ n : Nat, g_LP8 F n a1 a2 a3 a4 a5 a6 a7 a8
theorem g_LP8_e {A1 A2 A3 A4 A5 A6 A7 A8 : Type} {F : (A1 → A2 → A3 → A4 → A5 → A6 → A7 → A8 → Prop) → A1 → A2 → A3 → A4 → A5 → A6 → A7 → A8 → Prop} {n : Nat} {a1 : A1} {a2 : A2} {a3 : A3} {a4 : A4} {a5 : A5} {a6 : A6} {a7 : A7} {a8 : A8} (h : g_LP8 F (n + 1) a1 a2 a3 a4 a5 a6 a7 a8) : F (g_LP8 F n) a1 a2 a3 a4 a5 a6 a7 a8 := h
theorem g_lp8_i {A1 A2 A3 A4 A5 A6 A7 A8 : Type} {F : (A1 → A2 → A3 → A4 → A5 → A6 → A7 → A8 → Prop) → A1 → A2 → A3 → A4 → A5 → A6 → A7 → A8 → Prop} (I : A1 → A2 → A3 → A4 → A5 → A6 → A7 → A8 → Prop) (μ : A1 → A2 → A3 → A4 → A5 → A6 → A7 → A8 → Nat) (h : ∀ (a1 : A1) (a2 : A2) (a3 : A3) (a4 : A4) (a5 : A5) (a6 : A6) (a7 : A7) (a8 : A8) (K : A1 → A2 → A3 → A4 → A5 → A6 → A7 → A8 → Prop), I a1 a2 a3 a4 a5 a6 a7 a8 → (∀ (b1 : A1) (b2 : A2) (b3 : A3) (b4 : A4) (b5 : A5) (b6 : A6) (b7 : A7) (b8 : A8), I b1 b2 b3 b4 b5 b6 b7 b8 → μ b1 b2 b3 b4 b5 b6 b7 b8 < μ a1 a2 a3 a4 a5 a6 a7 a8 → K b1 b2 b3 b4 b5 b6 b7 b8) → F K a1 a2 a3 a4 a5 a6 a7 a8) : ∀ (a1 : A1) (a2 : A2) (a3 : A3) (a4 : A4) (a5 : A5) (a6 : A6) (a7 : A7) (a8 : A8), I a1 a2 a3 a4 a5 a6 a7 a8 → g_lp8 F a1 a2 a3 a4 a5 a6 a7 a8 := by
  have key : ∀ (n : Nat) (a1 : A1) (a2 : A2) (a3 : A3) (a4 : A4) (a5 : A5) (a6 : A6) (a7 : A7) (a8 : A8), I a1 a2 a3 a4 a5 a6 a7 a8 → μ a1 a2 a3 a4 a5 a6 a7 a8 < n → g_LP8 F n a1 a2 a3 a4 a5 a6 a7 a8 := by
    intro n
    induction n with
    | zero => intro a1 a2 a3 a4 a5 a6 a7 a8 _ hn; exact absurd hn (Nat.not_lt_zero _)
    | succ n ih =>
      intro a1 a2 a3 a4 a5 a6 a7 a8 hI hn
      exact h a1 a2 a3 a4 a5 a6 a7 a8 (g_LP8 F n) hI (fun b1 b2 b3 b4 b5 b6 b7 b8 hb hm => ih b1 b2 b3 b4 b5 b6 b7 b8 hb (by omega))
  intro a1 a2 a3 a4 a5 a6 a7 a8 hI
  exact ⟨_, key _ a1 a2 a3 a4 a5 a6 a7 a8 hI (Nat.lt_succ_self _)⟩
def g_LP9 {A1 A2 A3 A4 A5 A6 A7 A8 A9 : Type} (F : (A1 → A2 → A3 → A4 → A5 → A6 → A7 → A8 → A9 → Prop) → A1 → A2 → A3 → A4 → A5 → A6 → A7 → A8 → A9 → Prop) : Nat → A1 → A2 → A3 → A4 → A5 → A6 → A7 → A8 → A9 → Prop
  | 0, _, _, _, _, _, _, _, _, _ => False
  | n + 1, a1, a2, a3, a4, a5, a6, a7, a8, a9 => F (g_LP9 F n) a1 a2 a3 a4 a5 a6 a7 a8 a9
def g_lp9 {A1 A2 A3 A4 A5 A6 A7 A8 A9 : Type} (F : (A1 → A2 → A3 → A4 → A5 → A6 → A7 → A8 → A9 → Prop) → A1 → A2 → A3 → A4 → A5 → A6 → A7 → A8 → A9 → Prop) (a1 : A1) (a2 : A2) (a3 : A3) (a4 : A4) (a5 : A5) (a6 : A6) (a7 : A7) (a8 : A8) (a9 : A9) : Prop := ∃ n : Nat, g_LP9 F n a1 a2 a3 a4 a5 a6 a7 a8 a9
theorem g_LP9_e {A1 A2 A3 A4 A5 A6 A7 A8 A9 : Type} {F : (A1 → A2 → A3 → A4 → A5 → A6 → A7 → A8 → A9 → Prop) → A1 → A2 → A3 → A4 → A5 → A6 → A7 → A8 → A9 → Prop} {n : Nat} {a1 : A1} {a2 : A2} {a3 : A3} {a4 : A4} {a5 : A5} {a6 : A6} {a7 : A7} {a8 : A8} {a9 : A9} (h : g_LP9 F (n + 1) a1 a2 a3 a4 a5 a6 a7 a8 a9) : F (g_LP9 F n) a1 a2 a3 a4 a5 a6 a7 a8 a9 := h
theorem g_lp9_i {A1 A2 A3 A4 A5 A6 A7 A8 A9 : Type} {F : (A1 → A2 → A3 → A4 → A5 → A6 → A7 → A8 → A9 → Prop) → A1 → A2 → A3 → A4 → A5 → A6 → A7 → A8 → A9 → Prop} (I : A1 → A2 → A3 → A4 → A5 → A6 → A7 → A8 → A9 → Prop) (μ : A1 → A2 → A3 → A4 → A5 → A6 → A7 → A8 → A9 → Nat) (h : ∀ (a1 : A1) (a2 : A2) (a3 : A3) (a4 : A4) (a5 : A5) (a6 : A6) (a7 : A7) (a8 : A8) (a9 : A9) (K : A1 → A2 → A3 → A4 → A5 → A6 → A7 → A8 → A9 → Prop), I a1 a2 a3 a4 a5 a6 a7 a8 a9 → (∀ (b1 : A1) (b2 : A2) (b3 : A3) (b4 : A4) (b5 : A5) (b6 : A6) (b7 : A7) (b8 : A8) (b9 : A9), I b1 b2 b3 b4 b5 b6 b7 b8 b9 → μ b1 b2 b3 b4 b5 b6 b7 b8 b9 < μ a1 a2 a3 a4 a5 a6 a7 a8 a9 → K b1 b2 b3 b4 b5 b6 b7 b8 b9) → F K a1 a2 a3 a4 a5 a6 a7 a8 a9) : ∀ (a1 : A1) (a2 : A2) (a3 : A3) (a4 : A4) (a5 : A5) (a6 : A6) (a7 : A7) (a8 : A8) (a9 : A9), I a1 a2 a3 a4 a5 a6 a7 a8 a9 → g_lp9 F a1 a2 a3 a4 a5 a6 a7 a8 a9 := by
  have key : ∀ (n : Nat) (a1 : A1) (a2 : A2) (a3 : A3) (a4 : A4) (a5 : A5) (a6 : A6) (a7 : A7) (a8 : A8) (a9 : A9), I a1 a2 a3 a4 a5 a6 a7 a8 a9 → μ a1 a2 a3 a4 a5 a6 a7 a8 a9 < n → g_LP9 F n a1 a2 a3 a4 a5 a6 a7 a8 a9 := by
    intro n
    induction n with
    | zero => intro a1 a2 a3 a4 a5 a6 a7 a8 a9 _ hn; exact absurd hn (Nat.not_lt_zero _)
    | succ n ih =>
      intro a1 a2 a3 a4 a5 a6 a7 a8 a9 hI hn
      exact h a1 a2 a3 a4 a5 a6 a7 a8 a9 (g_LP9 F n) hI (fun b1 b2 b3 b4 b5 b6 b7 b8 b9 hb hm => ih b1 b2 b3 b4 b5 b6 b7 b8 b9 hb (by omega))
  intro a1 a2 a3 a4 a5 a6 a7 a8 a9 hI
  exact ⟨_, key _ a1 a2 a3 a4 a5 a6 a7 a8 a9 hI (Nat.lt_succ_self _)⟩
def g_LP10 {A1 A2 A3 A4 A5 A6 A7 A8 A9 A10 : Type} (F : (A1 → A2 → A3 → A4 → A5 → A6 → A7 → A8 → A9 → A10 → Prop) → A1 → A2 → A3 → A4 → A5 → A6 → A7 → A8 → A9 → A10 → Prop) : Nat → A1 → A2 → A3 → A4 → A5 → A6 → A7 → A8 → A9 → A10 → Prop
  | 0, _, _, _, _, _, _, _, _, _, _ => False
  | n + 1, a1, a2, a3, a4, a5, a6, a7, a8, a9, a10 => F (g_LP10 F n) a1 a2 a3 a4 a5 a6 a7 a8 a9 a10
def g_lp10 {A1 A2 A3 A4 A5 A6 A7 A8 A9 A10 : Type} (F : (A1 → A2 → A3 → A4 → A5 → A6 → A7 → A8 → A9 → A10 → Prop) → A1 → A2 → A3 → A4 → A5 → A6 → A7 → A8 → A9 → A10 → Prop) (a1 : A1) (a2 : A2) (a3 : A3) (a4 : A4) (a5 : A5) (a6 : A6) (a7 : A7) (a8 : A8) (a9 : A9) (a10 : A10) : Prop := ∃ n : Nat, g_LP10 F n a1 a2 a3 a4 a5 a6 a7 a8 a9 a10
theorem g_LP10_e {A1 A2 A3 A4 A5 A6 A7 A8 A9 A10 : Type} {F : (A1 → A2 → A3 → A4 → A5 → A6 → A7 → A8 → A9 → A10 → Prop) → A1 → A2 → A3 → A4 → A5 → A6 → A7 → A8 → A9 → A10 → Prop} {n : Nat} {a1 : A1} {a2 : A2} {a3 : A3} {a4 : A4} {a5 : A5} {a6 : A6} {a7 : A7} {a8 : A8} {a9 : A9} {a10 : A10} (h : g_LP10 F (n + 1) a1 a2 a3 a4 a5 a6 a7 a8 a9 a10) : F (g_LP10 F n) a1 a2 a3 a4 a5 a6 a7 a8 a9 a10 := h
theorem g_lp10_i {A1 A2 A3 A4 A5 A6 A7 A8 A9 A10 : Type} {F : (A1 → A2 → A3 → A4 → A5 → A6 → A7 → A8 → A9 → A10 → Prop) → A1 → A2 → A3 → A4 → A5 → A6 → A7 → A8 → A9 → A10 → Prop} (I : A1 → A2 → A3 → A4 → A5 → A6 → A7 → A8 → A9 → A10 → Prop) (μ : A1 → A2 → A3 → A4 → A5 → A6 → A7 → A8 → A9 → A10 → Nat) (h : ∀ (a1 : A1) (a2 : A2) (a3 : A3) (a4 : A4) (a5 : A5) (a6 : A6) (a7 : A7) (a8 : A8) (a9 : A9) (a10 : A10) (K : A1 → A2 → A3 → A4 → A5 → A6 → A7 → A8 → A9 → A10 → Prop), I a1 a2 a3 a4 a5 a6 a7 a8 a9 a10 → (∀ (b1 : A1) (b2 : A2) (b3 : A3) (b4 : A4) (b5 : A5) (b6 : A6) (b7 : A7) (b8 : A8) (b9 : A9) (b10 : A10), I b1 b2 b3 b4 b5 b6 b7 b8 b9 b10 → μ b1 b2 b3 b4 b5 b6 b7 b8 b9 b10 < μ a1 a2 a3 a4 a5 a6 a7 a8 a9 a10 → K b1 b2 b3 b4 b5 b6 b7 b8 b9 b10) → F K a1 a2 a3 a4 a5 a6 a7 a8 a9 a10) : ∀ (a1 : A1) (a2 : A2) (a3 : A3) (a4 : A4) (a5 : A5) (a6 : A6) (a7 : A7) (a8 : A8) (a9 : A9) (a10 : A10), I a1 a2 a3 a4 a5 a6 a7 a8 a9 a10 → g_lp10 F a1 a2 a3 a4 a5 a6 a7 a8 a9 a10 := by
  have key : ∀ (n : Nat) (a1 : A1) (a2 : A2) (a3 : A3) (a4 : A4) (a5 : A5) (a6 : A6) (a7 : A7) (a8 : A8) (a9 : A9) (a10 : A10), I a1 a2 a3 a4 a5 a6 a7 a8 a9 a10 → μ a1 a2 a3 a4 a5 a6 a7 a8 a9 a10 < n → g_LP10 F n a1 a2 a3 a4 a5 a6 a7 a8 a9 a10 := by
    intro n
    induction n with
    | zero => intro a1 a2 a3 a4 a5 a6 a7 a8 a9 a10 _ hn; exact absurd hn (Nat.not_lt_zero _)
    | succ n ih =>
      intro a1 a2 a3 a4 a5 a6 a7 a8 a9 a10 hI hn
      exact h a1 a2 a3 a4 a5 a6 a7 a8 a9 a10 (g_LP10 F n) hI (fun b1 b2 b3 b4 b5 b6 b7 b8 b9 b10 hb hm => ih b1 b2 b3 b4 b5 b6 b7 b8 b9 b10 hb (by omega))
  intro a1 a2 a3 a4 a5 a6 a7 a8 a9 a10 hI
  exact ⟨_, key _ a1 a2 a3 a4 a5 a6 a7 a8 a9 a10 hI (Nat.lt_succ_self _)⟩
def g_LP11 {A1 A2 A3 A4 A5 A6 A7 A8 A9 A10 A11 : Type} (F : (A1 → A2 → A3 → A4 → A5 → A6 → A7 → A8 → A9 → A10 → A11 → Prop) → A1 → A2 → A3 → A4 → A5 → A6 → A7 → A8 → A9 → A10 → A11 → Prop) : Nat → A1 → A2 → A3 → A4 → A5 → A6 → A7 → A8 → A9 → A10 → A11 → Prop
  | 0, _, _, _, _, _, _, _, _, _, _, _ => False
  | n + 1, a1, a2, a3, a4, a5, a6, a7, a8, a9, a10, a11 => F (g_LP11 F n) a1 a2 a3 a4 a5 a6 a7 a8 a9 a10 a11
def g_lp11 {A1 A2 A3 A4 A5 A6 A7 A8 A9 A10 A11 : Type} (F : (A1 → A2 → A3 → A4 → A5 → A6 → A7 → A8 → A9 → A10 → A11 → Prop) → A1 → A2 → A3 → A4 → A5 → A6 → A7 → A8 → A9 → A10 → A11 → Prop) (a1 : A1) (a2 : A2) (a3 : A3) (a4 : A4) (a5 : A5) (a6 : A6) (a7 : A7) (a8 : A8) (a9 : A9) (a10 : A10) (a11 : A11) : Prop := ∃ n : Nat, g_LP11 F n a1 a2 a3 a4 a5 a6 a7 a8 a9 a10 a11
theorem g_LP11_e {A1 A2 A3 A4 A5 A6 A7 A8 A9 A10 A11 : Type} {F : (A1 → A2 → A3 → A4 → A5 → A6 → A7 → A8 → A9 → A10 → A11 → Prop) → A1 → A2 → A3 → A4 → A5 → A6 → A7 → A8 → A9 → A10 → A11 → Prop} {n : Nat} {a1 : A1} {a2 : A2} {a3 : A3} {a4 : A4} {a5 : A5} {a6 : A6} {a7 : A7} {a8 : A8} {a9 : A9} {a10 : A10} {a11 : A11} (h : g_LP11 F (n + 1) a1 a2 a3 a4 a5 a6 a7 a8 a9 a10 a11) : F (g_LP11 F n) a1 a2 a3 a4 a5 a6 a7 a8 a9 a10 a11 := h
theorem g_lp11_i {A1 A2 A3 A4 A5 A6 A7 A8 A9 A10 A11 : Type} {F : (A1 → A2 → A3 → A4 → A5 → A6 → A7 → A8 → A9 → A10 → A11 → Prop) → A1 → A2 → A3 → A4 → A5 → A6 → A7 → A8 → A9 → A10 → A11 → Prop} (I : A1 → A2 → A3 → A4 → A5 → A6 → A7 → A8 → A9 → A10 → A11 → Prop) (μ : A1 → A2 → A3 → A4 → A5 → A6 → A7 → A8 → A9 → A10 → A11 → Nat) (h : ∀ (a1 : A1) (a2 : A2) (a3 : A3) (a4 : A4) (a5 : A5) (a6 : A6) (a7 : A7) (a8 : A8) (a9 : A9) (a10 : A10) (a11 : A11) (K : A1 → A2 → A3 → A4 → A5 → A6 → A7 → A8 → A9 → A10 → A11 → Prop), I a1 a2 a3 a4 a5 a6 a7 a8 a9 a10 a11 → (∀ (b1 : A1) (b2 : A2) (b3 : A3) (b4 : A4) (b5 : A5) (b6 : A6) (b7 : A7) (b8 : A8) (b9 : A9) (b10 : A10) (b11 : A11), I b1 b2 b3 b4 b5 b6 b7 b8 b9 b10 b11 → μ b1 b2 b3 b4 b5 b6 b7 b8 b9 b10 b11 < μ a1 a2 a3 a4 a5 a6 a7 a8 a9 a10 a11 → K b1 b2 b3 b4 b5 b6 b7 b8 b9 b10 b11) → F K a1 a2 a3 a4 a5 a6 a7 a8 a9 a10 a11) : ∀ (a1 : A1) (a2 : A2) (a3 : A3) (a4 : A4) (a5 : A5) (a6 : A6) (a7 : A7) (a8 : A8) (a9 : A9) (a10 : A10) (a11 : A11), I a1 a2 a3 a4 a5 a6 a7 a8 a9 a10 a11 → g_lp11 F a1 a2 a3 a4 a5 a6 a7 a8 a9 a10 a11 := by
  have key : ∀ (n : Nat) (a1 : A1) (a2 : A2) (a3 : A3) (a4 : A4) (a5 : A5) (a6 : A6) (a7 : A7) (a8 : A8) (a9 : A9) (a10 : A10) (a11 : A11), I a1 a2 a3 a4 a5 a6 a7 a8 a9 a10 a11 → μ a1 a2 a3 a4 a5 a6 a7 a8 a9 a10 a11 < n → g_LP11 F n a1 a2 a3 a4 a5 a6 a7 a8 a9 a10 a11 := by
    intro n
    induction n with
    | zero => intro a1 a2 a3 a4 a5 a6 a7 a8 a9 a10 a11 _ hn; exact absurd hn (Nat.not_lt_zero _)
    | succ n ih =>
      intro a1 a2 a3 a4 a5 a6 a7 a8 a9 a10 a11 hI hn
      exact h a1 a2 a3 a4 a5 a6 a7 a8 a9 a10 a11 (g_LP11 F n) hI (fun b1 b2 b3 b4 b5 b6 b7 b8 b9 b10 b11 hb hm => ih b1 b2 b3 b4 b5 b6 b7 b8 b9 b10 b11 hb (by omega))
  intro a1 a2 a3 a4 a5 a6 a7 a8 a9 a10 a11 hI
  exact ⟨_, key _ a1 a2 a3 a4 a5 a6 a7 a8 a9 a10 a11 hI (Nat.lt_succ_self _)⟩
def g_LP12 {A1 A2 A3 A4 A5 A6 A7 A8 A9 A10 A11 A12 : Type} (F : (A1 → A2 → A3 → A4 → A5 → A6 → A7 → A8 → A9 → A10 → A11 → A12 → Prop) → A1 → A2 → A3 → A4 → A5 → A6 → A7 → A8 → A9 → A10 → A11 → A12 → Prop) : Nat → A1 → A2 → A3 → A4 → A5 → A6 → A7 → A8 → A9 → A10 → A11 → A12 → Prop
  | 0, _, _, _, _, _, _, _, _, _, _, _, _ => False
  | n + 1, a1, a2, a3, a4, a5, a6, a7, a8, a9, a10, a11, a12 => F (g_LP12 F n) a1 a2 a3 a4 a5 a6 a7 a8 a9 a10 a11 a12
def g_lp12 {A1 A2 A3 A4 A5 A6 A7 A8 A9 A10 A11 A12 : Type} (F : (A1 → A2 → A3 → A4 → A5 → A6 → A7 → A8 → A9 → A10 → A11 → A12 → Prop) → A1 → A2 → A3 → A4 → A5 → A6 → A7 → A8 → A9 → A10 → A11 → A12 → Prop) (a1 : A1) (a2 : A2) (a3 : A3) (a4 : A4) (a5 : A5) (a6 : A6) (a7 : A7) (a8 : A8) (a9 : A9) (a10 : A10) (a11 : A11) (a12 : A12) : Prop := ∃ n : Nat, g_LP12 F n a1 a2 a3 a4 a5 a6 a7 a8 a9 a10 a11 a12
theorem g_LP12_e {A1 A2 A3 A4 A5 A6 A7 A8 A9 A10 A11 A12 : Type} {F : (A1 → A2 → A3 → A4 → A5 → A6 → A7 → A8 → A9 → A10 → A11 → A12 → Prop) → A1 → A2 → A3 → A4 → A5 → A6 → A7 → A8 → A9 → A10 → A11 → A12 → Prop} {n : Nat} {a1 : A1} {a2 : A2} {a3 : A3} {a4 : A4} {a5 : A5} {a6 : A6} {a7 : A7} {a8 : A8} {a9 : A9} {a10 : A10} {a11 : A11} {a12 : A12} (h : g_LP12 F (n + 1) a1 a2 a3 a4 a5 a6 a7 a8 a9 a10 a11 a12) : F (g_LP12 F n) a1 a2 a3 a4 a5 a6 a7 a8 a9 a10 a11 a12 := h
theorem g_lp12_i {A1 A2 A3 A4 A5 A6 A7 A8 A9 A10 A11 A12 : Type} {F : (A1 → A2 → A3 → A4 → A5 → A6 → A7 → A8 → A9 → A10 → A11 → A12 → Prop) → A1 → A2 → A3 → A4 → A5 → A6 → A7 → A8 → A9 → A10 → A11 → A12 → Prop} (I : A1 → A2 → A3 → A4 → A5 → A6 → A7 → A8 → A9 → A10 → A11 → A12 → Prop) (μ : A1 → A2 → A3 → A4 → A5 → A6 → A7 → A8 → A9 → A10 → A11 → A12 → Nat) (h : ∀ (a1 : A1) (a2 : A2) (a3 : A3) (a4 : A4) (a5 : A5) (a6 : A6) (a7 : A7) (a8 : A8) (a9 : A9) (a10 : A10) (a11 : A11) (a12 : A12) (K : A1 → A2 → A3 → A4 → A5 → A6 → A7 → A8 → A9 → A10 → A11 → A12 → Prop), I a1 a2 a3 a4 a5 a6 a7 a8 a9 a10 a11 a12 → (∀ (b1 : A1) (b2 : A2) (b3 : A3) (b4 : A4) (b5 : A5) (b6 : A6) (b7 : A7) (b8 : A8) (b9 : A9) (b10 : A10) (b11 : A11) (b12 : A12), I b1 b2 b3 b4 b5 b6 b7 b8 b9 b10 b11 b12 → μ b1 b2 b3 b4 b5 b6 b7 b8 b9 b10 b11 b12 < μ a1 a2 a3 a4 a5 a6 a7 a8 a9 a10 a11 a12 → K b1 b2 b3 b4 b5 b6 b7 b8 b9 b10 b11 b12) → F K a1 a2 a3 a4 a5 a6 a7 a8 a9 a10 a11 a12) : ∀ (a1 : A1) (a2 : A2) (a3 : A3) (a4 : A4) (a5 : A5) (a6 : A6) (a7 : A7) (a8 : A8) (a9 : A9) (a10 : A10) (a11 : A11) (a12 : A12), I a1 a2 a3 a4 a5 a6 a7 a8 a9 a10 a11 a12 → g_lp12 F a1 a2 a3 a4 a5 a6 a7 a8 a9 a10 a11 a12 := by
  have key : ∀ (n : Nat) (a1 : A1) (a2 : A2) (a3 : A3) (a4 : A4) (a5 : A5) (a6 : A6) (a7 : A7) (a8 : A8) (a9 : A9) (a10 : A10) (a11 : A11) (a12 : A12), I a1 a2 a3 a4 a5 a6 a7 a8 a9 a10 a11 a12 → μ a1 a2 a3 a4 a5 a6 a7 a8 a9 a10 a11 a12 < n → g_LP12 F n a1 a2 a3 a4 a5 a6 a7 a8 a9 a10 a11 a12 := by
    intro n
    induction n with
    | zero => intro a1 a2 a3 a4 a5 a6 a7 a8 a9 a10 a11 a12 _ hn; exact absurd hn (Nat.not_lt_zero _)
    | succ n ih =>
      intro a1 a2 a3 a4 a5 a6 a7 a8 a9 a10 a11 a12 hI hn
      exact h a1 a2 a3 a4 a5 a6 a7 a8 a9 a10 a11 a12 (g_LP12 F n) hI (fun b1 b2 b3 b4 b5 b6 b7 b8 b9 b10 b11 b12 hb hm => ih b1 b2 b3 b4 b5 b6 b7 b8 b9 b10 b11 b12 hb (by omega))
  intro a1 a2 a3 a4 a5 a6 a7 a8 a9 a10 a11 a12 hI
  exact ⟨_, key _ a1 a2 a3 a4 a5 a6 a7 a8 a9 a10 a11 a12 hI (Nat.lt_succ_self _)⟩
def g_jn0 (B : Prop → Prop) (J : Prop) : Prop := B J
theorem g_jn0_e {B : Prop → Prop} {J : Prop} (h : g_jn0 B J) : B J := h
theorem g_jn0_i {B : Prop → Prop} {J : Prop} (h : J) (hB : ∀ K : Prop, K → B K) : g_jn0 B J := hB J h
def g_jn1 {A1 : Type} (B : (A1 → Prop) → Prop) (J : A1 → Prop) : Prop := B J
theorem g_jn1_e {A1 : Type} {B : (A1 → Prop) → Prop} {J : A1 → Prop} (h : g_jn1 B J) : B J := h
theorem g_jn1_i {A1 : Type} {B : (A1 → Prop) → Prop} {J : A1 → Prop} (P : A1 → Prop) (hJ : ∀ (a1 : A1), P a1 → J a1) (hB : ∀ K : A1 → Prop, (∀ (a1 : A1), P a1 → K a1) → B K) : g_jn1 B J := hB J hJ
def g_jn2 {A1 A2 : Type} (B : (A1 → A2 → Prop) → Prop) (J : A1 → A2 → Prop) : Prop := B J
theorem g_jn2_e {A1 A2 : Type} {B : (A1 → A2 → Prop) → Prop} {J : A1 → A2 → Prop} (h : g_jn2 B J) : B J := h
theorem g_jn2_i {A1 A2 : Type} {B : (A1 → A2 → Prop) → Prop} {J : A1 → A2 → Prop} (P : A1 → A2 → Prop) (hJ : ∀ (a1 : A1) (a2 : A2), P a1 a2 → J a1 a2) (hB : ∀ K : A1 → A2 → Prop, (∀ (a1 : A1) (a2 : A2), P a1 a2 → K a1 a2) → B K) : g_jn2 B J := hB J hJ
def g_jn3 {A1 A2 A3 : Type} (B : (A1 → A2 → A3 → Prop) → Prop) (J : A1 → A2 → A3 → Prop) : Prop := B J
theorem g_jn3_e {A1 A2 A3 : Type} {B : (A1 → A2 → A3 → Prop) → Prop} {J : A1 → A2 → A3 → Prop} (h : g_jn3 B J) : B J := h
theorem g_jn3_i {A1 A2 A3 : Type} {B : (A1 → A2 → A3 → Prop) → Prop} {J : A1 → A2 → A3 → Prop} (P : A1 → A2 → A3 → Prop) (hJ : ∀ (a1 : A1) (a2 : A2) (a3 : A3), P a1 a2 a3 → J a1 a2 a3) (hB : ∀ K : A1 → A2 → A3 → Prop, (∀ (a1 : A1) (a2 : A2) (a3 : A3), P a1 a2 a3 → K a1 a2 a3) → B K) : g_jn3 B J := hB J hJ
def g_jn4 {A1 A2 A3 A4 : Type} (B : (A1 → A2 → A3 → A4 → Prop) → Prop) (J : A1 → A2 → A3 → A4 → Prop) : Prop := B J
theorem g_jn4_e {A1 A2 A3 A4 : Type} {B : (A1 → A2 → A3 → A4 → Prop) → Prop} {J : A1 → A2 → A3 → A4 → Prop} (h : g_jn4 B J) : B J := h
theorem g_jn4_i {A1 A2 A3 A4 : Type} {B : (A1 → A2 → A3 → A4 → Prop) → Prop} {J : A1 → A2 → A3 → A4 → Prop} (P : A1 → A2 → A3 → A4 → Prop) (hJ : ∀ (a1 : A1) (a2 : A2) (a3 : A3) (a4 : A4), P a1 a2 a3 a4 → J a1 a2 a3 a4) (hB : ∀ K : A1 → A2 → A3 → A4 → Prop, (∀ (a1 : A1) (a2 : A2) (a3 : A3) (a4 : A4), P a1 a2 a3 a4 → K a1 a2 a3 a4) → B K) : g_jn4 B J := hB J hJ
def g_jn5 {A1 A2 A3 A4 A5 : Type} (B : (A1 → A2 → A3 → A4 → A5 → Prop) → Prop) (J : A1 → A2 → A3 → A4 → A5 → Prop) : Prop := B J
theorem g_jn5_e {A1 A2 A3 A4 A5 : Type} {B : (A1 → A2 → A3 → A4 → A5 → Prop) → Prop} {J : A1 → A2 → A3 → A4 → A5 → Prop} (h : g_jn5 B J) : B J := h
theorem g_jn5_i {A1 A2 A3 A4 A5 : Type} {B : (A1 → A2 → A3 → A4 → A5 → Prop) → Prop} {J : A1 → A2 → A3 → A4 → A5 → Prop} (P : A1 → A2 → A3 → A4 → A5 → Prop) (hJ : ∀ (a1 : A1) (a2 : A2) (a3 : A3) (a4 : A4) (a5 : A5), P a1 a2 a3 a4 a5 → J a1 a2 a3 a4 a5) (hB : ∀ K : A1 → A2 → A3 → A4 → A5 → Prop, (∀ (a1 : A1) (a2 : A2) (a3 : A3) (a4 : A4) (a5 : A5), P a1 a2 a3 a4 a5 → K a1 a2 a3 a4 a5) → B K) : g_jn5 B J := hB J hJ
def g_jn6 {A1 A2 A3 A4 A5 A6 : Type} (B : (A1 → A2 → A3 → A4 → A5 → A6 → Prop) → Prop) (J : A1 → A2 → A3 → A4 → A5 → A6 → Prop) : Prop := B J
theorem g_jn6_e {A1 A2 A3 A4 A5 A6 : Type} {B : (A1 → A2 → A3 → A4 → A5 → A6 → Prop) → Prop} {J : A1 → A2 → A3 → A4 → A5 → A6 → Prop} (h : g_jn6 B J) : B J := h
theorem g_jn6_i {A1 A2 A3 A4 A5 A6 : Type} {B : (A1 → A2 → A3 → A4 → A5 → A6 → Prop) → Prop} {J : A1 → A2 → A3 → A4 → A5 → A6 → Prop} (P : A1 → A2 → A3 → A4 → A5 → A6 → Prop) (hJ : ∀ (a1 : A1) (a2 : A2) (a3 : A3) (a4 : A4) (a5 : A5) (a6 : A6), P a1 a2 a3 a4 a5 a6 → J a1 a2 a3 a4 a5 a6) (hB : ∀ K : A1 → A2 → A3 → A4 → A5 → A6 → Prop, (∀ (a1 : A1) (a2 : A2) (a3 : A3) (a4 : A4) (a5 : A5) (a6 : A6), P a1 a2 a3 a4 a5 a6 → K a1 a2 a3 a4 a5 a6) → B K) : g_jn6 B J := hB J hJ
def g_jn7 {A1 A2 A3 A4 A5 A6 A7 : Type} (B : (A1 → A2 → A3 → A4 → A5 → A6 → A7 → Prop) → Prop) (J : A1 → A2 → A3 → A4 → A5 → A6 → A7 → Prop) : Prop := B J
theorem g_jn7_e {A1 A2 A3 A4 A5 A6 A7 : Type} {B : (A1 → A2 → A3 → A4 → A5 → A6 → A7 → Prop) → Prop} {J : A1 → A2 → A3 → A4 → A5 → A6 → A7 → Prop} (h : g_jn7 B J) : B J := h
theorem g_jn7_i {A1 A2 A3 A4 A5 A6 A7 : Type} {B : (A1 → A2 → A3 → A4 → A5 → A6 → A7 → Prop) → Prop} {J : A1 → A2 → A3 → A4 → A5 → A6 → A7 → Prop} (P : A1 → A2 → A3 → A4 → A5 → A6 → A7 → Prop) (hJ : ∀ (a1 : A1) (a2 : A2) (a3 : A3) (a4 : A4) (a5 : A5) (a6 : A6) (a7 : A7), P a1 a2 a3 a4 a5 a6 a7 → J a1 a2 a3 a4 a5 a6 a7) (hB : ∀ K : A1 → A2 → A3 → A4 → A5 → A6 → A7 → Prop, (∀ (a1 : A1) (a2 : A2) (a3 : A3) (a4 : A4) (a5 : A5) (a6 : A6) (a7 : A7), P a1 a2 a3 a4 a5 a6 a7 → K a1 a2 a3 a4 a5 a6 a7) → B K) : g_jn7 B J := hB J hJ
def g_jn8 {A1 A2 A3 A4 A5 A6 A7 A8 : Type} (B : (A1 → A2 → A3 → A4 → A5 → A6 → A7 → A8 → Prop) → Prop) (J : A1 → A2 → A3 → A4 → A5 → A6 → A7 → A8 → Prop) : Prop := B J
theorem g_jn8_e {A1 A2 A3 A4 A5 A6 A7 A8 : Type} {B : (A1 → A2 → A3 → A4 → A5 → A6 → A7 → A8 → Prop) → Prop} {J : A1 → A2 → A3 → A4 → A5 → A6 → A7 → A8 → Prop} (h : g_jn8 B J) : B J := h
theorem g_jn8_i {A1 A2 A3 A4 A5 A6 A7 A8 : Type} {B : (A1 → A2 → A3 → A4 → A5 → A6 → A7 → A8 → Prop) → Prop} {J : A1 → A2 → A3 → A4 → A5 → A6 → A7 → A8 → Prop} (P : A1 → A2 → A3 → A4 → A5 → A6 → A7 → A8 → Prop) (hJ : ∀ (a1 : A1) (a2 : A2) (a3 : A3) (a4 : A4) (a5 : A5) (a6 : A6) (a7 : A7) (a8 : A8), P a1 a2 a3 a4 a5 a6 a7 a8 → J a1 a2 a3 a4 a5 a6 a7 a8) (hB : ∀ K : A1 → A2 → A3 → A4 → A5 → A6 → A7 → A8 → Prop, (∀ (a1 : A1) (a2 : A2) (a3 : A3) (a4 : A4) (a5 : A5) (a6 : A6) (a7 : A7) (a8 : A8), P a1 a2 a3 a4 a5 a6 a7 a8 → K a1 a2 a3 a4 a5 a6 a7 a8) → B K) : g_jn8 B J := hB J hJ
def g_jn9 {A1 A2 A3 A4 A5 A6 A7 A8 A9 : Type} (B : (A1 → A2 → A3 → A4 → A5 → A6 → A7 → A8 → A9 → Prop) → Prop) (J : A1 → A2 → A3 → A4 → A5 → A6 → A7 → A8 → A9 → Prop) : Prop := B J
theorem g_jn9_e {A1 A2 A3 A4 A5 A6 A7 A8 A9 : Type} {B : (A1 → A2 → A3 → A4 → A5 → A6 → A7 → A8 → A9 → Prop) → Prop} {J : A1 → A2 → A3 → A4 → A5 → A6 → A7 → A8 → A9 → Prop} (h : g_jn9 B J) : B J := h
theorem g_jn9_i {A1 A2 A3 A4 A5 A6 A7 A8 A9 : Type} {B : (A1 → A2 → A3 → A4 → A5 → A6 → A7 → A8 → A9 → Prop) → Prop} {J : A1 → A2 → A3 → A4 → A5 → A6 → A7 → A8 → A9 → Prop} (P : A1 → A2 → A3 → A4 → A5 → A6 → A7 → A8 → A9 → Prop) (hJ : ∀ (a1 : A1) (a2 : A2) (a3 : A3) (a4 : A4) (a5 : A5) (a6 : A6) (a7 : A7) (a8 : A8) (a9 : A9), P a1 a2 a3 a4 a5 a6 a7 a8 a9 → J a1 a2 a3 a4 a5 a6 a7 a8 a9) (hB : ∀ K : A1 → A2 → A3 → A4 → A5 → A6 → A7 → A8 → A9 → Prop, (∀ (a1 : A1) (a2 : A2) (a3 : A3) (a4 : A4) (a5 : A5) (a6 : A6) (a7 : A7) (a8 : A8) (a9 : A9), P a1 a2 a3 a4 a5 a6 a7 a8 a9 → K a1 a2 a3 a4 a5 a6 a7 a8 a9) → B K) : g_jn9 B J := hB J hJ
def g_jn10 {A1 A2 A3 A4 A5 A6 A7 A8 A9 A10 : Type} (B : (A1 → A2 → A3 → A4 → A5 → A6 → A7 → A8 → A9 → A10 → Prop) → Prop) (J : A1 → A2 → A3 → A4 → A5 → A6 → A7 → A8 → A9 → A10 → Prop) : Prop := B J
theorem g_jn10_e {A1 A2 A3 A4 A5 A6 A7 A8 A9 A10 : Type} {B : (A1 → A2 → A3 → A4 → A5 → A6 → A7 → A8 → A9 → A10 → Prop) → Prop} {J : A1 → A2 → A3 → A4 → A5 → A6 → A7 → A8 → A9 → A10 → Prop} (h : g_jn10 B J) : B J := h
theorem g_jn10_i {A1 A2 A3 A4 A5 A6 A7 A8 A9 A10 : Type} {B : (A1 → A2 → A3 → A4 → A5 → A6 → A7 → A8 → A9 → A10 → Prop) → Prop} {J : A1 → A2 → A3 → A4 → A5 → A6 → A7 → A8 → A9 → A10 → Prop} (P : A1 → A2 → A3 → A4 → A5 → A6 → A7 → A8 → A9 → A10 → Prop) (hJ : ∀ (a1 : A1) (a2 : A2) (a3 : A3) (a4 : A4) (a5 : A5) (a6 : A6) (a7 : A7) (a8 : A8) (a9 : A9) (a10 : A10), P a1 a2 a3 a4 a5 a6 a7 a8 a9 a10 → J a1 a2 a3 a4 a5 a6 a7 a8 a9 a10) (hB : ∀ K : A1 → A2 → A3 → A4 → A5 → A6 → A7 → A8 → A9 → A10 → Prop, (∀ (a1 : A1) (a2 : A2) (a3 : A3) (a4 : A4) (a5 : A5) (a6 : A6) (a7 : A7) (a8 : A8) (a9 : A9) (a10 : A10), P a1 a2 a3 a4 a5 a6 a7 a8 a9 a10 → K a1 a2 a3 a4 a5 a6 a7 a8 a9 a10) → B K) : g_jn10 B J := hB J hJ
def g_jn11 {A1 A2 A3 A4 A5 A6 A7 A8 A9 A10 A11 : Type} (B : (A1 → A2 → A3 → A4 → A5 → A6 → A7 → A8 → A9 → A10 → A11 → Prop) → Prop) (J : A1 → A2 → A3 → A4 → A5 → A6 → A7 → A8 → A9 → A10 → A11 → Prop) : Prop := B J
theorem g_jn11_e {A1 A2 A3 A4 A5 A6 A7 A8 A9 A10 A11 : Type} {B : (A1 → A2 → A3 → A4 → A5 → A6 → A7 → A8 → A9 → A10 → A11 → Prop) → Prop} {J : A1 → A2 → A3 → A4 → A5 → A6 → A7 → A8 → A9 → A10 → A11 → Prop} (h : g_jn11 B J) : B J := h
theorem g_jn11_i {A1 A2 A3 A4 A5 A6 A7 A8 A9 A10 A11 : Type} {B : (A1 → A2 → A3 → A4 → A5 → A6 → A7 → A8 → A9 → A10 → A11 → Prop) → Prop} {J : A1 → A2 → A3 → A4 → A5 → A6 → A7 → A8 → A9 → A10 → A11 → Prop} (P : A1 → A2 → A3 → A4 → A5 → A6 → A7 → A8 → A9 → A10 → A11 → Prop) (hJ : ∀ (a1 : A1) (a2 : A2) (a3 : A3) (a4 : A4) (a5 : A5) (a6 : A6) (a7 : A7) (a8 : A8) (a9 : A9) (a10 : A10) (a11 : A11), P a1 a2 a3 a4 a5 a6 a7 a8 a9 a10 a11 → J a1 a2 a3 a4 a5 a6 a7 a8 a9 a10 a11) (hB : ∀ K : A1 → A2 → A3 → A4 → A5 → A6 → A7 → A8 → A9 → A10 → A11 → Prop, (∀ (a1 : A1) (a2 : A2) (a3 : A3) (a4 : A4) (a5 : A5) (a6 : A6) (a7 : A7) (a8 : A8) (a9 : A9) (a10 : A10) (a11 : A11), P a1 a2 a3 a4 a5 a6 a7 a8 a9 a10 a11 → K a1 a2 a3 a4 a5 a6 a7 a8 a9 a10 a11) → B K) : g_jn11 B J := hB J hJ
def g_jn12 {A1 A2 A3 A4 A5 A6 A7 A8 A9 A10 A11 A12 : Type} (B : (A1 → A2 → A3 → A4 → A5 → A6 → A7 → A8 → A9 → A10 → A11 → A12 → Prop) → Prop) (J : A1 → A2 → A3 → A4 → A5 → A6 → A7 → A8 → A9 → A10 → A11 → A12 → Prop) : Prop := B J
theorem g_jn12_e {A1 A2 A3 A4 A5 A6 A7 A8 A9 A10 A11 A12 : Type} {B : (A1 → A2 → A3 → A4 → A5 → A6 → A7 → A8 → A9 → A10 → A11 → A12 → Prop) → Prop} {J : A1 → A2 → A3 → A4 → A5 → A6 → A7 → A8 → A9 → A10 → A11 → A12 → Prop} (h : g_jn12 B J) : B J := h
theorem g_jn12_i {A1 A2 A3 A4 A5 A6 A7 A8 A9 A10 A11 A12 : Type} {B : (A1 → A2 → A3 → A4 → A5 → A6 → A7 → A8 → A9 → A10 → A11 → A12 → Prop) → Prop} {J : A1 → A2 → A3 → A4 → A5 → A6 → A7 → A8 → A9 → A10 → A11 → A12 → Prop} (P : A1 → A2 → A3 → A4 → A5 → A6 → A7 → A8 → A9 → A10 → A11 → A12 → Prop) (hJ : ∀ (a1 : A1) (a2 : A2) (a3 : A3) (a4 : A4) (a5 : A5) (a6 : A6) (a7 : A7) (a8 : A8) (a9 : A9) (a10 : A10) (a11 : A11) (a12 : A12), P a1 a2 a3 a4 a5 a6 a7 a8 a9 a10 a11 a12 → J a1 a2 a3 a4 a5 a6 a7 a8 a9 a10 a11 a12) (hB : ∀ K : A1 → A2 → A3 → A4 → A5 → A6 → A7 → A8 → A9 → A10 → A11 → A12 → Prop, (∀ (a1 : A1) (a2 : A2) (a3 : A3) (a4 : A4) (a5 : A5) (a6 : A6) (a7 : A7) (a8 : A8) (a9 : A9) (a10 : A10) (a11 : A11) (a12 : A12), P a1 a2 a3 a4 a5 a6 a7 a8 a9 a10 a11 a12 → K a1 a2 a3 a4 a5 a6 a7 a8 a9 a10 a11 a12) → B K) : g_jn12 B J := hB J hJ
/-- a field holds an int, a long, a reference -/
def g_gi (st : g_St) (a ci k : Nat) (x : Int32) : Prop := ∃ fs : List Value, g_Rd st a (.inr (ci, fs)) ∧ fs[k]? = some (.int x)
def g_gl (st : g_St) (a ci k : Nat) (x : Int64) : Prop := ∃ fs : List Value, g_Rd st a (.inr (ci, fs)) ∧ fs[k]? = some (.long x)
def g_gr (st : g_St) (a ci k : Nat) (o : Option Nat) : Prop := ∃ fs : List Value, g_Rd st a (.inr (ci, fs)) ∧ fs[k]? = some (va_rf o)
/-- the object at a is of number ci -/
def g_is (st : g_St) (a ci : Nat) : Prop := ∃ fs : List Value, g_Rd st a (.inr (ci, fs))
def g_isN (st : g_St) (o : Option Nat) (ci : Nat) : Prop := ∀ a : Nat, o = some a → g_is st a ci
/-- an int fits a field's type -/
def g_okf (ty : FieldType) (x : Int32) : Prop := narrow ty (.int x) = .int x ∧ fits ty (.int x) = true
/-- the arrays at a -/
abbrev g_ai (st : g_St) (a t n : Nat) (f : Nat → Int32) : Prop := g_Rd st a (.inl (t, n, .inl f))
abbrev g_al (st : g_St) (a t n : Nat) (f : Nat → Int64) : Prop := g_Rd st a (.inl (t, n, .inr (.inl f)))
abbrev g_ar (st : g_St) (a t n : Nat) (f : Nat → Option Nat) : Prop := g_Rd st a (.inl (t, n, .inr (.inr (.inr (.inr f)))))
section GW
variable {l : Launch} {E : g_E} {y : MethodName} {cc : ByteArray} {nL : Nat} {rt : Option FieldType} {fr lo mc ms : Nat} {av : List Value} {st : g_St}
def g_WPi (l : Launch) (E : g_E) (y : MethodName) (cc : ByteArray) (nL : Nat) (rt : Option FieldType) (fr lo mc ms : Nat) (av : List Value) (st : g_St) (Q : Int32 → g_St → Prop) : Prop := g_WP l E y cc nL rt fr lo mc ms av st (fun v st' => ∃ r : Int32, v = some (.int r) ∧ Q r st')
def g_WPl (l : Launch) (E : g_E) (y : MethodName) (cc : ByteArray) (nL : Nat) (rt : Option FieldType) (fr lo mc ms : Nat) (av : List Value) (st : g_St) (Q : Int64 → g_St → Prop) : Prop := g_WP l E y cc nL rt fr lo mc ms av st (fun v st' => ∃ r : Int64, v = some (.long r) ∧ Q r st')
def g_WPa (l : Launch) (E : g_E) (y : MethodName) (cc : ByteArray) (nL : Nat) (rt : Option FieldType) (fr lo mc ms : Nat) (av : List Value) (st : g_St) (Q : Option Nat → g_St → Prop) : Prop := g_WP l E y cc nL rt fr lo mc ms av st (fun v st' => ∃ r : Option Nat, v = some (va_rf r) ∧ Q r st')
def g_WPv (l : Launch) (E : g_E) (y : MethodName) (cc : ByteArray) (nL : Nat) (rt : Option FieldType) (fr lo mc ms : Nat) (av : List Value) (st : g_St) (Q : g_St → Prop) : Prop := g_WP l E y cc nL rt fr lo mc ms av st (fun v st' => v = none ∧ Q st')
theorem g_WPi.mono {Q Q' : Int32 → g_St → Prop} (h : g_WPi l E y cc nL rt fr lo mc ms av st Q) (hq : ∀ r st', g_Ext st st' → Q r st' → Q' r st') : g_WPi l E y cc nL rt fr lo mc ms av st Q' := g_WP.mono h fun v st' hx ⟨r, e, q⟩ => ⟨r, e, hq r st' hx q⟩
theorem g_WPl.mono {Q Q' : Int64 → g_St → Prop} (h : g_WPl l E y cc nL rt fr lo mc ms av st Q) (hq : ∀ r st', g_Ext st st' → Q r st' → Q' r st') : g_WPl l E y cc nL rt fr lo mc ms av st Q' := g_WP.mono h fun v st' hx ⟨r, e, q⟩ => ⟨r, e, hq r st' hx q⟩
theorem g_WPa.mono {Q Q' : Option Nat → g_St → Prop} (h : g_WPa l E y cc nL rt fr lo mc ms av st Q) (hq : ∀ r st', g_Ext st st' → Q r st' → Q' r st') : g_WPa l E y cc nL rt fr lo mc ms av st Q' := g_WP.mono h fun v st' hx ⟨r, e, q⟩ => ⟨r, e, hq r st' hx q⟩
theorem g_WPv.mono {Q Q' : g_St → Prop} (h : g_WPv l E y cc nL rt fr lo mc ms av st Q) (hq : ∀ st', g_Ext st st' → Q st' → Q' st') : g_WPv l E y cc nL rt fr lo mc ms av st Q' := g_WP.mono h fun v st' hx ⟨e, q⟩ => ⟨e, hq st' hx q⟩
end GW
section GK
variable {p : Program} {l : Launch} {e : Env} {R : Room} {s : State} {m : MethodId} {args : Array Value} {below : List Frame} {meth : Method} {c : Code} {nL : Nat} {E : g_E} {st0 : g_St} {Z : State → Prop} {pc : Nat} {lv : List (Nat × Value)} {rest : List Value} {st : g_St} {cb sb : Nat}
theorem g_Ki {Q : Int32 → g_St → Prop} (K : ∀ (r : Int32) (st' : g_St), Q r st' → g_Ext st st' → g_J p l e R s m args below meth c nL E st0 Z pc lv (.int r :: rest) st' cb sb) : ∀ (v : Option Value) (st' : g_St), (∃ r : Int32, v = some (.int r) ∧ Q r st') → g_Ext st st' → g_J p l e R s m args below meth c nL E st0 Z pc lv (v.toList ++ rest) st' cb sb := by
  intro v st' ⟨r, e, q⟩ hx
  subst e
  exact K r st' q hx
theorem g_Kl {Q : Int64 → g_St → Prop} (K : ∀ (r : Int64) (st' : g_St), Q r st' → g_Ext st st' → g_J p l e R s m args below meth c nL E st0 Z pc lv (.long r :: rest) st' cb sb) : ∀ (v : Option Value) (st' : g_St), (∃ r : Int64, v = some (.long r) ∧ Q r st') → g_Ext st st' → g_J p l e R s m args below meth c nL E st0 Z pc lv (v.toList ++ rest) st' cb sb := by
  intro v st' ⟨r, e, q⟩ hx
  subst e
  exact K r st' q hx
theorem g_Ka {Q : Option Nat → g_St → Prop} (K : ∀ (r : Option Nat) (st' : g_St), Q r st' → g_Ext st st' → g_J p l e R s m args below meth c nL E st0 Z pc lv (va_rf r :: rest) st' cb sb) : ∀ (v : Option Value) (st' : g_St), (∃ r : Option Nat, v = some (va_rf r) ∧ Q r st') → g_Ext st st' → g_J p l e R s m args below meth c nL E st0 Z pc lv (v.toList ++ rest) st' cb sb := by
  intro v st' ⟨r, e, q⟩ hx
  subst e
  exact K r st' q hx
theorem g_Kv {Q : g_St → Prop} (K : ∀ (st' : g_St), Q st' → g_Ext st st' → g_J p l e R s m args below meth c nL E st0 Z pc lv rest st' cb sb) : ∀ (v : Option Value) (st' : g_St), (v = none ∧ Q st') → g_Ext st st' → g_J p l e R s m args below meth c nL E st0 Z pc lv (v.toList ++ rest) st' cb sb := by
  intro v st' ⟨e, q⟩ hx
  subst e
  exact K st' q hx
theorem g_iv {Q : Int32 → g_St → Prop} {r : Int32} {st' : g_St} (h : Q r st') : ∃ r' : Int32, (some (.int r) : Option Value) = some (.int r') ∧ Q r' st' := ⟨r, rfl, h⟩
theorem g_lvv {Q : Int64 → g_St → Prop} {r : Int64} {st' : g_St} (h : Q r st') : ∃ r' : Int64, (some (.long r) : Option Value) = some (.long r') ∧ Q r' st' := ⟨r, rfl, h⟩
theorem g_av {Q : Option Nat → g_St → Prop} {r : Option Nat} {st' : g_St} (h : Q r st') : ∃ r' : Option Nat, (some (va_rf r) : Option Value) = some (va_rf r') ∧ Q r' st' := ⟨r, rfl, h⟩
end GK
end GB5
section GB6
theorem g_lp1_o {A1 : Type} {F : (A1 → Prop) → A1 → Prop} {a1 : A1} (h : g_lp1 F a1) : ∃ K : Nat → A1 → Prop, (∀ (a1 : A1), ¬ K 0 a1) ∧ (∀ (n : Nat) (a1 : A1), K (n + 1) a1 → F (K n) a1) ∧ ∃ n : Nat, K n a1 := by
  obtain ⟨n, hn⟩ := h
  exact ⟨g_LP1 F, fun _ z => z, fun n _ z => z, n, hn⟩
theorem g_jn1_o {A1 : Type} {B : (A1 → Prop) → Prop} {J : A1 → Prop} (h : g_jn1 B J) : ∃ K : A1 → Prop, (∀ (a1 : A1), K a1 → J a1) ∧ B K := ⟨J, fun _ z => z, h⟩
theorem g_lp2_o {A1 A2 : Type} {F : (A1 → A2 → Prop) → A1 → A2 → Prop} {a1 : A1} {a2 : A2} (h : g_lp2 F a1 a2) : ∃ K : Nat → A1 → A2 → Prop, (∀ (a1 : A1) (a2 : A2), ¬ K 0 a1 a2) ∧ (∀ (n : Nat) (a1 : A1) (a2 : A2), K (n + 1) a1 a2 → F (K n) a1 a2) ∧ ∃ n : Nat, K n a1 a2 := by
  obtain ⟨n, hn⟩ := h
  exact ⟨g_LP2 F, fun _ _ z => z, fun n _ _ z => z, n, hn⟩
theorem g_jn2_o {A1 A2 : Type} {B : (A1 → A2 → Prop) → Prop} {J : A1 → A2 → Prop} (h : g_jn2 B J) : ∃ K : A1 → A2 → Prop, (∀ (a1 : A1) (a2 : A2), K a1 a2 → J a1 a2) ∧ B K := ⟨J, fun _ _ z => z, h⟩
theorem g_lp3_o {A1 A2 A3 : Type} {F : (A1 → A2 → A3 → Prop) → A1 → A2 → A3 → Prop} {a1 : A1} {a2 : A2} {a3 : A3} (h : g_lp3 F a1 a2 a3) : ∃ K : Nat → A1 → A2 → A3 → Prop, (∀ (a1 : A1) (a2 : A2) (a3 : A3), ¬ K 0 a1 a2 a3) ∧ (∀ (n : Nat) (a1 : A1) (a2 : A2) (a3 : A3), K (n + 1) a1 a2 a3 → F (K n) a1 a2 a3) ∧ ∃ n : Nat, K n a1 a2 a3 := by
  obtain ⟨n, hn⟩ := h
  exact ⟨g_LP3 F, fun _ _ _ z => z, fun n _ _ _ z => z, n, hn⟩
theorem g_jn3_o {A1 A2 A3 : Type} {B : (A1 → A2 → A3 → Prop) → Prop} {J : A1 → A2 → A3 → Prop} (h : g_jn3 B J) : ∃ K : A1 → A2 → A3 → Prop, (∀ (a1 : A1) (a2 : A2) (a3 : A3), K a1 a2 a3 → J a1 a2 a3) ∧ B K := ⟨J, fun _ _ _ z => z, h⟩
theorem g_lp4_o {A1 A2 A3 A4 : Type} {F : (A1 → A2 → A3 → A4 → Prop) → A1 → A2 → A3 → A4 → Prop} {a1 : A1} {a2 : A2} {a3 : A3} {a4 : A4} (h : g_lp4 F a1 a2 a3 a4) : ∃ K : Nat → A1 → A2 → A3 → A4 → Prop, (∀ (a1 : A1) (a2 : A2) (a3 : A3) (a4 : A4), ¬ K 0 a1 a2 a3 a4) ∧ (∀ (n : Nat) (a1 : A1) (a2 : A2) (a3 : A3) (a4 : A4), K (n + 1) a1 a2 a3 a4 → F (K n) a1 a2 a3 a4) ∧ ∃ n : Nat, K n a1 a2 a3 a4 := by
  obtain ⟨n, hn⟩ := h
  exact ⟨g_LP4 F, fun _ _ _ _ z => z, fun n _ _ _ _ z => z, n, hn⟩
theorem g_jn4_o {A1 A2 A3 A4 : Type} {B : (A1 → A2 → A3 → A4 → Prop) → Prop} {J : A1 → A2 → A3 → A4 → Prop} (h : g_jn4 B J) : ∃ K : A1 → A2 → A3 → A4 → Prop, (∀ (a1 : A1) (a2 : A2) (a3 : A3) (a4 : A4), K a1 a2 a3 a4 → J a1 a2 a3 a4) ∧ B K := ⟨J, fun _ _ _ _ z => z, h⟩
theorem g_lp5_o {A1 A2 A3 A4 A5 : Type} {F : (A1 → A2 → A3 → A4 → A5 → Prop) → A1 → A2 → A3 → A4 → A5 → Prop} {a1 : A1} {a2 : A2} {a3 : A3} {a4 : A4} {a5 : A5} (h : g_lp5 F a1 a2 a3 a4 a5) : ∃ K : Nat → A1 → A2 → A3 → A4 → A5 → Prop, (∀ (a1 : A1) (a2 : A2) (a3 : A3) (a4 : A4) (a5 : A5), ¬ K 0 a1 a2 a3 a4 a5) ∧ (∀ (n : Nat) (a1 : A1) (a2 : A2) (a3 : A3) (a4 : A4) (a5 : A5), K (n + 1) a1 a2 a3 a4 a5 → F (K n) a1 a2 a3 a4 a5) ∧ ∃ n : Nat, K n a1 a2 a3 a4 a5 := by
  obtain ⟨n, hn⟩ := h
  exact ⟨g_LP5 F, fun _ _ _ _ _ z => z, fun n _ _ _ _ _ z => z, n, hn⟩
theorem g_jn5_o {A1 A2 A3 A4 A5 : Type} {B : (A1 → A2 → A3 → A4 → A5 → Prop) → Prop} {J : A1 → A2 → A3 → A4 → A5 → Prop} (h : g_jn5 B J) : ∃ K : A1 → A2 → A3 → A4 → A5 → Prop, (∀ (a1 : A1) (a2 : A2) (a3 : A3) (a4 : A4) (a5 : A5), K a1 a2 a3 a4 a5 → J a1 a2 a3 a4 a5) ∧ B K := ⟨J, fun _ _ _ _ _ z => z, h⟩
theorem g_lp6_o {A1 A2 A3 A4 A5 A6 : Type} {F : (A1 → A2 → A3 → A4 → A5 → A6 → Prop) → A1 → A2 → A3 → A4 → A5 → A6 → Prop} {a1 : A1} {a2 : A2} {a3 : A3} {a4 : A4} {a5 : A5} {a6 : A6} (h : g_lp6 F a1 a2 a3 a4 a5 a6) : ∃ K : Nat → A1 → A2 → A3 → A4 → A5 → A6 → Prop, (∀ (a1 : A1) (a2 : A2) (a3 : A3) (a4 : A4) (a5 : A5) (a6 : A6), ¬ K 0 a1 a2 a3 a4 a5 a6) ∧ (∀ (n : Nat) (a1 : A1) (a2 : A2) (a3 : A3) (a4 : A4) (a5 : A5) (a6 : A6), K (n + 1) a1 a2 a3 a4 a5 a6 → F (K n) a1 a2 a3 a4 a5 a6) ∧ ∃ n : Nat, K n a1 a2 a3 a4 a5 a6 := by
  obtain ⟨n, hn⟩ := h
  exact ⟨g_LP6 F, fun _ _ _ _ _ _ z => z, fun n _ _ _ _ _ _ z => z, n, hn⟩
theorem g_jn6_o {A1 A2 A3 A4 A5 A6 : Type} {B : (A1 → A2 → A3 → A4 → A5 → A6 → Prop) → Prop} {J : A1 → A2 → A3 → A4 → A5 → A6 → Prop} (h : g_jn6 B J) : ∃ K : A1 → A2 → A3 → A4 → A5 → A6 → Prop, (∀ (a1 : A1) (a2 : A2) (a3 : A3) (a4 : A4) (a5 : A5) (a6 : A6), K a1 a2 a3 a4 a5 a6 → J a1 a2 a3 a4 a5 a6) ∧ B K := ⟨J, fun _ _ _ _ _ _ z => z, h⟩
theorem g_lp7_o {A1 A2 A3 A4 A5 A6 A7 : Type} {F : (A1 → A2 → A3 → A4 → A5 → A6 → A7 → Prop) → A1 → A2 → A3 → A4 → A5 → A6 → A7 → Prop} {a1 : A1} {a2 : A2} {a3 : A3} {a4 : A4} {a5 : A5} {a6 : A6} {a7 : A7} (h : g_lp7 F a1 a2 a3 a4 a5 a6 a7) : ∃ K : Nat → A1 → A2 → A3 → A4 → A5 → A6 → A7 → Prop, (∀ (a1 : A1) (a2 : A2) (a3 : A3) (a4 : A4) (a5 : A5) (a6 : A6) (a7 : A7), ¬ K 0 a1 a2 a3 a4 a5 a6 a7) ∧ (∀ (n : Nat) (a1 : A1) (a2 : A2) (a3 : A3) (a4 : A4) (a5 : A5) (a6 : A6) (a7 : A7), K (n + 1) a1 a2 a3 a4 a5 a6 a7 → F (K n) a1 a2 a3 a4 a5 a6 a7) ∧ ∃ n : Nat, K n a1 a2 a3 a4 a5 a6 a7 := by
  obtain ⟨n, hn⟩ := h
  exact ⟨g_LP7 F, fun _ _ _ _ _ _ _ z => z, fun n _ _ _ _ _ _ _ z => z, n, hn⟩
theorem g_jn7_o {A1 A2 A3 A4 A5 A6 A7 : Type} {B : (A1 → A2 → A3 → A4 → A5 → A6 → A7 → Prop) → Prop} {J : A1 → A2 → A3 → A4 → A5 → A6 → A7 → Prop} (h : g_jn7 B J) : ∃ K : A1 → A2 → A3 → A4 → A5 → A6 → A7 → Prop, (∀ (a1 : A1) (a2 : A2) (a3 : A3) (a4 : A4) (a5 : A5) (a6 : A6) (a7 : A7), K a1 a2 a3 a4 a5 a6 a7 → J a1 a2 a3 a4 a5 a6 a7) ∧ B K := ⟨J, fun _ _ _ _ _ _ _ z => z, h⟩
theorem g_lp8_o {A1 A2 A3 A4 A5 A6 A7 A8 : Type} {F : (A1 → A2 → A3 → A4 → A5 → A6 → A7 → A8 → Prop) → A1 → A2 → A3 → A4 → A5 → A6 → A7 → A8 → Prop} {a1 : A1} {a2 : A2} {a3 : A3} {a4 : A4} {a5 : A5} {a6 : A6} {a7 : A7} {a8 : A8} (h : g_lp8 F a1 a2 a3 a4 a5 a6 a7 a8) : ∃ K : Nat → A1 → A2 → A3 → A4 → A5 → A6 → A7 → A8 → Prop, (∀ (a1 : A1) (a2 : A2) (a3 : A3) (a4 : A4) (a5 : A5) (a6 : A6) (a7 : A7) (a8 : A8), ¬ K 0 a1 a2 a3 a4 a5 a6 a7 a8) ∧ (∀ (n : Nat) (a1 : A1) (a2 : A2) (a3 : A3) (a4 : A4) (a5 : A5) (a6 : A6) (a7 : A7) (a8 : A8), K (n + 1) a1 a2 a3 a4 a5 a6 a7 a8 → F (K n) a1 a2 a3 a4 a5 a6 a7 a8) ∧ ∃ n : Nat, K n a1 a2 a3 a4 a5 a6 a7 a8 := by
  obtain ⟨n, hn⟩ := h
  exact ⟨g_LP8 F, fun _ _ _ _ _ _ _ _ z => z, fun n _ _ _ _ _ _ _ _ z => z, n, hn⟩
theorem g_jn8_o {A1 A2 A3 A4 A5 A6 A7 A8 : Type} {B : (A1 → A2 → A3 → A4 → A5 → A6 → A7 → A8 → Prop) → Prop} {J : A1 → A2 → A3 → A4 → A5 → A6 → A7 → A8 → Prop} (h : g_jn8 B J) : ∃ K : A1 → A2 → A3 → A4 → A5 → A6 → A7 → A8 → Prop, (∀ (a1 : A1) (a2 : A2) (a3 : A3) (a4 : A4) (a5 : A5) (a6 : A6) (a7 : A7) (a8 : A8), K a1 a2 a3 a4 a5 a6 a7 a8 → J a1 a2 a3 a4 a5 a6 a7 a8) ∧ B K := ⟨J, fun _ _ _ _ _ _ _ _ z => z, h⟩
theorem g_lp9_o {A1 A2 A3 A4 A5 A6 A7 A8 A9 : Type} {F : (A1 → A2 → A3 → A4 → A5 → A6 → A7 → A8 → A9 → Prop) → A1 → A2 → A3 → A4 → A5 → A6 → A7 → A8 → A9 → Prop} {a1 : A1} {a2 : A2} {a3 : A3} {a4 : A4} {a5 : A5} {a6 : A6} {a7 : A7} {a8 : A8} {a9 : A9} (h : g_lp9 F a1 a2 a3 a4 a5 a6 a7 a8 a9) : ∃ K : Nat → A1 → A2 → A3 → A4 → A5 → A6 → A7 → A8 → A9 → Prop, (∀ (a1 : A1) (a2 : A2) (a3 : A3) (a4 : A4) (a5 : A5) (a6 : A6) (a7 : A7) (a8 : A8) (a9 : A9), ¬ K 0 a1 a2 a3 a4 a5 a6 a7 a8 a9) ∧ (∀ (n : Nat) (a1 : A1) (a2 : A2) (a3 : A3) (a4 : A4) (a5 : A5) (a6 : A6) (a7 : A7) (a8 : A8) (a9 : A9), K (n + 1) a1 a2 a3 a4 a5 a6 a7 a8 a9 → F (K n) a1 a2 a3 a4 a5 a6 a7 a8 a9) ∧ ∃ n : Nat, K n a1 a2 a3 a4 a5 a6 a7 a8 a9 := by
  obtain ⟨n, hn⟩ := h
  exact ⟨g_LP9 F, fun _ _ _ _ _ _ _ _ _ z => z, fun n _ _ _ _ _ _ _ _ _ z => z, n, hn⟩
theorem g_jn9_o {A1 A2 A3 A4 A5 A6 A7 A8 A9 : Type} {B : (A1 → A2 → A3 → A4 → A5 → A6 → A7 → A8 → A9 → Prop) → Prop} {J : A1 → A2 → A3 → A4 → A5 → A6 → A7 → A8 → A9 → Prop} (h : g_jn9 B J) : ∃ K : A1 → A2 → A3 → A4 → A5 → A6 → A7 → A8 → A9 → Prop, (∀ (a1 : A1) (a2 : A2) (a3 : A3) (a4 : A4) (a5 : A5) (a6 : A6) (a7 : A7) (a8 : A8) (a9 : A9), K a1 a2 a3 a4 a5 a6 a7 a8 a9 → J a1 a2 a3 a4 a5 a6 a7 a8 a9) ∧ B K := ⟨J, fun _ _ _ _ _ _ _ _ _ z => z, h⟩
theorem g_lp10_o {A1 A2 A3 A4 A5 A6 A7 A8 A9 A10 : Type} {F : (A1 → A2 → A3 → A4 → A5 → A6 → A7 → A8 → A9 → A10 → Prop) → A1 → A2 → A3 → A4 → A5 → A6 → A7 → A8 → A9 → A10 → Prop} {a1 : A1} {a2 : A2} {a3 : A3} {a4 : A4} {a5 : A5} {a6 : A6} {a7 : A7} {a8 : A8} {a9 : A9} {a10 : A10} (h : g_lp10 F a1 a2 a3 a4 a5 a6 a7 a8 a9 a10) : ∃ K : Nat → A1 → A2 → A3 → A4 → A5 → A6 → A7 → A8 → A9 → A10 → Prop, (∀ (a1 : A1) (a2 : A2) (a3 : A3) (a4 : A4) (a5 : A5) (a6 : A6) (a7 : A7) (a8 : A8) (a9 : A9) (a10 : A10), ¬ K 0 a1 a2 a3 a4 a5 a6 a7 a8 a9 a10) ∧ (∀ (n : Nat) (a1 : A1) (a2 : A2) (a3 : A3) (a4 : A4) (a5 : A5) (a6 : A6) (a7 : A7) (a8 : A8) (a9 : A9) (a10 : A10), K (n + 1) a1 a2 a3 a4 a5 a6 a7 a8 a9 a10 → F (K n) a1 a2 a3 a4 a5 a6 a7 a8 a9 a10) ∧ ∃ n : Nat, K n a1 a2 a3 a4 a5 a6 a7 a8 a9 a10 := by
  obtain ⟨n, hn⟩ := h
  exact ⟨g_LP10 F, fun _ _ _ _ _ _ _ _ _ _ z => z, fun n _ _ _ _ _ _ _ _ _ _ z => z, n, hn⟩
theorem g_jn10_o {A1 A2 A3 A4 A5 A6 A7 A8 A9 A10 : Type} {B : (A1 → A2 → A3 → A4 → A5 → A6 → A7 → A8 → A9 → A10 → Prop) → Prop} {J : A1 → A2 → A3 → A4 → A5 → A6 → A7 → A8 → A9 → A10 → Prop} (h : g_jn10 B J) : ∃ K : A1 → A2 → A3 → A4 → A5 → A6 → A7 → A8 → A9 → A10 → Prop, (∀ (a1 : A1) (a2 : A2) (a3 : A3) (a4 : A4) (a5 : A5) (a6 : A6) (a7 : A7) (a8 : A8) (a9 : A9) (a10 : A10), K a1 a2 a3 a4 a5 a6 a7 a8 a9 a10 → J a1 a2 a3 a4 a5 a6 a7 a8 a9 a10) ∧ B K := ⟨J, fun _ _ _ _ _ _ _ _ _ _ z => z, h⟩
theorem g_lp11_o {A1 A2 A3 A4 A5 A6 A7 A8 A9 A10 A11 : Type} {F : (A1 → A2 → A3 → A4 → A5 → A6 → A7 → A8 → A9 → A10 → A11 → Prop) → A1 → A2 → A3 → A4 → A5 → A6 → A7 → A8 → A9 → A10 → A11 → Prop} {a1 : A1} {a2 : A2} {a3 : A3} {a4 : A4} {a5 : A5} {a6 : A6} {a7 : A7} {a8 : A8} {a9 : A9} {a10 : A10} {a11 : A11} (h : g_lp11 F a1 a2 a3 a4 a5 a6 a7 a8 a9 a10 a11) : ∃ K : Nat → A1 → A2 → A3 → A4 → A5 → A6 → A7 → A8 → A9 → A10 → A11 → Prop, (∀ (a1 : A1) (a2 : A2) (a3 : A3) (a4 : A4) (a5 : A5) (a6 : A6) (a7 : A7) (a8 : A8) (a9 : A9) (a10 : A10) (a11 : A11), ¬ K 0 a1 a2 a3 a4 a5 a6 a7 a8 a9 a10 a11) ∧ (∀ (n : Nat) (a1 : A1) (a2 : A2) (a3 : A3) (a4 : A4) (a5 : A5) (a6 : A6) (a7 : A7) (a8 : A8) (a9 : A9) (a10 : A10) (a11 : A11), K (n + 1) a1 a2 a3 a4 a5 a6 a7 a8 a9 a10 a11 → F (K n) a1 a2 a3 a4 a5 a6 a7 a8 a9 a10 a11) ∧ ∃ n : Nat, K n a1 a2 a3 a4 a5 a6 a7 a8 a9 a10 a11 := by
  obtain ⟨n, hn⟩ := h
  exact ⟨g_LP11 F, fun _ _ _ _ _ _ _ _ _ _ _ z => z, fun n _ _ _ _ _ _ _ _ _ _ _ z => z, n, hn⟩
theorem g_jn11_o {A1 A2 A3 A4 A5 A6 A7 A8 A9 A10 A11 : Type} {B : (A1 → A2 → A3 → A4 → A5 → A6 → A7 → A8 → A9 → A10 → A11 → Prop) → Prop} {J : A1 → A2 → A3 → A4 → A5 → A6 → A7 → A8 → A9 → A10 → A11 → Prop} (h : g_jn11 B J) : ∃ K : A1 → A2 → A3 → A4 → A5 → A6 → A7 → A8 → A9 → A10 → A11 → Prop, (∀ (a1 : A1) (a2 : A2) (a3 : A3) (a4 : A4) (a5 : A5) (a6 : A6) (a7 : A7) (a8 : A8) (a9 : A9) (a10 : A10) (a11 : A11), K a1 a2 a3 a4 a5 a6 a7 a8 a9 a10 a11 → J a1 a2 a3 a4 a5 a6 a7 a8 a9 a10 a11) ∧ B K := ⟨J, fun _ _ _ _ _ _ _ _ _ _ _ z => z, h⟩
theorem g_lp12_o {A1 A2 A3 A4 A5 A6 A7 A8 A9 A10 A11 A12 : Type} {F : (A1 → A2 → A3 → A4 → A5 → A6 → A7 → A8 → A9 → A10 → A11 → A12 → Prop) → A1 → A2 → A3 → A4 → A5 → A6 → A7 → A8 → A9 → A10 → A11 → A12 → Prop} {a1 : A1} {a2 : A2} {a3 : A3} {a4 : A4} {a5 : A5} {a6 : A6} {a7 : A7} {a8 : A8} {a9 : A9} {a10 : A10} {a11 : A11} {a12 : A12} (h : g_lp12 F a1 a2 a3 a4 a5 a6 a7 a8 a9 a10 a11 a12) : ∃ K : Nat → A1 → A2 → A3 → A4 → A5 → A6 → A7 → A8 → A9 → A10 → A11 → A12 → Prop, (∀ (a1 : A1) (a2 : A2) (a3 : A3) (a4 : A4) (a5 : A5) (a6 : A6) (a7 : A7) (a8 : A8) (a9 : A9) (a10 : A10) (a11 : A11) (a12 : A12), ¬ K 0 a1 a2 a3 a4 a5 a6 a7 a8 a9 a10 a11 a12) ∧ (∀ (n : Nat) (a1 : A1) (a2 : A2) (a3 : A3) (a4 : A4) (a5 : A5) (a6 : A6) (a7 : A7) (a8 : A8) (a9 : A9) (a10 : A10) (a11 : A11) (a12 : A12), K (n + 1) a1 a2 a3 a4 a5 a6 a7 a8 a9 a10 a11 a12 → F (K n) a1 a2 a3 a4 a5 a6 a7 a8 a9 a10 a11 a12) ∧ ∃ n : Nat, K n a1 a2 a3 a4 a5 a6 a7 a8 a9 a10 a11 a12 := by
  obtain ⟨n, hn⟩ := h
  exact ⟨g_LP12 F, fun _ _ _ _ _ _ _ _ _ _ _ _ z => z, fun n _ _ _ _ _ _ _ _ _ _ _ _ z => z, n, hn⟩
theorem g_jn12_o {A1 A2 A3 A4 A5 A6 A7 A8 A9 A10 A11 A12 : Type} {B : (A1 → A2 → A3 → A4 → A5 → A6 → A7 → A8 → A9 → A10 → A11 → A12 → Prop) → Prop} {J : A1 → A2 → A3 → A4 → A5 → A6 → A7 → A8 → A9 → A10 → A11 → A12 → Prop} (h : g_jn12 B J) : ∃ K : A1 → A2 → A3 → A4 → A5 → A6 → A7 → A8 → A9 → A10 → A11 → A12 → Prop, (∀ (a1 : A1) (a2 : A2) (a3 : A3) (a4 : A4) (a5 : A5) (a6 : A6) (a7 : A7) (a8 : A8) (a9 : A9) (a10 : A10) (a11 : A11) (a12 : A12), K a1 a2 a3 a4 a5 a6 a7 a8 a9 a10 a11 a12 → J a1 a2 a3 a4 a5 a6 a7 a8 a9 a10 a11 a12) ∧ B K := ⟨J, fun _ _ _ _ _ _ _ _ _ _ _ _ z => z, h⟩
theorem g_jn0_o {B : Prop → Prop} {J : Prop} (h : g_jn0 B J) : ∃ K : Prop, (K → J) ∧ B K := ⟨J, fun z => z, h⟩
variable {p : Program} {l : Launch} {e : Env} {R : Room} {s : State} {m : MethodId} {args : Array Value} {below : List Frame} {meth : Method} {c : Code} {nL : Nat} {E : g_E} {st0 : g_St} {Z : State → Prop} {pc : Nat} {lv : List (Nat × Value)} {rest : List Value} {st : g_St} {cb sb : Nat}
theorem g_Kip {Q : Int32 → Prop} (K : ∀ r : Int32, Q r → g_J p l e R s m args below meth c nL E st0 Z pc lv (.int r :: rest) st cb sb) : ∀ (v : Option Value) (st' : g_St), (∃ r : Int32, v = some (.int r) ∧ st' = st ∧ Q r) → g_Ext st st' → g_J p l e R s m args below meth c nL E st0 Z pc lv (v.toList ++ rest) st' cb sb := by
  intro v st' ⟨r, e, q0, q⟩ hx
  subst e; subst q0
  exact K r q
theorem g_Klp {Q : Int64 → Prop} (K : ∀ r : Int64, Q r → g_J p l e R s m args below meth c nL E st0 Z pc lv (.long r :: rest) st cb sb) : ∀ (v : Option Value) (st' : g_St), (∃ r : Int64, v = some (.long r) ∧ st' = st ∧ Q r) → g_Ext st st' → g_J p l e R s m args below meth c nL E st0 Z pc lv (v.toList ++ rest) st' cb sb := by
  intro v st' ⟨r, e, q0, q⟩ hx
  subst e; subst q0
  exact K r q
theorem g_Kap {Q : Option Nat → Prop} (K : ∀ r : Option Nat, Q r → g_J p l e R s m args below meth c nL E st0 Z pc lv (va_rf r :: rest) st cb sb) : ∀ (v : Option Value) (st' : g_St), (∃ r : Option Nat, v = some (va_rf r) ∧ st' = st ∧ Q r) → g_Ext st st' → g_J p l e R s m args below meth c nL E st0 Z pc lv (v.toList ++ rest) st' cb sb := by
  intro v st' ⟨r, e, q0, q⟩ hx
  subst e; subst q0
  exact K r q
theorem g_Kvp {Q : Prop} (K : Q → g_J p l e R s m args below meth c nL E st0 Z pc lv rest st cb sb) : ∀ (v : Option Value) (st' : g_St), (v = none ∧ st' = st ∧ Q) → g_Ext st st' → g_J p l e R s m args below meth c nL E st0 Z pc lv (v.toList ++ rest) st' cb sb := by
  intro v st' ⟨e, q0, q⟩ hx
  subst e; subst q0
  exact K q
/-- room: fr frames, lo words of locals -/
abbrev g_Rm (fr lo : Nat) (R : Room) : Prop := fr ≤ R.frames ∧ lo ≤ R.locals
theorem g_rm {fr lo fr' k : Nat} {R : Room} (h : g_Rm fr lo R) (h1 : Nat.ble (fr' + 1) fr = true) (h2 : Nat.ble k lo = true) : fr' + 1 ≤ R.frames ∧ k ≤ R.locals := ⟨Nat.le_trans (Nat.le_of_ble_eq_true h1) h.1, Nat.le_trans (Nat.le_of_ble_eq_true h2) h.2⟩
/-- what calls of the other kinds ask of the tables -/
theorem lw_SU {own : String} {idx : Nat} {y : MethodName} {b : ByteArray} {L : Nat} {r : Option FieldType} (h1 : Cond.methodLink own idx y ∈ lw_all) (h2 : Cond.sameMethod y.cls y.cls y.name y.desc ∈ lw_all) (h3 : Cond.superclass own y.cls ∈ lw_all) (h4 : Cond.instanceMethod y ∈ lw_all) (h5 : Cond.initialized y.cls ∈ lw_all) (h6 : Cond.code y b L r ∈ lw_all) : GoodIn lw_all (va_wsSU own idx y (ws_ y b L r)) := by
  refine lw_app ?_ (lw_meth h6)
  intro w hw
  simp only [List.mem_cons, List.not_mem_nil, or_false] at hw
  rcases hw with e | e | e | e | e <;> rw [e] <;> assumption
theorem lw_U {own C owner : String} {idx : Nat} {x y : MethodName} {b : ByteArray} {L : Nat} {r : Option FieldType} (h1 : Cond.methodLink own idx x ∈ lw_all) (h2 : Cond.sameMethod x.cls owner x.name x.desc ∈ lw_all) (h3 : Cond.selects C x y ∈ lw_all) (h4 : Cond.instanceMethod y ∈ lw_all) (h5 : Cond.initialized y.cls ∈ lw_all) (h6 : Cond.code y b L r ∈ lw_all) : GoodIn lw_all (va_wsU own idx C owner x y (ws_ y b L r)) := by
  refine lw_app ?_ (lw_meth h6)
  intro w hw
  simp only [List.mem_cons, List.not_mem_nil, or_false] at hw
  rcases hw with e | e | e | e | e <;> rw [e] <;> assumption
theorem lw_O {own C owner : String} {idx : Nat} {x y : MethodName} {b : ByteArray} {L : Nat} {r : Option FieldType} (h1 : Cond.methodLink own idx x ∈ lw_all) (h2 : Cond.sameMethod x.cls owner x.name x.desc ∈ lw_all) (h2' : Cond.instanceMethod ⟨owner, x.name, x.desc⟩ ∈ lw_all) (h3 : Cond.selects C x y ∈ lw_all) (h4 : Cond.instanceMethod y ∈ lw_all) (h5 : Cond.initialized y.cls ∈ lw_all) (h6 : Cond.code y b L r ∈ lw_all) : GoodIn lw_all (va_wsO own idx C owner x y (ws_ y b L r)) := by
  refine lw_app ?_ (lw_meth h6)
  intro w hw
  simp only [List.mem_cons, List.not_mem_nil, or_false] at hw
  rcases hw with e | e | e | e | e | e <;> rw [e] <;> assumption
theorem lw_F {own C : String} {idx : Nat} {x y : MethodName} {b : ByteArray} {L : Nat} {r : Option FieldType} (h1 : Cond.methodLink own idx x ∈ lw_all) (h3 : Cond.selects C x y ∈ lw_all) (h4 : Cond.instanceMethod y ∈ lw_all) (h5 : Cond.initialized y.cls ∈ lw_all) (h6 : Cond.code y b L r ∈ lw_all) : GoodIn lw_all (va_wsF own idx C x y (ws_ y b L r)) := by
  refine lw_app ?_ (lw_meth h6)
  intro w hw
  simp only [List.mem_cons, List.not_mem_nil, or_false] at hw
  rcases hw with e | e | e | e <;> rw [e] <;> assumption
end GB6
section GB7
variable {p : Program} {l : Launch} {e : Env} {R : Room} {s : State} {m : MethodId} {args : Array Value} {below : List Frame} {meth : Method} {c : Code} {cc : ByteArray} {nL : Nat} {own : String} {ret : Option FieldType} {nm : String} {E : g_E} {st0 : g_St} {Z : State → Prop} {pc : Nat} {lv lv0 : List (Nat × Value)} {rest stk : List Value} {st : g_St} {cb sb : Nat}
theorem j_ix {x y : Int32} (h : x = y) (k : g_J p l e R s m args below meth c nL E st0 Z pc lv (.int y :: rest) st cb sb) : g_J p l e R s m args below meth c nL E st0 Z pc lv (.int x :: rest) st cb sb := by subst h; exact k
theorem j_ix1 {x y : Int32} {v : Value} (h : x = y) (k : g_J p l e R s m args below meth c nL E st0 Z pc lv (v :: .int y :: rest) st cb sb) : g_J p l e R s m args below meth c nL E st0 Z pc lv (v :: .int x :: rest) st cb sb := by subst h; exact k
theorem g_cat2 (vs : List Value) : (vs.map fun v => v.category).sum ≤ 2 * vs.length := by
  induction vs with
  | nil => exact Nat.le_refl _
  | cons v t ih =>
    have h : v.category ≤ 2 := by rcases lv_cat v with h | h <;> omega
    simp only [List.map_cons, List.sum_cons, List.length_cons]
    omega
theorem g_sum {vs : List Value} (h : Nat.ble (2 * vs.length) 8 = true) : (vs.map fun v => v.category).sum ≤ 8 := Nat.le_trans (g_cat2 vs) (Nat.le_of_ble_eq_true h)
theorem g_sumO {vs : List Value} {k : Nat} (h : Nat.ble (2 * vs.length + 12) k = true) : (vs.map fun v => v.category).sum + 12 ≤ k := Nat.le_trans (Nat.add_le_add_right (g_cat2 vs) 12) (Nat.le_of_ble_eq_true h)
theorem g_sumN {vs : List Value} {k : Nat} (h : Nat.ble (2 * vs.length + 32) k = true) : (vs.map fun v => v.category).sum + 32 ≤ k := Nat.le_trans (Nat.add_le_add_right (g_cat2 vs) 32) (Nat.le_of_ble_eq_true h)
theorem g_no {C : String} {o : Option Nat} : narrow (.object C) (va_rf o) = va_rf o := by cases o <;> rfl
theorem g_noA {t : FieldType} {o : Option Nat} : narrow (.array t) (va_rf o) = va_rf o := by cases o <;> rfl
theorem g_fo {C : String} {o : Option Nat} : fits (.object C) (va_rf o) = true := by cases o <;> rfl
theorem g_foA {t : FieldType} {o : Option Nat} : fits (.array t) (va_rf o) = true := by cases o <;> rfl
theorem g_dv {ty0 : Nat → FieldType} {fs : List Value} (h : (List.range fs.length).map (fun j => defaultValue (ty0 j)) = fs) : ∀ j, j < fs.length → defaultValue (ty0 j) = vp_V fs j := by
  intro j hj
  have h1 : ((List.range fs.length).map (fun j => defaultValue (ty0 j)))[j]? = some (defaultValue (ty0 j)) := by
    rw [List.getElem?_map, List.getElem?_range hj]; rfl
  rw [h] at h1
  simp [vp_V, h1]
/-- a field that is only read -/
def g_FdR (own : String) (index ci k : Nat) : Prop := ∃ (C : String) (T : u_T) (N : Nat) (ref : String), g_cl[ci]? = some (C, T, N) ∧ (∀ w ∈ u_ws C T N, w ∈ lw_all) ∧ k < N ∧ Cond.fieldLink own index ref (T k).2.1 (T k).2.2.1 ∈ lw_all ∧ (ref = (T k).1 ∨ Cond.sameField ref (T k).1 (T k).2.1 (T k).2.2.1 ∈ lw_all)
theorem j_getR (hC : g_Cx p s m args meth c cc nL own ret nm E st0) {index ci k a : Nat} (hF : g_FdR own index ci k) (hd : decode cc pc = .ok (.getfield index, 3)) {fs : List Value} {v : Value} (hr : g_Rd st a (.inr (ci, fs))) (hv : fs[k]? = some v) (K : g_J p l e R s m args below meth c nL E st0 Z (pc + 3) lv (v :: rest) st cb sb) : g_J p l e R s m args below meth c nL E st0 Z pc lv (va_rf (some a) :: rest) st cb sb := by
  intro H locs ls cells slots h1 h2 h3 h4 h5 h6
  obtain ⟨C, T, N, ref, g1, g2, g3, g4, g5⟩ := hF
  obtain ⟨cell, r, q1, q2, q3, q4, q5, q6⟩ := h2.rd hr
  have hr : r = (C, T, N) := Option.some.inj (q1.symm.trans g1)
  subst hr
  obtain ⟨hS, hfc, kC, hkC, hkind⟩ := hC.K.1 ci _ g1
  obtain ⟨cf, kf, fi, f, hi, hsl⟩ := hS k g3
  refine W.getf hC.x hC.b hC.ow (hC.ts _ g4) (g_same hC g5 _ hi) (u_facts hfc hkC (u_lays hC.ts g2 g3) hi).1 q2 q5 (v := v) ?_ rfl rfl hd (K H locs ls cells slots h1 h2 h3 h4 h5 h6)
  rw [hsl]
  exact (q6 k v hv).2
/-- a switch over a table: the values that don't go the common way, and where they go -/
theorem j_tab (hC : g_Cx p s m args meth c cc nL own ret nm E st0) {x : Int32} {dflt lo hi : Int} {offs : Array Int} {len : Nat} (vs : List (Nat × Nat)) (hd : decode cc pc = .ok (.tableswitch dflt lo hi offs, len)) {tgt : Nat} (kd : (∀ z : Nat, z ∈ vs.map Prod.fst → ¬ x = nI z) → g_J p l e R s m args below meth c nL E st0 Z tgt lv rest st cb sb) (K : ∀ q ∈ vs, x = nI q.1 → g_J p l e R s m args below meth c nL E st0 Z q.2 lv rest st cb sb) (hdf : (pc : Int) + dflt = (tgt : Int) := by rfl) (hv : vs.all (fun q => decide (q.1 < 2 ^ 31) && decide (lo ≤ (q.1 : Int)) && decide ((q.1 : Int) ≤ hi) && decide ((offs[((q.1 : Int) - lo).toNat]?).map (fun o => (pc : Int) + o) = some (q.2 : Int))) = true := by decide +kernel) (ho : (List.range offs.size).all (fun i => decide (offs[i]? = some dflt) || (vs.any fun q => decide ((q.1 : Int) = lo + i))) = true := by decide +kernel) (hsz : (hi - lo).toNat < offs.size := by decide +kernel) : g_J p l e R s m args below meth c nL E st0 Z pc lv (.int x :: rest) st cb sb := by
  intro H locs ls cells slots h1 h2 h3 h4 h5 h6
  by_cases hx : ∃ q ∈ vs, x = nI q.1
  · obtain ⟨q, hq, e⟩ := hx
    have h7 := List.all_eq_true.mp hv q hq
    simp only [Bool.and_eq_true, decide_eq_true_eq] at h7
    obtain ⟨⟨⟨a1, a2⟩, a3⟩, a4⟩ := h7
    have e2 : x.toInt = (q.1 : Int) := by rw [e]; exact nI_toInt a1
    obtain ⟨off, o1, o2⟩ : ∃ off, offs[((q.1 : Int) - lo).toNat]? = some off ∧ (pc : Int) + off = (q.2 : Int) := by
      cases h8 : offs[((q.1 : Int) - lo).toNat]? with
      | none => rw [h8] at a4; cases a4
      | some off => rw [h8] at a4; exact ⟨off, rfl, by simpa using a4⟩
    exact lv_tableIn hC.x hC.b hd (by omega) (by omega) (by rw [e2]; exact o1) o2 (K q hq e H locs ls cells slots h1 h2 h3 h4 h5 h6)
  · have k0 := kd (fun z hz e => by
      obtain ⟨q, hq, rfl⟩ := List.mem_map.mp hz
      exact hx ⟨q, hq, e⟩) H locs ls cells slots h1 h2 h3 h4 h5 h6
    by_cases hr : x.toInt < lo ∨ hi < x.toInt
    · exact lv_tableOut hC.x hC.b hd hr hdf k0
    · have hi2 : (x.toInt - lo).toNat < offs.size := by omega
      have h8 := List.all_eq_true.mp ho _ (List.mem_range.mpr hi2)
      rcases Bool.or_eq_true _ _ ▸ h8 with h9 | h9
      · exact lv_tableIn hC.x hC.b hd (by omega) (by omega) (of_decide_eq_true h9) hdf k0
      · obtain ⟨q, hq, h10⟩ := List.any_eq_true.mp h9
        have h10 := of_decide_eq_true h10
        have h7 := List.all_eq_true.mp hv q hq
        simp only [Bool.and_eq_true, decide_eq_true_eq] at h7
        exact absurd ⟨q, hq, Int32.toInt_inj.mp (by rw [nI_toInt h7.1.1.1]; omega)⟩ hx
theorem g_all_c {α : Type} {P : α → Prop} {a : α} {t : List α} (h : P a) (k : ∀ q ∈ t, P q) : ∀ q ∈ a :: t, P q := List.forall_mem_cons.mpr ⟨h, k⟩
theorem g_all_n {α : Type} {P : α → Prop} : ∀ q ∈ ([] : List α), P q := fun _ h => absurd h List.not_mem_nil
theorem j_getsN (hC : g_Cx p s m args meth c cc nL own ret nm E st0) {C n d host : String} {v : Value} {index : Nat} (hq : (C, n, d, v) ∈ g_stat E) (hl : Cond.fieldLinkNest own index C n d host ∈ g_ext) (hd : decode cc pc = .ok (.getstatic index, 3)) (K : g_J p l e R s m args below meth c nL E st0 Z (pc + 3) lv (v :: rest) st cb sb) : g_J p l e R s m args below meth c nL E st0 Z pc lv rest st cb sb := by
  intro H locs ls cells slots h1 h2 h3 h4 h5 h6
  obtain ⟨cf, kf, fi, f, a, cell, k1, k2, k3, k4, k5, k6, k7, k8⟩ := g_Z0 hC hq
  exact va_WgetsN hC.x hC.b hC.ow (va_Nw.use (A := args) rfl (hC.T.2.2.1 _ hl)) k1 k2 k3 k4 (by rw [h4.2.1 a (Array.getElem?_eq_some_iff.mp k5).1 k8]; exact k5) (fun e => by rw [e] at k6; cases k6) k7 rfl hd (K H locs ls cells slots h1 h2 h3 h4 h5 h6)
end GB7
section GB8
variable {p : Program} {l : Launch} {e : Env} {R : Room} {s : State} {m : MethodId} {args : Array Value} {below : List Frame} {meth : Method} {c : Code} {cc : ByteArray} {nL : Nat} {own : String} {ret : Option FieldType} {nm : String} {E : g_E} {st0 : g_St} {Z : State → Prop} {pc : Nat} {lv lv0 : List (Nat × Value)} {rest stk : List Value} {st : g_St} {cb sb : Nat}
/-- a method that only its declarer may call, on an object of a lower kind -/
theorem g_callVP {T : State} {locs : List Loc} {cells slots : Nat} (X : Stand p l e R s m args below meth c T locs cells slots) (hexec : p.tables.exec = Jvm.exec) {C2 : String} {index : Nat} {y x2 y2 : MethodName} {bytes : ByteArray} {maxL : Nat} {rt : Option FieldType}
    (hown : s.vm.findClass own = some m.cls) (hlink : (Cond.methodLink own index y).before args s = true) (hinst : (Cond.instanceMethod y).before args s = true) (hpriv : (Cond.privateMethod y).before args s = true) (hsel : (Cond.selects C2 x2 y2).before args s = true) (hc2 : y2.cls = y.cls)
    (hcode : (Cond.code y bytes maxL rt).before args s = true) (hy : y.cls ≠ "java/lang/invoke/MethodHandle" ∧ y.cls ≠ "java/lang/invoke/VarHandle")
    {W : Nat} {Pre : Pt → Array Value → Prop} {Post : Pt → Array Value → Option Value → Pt → Prop} (hK : Back l R p e below s args y 3 W Pre Post)
    {b : Addr} {cellB : Cell} (hcell : T.heap[b]? = some cellB) (hobj : cellB.vm.isStatics = false)
    {g : JFrame} (hg : g.method = m) (hsize : g.locals.size = c.maxLocals) {argsL rest : List Value} (hlen : ∀ sig, parseMethodDescriptor y.desc = some sig → argsL.length = sig.parameters.length)
    (hstack : g.stack = argsL.reverse ++ .ref b :: rest) (hW : 2 * g.monitorRoom + (rest.map fun v => v.category).sum ≤ W) (hdg : decode c.code g.pc = .ok (.invokevirtual index, 3))
    (hpre : ∀ vm₁, s.WarmedH vm₁ → Pre ⟨T.setVm vm₁, locs, cells, slots⟩ (Value.ref b :: argsL).toArray) :
    ∃ (v : Option Value) (vm₁ : Vm) (B : Pt), s.WarmedH vm₁ ∧ Stand p l e R s m args below meth c B.U B.locs B.cells B.slots ∧ Post ⟨T.setVm vm₁, locs, cells, slots⟩ (Value.ref b :: argsL).toArray v B ∧
      ∀ target, Steps p.tables e below (B.U.setTop { g with pc := g.pc + 3, stack := v.toList ++ rest }) target → Steps p.tables e below (T.setTop g) target := by
  obtain ⟨mk, methM, hnamed, hmethM, hstM, habM⟩ := Cond.instanceMethod_spec hinst
  obtain ⟨methM', cM, hmethM', -, -, -, -, -, -, hsigM⟩ := Cond.code_spec hnamed hcode
  cases hmethM.symm.trans hmethM'
  obtain ⟨c2, r2, m2, -, -, q3, -, kP, hkP, hkPi⟩ := Cond.selects_spec hsel
  have hcls2 : mk.cls = m2.cls := by
    have h1 := findClass_of_methodNamed hnamed
    have h2 := findClass_of_methodNamed q3
    rw [hc2] at h2
    exact Option.some.inj (h1.symm.trans h2)
  rw [← hcls2] at hkP
  have hselP : selectMethod e.platform s.vm cellB.cls mk = .method mk := selectMethod_private hmethM (Cond.privateMethod_at hpriv mk methM hnamed hmethM)
  obtain ⟨vm₁, X₁, hstep₁⟩ := X.invokevirtual hexec hown hlink hnamed hmethM hstM hkP hkPi hy (a := b) (cell := cellB) hcell
    (fun z h => by rw [h] at hobj; cases hobj) hselP hmethM habM hkP hkPi (g := g) hg (argsL := argsL) (rest := rest) (hlen _ hsigM) hstack hdg
  obtain ⟨v, B, X', hpost, hsteps⟩ := hK m meth c ⟨T.setVm vm₁, locs, cells, slots⟩ { g with stack := rest } (.invokevirtual index) mk (Value.ref b :: argsL).toArray X₁ hg hsize hdg hW (X₁.named hnamed) (hpre vm₁ X₁.warmed)
  exact ⟨v, vm₁, B, X₁.warmed, X', hpost, fun target h => hstep₁ _ fun acts => by rw [doInvoke_state]; exact hsteps.trans h⟩
variable {C : String} {T : u_T} {N ci index maxL fr lo mc ms n b : Nat} {x y : MethodName} {bytes : ByteArray} {rt : Option FieldType} {As fs : List Value} {Qc : Option Value → g_St → Prop}
/-- what shows that y's declarer is no interface -/
def g_nif (y : MethodName) : Prop := ∃ (C2 : String) (x2 y2 : MethodName), Cond.selects C2 x2 y2 ∈ lw_all ∧ y2.cls = y.cls
theorem j_callP (hC : g_Cx p s m args meth c cc nL own ret nm E st0) (hM : g_WP l E y bytes maxL rt fr lo mc ms (va_rf (some b) :: As) st Qc) (hw : GoodIn lw_all (ws_ y bytes maxL rt)) (q1 : Cond.methodLink own index y ∈ lw_all) (q2 : Cond.instanceMethod y ∈ lw_all) (q3 : Cond.privateMethod y ∈ g_ext) (q4 : Cond.initialized y.cls ∈ lw_all) (q5 : g_nif y) (hy : y.cls ≠ "java/lang/invoke/MethodHandle" ∧ y.cls ≠ "java/lang/invoke/VarHandle" ∧ (parseMethodDescriptor y.desc).map (fun d => d.parameters.length) = some n) (hR : fr + 1 ≤ R.frames ∧ 8 + (maxL + 11) + lo ≤ R.locals) (hc : g_cl[ci]? = some (C, T, N)) (hr : g_Rd st b (.inr (ci, fs))) (hn : As.length = n) (hs : stk = As.reverse ++ va_rf (some b) :: rest) (hk : (rest.map fun v => v.category).sum ≤ 8) (hd : decode cc pc = .ok (.invokevirtual index, 3)) (h1 : mc ≤ cb) (h2 : ms ≤ sb)
    (K : ∀ (v : Option Value) (st' : g_St), Qc v st' → g_Ext st st' → g_J p l e R s m args below meth c nL E st0 Z (pc + 3) lv (v.toList ++ rest) st' (cb - mc) (sb - ms)) : g_J p l e R s m args below meth c nL E st0 Z pc lv stk st cb sb := by
  refine j_run (rest := rest) (av := (Value.ref b :: As).toArray) (fun H locs ls cells slots k1 k2 k3 k4 k5 => ?_) h1 h2 K
  obtain ⟨C2, x2, y2, q6, q7⟩ := q5
  obtain ⟨cellB, hcB, hoB, hclB⟩ := g_recv hC k2 hr hc
  have hcd : Cond.code y bytes maxL rt ∈ ws_ y bytes maxL rt := List.mem_cons_self
  have hK : Back l R p e below s args y 3 8 (PreOf R mc ms (va_Pc (va_rf (some b) :: As) (fun U => g_Own E st U.heap ∧ g_T E U ∧ g_Z E U U.heap))) (PostOf (g_Q E st Qc) mc ms (g_A st)) :=
    back_of (bytes := bytes) (maxL := maxL) (ret := rt) hM g_blind rfl rfl hR.1 hR.2 (pay_in hC.ts hw) hcd (fun a' U hW => word_at hW (Or.inl (by first | rfl | simp [Cond.onTables, Cond.keeps, Cond.steady])) (hC.ts _ q4))
  intro T hT X
  have hlen : ∀ sig, parseMethodDescriptor y.desc = some sig → As.length = sig.parameters.length := fun sig h => by
    have h3 := hy.2.2
    rw [h] at h3
    exact hn.trans (Option.some.inj h3).symm
  obtain ⟨v, vm₁, ⟨U', l2, c2, s2⟩, hW₁, X', ⟨g', mk, t, L, e1, e2, hq, z1, hL, z2, z3⟩, stp⟩ := g_callVP X hC.x (bytes := bytes) (maxL := maxL) (rt := rt) hC.ow (hC.ts _ q1) (hC.ts _ q2) (va_Nw.use rfl (hC.T.2.2.1 _ q3)) (hC.ts _ q6) q7 (hC.ts _ (hw _ hcd).1) ⟨hy.1, hy.2.1⟩ hK (b := b) (by rw [hT]; exact hcB) hoB (g := F0 m pc ls stk) rfl (k1.1.trans hC.ml.symm) (argsL := As) (rest := rest) hlen (by subst hs; rfl) (lv_room hk) (by rw [hC.b]; exact hd)
    (fun vm₁ hW₁ => ⟨k5.1, k5.2, g_pre hC k2 k4 _ (T.setVm vm₁) hT hW₁⟩)
  dsimp only [Pt.U, Pt.locs, Pt.cells, Pt.slots] at X' e1 e2 z1 z2 z3 stp
  subst z1; subst z2; subst z3
  exact ⟨v, (T.setVm vm₁).calling g' mk (Value.ref b :: As).toArray, t, U', L, hT, X', hL, e1, e2, hq, stp⟩
/-- a method of the object that a constant static holds -/
theorem j_callVO (hC : g_Cx p s m args meth c cc nL own ret nm E st0) (hM : g_WP l E y bytes maxL rt fr lo mc ms (va_rf (some b) :: As) st Qc) (hw : GoodIn lw_all (wsV own index "jdk/internal/misc/Unsafe" y (ws_ y bytes maxL rt))) (hy : y.cls = "jdk/internal/misc/Unsafe" ∧ y.cls ≠ "java/lang/invoke/MethodHandle" ∧ y.cls ≠ "java/lang/invoke/VarHandle" ∧ (parseMethodDescriptor y.desc).map (fun d => d.parameters.length) = some n) (hR : fr + 1 ≤ R.frames ∧ 8 + (maxL + 11) + lo ≤ R.locals) (hu : some b = E.2.2.2.2.1 5) (hn : As.length = n) (hs : stk = As.reverse ++ va_rf (some b) :: rest) (hk : (rest.map fun v => v.category).sum ≤ 8) (hd : decode cc pc = .ok (.invokevirtual index, 3)) (h1 : mc ≤ cb) (h2 : ms ≤ sb)
    (K : ∀ (v : Option Value) (st' : g_St), Qc v st' → g_Ext st st' → g_J p l e R s m args below meth c nL E st0 Z (pc + 3) lv (v.toList ++ rest) st' (cb - mc) (sb - ms)) : g_J p l e R s m args below meth c nL E st0 Z pc lv stk st cb sb :=
  j_run (fun H locs ls cells slots k1 k2 k3 k4 k5 => va_runV (b := b) (rest := rest) ⟨hC.x, hC.b, hC.ml, hC.ow, hC.ts⟩ hM (cwV n hC.ts hw rfl rfl rfl hy hR) ⟨g_blind, by
    obtain ⟨a, u1, u2⟩ := hC.zz.2.1
    have e0 : b = a := Option.some.inj (hu.trans u1)
    subst e0
    obtain ⟨cell, o1, o2, o3, -⟩ := (u2.narrow (fun _ h => hC.O.base h)).kept k4.2.1
    exact ⟨cell, o1, o2, o3⟩, g_pre hC k2 k4 _⟩ rfl hn k1.1 (by subst hs; rfl) (lv_room hk) hd k5) h1 h2 K
-- bytes: System.arraycopy, clone, checkcast
theorem g_nn {z : Int32} {n : Nat} (h : z = nI n) (hn : n < 2 ^ 31) : ¬ z < 0 ∧ z.toInt = (n : Int) ∧ z.toNatClampNeg = n := by
  subst h
  exact ⟨nI_pos hn, nI_toInt hn, nI_clamp hn⟩
theorem j_copyB (hC : g_Cx p s m args meth c cc nL own ret nm E st0) {a0 a2 : Nat} {zs zd zn : Int32} (q1 : Cond.methodLink own index arraycopyName ∈ lw_all) (q2 : Cond.native arraycopyName ∈ lw_all) (q3 : Cond.static arraycopyName ∈ lw_all) (q4 : Cond.initialized "java/lang/System" ∈ lw_all) {n k i j z : Nat} {f h : Nat → Int32} (hr : g_Rd st a0 (.inl (1, n, .inl f))) (hm : st.2.1 a2 = some (.inl (1, k, .inl h))) (e1 : zs = nI i) (e2 : zd = nI j) (e3 : zn = nI z) (l1 : i < 2 ^ 31) (l2 : j < 2 ^ 31) (l3 : z < 2 ^ 31) (l4 : i + z ≤ n) (l5 : j + z ≤ k) (hf : ∀ w : Nat, w < z → fits .byte (.int (f (i + w))) = true) (hfr : 1 ≤ R.frames) (hlo : (rest.map fun v => v.category).sum + 32 ≤ R.locals) (hd : decode cc pc = .ok (.invokestatic index, 3)) (K : ∀ st1 : g_St, st1 = g_put st a2 (.inl (1, k, .inl (va_cpy f h i j z))) → g_J p l e R s m args below meth c nL E st0 Z (pc + 3) lv rest st1 cb sb) : g_J p l e R s m args below meth c nL E st0 Z pc lv (.int zn :: .int zd :: va_rf (some a2) :: .int zs :: va_rf (some a0) :: rest) st cb sb := by
  intro H locs ls cells slots k1 k2 k3 k4 k5 k6
  obtain ⟨p1, p2, p3⟩ := g_nn e1 l1
  obtain ⟨r1, r2, r3⟩ := g_nn e2 l2
  obtain ⟨t1, t2, t3⟩ := g_nn e3 l3
  obtain ⟨scr, s1, s2, s3, s4, s5, s6, s7, -, s8⟩ := k2.rd hr
  obtain ⟨⟨hc1, -⟩, hb, hfz⟩ := k2.2.2.2 a2 _ hm
  have hc1 : H[a2]? = some (vp_cell (E.2.2.1 1) (k, .inl h)) := hc1
  have s8 : ∀ w : Nat, w < n → scr.slots[w]? = some (.int (f w)) := s8
  have s5 : n ≤ scr.slots.size := s5
  obtain ⟨hs6, k0, hk0, cm0, hkk0⟩ := g_arr (hC.A (t := 1) (by decide)) s2 s3
  obtain ⟨-, k9, hk9, cm9, hkk9⟩ := hC.A (t := 1) (by decide) k (fun w => .int (h w))
  intro T hT X
  have hw : nativeFrameWords "java/lang/System" "arraycopy" 5 + 11 ≤ 32 := by decide
  obtain ⟨vm', X', step⟩ := X.arraycopy hC.x hC.ow (hC.ts _ q1) (hC.ts _ q2) (hC.ts _ q3) (hC.ts _ q4) (src := a0) (dst := a2) (cs := scr) (cd := vp_cell (E.2.2.1 1) (k, .inl h)) (srcPos := zs) (destPos := zd) (n := zn) (by rw [hT]; exact s1) (by rw [hT]; exact hc1)
    hs6 (fun _ h => by cases h) s4 (fun h => by cases h) hk0 hk9 hkk0 hkk9 (by simp [refKind, g_ty]) p1 r1 t1
    (by rw [p2, t2]; omega)
    (by rw [r2, t2]; show ¬ _ > ((arrV (E.2.2.1 1) k (fun w => .int (h w))).slots.size : Int); rw [arrV_size]; omega)
    (fun vm₁ _ w hw => by
      rw [t3] at hw
      have e : scr.slots.getD (zs.toNatClampNeg + w) .null = .int (f (zs.toNatClampNeg + w)) := by
        rw [Array.getD_eq_getD_getElem?, s8 _ (by rw [p3]; omega)]
        rfl
      refine ⟨?_, ?_⟩
      · rw [e, p3]
        exact hf w hw
      · rw [e]
        exact trivial)
    (g := F0 m pc ls (.int zn :: .int zd :: .ref a2 :: .int zs :: .ref a0 :: rest)) rfl (by rw [hC.ml, ← k1.1]) (rest := rest) rfl (by rw [hC.b]; exact hd) hfr (by show 2 * 0 + _ + _ ≤ _; omega)
  have ec : copied scr (vp_cell (E.2.2.1 1) (k, .inl h)) zs zd zn = vp_cell (E.2.2.1 1) (k, .inl (va_cpy f h i j z)) := by
    have h4 : zs.toNatClampNeg + zn.toNatClampNeg ≤ n := by rw [p3, t3]; exact l4
    have := va_copiedX (fun z => .int z) scr (E.2.2.1 1) (sp := zs.toNatClampNeg) (dp := zd.toNatClampNeg) (n := zn.toNatClampNeg) (n1 := k) f h s8 h4
    rw [p3, r3, t3] at this
    have e9 : copied scr (vp_cell (E.2.2.1 1) (k, .inl h)) zs zd zn = (arrV (E.2.2.1 1) k (fun w => .int (h w))).storeRun zd.toNatClampNeg (scr.stretch zs.toNatClampNeg zn.toNatClampNeg) := rfl
    rw [e9, p3, r3, t3]
    exact this
  rw [ec] at X' step
  have hl : a2 < H.size := (Array.getElem?_eq_some_iff.mp hc1).1
  generalize hH1 : H.setIfInBounds a2 (vp_cell (E.2.2.1 1) (k, .inl (va_cpy f h i j z))) = H1
  have oq : ∀ q : Nat, q ≠ a2 → H1[q]? = H[q]? := fun q hq => by rw [← hH1]; simp [Array.getElem?_setIfInBounds, Ne.symm hq]
  have hz : H1.size = H.size := by rw [← hH1]; simp
  have ho : g_at E a2 (.inl (1, k, .inl (va_cpy f h i j z))) H1 := by
    refine ⟨?_, show 1 < 5 by decide⟩
    show H1[a2]? = some (vp_cell (E.2.2.1 1) _)
    rw [← hH1]; simp [Array.getElem?_setIfInBounds, hl]
  have hS1 : va_S (g_A st0) s.heap H1 (locs ++ List.map (fun (q : Value × Nat) => (⟨a2, zd.toNatClampNeg + q.2⟩ : Loc)) (scr.stretch zs.toNatClampNeg zn.toNatClampNeg).zipIdx) := by
    refine ⟨by rw [hz]; exact k4.1, fun q g1 g2 => ?_, fun q hq => ?_⟩
    · rw [oq q (fun e => g2 (by rw [e]; exact g_A.mono k3 (Or.inl (by rw [hm]; exact fun e => by cases e))))]
      exact k4.2.1 q g1 g2
    · rcases List.mem_append.mp hq with h | h
      · exact k4.2.2 q h
      · obtain ⟨w, -, hw⟩ := List.mem_map.mp h
        rw [← hw]
        exact g_A.mono k3 (Or.inl (by rw [hm]; exact fun e => by cases e))
  obtain ⟨t, a1, b1⟩ := K _ rfl H1 _ ls cells slots k1 (k2.put hm ho hz oq) (k3.put hm) hS1 k5 k6 ((T.setVm vm').setCell a2 (vp_cell (E.2.2.1 1) (k, .inl (va_cpy f h i j z)))) (by rw [← hH1, ← hT]; rfl) X'
  exact ⟨t, step t a1, b1⟩
theorem g_nmB (hC : g_Cx p s m args meth c cc nL own ret nm E st0) : s.vm.findClass "[B" = some (E.2.2.1 1) := (hC.K.2 1 _ rfl).2
theorem j_cloneB (hC : g_Cx p s m args meth c cc nL own ret nm E st0) {a0 n : Nat} {f : Nat → Int32} (q1 : Cond.methodLink own index ⟨"[B", "clone", "()Ljava/lang/Object;"⟩ ∈ lw_all) (hm : st.2.1 a0 = some (.inl (1, n, .inl f))) (hf : ∀ w : Nat, w < n → fits .byte (.int (f w)) = true) (hcb : 1 ≤ cb) (hsb : n ≤ sb) (hfr : 1 ≤ R.frames) (hlo : (rest.map fun v => v.category).sum + 32 ≤ R.locals) (hd : decode cc pc = .ok (.invokevirtual index, 3)) (K : ∀ (q : Nat) (st1 : g_St), q = st.2.2 → st1 = g_new st (.inl (1, n, .inl f)) → g_J p l e R s m args below meth c nL E st0 Z (pc + 3) lv (va_rf (some q) :: rest) st1 (cb - 1) (sb - n)) : g_J p l e R s m args below meth c nL E st0 Z pc lv (va_rf (some a0) :: rest) st cb sb := by
  intro H locs ls cells slots k1 k2 k3 k4 k5 k6
  obtain ⟨⟨hc1, -⟩, hb, hfz⟩ := k2.2.2.2 a0 _ hm
  have hc1 : H[a0]? = some (vp_cell (E.2.2.1 1) (n, .inl f)) := hc1
  have hnm := g_nmB hC
  obtain ⟨c0, t0', f1, f2, f3⟩ := Cond.castable_spec (va_Nw.use (A := args) rfl (hC.T.2.2.1 (Cond.castable "[B" "java/lang/Cloneable") (by decide +kernel)))
  cases hnm.symm.trans f1
  intro T hT X
  obtain ⟨-, kS, hkS, compS, hkindS⟩ := hC.A (t := 1) (by decide) 0 (fun _ => .null)
  obtain ⟨-, kA, hkA, comp, hkind⟩ := State.isArrayOf_alike X.warmed.alike (hC.A (t := 1) (by decide) 0 (fun _ => .null))
  obtain ⟨vm', X', stp⟩ := X.cloneArray hC.x hC.ow (hC.ts _ q1) (hC.ts _ q297) (hC.ts _ q298) (hC.ts _ q299) (hC.ts _ q300) (a := a0) (cell := vp_cell (E.2.2.1 1) (n, .inl f)) (by rw [hT]; exact hc1) (fun k h => by cases h) (fun h => by cases h) hnm f2 f3
    (fun i v hv => by
      have hk' : T.vm.classes[E.2.2.1 1]? = some kA := hkA
      have hfit : fits .byte v = true := by
        rw [vp_cell_i] at hv
        have hi : i < n := by
          have := (Array.getElem?_eq_some_iff.mp hv).1
          rwa [arrV_size] at this
        rw [arrV_read _ _ hi] at hv
        cases hv
        exact hf i hi
      have hkind : kA.kind = .array comp .byte := hkind
      have e0 : (vp_cell (E.2.2.1 1) (n, .inl f)).cls = E.2.2.1 1 := rfl
      rw [e0]
      simpa [State.fitsSlot, State.slotType?, hk', hkind] using hfit)
    (g := F0 m pc ls (.ref a0 :: rest)) rfl (by rw [hC.ml, ← k1.1]) rfl (by rw [hC.b]; exact hd) hfr (by show 2 * 0 + _ + 14 ≤ _; omega) (by omega) (by rw [vp_cell_i, arrV_size]; omega) (hloader := Vm.clonesLoader_of_array hkS hkindS)
  have hcellE : ({ cls := (vp_cell (E.2.2.1 1) (n, .inl f)).cls, slots := (vp_cell (E.2.2.1 1) (n, .inl f)).slots } : Cell) = vp_cell (E.2.2.1 1) (n, .inl f) := rfl
  have hsz : (vp_cell (E.2.2.1 1) (n, .inl f)).slots.size = n := by rw [vp_cell_i, arrV_size]
  rw [hcellE, hsz] at X'
  generalize hH1 : H.push (vp_cell (E.2.2.1 1) (n, .inl f)) = H1
  have z1 : H1.size = H.size + 1 := by rw [← hH1, Array.size_push]
  have e1 : H1[H.size]? = some (vp_cell (E.2.2.1 1) (n, .inl f)) := by rw [← hH1, Array.getElem?_push_size]
  have o1 : ∀ q : Nat, q < H.size → H1[q]? = H[q]? := fun q hq => by rw [← hH1, Array.getElem?_push, if_neg (Nat.ne_of_lt hq)]
  have ho : g_at E st.2.2 (.inl (1, n, .inl f)) H1 := ⟨by rw [← k2.1]; exact e1, show 1 < 5 by decide⟩
  obtain ⟨t, b1, b2⟩ := K _ _ rfl rfl H1 locs ls (cells + 1) (slots + n) k1 (k2.new ho z1 o1) k3.new (g_S.new k4 z1 o1) (by omega) (by omega) ((T.setVm vm').pushCell (vp_cell (E.2.2.1 1) (n, .inl f))) (by rw [← hH1, ← hT]; rfl) X'
  refine ⟨t, stp t ?_, b2⟩
  rw [hcellE, hT, k2.1]
  exact b1
theorem j_castB (hC : g_Cx p s m args meth c cc nL own ret nm E st0) {a : Nat} {w : vp_A} (hq : Cond.classLink own index "[B" ∈ lw_all) (hr : g_Rd st a (.inl (1, w))) (hd : decode cc pc = .ok (.checkcast index, 3)) (K : g_J p l e R s m args below meth c nL E st0 Z (pc + 3) lv (va_rf (some a) :: rest) st cb sb) : g_J p l e R s m args below meth c nL E st0 Z pc lv (va_rf (some a) :: rest) st cb sb := by
  intro H locs ls cells slots h1 h2 h3 h4 h5 h6
  obtain ⟨cell, q1, q2, q3, q4, -⟩ := h2.rd hr
  exact va_castE hC.x hC.b hC.ow (hC.ts _ hq) ⟨cell, q1, q3, by rw [q2]; exact g_nmB hC⟩ hd (K H locs ls cells slots h1 h2 h3 h4 h5 h6)
end GB8
theorem g_sbP {y : MethodName} (h : y.cls = "java/lang/AbstractStringBuilder" := by rfl) : g_nif y := ⟨_, _, _, q312, h.symm⟩
