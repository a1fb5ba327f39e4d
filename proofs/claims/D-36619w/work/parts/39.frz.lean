/-! FREEZING of listed cells; the typed contracts' rules; states that are the same on old cells -/
section GF1
variable {l : Launch} {E : g_E} {y : MethodName} {cc : ByteArray} {nL : Nat} {rt : Option FieldType} {fr lo mc ms : Nat} {av : List Value} {st : g_St}
def g_frz (D : List Nat) (st : g_St) : g_St := (fun q => if q ∈ D then (match st.2.1 q with | some o => some o | none => st.1 q) else st.1 q, fun q => if q ∈ D then none else st.2.1 q, st.2.2)
theorem g_frz_fz (D : List Nat) (hw : g_Wf st) : g_Fz st (g_frz D st) := by
  refine ⟨rfl, fun a o ha => ?_, fun a o ha => ?_, fun a o ha => ?_⟩
  · show (if a ∈ D then _ else _) = some o
    by_cases h : a ∈ D
    · rw [if_pos h, (hw.1 a o ha).1]; exact ha
    · rw [if_neg h]; exact ha
  · have ha : (if a ∈ D then (match st.2.1 a with | some o => some o | none => st.1 a) else st.1 a) = some o := ha
    by_cases h : a ∈ D
    · rw [if_pos h] at ha
      refine ⟨?_, by show (if a ∈ D then _ else _) = none; rw [if_pos h]⟩
      cases he : st.2.1 a with
      | none => rw [he] at ha; exact Or.inl ha
      | some x => rw [he] at ha; exact Or.inr ha
    · rw [if_neg h] at ha
      exact ⟨Or.inl ha, by show (if a ∈ D then _ else _) = none; rw [if_neg h]; exact (hw.1 a o ha).1⟩
  · have ha : (if a ∈ D then none else st.2.1 a) = some o := ha
    by_cases h : a ∈ D
    · rw [if_pos h] at ha; cases ha
    · rw [if_neg h] at ha; exact ha
theorem g_frz_f {D : List Nat} {a : Nat} {o : g_Ob} (h : a ∈ D) (ho : st.2.1 a = some o) : (g_frz D st).1 a = some o := by
  show (if a ∈ D then _ else _) = some o
  rw [if_pos h, ho]
theorem g_frz_h {D : List Nat} {a : Nat} (h : a ∉ D) : (g_frz D st).2.1 a = st.2.1 a := by
  show (if a ∈ D then _ else _) = _
  rw [if_neg h]
/-- what was there of mutable cells is as it was -/
def Sm (st st' : g_St) : Prop := g_Ext st st' ∧ ∀ q : Nat, q < st.2.2 → st'.2.1 q = st.2.1 q
theorem Sm.rf : Sm st st := ⟨g_Ext.rf, fun _ _ => rfl⟩
theorem Sm.tr {a b c : g_St} (h1 : Sm a b) (h2 : Sm b c) : Sm a c := ⟨h1.1.tr h2.1, fun q hq => (h2.2 q (Nat.lt_of_lt_of_le hq h1.1.1)).trans (h1.2 q hq)⟩
theorem Sm.new {o : g_Ob} : Sm st (g_new st o) := ⟨g_Ext.new g_Ext.rf, fun q hq => g_upd_n (Nat.ne_of_lt hq)⟩
theorem Sm.frz {D : List Nat} {st' : g_St} (h : Sm st st') (hw : g_Wf st') (hD : ∀ q ∈ D, st.2.2 ≤ q) : Sm st (g_frz D st') :=
  ⟨h.1.tr ((g_frz_fz D hw).ext hw), fun q hq => by rw [g_frz_h (fun hm => absurd (hD q hm) (by omega))]; exact h.2 q hq⟩
theorem g_WPa.post {Q Q' : Option Nat → g_St → Prop} (h : g_WPa l E y cc nL rt fr lo mc ms av st Q') (hq : ∀ (r : Option Nat) (st' : g_St), g_Ext st st' → g_Wf st' → Q' r st' → ∃ st3 : g_St, g_Fz st' st3 ∧ Q r st3) : g_WPa l E y cc nL rt fr lo mc ms av st Q :=
  g_WP.post h fun v st' he hw hv => by
    obtain ⟨r, e, hr⟩ := hv
    obtain ⟨st3, z, q⟩ := hq r st' he hw hr
    exact ⟨st3, z, r, e, q⟩
theorem g_WPi.post {Q Q' : Int32 → g_St → Prop} (h : g_WPi l E y cc nL rt fr lo mc ms av st Q') (hq : ∀ (r : Int32) (st' : g_St), g_Ext st st' → g_Wf st' → Q' r st' → ∃ st3 : g_St, g_Fz st' st3 ∧ Q r st3) : g_WPi l E y cc nL rt fr lo mc ms av st Q :=
  g_WP.post h fun v st' he hw hv => by
    obtain ⟨r, e, hr⟩ := hv
    obtain ⟨st3, z, q⟩ := hq r st' he hw hr
    exact ⟨st3, z, r, e, q⟩
theorem g_WPv.post {Q Q' : g_St → Prop} (h : g_WPv l E y cc nL rt fr lo mc ms av st Q') (hq : ∀ (st' : g_St), g_Ext st st' → g_Wf st' → Q' st' → ∃ st3 : g_St, g_Fz st' st3 ∧ Q st3) : g_WPv l E y cc nL rt fr lo mc ms av st Q :=
  g_WP.post h fun v st' he hw hv => by
    obtain ⟨e, hr⟩ := hv
    obtain ⟨st3, z, q⟩ := hq st' he hw hr
    exact ⟨st3, z, e, q⟩
theorem g_WPa.wf {Q : Option Nat → g_St → Prop} (h : g_Wf st → g_WPa l E y cc nL rt fr lo mc ms av st Q) : g_WPa l E y cc nL rt fr lo mc ms av st Q := g_WP.wf h
theorem g_WPi.wf {Q : Int32 → g_St → Prop} (h : g_Wf st → g_WPi l E y cc nL rt fr lo mc ms av st Q) : g_WPi l E y cc nL rt fr lo mc ms av st Q := g_WP.wf h
theorem g_WPv.wf {Q : g_St → Prop} (h : g_Wf st → g_WPv l E y cc nL rt fr lo mc ms av st Q) : g_WPv l E y cc nL rt fr lo mc ms av st Q := g_WP.wf h
/-- a frozen Integer -/
def IntO (f : g_H) (q : Nat) (v : Int32) : Prop := f q = some (.inr (2, [.int v]))
/-- the constants: statics' objects as they stand frozen -/
def Cst (E : g_E) (f : g_H) : Prop := (∃ a : Nat, E.2.2.2.2.1 5 = some a) ∧ (∃ a : Nat, E.2.2.2.2.1 3 = some a ∧ f a = some (.inl (5, 256, .inr (.inr (.inr (.inr fun j => some (E.2.2.2.2.2 j)))))) ∧ ∀ j : Nat, j < 256 → IntO f (E.2.2.2.2.2 j) (nI j - nI 128)) ∧ (∃ a : Nat, E.2.2.2.2.1 0 = some a ∧ Str f a [97, 98, 99, 100, 101, 102]) ∧ (∃ a : Nat, E.2.2.2.2.1 1 = some a ∧ Str f a []) ∧ ∃ a : Nat, E.2.2.2.2.1 2 = some a ∧ Str f a []
theorem Cst.mono {f f' : g_H} (h : Cst E f) (hf : ∀ (q : Nat) (o : g_Ob), f q = some o → f' q = some o) : Cst E f' := by
  obtain ⟨h1, ⟨a, h2, h3, h4⟩, ⟨b, h5, h6⟩, ⟨c, h7, h8⟩, d, h9, h10⟩ := h
  exact ⟨h1, ⟨a, h2, hf _ _ h3, fun j hj => hf _ _ (h4 j hj)⟩, ⟨b, h5, h6.mono hf⟩, ⟨c, h7, h8.mono hf⟩, d, h9, h10.mono hf⟩
theorem Cst.ext {st' : g_St} (h : Cst E st.1) (hx : g_Ext st st') : Cst E st'.1 := h.mono hx.2.1
end GF1
