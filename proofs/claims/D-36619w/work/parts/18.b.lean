/-! BASE 18: well-formed states, freezing -/
section GB18
variable {l : Launch} {E : g_E} {y : MethodName} {cc : ByteArray} {nL : Nat} {rt : Option FieldType} {fr lo mc ms : Nat} {av : List Value} {st st2 : g_St} {Q Q' : Option Value → g_St → Prop} {X X' : String → g_St → Prop} {hh : List (Nat × Nat × Nat × Nat)}
/-- frozen and mutable cells lie apart, all below the size -/
def g_Wf (st : g_St) : Prop := (∀ (a : Nat) (o : g_Ob), st.1 a = some o → st.2.1 a = none ∧ a < st.2.2) ∧ ∀ (a : Nat) (o : g_Ob), st.2.1 a = some o → st.1 a = none ∧ a < st.2.2
theorem g_Own.wf {H : Heap} (h : g_Own E st H) : g_Wf st := by
  obtain ⟨h1, h2, h3, h4⟩ := h
  refine ⟨fun a o ha => ⟨?_, by rw [← h1]; exact (h3 a o ha).lt⟩, fun a o ha => ⟨(h4 a o ha).2.2, by rw [← h1]; exact (h4 a o ha).1.fz.lt⟩⟩
  cases he : st.2.1 a with
  | none => rfl
  | some x => rw [(h4 a x he).2.2] at ha; cases ha
/-- st2 is st with some mutable cells frozen or forgotten -/
def g_Fz (st st2 : g_St) : Prop := st2.2.2 = st.2.2 ∧ (∀ (a : Nat) (o : g_Ob), st.1 a = some o → st2.1 a = some o) ∧ (∀ (a : Nat) (o : g_Ob), st2.1 a = some o → (st.1 a = some o ∨ st.2.1 a = some o) ∧ st2.2.1 a = none) ∧ ∀ (a : Nat) (o : g_Ob), st2.2.1 a = some o → st.2.1 a = some o
theorem g_Fz.rf (h : g_Wf st) : g_Fz st st := ⟨rfl, fun _ _ h => h, fun a o ha => ⟨Or.inl ha, (h.1 a o ha).1⟩, fun _ _ h => h⟩
theorem g_Fz.own {H : Heap} (hz : g_Fz st st2) (h : g_Own E st H) : g_Own E st2 H := by
  obtain ⟨h1, h2, h3, h4⟩ := h
  obtain ⟨z1, z2, z3, z4⟩ := hz
  refine ⟨h1.trans z1.symm, by rw [z1]; exact h2, fun a o ha => ?_, fun a o ha => ?_⟩
  · rcases (z3 a o ha).1 with q | q
    · exact h3 a o q
    · exact (h4 a o q).1.fz
  · obtain ⟨k1, k2, k3⟩ := h4 a o (z4 a o ha)
    refine ⟨k1, k2, ?_⟩
    cases he : st2.1 a with
    | none => rfl
    | some x => rw [(z3 a x he).2] at ha; cases ha
theorem g_Fz.ext (hw : g_Wf st) (hz : g_Fz st st2) : g_Ext st st2 := by
  obtain ⟨z1, z2, z3, z4⟩ := hz
  refine ⟨Nat.le_of_eq z1.symm, z2, fun a _ ha => ?_, fun a _ ha hb => ?_⟩
  · cases he : st2.2.1 a with
    | none => rfl
    | some x => rw [z4 a x he] at ha; cases ha
  · cases he : st2.1 a with
    | none => rfl
    | some x =>
      rcases (z3 a x he).1 with q | q
      · rw [hb] at q; cases q
      · rw [ha] at q; cases q
theorem g_Fz.A (hz : g_Fz st st2) {q : Nat} (h : g_A st2 q) : g_A st q := by
  obtain ⟨z1, z2, z3, z4⟩ := hz
  rcases h with h | h
  · cases he : st2.2.1 q with
    | none => exact absurd he h
    | some x => exact Or.inl (by rw [z4 q x he]; exact fun e => by cases e)
  · exact Or.inr (by rw [← z1]; exact h)
theorem g_Q.fz {a : Array Value} {s t : State} {o : Outcome} (hw : g_Wf st) (hz : g_Fz st st2) (h : g_Q E st2 Q a s o t) : g_Q E st Q a s o t := by
  obtain ⟨v, st', r1, r2, r3, r4, r5⟩ := h
  exact ⟨v, st', r1, r2, (hz.ext hw).tr r3, r4, r5.1, fun q h1 h2 => r5.2 q h1 (fun z => h2 (hz.A z))⟩
/-- before the call some cells are frozen -/
theorem g_WP.fz (hz : g_Fz st st2) (h : g_WP l E y cc nL rt fr lo mc ms av st2 Q) : g_WP l E y cc nL rt fr lo mc ms av st Q := by
  intro p e a1 a2 a3 s m args below a4 a5 a6 a7
  obtain ⟨k, o, h1, h2, h3, hq, L, h4, h5⟩ := h p e a1 a2 a3 s m args below a4 a5 ⟨a6.1, hz.own a6.2.1, a6.2.2⟩ a7
  exact ⟨k, o, h1, h2, h3, g_Q.fz a6.2.1.wf hz hq, L, h4, fun q hq => hz.A (h5 q hq)⟩
/-- the state may be taken as well-formed -/
theorem g_WP.wf (h : g_Wf st → g_WP l E y cc nL rt fr lo mc ms av st Q) : g_WP l E y cc nL rt fr lo mc ms av st Q := by
  intro p e a1 a2 a3 s m args below a4 a5 a6 a7
  exact h a6.2.1.wf p e a1 a2 a3 s m args below a4 a5 a6 a7
/-- after the call some cells are frozen; the state behind is well-formed -/
theorem g_WP.post (h : g_WP l E y cc nL rt fr lo mc ms av st Q') (hq : ∀ (v : Option Value) (st' : g_St), g_Ext st st' → g_Wf st' → Q' v st' → ∃ st3 : g_St, g_Fz st' st3 ∧ Q v st3) : g_WP l E y cc nL rt fr lo mc ms av st Q := by
  intro p e a1 a2 a3 s m args below a4 a5 a6 a7
  obtain ⟨k, o, h1, h2, h3, ⟨v, st', r1, r2, r3, r4, r5⟩, h4⟩ := h p e a1 a2 a3 s m args below a4 a5 a6 a7
  obtain ⟨st3, z1, z2⟩ := hq v st' r3 r4.wf r2
  exact ⟨k, o, h1, h2, h3, ⟨v, st3, r1, z2, r3.tr (z1.ext r4.wf), z1.own r4, r5⟩, h4⟩
theorem g_WPX.fz (hz : g_Fz st st2) (h : g_WPX l E y cc nL rt fr lo mc ms av st2 Q X) : g_WPX l E y cc nL rt fr lo mc ms av st Q X := by
  intro p e a1 a2 a3 s m args below a4 a5 a6 a7
  obtain ⟨k, o, h1, h2, h3, hq⟩ := h p e a1 a2 a3 s m args below a4 a5 ⟨a6.1, hz.own a6.2.1, a6.2.2⟩ a7
  refine ⟨k, o, h1, h2, h3, ?_⟩
  rcases hq with ⟨hq, L, h4, h5⟩ | ⟨q, h5, C, ce, L, ⟨st1, n, r1, r2, r3, r4, r5⟩, h6, h7, h8, h9, h10, h11⟩
  · exact Or.inl ⟨g_Q.fz a6.2.1.wf hz hq, L, h4, fun q hq => hz.A (h5 q hq)⟩
  · exact Or.inr ⟨q, h5, C, ce, L, ⟨st1, n, r1, r2, (hz.ext a6.2.1.wf).tr r3, r4, r5.1, fun q h1 h2 => r5.2 q h1 (fun z => h2 (hz.A z))⟩, h6, h7, h8, h9, h10, fun z hz' => hz.A (h11 z hz')⟩
theorem g_WPX.wf (h : g_Wf st → g_WPX l E y cc nL rt fr lo mc ms av st Q X) : g_WPX l E y cc nL rt fr lo mc ms av st Q X := by
  intro p e a1 a2 a3 s m args below a4 a5 a6 a7
  exact h a6.2.1.wf p e a1 a2 a3 s m args below a4 a5 a6 a7
theorem g_WPX.post (h : g_WPX l E y cc nL rt fr lo mc ms av st Q' X) (hq : ∀ (v : Option Value) (st' : g_St), g_Ext st st' → g_Wf st' → Q' v st' → ∃ st3 : g_St, g_Fz st' st3 ∧ Q v st3) : g_WPX l E y cc nL rt fr lo mc ms av st Q X := by
  intro p e a1 a2 a3 s m args below a4 a5 a6 a7
  obtain ⟨k, o, h1, h2, h3, hv⟩ := h p e a1 a2 a3 s m args below a4 a5 a6 a7
  refine ⟨k, o, h1, h2, h3, ?_⟩
  rcases hv with ⟨⟨v, st', r1, r2, r3, r4, r5⟩, h4⟩ | hv
  · obtain ⟨st3, z1, z2⟩ := hq v st' r3 r4.wf r2
    exact Or.inl ⟨⟨v, st3, r1, z2, r3.tr (z1.ext r4.wf), z1.own r4, r5⟩, h4⟩
  · exact Or.inr hv
theorem g_WPW.fz (hz : g_Fz st st2) (h : g_WPW l E y cc nL rt hh fr lo mc ms av st2 Q) : g_WPW l E y cc nL rt hh fr lo mc ms av st Q := by
  intro p e a1 a2 a3 s m args below a4 a5 a6 a7
  obtain ⟨k, o, h1, h2, h3, hq, L, h4, h5⟩ := h p e a1 a2 a3 s m args below a4 a5 ⟨a6.1, hz.own a6.2.1, a6.2.2⟩ a7
  exact ⟨k, o, h1, h2, h3, g_Q.fz a6.2.1.wf hz hq, L, h4, fun q hq => hz.A (h5 q hq)⟩
theorem g_WPW.wf (h : g_Wf st → g_WPW l E y cc nL rt hh fr lo mc ms av st Q) : g_WPW l E y cc nL rt hh fr lo mc ms av st Q := by
  intro p e a1 a2 a3 s m args below a4 a5 a6 a7
  exact h a6.2.1.wf p e a1 a2 a3 s m args below a4 a5 a6 a7
theorem g_WPW.post (h : g_WPW l E y cc nL rt hh fr lo mc ms av st Q') (hq : ∀ (v : Option Value) (st' : g_St), g_Ext st st' → g_Wf st' → Q' v st' → ∃ st3 : g_St, g_Fz st' st3 ∧ Q v st3) : g_WPW l E y cc nL rt hh fr lo mc ms av st Q := by
  intro p e a1 a2 a3 s m args below a4 a5 a6 a7
  obtain ⟨k, o, h1, h2, h3, ⟨v, st', r1, r2, r3, r4, r5⟩, h4⟩ := h p e a1 a2 a3 s m args below a4 a5 a6 a7
  obtain ⟨st3, z1, z2⟩ := hq v st' r3 r4.wf r2
  exact ⟨k, o, h1, h2, h3, ⟨v, st3, r1, z2, r3.tr (z1.ext r4.wf), z1.own r4, r5⟩, h4⟩
end GB18
