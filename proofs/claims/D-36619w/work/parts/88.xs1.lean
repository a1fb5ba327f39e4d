/-! STEMSPAN 1: what its cells hold; the text's operations -/
section GXS1
variable {l : Launch} {E : g_E} {st st' : g_St} {a sb v N tm n ca b : Nat} {nd ka va : Nat → Nat} {mc : Int32} {x : tX} {fc : Nat → Option Nat} {t : List Nat} {ws : wL} {cs : Nat → List Nat} {Q : Int32 → g_St → Prop} {X : String → g_St → Prop}
def xO (sb tm ca : Nat) : g_Ob := .inr (15, [va_rf (some sb), va_rf (some tm), va_rf (some ca)])
def SPx (E : g_E) (st : g_St) (a sb v N tm n : Nat) (nd ka va : Nat → Nat) (mc : Int32) (x : tX) (ca : Nat) (fc : Nat → Option Nat) (t : List Nat) (ws : wL) (cs : Nat → List Nat) : Prop :=
  st.2.1 a = some (xO sb tm ca) ∧ SB st.2.1 sb t v N ∧ (N = 16 ∨ N = 34) ∧ TMx st tm n nd ka va mc x ws ∧ st.2.1 ca = some (.inl (4, 6, .inr (.inr (.inr (.inr fc))))) ∧ (∀ j, j < 6 → ∃ q, fc j = some q ∧ Str st.1 q (cs j)) ∧ okT t ∧ okW ws ∧ okC cs ∧ Cst E st.1 ∧ Unb E st
/-- the object at a stands for text t, words ws, codes cs -/
def SP (E : g_E) (st : g_St) (a : Nat) (t : List Nat) (ws : wL) (cs : Nat → List Nat) : Prop := ∃ (sb v N tm n : Nat) (nd ka va : Nat → Nat) (mc : Int32) (x : tX) (ca : Nat) (fc : Nat → Option Nat), SPx E st a sb v N tm n nd ka va mc x ca fc t ws cs
/-- its cells -/
def SD (a sb v tm n : Nat) (nd : Nat → Nat) (x : tX) (ca z : Nat) : Prop := z = a ∨ z = sb ∨ z = v ∨ z = ca ∨ CX tm n nd x z
/-- objects of such kinds as these cells are -/
def X1o : g_Ob → Prop
  | .inl (k, _) => k = 1 ∨ k = 4
  | .inr (c, _) => c = 15 ∨ c = 0 ∨ c = 3 ∨ c = 4 ∨ c = 8 ∨ c = 14
/-- below b, cells of other kinds are as they were -/
def Sy (b : Nat) (st st' : g_St) : Prop := g_Ext st st' ∧ ∀ q, q < b → (∀ o, st.2.1 q = some o → ¬ X1o o) → st'.2.1 q = st.2.1 q
theorem Sy.rf : Sy b st st := ⟨g_Ext.rf, fun _ _ _ => rfl⟩
theorem Sy.tr {s1 s2 s3 : g_St} (h1 : Sy b s1 s2) (h2 : Sy b s2 s3) : Sy b s1 s3 := ⟨h1.1.tr h2.1, fun q hq ho => by
  have e1 := h1.2 q hq ho
  exact (h2.2 q hq (fun o ho2 => ho o (e1.symm.trans ho2))).trans e1⟩
theorem Sm.sy (h : Sm st st') (hb : b ≤ st.2.2) : Sy b st st' := ⟨h.1, fun q hq _ => h.2 q (by omega)⟩
theorem Se.sy {D : Nat → Prop} (h : Se D st st') (hb : b ≤ st.2.2) (hD : ∀ z, D z → z < b → ∃ o, st.2.1 z = some o ∧ X1o o) : Sy b st st' := ⟨h.1, fun q hq ho => h.2 q (by omega) fun w => by
  obtain ⟨o, h1, h2⟩ := hD q w hq
  exact ho o h1 h2⟩
theorem SPx.sbt (h : SPx E st a sb v N tm n nd ka va mc x ca fc t ws cs) : g_gr st a 15 0 (some sb) := ⟨_, Or.inl h.1, rfl⟩
theorem SPx.tmt (h : SPx E st a sb v N tm n nd ka va mc x ca fc t ws cs) : g_gr st a 15 1 (some tm) := ⟨_, Or.inl h.1, rfl⟩
theorem SPx.cat (h : SPx E st a sb v N tm n nd ka va mc x ca fc t ws cs) : g_gr st a 15 2 (some ca) := ⟨_, Or.inl h.1, rfl⟩
theorem SPx.is (h : SPx E st a sb v N tm n nd ka va mc x ca fc t ws cs) : g_is st a 15 := ⟨_, Or.inl h.1⟩
theorem SPx.sbS (h : SPx E st a sb v N tm n nd ka va mc x ca fc t ws cs) : SB st.2.1 sb t v N := h.2.1
theorem SPx.N34 (h : SPx E st a sb v N tm n nd ka va mc x ca fc t ws cs) : N = 16 ∨ N = 34 := h.2.2.1
theorem SPx.tmS (h : SPx E st a sb v N tm n nd ka va mc x ca fc t ws cs) : TMx st tm n nd ka va mc x ws := h.2.2.2.1
theorem SPx.caS (h : SPx E st a sb v N tm n nd ka va mc x ca fc t ws cs) : st.2.1 ca = some (.inl (4, 6, .inr (.inr (.inr (.inr fc))))) := h.2.2.2.2.1
theorem SPx.fcS (h : SPx E st a sb v N tm n nd ka va mc x ca fc t ws cs) {j : Nat} (hj : j < 6) : ∃ q, fc j = some q ∧ Str st.1 q (cs j) := h.2.2.2.2.2.1 j hj
theorem SPx.T (h : SPx E st a sb v N tm n nd ka va mc x ca fc t ws cs) : okT t := h.2.2.2.2.2.2.1
theorem SPx.W (h : SPx E st a sb v N tm n nd ka va mc x ca fc t ws cs) : okW ws := h.2.2.2.2.2.2.2.1
theorem SPx.C (h : SPx E st a sb v N tm n nd ka va mc x ca fc t ws cs) : okC cs := h.2.2.2.2.2.2.2.2.1
theorem SPx.cE (h : SPx E st a sb v N tm n nd ka va mc x ca fc t ws cs) : Cst E st.1 := h.2.2.2.2.2.2.2.2.2.1
theorem SPx.U (h : SPx E st a sb v N tm n nd ka va mc x ca fc t ws cs) : Unb E st := h.2.2.2.2.2.2.2.2.2.2
theorem SPx.sp (h : SPx E st a sb v N tm n nd ka va mc x ca fc t ws cs) : SP E st a t ws cs := ⟨_, _, _, _, _, _, _, _, _, _, _, _, h⟩
/-- its cells exist, are of those kinds -/
theorem SPx.kd (h : SPx E st a sb v N tm n nd ka va mc x ca fc t ws cs) {z : Nat} (hz : SD a sb v tm n nd x ca z) : ∃ o, st.2.1 z = some o ∧ X1o o := by
  rcases hz with rfl | rfl | rfl | rfl | hz
  · exact ⟨_, h.1, Or.inl rfl⟩
  · obtain ⟨m, g, h1, _⟩ := h.sbS
    exact ⟨_, h1, Or.inr (Or.inl rfl)⟩
  · obtain ⟨m, g, _, h1, _⟩ := h.sbS
    exact ⟨_, h1, Or.inl rfl⟩
  · exact ⟨_, h.caS, Or.inr rfl⟩
  · obtain ⟨c, fs, h1, h2⟩ := h.tmS.no hz
    exact ⟨_, h1, by rcases h2 with h2 | h2 | h2 | h2 <;> rw [h2] <;> simp [X1o]⟩
theorem SPx.lt (h : SPx E st a sb v N tm n nd ka va mc x ca fc t ws cs) (hw : g_Wf st) {z : Nat} (hz : SD a sb v tm n nd x ca z) : z < st.2.2 := by
  obtain ⟨o, h1, _⟩ := h.kd hz
  exact (hw.2 z o h1).2
theorem SPx.fr (h : SPx E st a sb v N tm n nd ka va mc x ca fc t ws cs) (hx : g_Ext st st') (hh : ∀ z, SD a sb v tm n nd x ca z → st'.2.1 z = st.2.1 z) : SPx E st' a sb v N tm n nd ka va mc x ca fc t ws cs := by
  obtain ⟨h1, h2, h3, h4, h5, h6, h7, h8, h9, h10, h11⟩ := h
  refine ⟨(hh a (Or.inl rfl)).trans h1, h2.fr (hh sb (Or.inr (Or.inl rfl))) (hh v (Or.inr (Or.inr (Or.inl rfl)))), h3, h4.fr hx.2.1 (fun z hz => hh z (Or.inr (Or.inr (Or.inr (Or.inr hz))))), (hh ca (Or.inr (Or.inr (Or.inr (Or.inl rfl))))).trans h5, fun j hj => ?_, h7, h8, h9, h10.ext hx, h11.ext hx⟩
  obtain ⟨q, e1, e2⟩ := h6 j hj
  exact ⟨q, e1, e2.ext hx⟩
theorem SPx.sm (h : SPx E st a sb v N tm n nd ka va mc x ca fc t ws cs) (hb : ∀ z, SD a sb v tm n nd x ca z → z < b) (hs : Sm st st') (hbs : b ≤ st.2.2) : SPx E st' a sb v N tm n nd ka va mc x ca fc t ws cs := h.fr hs.1 fun z hz => hs.2 z (Nat.lt_of_lt_of_le (hb z hz) hbs)
theorem SPx.nsb (h : SPx E st a sb v N tm n nd ka va mc x ca fc t ws cs) : a ≠ sb ∧ a ≠ v ∧ ca ≠ sb ∧ ca ≠ v ∧ a ≠ ca ∧ ¬ CX tm n nd x sb ∧ ¬ CX tm n nd x v ∧ ¬ CX tm n nd x a ∧ ¬ CX tm n nd x ca := by
  obtain ⟨m, g, h1, h2, _⟩ := h.sbS
  have h0 := h.1
  have h3 := h.caS
  refine ⟨?_, ?_, ?_, ?_, ?_, h.tmS.nc h1 ⟨by decide, by decide, by decide, by decide⟩, h.tmS.na h2, h.tmS.nc h0 ⟨by decide, by decide, by decide, by decide⟩, h.tmS.na h3⟩
  · rintro rfl
    rw [h1] at h0
    injection h0 with h0
    injection h0 with h0
    injection h0 with h0
    exact absurd h0 (by decide)
  · rintro rfl
    rw [h2] at h0
    injection h0 with h0
    cases h0
  · rintro rfl
    rw [h1] at h3
    injection h3 with h3
    cases h3
  · rintro rfl
    rw [h2] at h3
    injection h3 with h3
    injection h3 with h3
    injection h3 with h3
    exact absurd h3 (by decide)
  · rintro rfl
    rw [h3] at h0
    injection h0 with h0
    cases h0
/-- the text has changed -/
theorem SPx.txt {t' : List Nat} {v' N' : Nat} (h : SPx E st a sb v N tm n nd ka va mc x ca fc t ws cs) (hw : g_Wf st) (hS : SB st'.2.1 sb t' v' N') (hN : N' = 16 ∨ N' = 34) (hT : okT t') (hs : Se (fun z => z = sb ∨ z = v) st st') : SPx E st' a sb v' N' tm n nd ka va mc x ca fc t' ws cs := by
  obtain ⟨n1, n2, n3, n4, n5, n6, n7, n8, n9⟩ := h.nsb
  have lt := fun z hz => h.lt hw (z := z) hz
  obtain ⟨h1, h2, h3, h4, h5, h6, h7, h8, h9, h10, h11⟩ := h
  have hx := hs.1
  refine ⟨(hs.2 a (lt a (Or.inl rfl)) (fun w => w.elim n1 n2)).trans h1, hS, hN, h4.fr hx.2.1 (fun z hz => hs.2 z (lt z (Or.inr (Or.inr (Or.inr (Or.inr hz))))) (fun w => w.elim (fun e => n6 (e ▸ hz)) (fun e => n7 (e ▸ hz)))), (hs.2 ca (lt ca (Or.inr (Or.inr (Or.inr (Or.inl rfl))))) (fun w => w.elim n3 n4)).trans h5, fun j hj => ?_, hT, h8, h9, h10.ext hx, h11.ext hx⟩
  obtain ⟨q, e1, e2⟩ := h6 j hj
  exact ⟨q, e1, e2.ext hx⟩
theorem SPx.sy (h : SPx E st a sb v N tm n nd ka va mc x ca fc t ws cs) {D : Nat → Prop} (hs : Se D st st') (hb : b ≤ st.2.2) (hD : ∀ z, D z → SD a sb v tm n nd x ca z) : Sy b st st' := hs.sy hb fun z hz _ => h.kd (hD z hz)
/-- what a call comes to -/
def xq (E : g_E) (st : g_St) (a : Nat) (Q : Int32 → g_St → Prop) (X : String → g_St → Prop) (nm : List String) (r : sR) : Prop := ∀ st', SP E st' a r.2.2.1 r.2.2.2.1 r.2.2.2.2 → Sy st.2.2 st st' → (if r.1 = 0 then Q r.2.1 st' else X (nm.getD (r.1 - 1) "") st')
theorem SPx.len (h : SPx E st a sb v N tm n nd ka va mc x ca fc t ws cs) {G : Int32 → g_St → Prop} (hq : G (nI t.length) st) : wp_J1_length l E 0 0 [va_rf (some sb)] st G := ct_J1_length h.sbS hq
theorem SPx.sbi (h : SPx E st a sb v N tm n nd ka va mc x ca fc t ws cs) : g_is st sb 0 := h.sbS.is
theorem grow_ok {m N' : Nat} (hN : N = 16 ∨ N = 34) (hm : m ≤ 24) (e : N' = if N < m then nwN N m else N) : N' = 16 ∨ N' = 34 := by
  rw [e]
  split
  · unfold nwN
    split <;> omega
  · exact hN
theorem grow_sb {m : Nat} (hN : N = 16 ∨ N = 34) (hm : m ≤ 24) (h : N < m) : nwN N m ≤ 34 := by
  unfold nwN
  split <;> omega
theorem ct_xisSign {c : Nat} (hc : c < 65536) (hq : Q (tv (97 ≤ c ∧ c ≤ 102)) st) : wp_X1_isSign l E 0 0 [.int (nI c)] st Q := by
  refine wk_X1_isSign ?_
  refine g_jn1_i (fun y => y = tv (97 ≤ c ∧ c ≤ 102)) (fun y e => by rw [e]; exact ⟨tv_nar, hq⟩) fun K hK => ?_
  by_cases z : 97 ≤ c ∧ c ≤ 102
  · show _ ∧ _
    exact b_lt (by omega) (by omega) (fun w => by omega) fun _ => b_le (by omega) (by omega) (fun w => by omega) fun _ => hK _ (tv_1 z).symm
  · refine g_jn0_i (hK _ (tv_0 z).symm) fun K4 hK4 => b_lt (by omega) (by omega) (fun _ => hK4) fun w => b_le (by omega) (by omega) (fun _ => hK4) fun w2 => absurd ⟨w, by omega⟩ z
abbrev nIA : String := "java/lang/IllegalArgumentException"
abbrev nIS : String := "java/lang/IllegalStateException"
abbrev nIO : String := "java/lang/IndexOutOfBoundsException"
abbrev nNS : String := "java/util/NoSuchElementException"
abbrev nUO : String := "java/lang/UnsupportedOperationException"
theorem ct_xtype {c cb sb' : Nat} (hl : l.stackTraces = false) (h : SP E st a t ws cs) (hc : c < 65536) (hcb : 100 ≤ cb) (hsb : 1000 ≤ sb') (hq : xq E st a Q X [nIA, nIS] (sp_type c t ws cs)) : wpx_X1_type l E cb sb' [va_rf (some a), .int (nI c)] st Q X := by
  refine g_WPX.wf fun hw => ?_
  obtain ⟨sb, v, N, tm, n, nd, ka, va, mc, x, ca, fc, h⟩ := h
  have hT := h.T
  have hT1 := hT.1
  have hN := h.N34
  unfold sp_type at hq
  refine wkx_X1_type hl (ct_xisSign hc ⟨rfl, ?_⟩)
  refine b_vt (fun z => ⟨_, h.sbt, _, rfl, h.sbi, h.len ⟨rfl, ?_⟩⟩) fun z => ?_
  · rw [if_neg (fun w => w z)] at hq
    refine b_ne (by omega) (by omega) (fun y => ?_) fun y => ?_
    · rw [if_pos y] at hq
      exact ⟨by omega, by omega, hq st h.sp Sy.rf⟩
    · rw [if_neg y] at hq
      refine ⟨_, h.sbt, _, rfl, 1, 34, by omega, by omega, h.sbi, ct_appendC h.sbS (by omega) (by omega) (fun _ => Nat.le_refl _) (fun w => grow_sb hN (by omega) w) fun s1 v1 N1 hS e1 _ hs _ _ => ?_⟩
      have hlen : (t ++ [c]).length = t.length + 1 := by rw [List.length_append]; rfl
      have h1 := h.txt hw hS (grow_ok hN (by omega) e1) ⟨by rw [hlen]; omega, hT.2.app (sgs.one z)⟩ hs
      refine ⟨_, h1.sbt, _, rfl, h1.sbi, h1.len ⟨rfl, ?_⟩⟩
      rw [hlen]
      exact hq s1 h1.sp (h.sy hs (Nat.le_refl _) fun z hz => hz.elim (fun e => Or.inr (Or.inl e)) fun e => Or.inr (Or.inr (Or.inl e)))
  · rw [if_pos z] at hq
    exact ⟨by omega, by omega, hq st h.sp Sy.rf⟩
end GXS1
