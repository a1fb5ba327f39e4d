/-! TREE 11: key sets, entry sets, their iterators -/
section GT11
variable {l : Launch} {E : g_E} {st0 st : g_St} {tm n : Nat} {nd ka va : Nat → Nat} {L R P : Nat → Option Nat} {co : Nat → Int32} {rt : Option Nat} {sz mc : Int32} {lo hi : Nat → Nat} {x : tX} {ws : wL} {t : List Nat}
theorem g_Rd.mv {st st' : g_St} {a : Nat} {o : g_Ob} (h : g_Rd st a o) (e : st'.2.1 a = st.2.1 a) (ef : st'.1 = st.1) : g_Rd st' a o := by
  rcases h with h | h
  · exact Or.inl (e.trans h)
  · exact Or.inr (by rw [ef]; exact h)
theorem g_gi.mv {st st' : g_St} {a c k : Nat} {y : Int32} (h : g_gi st a c k y) (e : st'.2.1 a = st.2.1 a) (ef : st'.1 = st.1) : g_gi st' a c k y := by
  obtain ⟨fs, h1, h2⟩ := h
  exact ⟨fs, h1.mv e ef, h2⟩
theorem g_gr.mv {st st' : g_St} {a c k : Nat} {y : Option Nat} (h : g_gr st a c k y) (e : st'.2.1 a = st.2.1 a) (ef : st'.1 = st.1) : g_gr st' a c k y := by
  obtain ⟨fs, h1, h2⟩ := h
  exact ⟨fs, h1.mv e ef, h2⟩
theorem g_is.mv {st st' : g_St} {a c : Nat} (h : g_is st a c) (e : st'.2.1 a = st.2.1 a) (ef : st'.1 = st.1) : g_is st' a c := by
  obtain ⟨fs, h1⟩ := h
  exact ⟨fs, h1.mv e ef⟩
theorem TMx.no (h : TMx st tm n nd ka va mc x ws) {a : Nat} (ha : CX tm n nd x a) : ∃ (c : Nat) (fs : List Value), st.2.1 a = some (.inr (c, fs)) ∧ (c = 3 ∨ c = 4 ∨ c = 8 ∨ c = 14) := by
  obtain ⟨L, R, P, co, rt, lo, hi, hT, hS, hB, hn, hn2, hK, hV, hs, hv1, hv2⟩ := h
  rcases ha with (rfl | ⟨i, hi, rfl⟩) | ha | ha
  · exact ⟨_, _, hT.2.1, Or.inl rfl⟩
  · exact ⟨_, _, hT.2.2.1 i hi, Or.inr (Or.inl rfl)⟩
  · exact ⟨_, _, hv1 a ha, Or.inr (Or.inr (Or.inr rfl))⟩
  · exact ⟨_, _, hv2 a ha, Or.inr (Or.inr (Or.inl rfl))⟩
theorem TMx.nc (h : TMx st tm n nd ka va mc x ws) {a c : Nat} {fs : List Value} (ha : st.2.1 a = some (.inr (c, fs))) (hc : c ≠ 3 ∧ c ≠ 4 ∧ c ≠ 8 ∧ c ≠ 14) : ¬ CX tm n nd x a := by
  intro z
  obtain ⟨c', fs', h1, h2⟩ := h.no z
  rw [h1] at ha
  simp only [Option.some.injEq, Sum.inr.injEq, Prod.mk.injEq] at ha
  omega
theorem TMx.na (h : TMx st tm n nd ka va mc x ws) {a : Nat} {o : Nat × vp_A} (ha : st.2.1 a = some (.inl o)) : ¬ CX tm n nd x a := by
  intro z
  obtain ⟨c', fs', h1, h2⟩ := h.no z
  rw [h1] at ha
  cases ha
/-- the map's object gets a view -/
theorem TMx.ofView {st' : g_St} {x' : tX} (h : TMx st tm n nd ka va mc x ws) (hf : st'.1 = st.1) (ht : ∀ (rt : Option Nat), st.2.1 tm = some (tM nd rt (nI n) mc x) → st'.2.1 tm = some (tM nd rt (nI n) mc x')) (hh : ∀ a, a ≠ tm → CX tm n nd x a → st'.2.1 a = st.2.1 a) (h1 : ∀ a, x'.2.2.1 = some a → x.2.2.1 = some a ∨ st'.2.1 a = some (.inr (14, [va_rf (some tm)]))) (h2 : ∀ a, x'.2.2.2.1 = some a → x.2.2.2.1 = some a ∨ st'.2.1 a = some (.inr (8, [va_rf (some tm)]))) : TMx st' tm n nd ka va mc x' ws := by
  have h0 := h
  obtain ⟨L, R, P, co, rt, lo, hi, hT, hS, hB, hn, hn2, hK, hV, hs, hv1, hv2⟩ := h
  have hnt : ∀ a, (x.2.2.1 = some a ∨ x.2.2.2.1 = some a) → a ≠ tm := fun a ha e => by
    rcases ha with ha | ha
    · exact hT.vw (hv1 a ha) (by decide) (Or.inl e)
    · exact hT.vw (hv2 a ha) (by decide) (Or.inl e)
  refine ⟨L, R, P, co, rt, lo, hi, ⟨Sx.rf, ht rt hT.2.1, fun i hi => ?_, hT.2.2.2⟩, hS, hB, hn, hn2, by rw [hf]; exact hK, by rw [hf]; exact hV, hs, fun a ha => ?_, fun a ha => ?_⟩
  · rw [hh _ (hT.ne hi) (Or.inl (Or.inr ⟨i, hi, rfl⟩))]
    exact hT.2.2.1 i hi
  · rcases h1 a ha with e | e
    · rw [hh a (hnt a (Or.inl e)) (Or.inr (Or.inl e))]
      exact hv1 a e
    · exact e
  · rcases h2 a ha with e | e
    · rw [hh a (hnt a (Or.inr e)) (Or.inr (Or.inr e))]
      exact hv2 a e
    · exact e
theorem ct_keySet {cb sb : Nat} {Q : Option Nat → g_St → Prop} (h : TMx st tm n nd ka va mc x ws) (hcb : 1 ≤ cb) (hsb : 1 ≤ sb)
    (hq : ∀ (q : Nat) (st' : g_St) (x' : tX), TMx st' tm n nd ka va mc x' ws → st'.2.1 q = some (.inr (8, [va_rf (some tm)])) → st'.1 = st.1 → Se (fun z => z = tm) st st' → (∀ z, CX tm n nd x' z → CX tm n nd x z ∨ st.2.2 ≤ z) → Q (some q) st') : wp_J5_keySet l E cb sb [va_rf (some tm)] st Q := by
  refine g_WPa.wf fun hw => ?_
  have h0 := h
  obtain ⟨L, R, P, co, rt, lo, hi, hT, hS, hB, hn, hn2, hK, hV, hs, hv1, hv2⟩ := h
  have hlt := (hw.2 _ _ hT.2.1).2
  refine wk_J5_keySet ⟨cb, sb, Nat.le_refl _, Nat.le_refl _, hT.gI, wk_J5_navigableKeySet ⟨x.2.2.2.1, ⟨_, Or.inl hT.2.1, rfl⟩, ?_⟩⟩
  show _ ∧ _
  refine ⟨fun e => ⟨hcb, hsb, fun q10 st11 e1 e2 => ?_⟩, fun a e _ => hq a st x h0 (hv2 a e) rfl Se.rf (fun z hz => Or.inl hz)⟩
  subst e2
  have htq : tm ≠ q10 := by omega
  refine wk_J36_init (wk_J31_init_J36 (wk_J30_init_J36 ⟨rfl, rfl, pu (by rw [e1]; exact g_upd_s) fun s1 h1 hx1 => ?_⟩))
  have ht1 : s1.2.1 tm = st.2.1 tm := by
    rw [h1.2.2.2.1 _ htq]
    exact g_upd_n (by omega)
  refine pu (fs := [x.1, x.2.1, va_rf none, va_rf (rt.map nd), .int (nI n), .int mc, va_rf x.2.2.1, va_rf x.2.2.2.1, x.2.2.2.2]) (by rw [ht1, hT.2.1]; rfl) fun s2 h2 hx2 => ?_
  have hx : g_Ext st s2 := (g_Ext.new g_Ext.rf).tr (h1.2.2.2.2.tr h2.2.2.2.2)
  have hold : ∀ a, a < st.2.2 → a ≠ tm → s2.2.1 a = st.2.1 a := fun a ha hne => by
    rw [h2.2.2.2.1 a hne, h1.2.2.2.1 a (by omega)]
    exact g_upd_n (by omega)
  have hq10 : s2.2.1 q10 = some (.inr (8, [va_rf (some tm)])) := by
    rw [h2.2.2.2.1 _ (Ne.symm htq)]
    exact h1.nx
  refine hq q10 s2 (x.1, x.2.1, x.2.2.1, some q10, x.2.2.2.2) (h0.ofView (by rw [h2.1, h1.1]; rfl) (fun rt' e => ?_) (fun a ha hc => hold a (h0.lt hw hc) ha) (fun a ha => Or.inl ha) (fun a ha => ?_)) hq10 (by rw [h2.1, h1.1]; rfl) ⟨hx, fun a ha hne => hold a ha hne⟩ ?_
  · rw [hT.2.1] at e
    unfold tM at e
    simp only [Option.some.injEq, Sum.inr.injEq, Prod.mk.injEq, List.cons.injEq, true_and] at e
    rw [h2.nx]
    unfold tM
    rw [← e.1]
    rfl
  · cases ha
    exact Or.inr hq10
  · rintro z (hz | hz | hz)
    · exact Or.inl (Or.inl hz)
    · exact Or.inl (Or.inr (Or.inl hz))
    · cases hz
      exact Or.inr (by omega)
theorem ct_entrySet {cb sb : Nat} {Q : Option Nat → g_St → Prop} (h : TMx st tm n nd ka va mc x ws) (hcb : 1 ≤ cb) (hsb : 1 ≤ sb)
    (hq : ∀ (q : Nat) (st' : g_St) (x' : tX), TMx st' tm n nd ka va mc x' ws → st'.2.1 q = some (.inr (14, [va_rf (some tm)])) → st'.1 = st.1 → Se (fun z => z = tm) st st' → (∀ z, CX tm n nd x' z → CX tm n nd x z ∨ st.2.2 ≤ z) → Q (some q) st') : wp_J5_entrySet l E cb sb [va_rf (some tm)] st Q := by
  refine g_WPa.wf fun hw => ?_
  have h0 := h
  obtain ⟨L, R, P, co, rt, lo, hi, hT, hS, hB, hn, hn2, hK, hV, hs, hv1, hv2⟩ := h
  have hlt := (hw.2 _ _ hT.2.1).2
  refine wk_J5_entrySet ⟨x.2.2.1, ⟨_, Or.inl hT.2.1, rfl⟩, ?_⟩
  show _ ∧ _
  refine ⟨fun e => ⟨hcb, hsb, fun q10 st11 e1 e2 => ?_⟩, fun a e => hq a st x h0 (hv1 a e) rfl Se.rf (fun z hz => Or.inl hz)⟩
  subst e2
  have htq : tm ≠ q10 := by omega
  refine wk_J45_init (pu (by rw [e1]; exact g_upd_s) fun s1 h1 => wk_J31_init_J45 (wk_J30_init_J45 ⟨rfl, rfl, fun hx1 => ?_⟩))
  have ht1 : s1.2.1 tm = st.2.1 tm := by
    rw [h1.2.2.2.1 _ htq]
    exact g_upd_n (by omega)
  refine pu (fs := [x.1, x.2.1, va_rf none, va_rf (rt.map nd), .int (nI n), .int mc, va_rf x.2.2.1, va_rf x.2.2.2.1, x.2.2.2.2]) (by rw [ht1, hT.2.1]; rfl) fun s2 h2 => ?_
  have hx : g_Ext st s2 := (g_Ext.new g_Ext.rf).tr (h1.2.2.2.2.tr h2.2.2.2.2)
  have hold : ∀ a, a < st.2.2 → a ≠ tm → s2.2.1 a = st.2.1 a := fun a ha hne => by
    rw [h2.2.2.2.1 a hne, h1.2.2.2.1 a (by omega)]
    exact g_upd_n (by omega)
  have hq10 : s2.2.1 q10 = some (.inr (14, [va_rf (some tm)])) := by
    rw [h2.2.2.2.1 _ (Ne.symm htq)]
    exact h1.nx
  refine hq q10 s2 (x.1, x.2.1, some q10, x.2.2.2.1, x.2.2.2.2) (h0.ofView (by rw [h2.1, h1.1]; rfl) (fun rt' e => ?_) (fun a ha hc => hold a (h0.lt hw hc) ha) (fun a ha => ?_) (fun a ha => Or.inl ha)) hq10 (by rw [h2.1, h1.1]; rfl) ⟨hx, fun a ha hne => hold a ha hne⟩ ?_
  · rw [hT.2.1] at e
    unfold tM at e
    simp only [Option.some.injEq, Sum.inr.injEq, Prod.mk.injEq, List.cons.injEq, true_and] at e
    rw [h2.nx]
    unfold tM
    rw [← e.1]
    rfl
  · cases ha
    exact Or.inr hq10
  · rintro z (hz | hz | hz)
    · exact Or.inl (Or.inl hz)
    · cases hz
      exact Or.inr (by omega)
    · exact Or.inl (Or.inr (Or.inr hz))
/-- an iterator (of class c, 9 or 10) that stands before the node i -/
def IT (st : g_St) (c it tm n : Nat) (nd : Nat → Nat) (mc : Int32) (i : Nat) : Prop := ∃ last : Option Nat, st.2.1 it = some (.inr (c, [va_rf (tnx n nd i), va_rf last, .int mc, va_rf (some tm)]))
theorem ct_keyIter {q cb sb : Nat} {Q : Option Nat → g_St → Prop} (h : TMx st tm n nd ka va mc x ws) (hv : st.2.1 q = some (.inr (8, [va_rf (some tm)]))) (hcb : 1 ≤ cb) (hsb : 4 ≤ sb)
    (hq : ∀ st' : g_St, IT st' 10 st.2.2 tm n nd mc 0 → Sm st st' → st'.1 = st.1 → st'.2.2 = st.2.2 + 1 → Q (some st.2.2) st') : wp_J36_iterator l E cb sb [va_rf (some q)] st Q := by
  refine g_WPa.wf fun hw => ?_
  have h0 := h
  obtain ⟨L, R, P, co, rt, lo, hi, hT, hS, hB, hn, hn2, hK, hV, hs, hv1, hv2⟩ := h
  have hlt := (hw.2 _ _ hT.2.1).2
  refine wk_J36_iterator ⟨_, ⟨_, Or.inl hv, rfl⟩, tm, rfl, hT.gI, _, ⟨_, Or.inl hv, rfl⟩, fun a e => by cases e; exact hT.gI, tm, rfl, cb, sb, Nat.le_refl _, Nat.le_refl _, hT.gI, wk_J5_keyIterator ⟨hcb, hsb, fun q1 st2 e1 e2 => ?_⟩⟩
  have hold : ∀ a, a < st.2.2 → st2.2.1 a = st.2.1 a := fun a ha => by
    rw [e2]; exact g_upd_n (by omega)
  have h2 : TMx st2 tm n nd ka va mc x ws := h0.fr (fun q o hq => by rw [e2]; exact hq) fun a ha => hold a (h0.lt hw ha)
  obtain ⟨L2, R2, P2, co2, rt2, lo2, hi2, hT2, hS2, -⟩ := h2
  have hq1 : st2.2.1 q1 = some (.inr (10, [va_rf none, va_rf none, .int 0, va_rf none])) := by
    rw [e1, e2]; exact g_upd_s
  refine ⟨hT2.gI, ct_first hT2 hS2 ⟨rfl, wk_J39_init (wk_J37_init_J39 (pu hq1 fun s1 h1 => ⟨tm, rfl, mc, hT2.gD.mv (h1.2.2.2.1 tm (by omega)) h1.1, pu h1.nx fun s2 h2 => pu h2.nx fun s3 h3 => pu h3.nx fun s4 h4 => ?_⟩))⟩⟩
  · have hp := ((h1.tr h2).tr h3).tr h4
    intro _ _ _
    rw [e1]
    refine hq s4 ⟨none, by rw [← e1]; exact hp.nx⟩ ⟨(by rw [e2] at hp; exact (g_Ext.new g_Ext.rf).tr hp.2.2.2.2), fun a ha => ?_⟩ (by rw [hp.1, e2]; rfl) (by rw [hp.2.1, e2]; rfl)
    rw [hp.2.2.2.1 a (by omega)]
    exact hold a ha
theorem ct_entryIter {q cb sb : Nat} {Q : Option Nat → g_St → Prop} (h : TMx st tm n nd ka va mc x ws) (hv : st.2.1 q = some (.inr (14, [va_rf (some tm)]))) (hcb : 1 ≤ cb) (hsb : 4 ≤ sb)
    (hq : ∀ st' : g_St, IT st' 9 st.2.2 tm n nd mc 0 → Sm st st' → st'.1 = st.1 → st'.2.2 = st.2.2 + 1 → Q (some st.2.2) st') : wp_J45_iterator l E cb sb [va_rf (some q)] st Q := by
  refine g_WPa.wf fun hw => ?_
  have h0 := h
  obtain ⟨L, R, P, co, rt, lo, hi, hT, hS, hB, hn, hn2, hK, hV, hs, hv1, hv2⟩ := h
  have hlt := (hw.2 _ _ hT.2.1).2
  have hql := (hw.2 _ _ hv).2
  refine wk_J45_iterator ⟨hcb, hsb, fun q1 st2 e1 e2 => ?_⟩
  have hold : ∀ a, a < st.2.2 → st2.2.1 a = st.2.1 a := fun a ha => by
    rw [e2]; exact g_upd_n (by omega)
  have h2 : TMx st2 tm n nd ka va mc x ws := h0.fr (fun q o hq => by rw [e2]; exact hq) fun a ha => hold a (h0.lt hw ha)
  obtain ⟨L2, R2, P2, co2, rt2, lo2, hi2, hT2, hS2, -⟩ := h2
  have hv2 : st2.2.1 q = some (.inr (14, [va_rf (some tm)])) := (hold q hql).trans hv
  have hq1 : st2.2.1 q1 = some (.inr (9, [va_rf none, va_rf none, .int 0, va_rf none])) := by
    rw [e1, e2]; exact g_upd_s
  refine ⟨_, ⟨_, Or.inl hv2, rfl⟩, _, ⟨_, Or.inl hv2, rfl⟩, tm, rfl, hT2.gI, ct_first hT2 hS2 ⟨rfl, wk_J38_init (wk_J37_init_J38 (pu hq1 fun s1 h1 => ⟨tm, rfl, mc, hT2.gD.mv (h1.2.2.2.1 tm (by omega)) h1.1, pu h1.nx fun s2 h2 => pu h2.nx fun s3 h3 => pu h3.nx fun s4 h4 => ?_⟩))⟩⟩
  · have hp := ((h1.tr h2).tr h3).tr h4
    intro _ _
    rw [e1]
    refine hq s4 ⟨none, by rw [← e1]; exact hp.nx⟩ ⟨(by rw [e2] at hp; exact (g_Ext.new g_Ext.rf).tr hp.2.2.2.2), fun a ha => ?_⟩ (by rw [hp.1, e2]; rfl) (by rw [hp.2.1, e2]; rfl)
    rw [hp.2.2.2.1 a (by omega)]
    exact hold a ha
theorem ct_hasNextK {it i : Nat} {Q : Int32 → g_St → Prop} (hi : IT st 10 it tm n nd mc i) (hq : Q (if i < n then nI 1 else nI 0) st) : wp_J37_hasNext_J39 l E 0 0 [va_rf (some it)] st Q := by
  obtain ⟨last, hi⟩ := hi
  refine wk_J37_hasNext_J39 ⟨_, ⟨_, Or.inl hi, rfl⟩, ?_⟩
  show _ ∧ _
  unfold tnx
  by_cases z : i < n
  · rw [if_pos z] at hq ⊢
    exact ⟨fun e => (by cases e), fun a e => ⟨rfl, hq⟩⟩
  · rw [if_neg z] at hq ⊢
    exact ⟨fun e => ⟨rfl, hq⟩, fun a e => (by cases e)⟩
theorem ct_hasNextE {it i : Nat} {Q : Int32 → g_St → Prop} (hi : IT st 9 it tm n nd mc i) (hq : Q (if i < n then nI 1 else nI 0) st) : wp_J37_hasNext_J38 l E 0 0 [va_rf (some it)] st Q := by
  obtain ⟨last, hi⟩ := hi
  refine wk_J37_hasNext_J38 ⟨_, ⟨_, Or.inl hi, rfl⟩, ?_⟩
  show _ ∧ _
  unfold tnx
  by_cases z : i < n
  · rw [if_pos z] at hq ⊢
    exact ⟨fun e => (by cases e), fun a e => ⟨rfl, hq⟩⟩
  · rw [if_neg z] at hq ⊢
    exact ⟨fun e => ⟨rfl, hq⟩, fun a e => (by cases e)⟩
theorem ct_nextK {it i : Nat} {Q : Option Nat → g_St → Prop} (h : TMx st tm n nd ka va mc x ws) (hi : IT st 10 it tm n nd mc i) (hin : i < n)
    (hq : ∀ st' : g_St, IT st' 10 it tm n nd mc (i + 1) → Sx (fun z => z = it) st st' → Q (some (ka i)) st') : wp_J39_next l E 0 0 [va_rf (some it)] st Q := by
  have h0 := h
  obtain ⟨last, hi⟩ := hi
  obtain ⟨L, R, P, co, rt, lo, hi', hT, hS, hB, hn, hn2, hK, hV, hs, hv1, hv2⟩ := h
  have e0 : tnx n nd i = some (nd i) := by unfold tnx; rw [if_pos hin]
  rw [e0] at hi
  refine wk_J39_next ⟨⟨_, Or.inl hi⟩, wk_J37_nextEntry_J39 ⟨_, ⟨_, Or.inl hi, rfl⟩, fun e => (by cases e), fun a3 e => ?_⟩⟩
  cases e
  refine ⟨_, ⟨_, Or.inl hi, rfl⟩, tm, rfl, _, hT.gD, _, ⟨_, Or.inl hi, rfl⟩, fun _ => ct_succ hT hS hin ⟨rfl, pu hi fun s1 h1 => pu h1.nx fun s2 h2 _ => ⟨_, rfl, _, (hT.gK hin).mv ((h1.tr h2).2.2.2.1 _ (fun e => h0.nc hi (by decide) (Or.inl (Or.inr ⟨i, hin, e.symm⟩)))) (h1.tr h2).1, hq s2 ⟨_, h2.nx⟩ (h1.tr h2).sx⟩⟩, fun z => absurd rfl z⟩
theorem ct_nextE {it i : Nat} {Q : Option Nat → g_St → Prop} (h : TMx st tm n nd ka va mc x ws) (hi : IT st 9 it tm n nd mc i) (hin : i < n)
    (hq : ∀ st' : g_St, IT st' 9 it tm n nd mc (i + 1) → Sx (fun z => z = it) st st' → Q (some (nd i)) st') : wp_J38_next l E 0 0 [va_rf (some it)] st Q := by
  obtain ⟨last, hi⟩ := hi
  obtain ⟨L, R, P, co, rt, lo, hi', hT, hS, hB, hn, hn2, hK, hV, hs, hv1, hv2⟩ := h
  have e0 : tnx n nd i = some (nd i) := by unfold tnx; rw [if_pos hin]
  rw [e0] at hi
  refine wk_J38_next ⟨⟨_, Or.inl hi⟩, wk_J38_next_2 ⟨⟨_, Or.inl hi⟩, wk_J37_nextEntry_J38 ⟨_, ⟨_, Or.inl hi, rfl⟩, fun e => (by cases e), fun a3 e => ?_⟩⟩⟩
  cases e
  exact ⟨_, ⟨_, Or.inl hi, rfl⟩, tm, rfl, _, hT.gD, _, ⟨_, Or.inl hi, rfl⟩, fun _ => ct_succ hT hS hin ⟨rfl, pu hi fun s1 h1 => pu h1.nx fun s2 h2 _ _ => hq s2 ⟨_, h2.nx⟩ (h1.tr h2).sx⟩, fun z => absurd rfl z⟩
theorem ct_eKey {i : Nat} {Q : Option Nat → g_St → Prop} (h : TMx st tm n nd ka va mc x ws) (hin : i < n) (hq : Q (some (ka i)) st) : wp_J27_getKey l E 0 0 [va_rf (some (nd i))] st Q := by
  obtain ⟨L, R, P, co, rt, lo, hi', hT, hS, -⟩ := h
  exact wk_J27_getKey ⟨_, hT.gK hin, hq⟩
theorem ct_eVal {i : Nat} {Q : Option Nat → g_St → Prop} (h : TMx st tm n nd ka va mc x ws) (hin : i < n) (hq : Q (some (va i)) st) : wp_J27_getValue l E 0 0 [va_rf (some (nd i))] st Q := by
  obtain ⟨L, R, P, co, rt, lo, hi', hT, hS, -⟩ := h
  exact wk_J27_getValue ⟨_, hT.gV hin, hq⟩
theorem TMx.isN (h : TMx st tm n nd ka va mc x ws) {i : Nat} (hin : i < n) : g_is st (nd i) 4 := by
  obtain ⟨L, R, P, co, rt, lo, hi', hT, hS, -⟩ := h
  exact hT.gN hin
end GT11
