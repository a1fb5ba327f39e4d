/-! TREE 12: submaps -/
section GT12
variable {l : Launch} {E : g_E} {st0 st : g_St} {tm n : Nat} {nd ka va : Nat → Nat} {L R P : Nat → Option Nat} {co : Nat → Int32} {rt : Option Nat} {sz mc : Int32} {lo hi : Nat → Nat} {x : tX} {ws : wL} {t u : List Nat}
theorem Str.inj {f : g_H} {a : Nat} (h : Str f a t) (h' : Str f a u) : t = u := by
  obtain ⟨v, g, _, _, k1, k2, k3, k4, -⟩ := h
  obtain ⟨v', g', _, _, k1', k2', k3', k4', -⟩ := h'
  have e1 := k1.symm.trans k1'
  simp [va_rf] at e1
  obtain ⟨rfl, -⟩ := e1
  have e2 := k2.symm.trans k2'
  simp at e2
  obtain ⟨hl, rfl⟩ := e2
  refine List.ext_getElem hl fun i q1 q2 => ?_
  have q3 := (k3 i q1).symm.trans (k3' i q2)
  have q4 := g_mem (j := i) k4
  have q5 := g_mem (j := i) k4'
  rw [nI_eq (by omega) (by omega), List.getD_eq_getElem?_getD, List.getD_eq_getElem?_getD, List.getElem?_eq_getElem q1, List.getElem?_eq_getElem q2] at q3
  exact q3
/-- the object UNBOUNDED: no String -/
def Unb (E : g_E) (st : g_St) : Prop := ∃ b : Nat, E.2.2.2.2.1 4 = some b ∧ b < st.2.2 ∧ st.1 b = none ∧ st.2.1 b = none
theorem Unb.ext {st' : g_St} (h : Unb E st) (hx : g_Ext st st') : Unb E st' := by
  obtain ⟨b, h1, h2, h3, h4⟩ := h
  exact ⟨b, h1, Nat.lt_of_lt_of_le h2 hx.1, hx.2.2.2 b h2 h4 h3, hx.2.2.1 b h2 h4⟩
/-- a submap's object -/
def SUB (h : g_H) (s tm : Nat) (lo hi : Option Nat) (fs : Int32) (e8 e11 : Option Nat) : Prop := h s = some (.inr (5, [va_rf (some tm), va_rf lo, va_rf hi, .int fs, .int (nI 0), .int (nI 1), .int (nI 0), va_rf none, va_rf e8, va_rf none, va_rf none, va_rf e11]))
/-- the range of its nodes: from c1 on, below c2 -/
def RNG (f : g_H) (ws : wL) (lo hi : Option Nat) (fs : Int32) (c1 c2 : Nat) : Prop := (fs = nI 1 ∧ c1 = 0 ∨ fs = nI 0 ∧ ∃ (a : Nat) (t : List Nat), lo = some a ∧ Str f a t ∧ t.length < 128 ∧ c1 = cL ws t) ∧ (∃ (b : Nat) (u : List Nat), hi = some b ∧ Str f b u ∧ u.length < 128 ∧ c2 = cL ws u) ∧ c1 ≤ c2
theorem RNG.mono {f f' : g_H} {lo hi : Option Nat} {fs : Int32} {c1 c2 : Nat} (h : RNG f ws lo hi fs c1 c2) (hf : ∀ (q : Nat) (o : g_Ob), f q = some o → f' q = some o) : RNG f' ws lo hi fs c1 c2 := by
  obtain ⟨h1, ⟨b, u, e1, e2, e3, e4⟩, h2⟩ := h
  refine ⟨?_, ⟨b, u, e1, e2.mono hf, e3, e4⟩, h2⟩
  rcases h1 with h1 | ⟨h1, a, t, k1, k2, k3⟩
  · exact Or.inl h1
  · exact Or.inr ⟨h1, a, t, k1, k2.mono hf, k3⟩
theorem cL_le {ws : wL} (hs : Sd ws) : cL ws t ≤ ws.length := by
  have := Pos.of hs t
  have := this.1
  have := (Pos.of hs t).2.2.1
  omega
theorem cL_mono {ws : wL} (h : t < u ∨ t = u) : cL ws t ≤ cL ws u := by
  induction ws with
  | nil => exact Nat.le_refl _
  | cons w ws ih =>
    show (if w.1 < t then _ else _) ≤ (if w.1 < u then _ else _)
    by_cases z : w.1 < t
    · have z2 : w.1 < u := by
        rcases h with h | h
        · exact ll_tr z h
        · rw [← h]; exact z
      rw [if_pos z, if_pos z2]
      omega
    · rw [if_neg z]
      omega
theorem ct_J28_init {s a0 : Nat} {lo hi : Option Nat} {fs : Int32} {Q : g_St → Prop} (h : TMx st tm n nd ka va mc x ws) (hE : Cst E st.1) (hs : st.2.1 s = some (.inr (5, [va_rf none, va_rf none, va_rf none, .int 0, .int 0, .int 0, .int 0, va_rf none, va_rf none, va_rf none, va_rf none, va_rf none])))
    (hfs : fs = nI 1 ∨ fs = nI 0 ∧ ∃ (a : Nat) (t : List Nat), lo = some a ∧ Str st.1 a t ∧ t.length < 128 ∧ ∀ (b : Nat) (u : List Nat), hi = some b → Str st.1 b u → t < u ∨ t = u) (hhi : ∃ (b : Nat) (u : List Nat), hi = some b ∧ Str st.1 b u ∧ u.length < 128)
    (hq : ∀ st' : g_St, SUB st'.2.1 s tm lo hi fs none none → Sx (fun z => z = s) st st' → Q st') : wp_J29_init l E 0 0 [va_rf (some s), va_rf (some tm), .int fs, va_rf lo, .int (nI 1), .int (nI 0), va_rf hi, .int (nI 0)] st Q := by
  have h0 := h
  obtain ⟨L, R, P, co, rt, lo', hi', hT, hS, hB, hn, hn2, hK, hV, hsd, hv1, hv2⟩ := h
  obtain ⟨b, u, rfl, hb, hbu⟩ := hhi
  have ok0 : g_okf .boolean (nI 0) := bnar (Or.inl rfl)
  have ok1 : g_okf .boolean (nI 1) := bnar (Or.inr rfl)
  have okf : g_okf .boolean fs := by
    rcases hfs with e | ⟨e, _⟩
    · rw [e]; exact ok1
    · rw [e]; exact ok0
  refine wk_J29_init (wk_J28_init (wk_J4_init_J29 ⟨rfl, ?_⟩))
  refine g_jn0_i (pu hs fun s1 h1 => ⟨okf, pu h1.nx fun s2 h2 => pu h2.nx fun s3 h3 => ⟨ok1, pu h3.nx fun s4 h4 => ⟨ok0, pu h4.nx fun s5 h5 => pu h5.nx fun s6 h6 => ⟨ok0, pu h6.nx fun s7 h7 hx => ?_⟩⟩⟩⟩) fun K1 hK1 => ?_
  · have hp := (((((h1.tr h2).tr h3).tr h4).tr h5).tr h6).tr h7
    exact hq s7 hp.nx hp.sx
  · show _ ∧ _
    rcases hfs with e | ⟨e, a, t, rfl, ha, hat, hle⟩
    · rw [e]
      refine ⟨fun _ => ?_, fun z => absurd z (by decide)⟩
      show _ ∧ _
      refine ⟨fun _ => ?_, fun z => absurd z (by decide)⟩
      exact ⟨fun z => absurd rfl z, fun _ => ⟨tm, rfl, hT.gI, ct_J5_compare hT hb hb hE.1 hbu hbu fun y hy => ⟨rfl, hK1⟩⟩⟩
    · rw [e]
      refine ⟨fun z => absurd rfl z, fun _ => ⟨fun z => absurd rfl z, fun _ => ⟨tm, rfl, hT.gI, ct_J5_compare hT ha hb hE.1 hat hbu fun y hy => ⟨rfl, fun _ => hK1, fun z => ?_⟩⟩⟩⟩
      rcases i3 y with ⟨e1, e2, e3, e4, e5⟩ | ⟨e1, e2, e3, e4, e5⟩ | ⟨e1, e2, e3, e4, e5⟩
      · exact z e3
      · exact z e3
      · rcases hle b u rfl hb with w | w
        · exact e4 (hy.1.mpr w)
        · exact e5 (hy.2.mpr w)
theorem ct_headMap {b cb sb : Nat} {Q : Option Nat → g_St → Prop} (h : TMx st tm n nd ka va mc x ws) (hE : Cst E st.1) (hb : Str st.1 b u) (hbu : u.length < 128) (hcb : 1 ≤ cb) (hsb : 12 ≤ sb)
    (hq : ∀ st' : g_St, SUB st'.2.1 st.2.2 tm none (some b) (nI 1) none none → Sm st st' → st'.1 = st.1 → st'.2.2 = st.2.2 + 1 → Q (some st.2.2) st') : wp_J5_headMap l E cb sb [va_rf (some tm), va_rf (some b)] st Q := by
  refine g_WPa.wf fun hw => ?_
  refine wk_J5_headMap ⟨cb, sb, Nat.le_refl _, Nat.le_refl _, h.is, wk_J5_headMap_2 ⟨hcb, hsb, fun q1 st2 e1 e2 => ?_⟩⟩
  have hold : ∀ a, a < st.2.2 → st2.2.1 a = st.2.1 a := fun a ha => by rw [e2]; exact g_upd_n (by omega)
  have hf : st2.1 = st.1 := by rw [e2]; rfl
  have h2 : TMx st2 tm n nd ka va mc x ws := h.fr (fun q o hq => by rw [hf]; exact hq) fun a ha => hold a (h.lt hw ha)
  refine ct_J28_init (a0 := 0) h2 (by rw [hf]; exact hE) (by rw [e1, e2]; exact g_upd_s) (Or.inl rfl) ⟨b, u, rfl, by rw [hf]; exact hb, hbu⟩ fun st' h3 h4 _ => ?_
  intro _
  rw [e1] at h3 h4 ⊢
  exact hq st' h3 ⟨by rw [e2] at h4; exact (g_Ext.new g_Ext.rf).tr h4.2.2.1, fun a ha => by rw [h4.2.2.2 a (by omega)]; exact hold a ha⟩ (h4.1.trans hf) (by rw [h4.2.1, e2]; rfl)
theorem ct_subMap {a b cb sb : Nat} {Q : Option Nat → g_St → Prop} (h : TMx st tm n nd ka va mc x ws) (hE : Cst E st.1) (ha : Str st.1 a t) (hat : t.length < 128) (hb : Str st.1 b u) (hbu : u.length < 128) (htu : t < u ∨ t = u) (hcb : 1 ≤ cb) (hsb : 12 ≤ sb)
    (hq : ∀ st' : g_St, SUB st'.2.1 st.2.2 tm (some a) (some b) (nI 0) none none → Sm st st' → st'.1 = st.1 → st'.2.2 = st.2.2 + 1 → Q (some st.2.2) st') : wp_J5_subMap l E cb sb [va_rf (some tm), va_rf (some a), va_rf (some b)] st Q := by
  refine g_WPa.wf fun hw => ?_
  refine wk_J5_subMap ⟨cb, sb, Nat.le_refl _, Nat.le_refl _, h.is, wk_J5_subMap_2 ⟨hcb, hsb, fun q1 st2 e1 e2 => ?_⟩⟩
  have hold : ∀ a, a < st.2.2 → st2.2.1 a = st.2.1 a := fun a ha => by rw [e2]; exact g_upd_n (by omega)
  have hf : st2.1 = st.1 := by rw [e2]; rfl
  have h2 : TMx st2 tm n nd ka va mc x ws := h.fr (fun q o hq => by rw [hf]; exact hq) fun a ha => hold a (h.lt hw ha)
  refine ct_J28_init (a0 := 0) h2 (by rw [hf]; exact hE) (by rw [e1, e2]; exact g_upd_s) (Or.inr ⟨rfl, a, t, rfl, by rw [hf]; exact ha, hat, fun b' u' e z => by cases e; rw [hf] at z; rw [z.inj hb]; exact htu⟩) ⟨b, u, rfl, by rw [hf]; exact hb, hbu⟩ fun st' h3 h4 _ => ?_
  intro _
  rw [e1] at h3 h4 ⊢
  exact hq st' h3 ⟨by rw [e2] at h4; exact (g_Ext.new g_Ext.rf).tr h4.2.2.1, fun a ha => by rw [h4.2.2.2 a (by omega)]; exact hold a ha⟩ (h4.1.trans hf) (by rw [h4.2.1, e2]; rfl)
variable {s c1 c2 : Nat} {slo shi e8 e11 : Option Nat} {sfs : Int32}
theorem ct_tooHigh {i : Nat} {Q : Int32 → g_St → Prop} (h : TMx st tm n nd ka va mc x ws) (hE : Cst E st.1) (hs : SUB st.2.1 s tm slo shi sfs e8 e11) (hr : RNG st.1 ws slo shi sfs c1 c2) (hin : i < n) (hq : Q (if c2 ≤ i then nI 1 else nI 0) st) : wp_J28_tooHigh l E 0 0 [va_rf (some s), va_rf (some (ka i))] st Q := by
  obtain ⟨L, R, P, co, rt, lo', hi', hT, hS, hB, hn, hn2, hK, hV, hsd, hv1, hv2⟩ := h
  obtain ⟨-, ⟨b, u, rfl, hb, hbu, rfl⟩, -⟩ := hr
  have hp := Pos.of hsd u
  rw [← hn] at hp
  have hk := hp.2.2.2 i hin
  have p1 := hp.1
  have p2 := hp.2.1
  refine wk_J28_tooHigh ⟨_, ⟨_, Or.inl hs, rfl⟩, ?_⟩
  by_cases z : cL ws u ≤ i
  · rw [if_pos z] at hq
    show _ ∧ _
    refine ⟨fun w => absurd rfl w, fun _ => ⟨_, ⟨_, Or.inl hs, rfl⟩, _, ⟨_, Or.inl hs, rfl⟩, tm, rfl, hT.gI, ct_J5_compare hT (hK i hin).1 hb hE.1 (hK i hin).2 hbu fun y hy => ⟨rfl, ?_⟩⟩⟩
    refine g_jn0_i hq fun K9 hK9 => ⟨fun _ => hK9, fun w => ⟨fun w2 => ?_, fun w2 => ⟨_, ⟨_, Or.inl hs, rfl⟩, fun w3 => absurd rfl w3, fun _ => hK9⟩⟩⟩
    exfalso
    rcases i3 y with ⟨e1, e2, e3, e4, e5⟩ | ⟨e1, e2, e3, e4, e5⟩ | ⟨e1, e2, e3, e4, e5⟩
    · have q1 := hy.1.mp e1
      rcases Nat.lt_or_ge i (dL ws u) with w4 | w4
      · have := hk.2.mpr ⟨z, w4⟩
        rw [← this] at q1
        exact ll_irr _ q1
      · exact ll_as q1 (hk.1.mpr w4)
    · exact w2 e1
    · exact w e1
  · rw [if_neg z] at hq
    have q1 : ¬ u < kk ws i := fun w => by have := hk.1.mp w; omega
    have q2 : ¬ u = kk ws i := fun w => by have := hk.2.mp w; omega
    refine g_jn0_i hq fun K2 hK2 => ⟨fun _ => hK2, fun _ => ⟨_, ⟨_, Or.inl hs, rfl⟩, _, ⟨_, Or.inl hs, rfl⟩, tm, rfl, hT.gI, ct_J5_compare hT (hK i hin).1 hb hE.1 (hK i hin).2 hbu fun y hy => ⟨rfl, ?_⟩⟩⟩
    have hlt : kk ws i < u := by
      rcases ll_tri (kk ws i) u with w | w | w
      · exact w
      · exact absurd w.symm q2
      · exact absurd w q1
    have e1 := hy.1.mpr hlt
    show _ ∧ _
    rcases i3 y with ⟨f1, f2, f3, f4, f5⟩ | ⟨f1, f2, f3, f4, f5⟩ | ⟨f1, f2, f3, f4, f5⟩
    · exact ⟨fun w => absurd w f5, fun _ => ⟨fun _ => hK2, fun w => absurd w f4⟩⟩
    · exact absurd e1 f4
    · exact absurd e1 f4
theorem ct_absLowest {Q : Option Nat → g_St → Prop} (h : TMx st tm n nd ka va mc x ws) (hE : Cst E st.1) (hs : SUB st.2.1 s tm slo shi sfs e8 e11) (hr : RNG st.1 ws slo shi sfs c1 c2) (hq : Q (if c1 < c2 then some (nd c1) else none) st) : wp_J28_absLowest l E 0 0 [va_rf (some s)] st Q := by
  have h0 := h
  obtain ⟨L, R, P, co, rt, lo', hi', hT, hS, hB, hn, hn2, hK, hV, hsd, hv1, hv2⟩ := h
  obtain ⟨r1, ⟨b, u, r2, r3, r4, r5⟩, r6⟩ := id hr
  have hc2 : c2 ≤ n := by rw [r5, hn]; exact cL_le hsd
  refine wk_J28_absLowest ⟨_, ⟨_, Or.inl hs, rfl⟩, ?_⟩
  refine g_jn1_i (fun o => o = tnx n nd c1) (fun o e => ?_) fun K3 hK3 => ⟨fun z => ?_, fun z => ?_⟩
  · subst e
    refine g_jn1_i (fun o => o = if c1 < c2 then some (nd c1) else none) (fun o e => by rw [e]; exact hq) fun K6 hK6 => ?_
    unfold tnx
    by_cases z : c1 < n
    · rw [if_pos z]
      by_cases w : c1 < c2
      · show _ ∧ _
        refine ⟨fun e => (by cases e), fun a e => ?_⟩
        cases e
        exact ⟨_, hT.gK z, ⟨_, Or.inl hs⟩, ct_tooHigh h0 hE hs hr z ⟨rfl, fun _ => hK6 _ (by rw [if_pos w]), fun v => absurd (by rw [if_neg (by omega)]; rfl) v⟩⟩
      · refine g_jn0_i (hK6 _ (by rw [if_neg w])) fun K8 hK8 => ⟨fun _ => hK8, fun a e => ?_⟩
        cases e
        exact ⟨_, hT.gK z, ⟨_, Or.inl hs⟩, ct_tooHigh h0 hE hs hr z ⟨rfl, fun v => absurd v (by rw [if_pos (by omega)]; decide), fun _ => hK8⟩⟩
    · rw [if_neg z]
      exact g_jn0_i (hK6 _ (by rw [if_neg (by omega)])) fun K8 hK8 => ⟨fun _ => hK8, fun a e => (by cases e)⟩
  · rcases r1 with ⟨e, _⟩ | ⟨e, a, t, k1, k2, k3, k4⟩
    · rw [e] at z; exact absurd z (by decide)
    · have hp := Pos.of hsd t
      rw [← hn] at hp
      refine ⟨_, ⟨_, Or.inl hs, rfl⟩, fun w => absurd w (by decide), fun _ => ⟨_, ⟨_, Or.inl hs, rfl⟩, some a, ⟨_, Or.inl hs, by rw [k1]; rfl⟩, tm, rfl, hT.gI, ct_getCeilingEntry hT hS hK k2 k3 hE.1 hp ⟨rfl, hK3 _ (by rw [k4])⟩⟩⟩
  · rcases r1 with ⟨e, e2⟩ | ⟨e, a, t, k1, k2, k3, k4⟩
    · exact ⟨_, ⟨_, Or.inl hs, rfl⟩, tm, rfl, hT.gI, ct_first hT hS ⟨rfl, hK3 _ (by rw [e2])⟩⟩
    · rw [e] at z; exact absurd rfl z
theorem ct_absHighFence {Q : Option Nat → g_St → Prop} (h : TMx st tm n nd ka va mc x ws) (hE : Cst E st.1) (hs : SUB st.2.1 s tm slo shi sfs e8 e11) (hr : RNG st.1 ws slo shi sfs c1 c2) (hq : Q (tnx n nd c2) st) : wp_J28_absHighFence l E 0 0 [va_rf (some s)] st Q := by
  obtain ⟨L, R, P, co, rt, lo', hi', hT, hS, hB, hn, hn2, hK, hV, hsd, hv1, hv2⟩ := h
  obtain ⟨r1, ⟨b, u, r2, r3, r4, r5⟩, r6⟩ := hr
  have hp := Pos.of hsd u
  rw [← hn] at hp
  refine wk_J28_absHighFence ⟨_, ⟨_, Or.inl hs, rfl⟩, ?_⟩
  show _ ∧ _
  refine ⟨fun _ => ⟨_, ⟨_, Or.inl hs, rfl⟩, fun _ => ⟨_, ⟨_, Or.inl hs, rfl⟩, some b, ⟨_, Or.inl hs, by rw [r2]; rfl⟩, tm, rfl, hT.gI, ct_getCeilingEntry hT hS hK r3 r4 hE.1 hp ⟨rfl, ?_⟩⟩, fun z => absurd rfl z⟩, fun z => absurd rfl z⟩
  rw [← r5]
  exact hq
/-- an iterator over a submap, before the node i -/
def SIt (E : g_E) (st : g_St) (it s n : Nat) (nd ka : Nat → Nat) (mc : Int32) (i c2 : Nat) : Prop := ∃ last nx : Option Nat, st.2.1 it = some (.inr (7, [va_rf last, va_rf nx, va_rf (if c2 < n then some (ka c2) else E.2.2.2.2.1 4), .int mc, va_rf (some s)])) ∧ i ≤ c2 ∧ c2 ≤ n ∧ (i < c2 → nx = some (nd i)) ∧ (i = c2 → nx = none ∨ nx = tnx n nd c2)
theorem ct_subIter {v cb sb : Nat} {vs : List Value} {Q : Option Nat → g_St → Prop} (h : TMx st tm n nd ka va mc x ws) (hE : Cst E st.1) (hs : SUB st.2.1 s tm slo shi sfs e8 e11) (hr : RNG st.1 ws slo shi sfs c1 c2) (hv : st.2.1 v = some (.inr (6, vs))) (hvs : vs[3]? = some (va_rf (some s))) (hcb : 1 ≤ cb) (hsb : 5 ≤ sb)
    (hq : ∀ st' : g_St, SIt E st' st.2.2 s n nd ka mc c1 c2 → Sm st st' → st'.1 = st.1 → st'.2.2 = st.2.2 + 1 → Q (some st.2.2) st') : wp_J33_iterator l E cb sb [va_rf (some v)] st Q := by
  refine g_WPa.wf fun hw => ?_
  have hsl := (hw.2 _ _ hs).2
  have hvl := (hw.2 _ _ hv).2
  refine wk_J33_iterator ⟨hcb, hsb, fun q1 st2 e1 e2 => ?_⟩
  have hold : ∀ a, a < st.2.2 → st2.2.1 a = st.2.1 a := fun a ha => by rw [e2]; exact g_upd_n (by omega)
  have hf : st2.1 = st.1 := by rw [e2]; rfl
  have hE2 : Cst E st2.1 := by rw [hf]; exact hE
  have h2 : TMx st2 tm n nd ka va mc x ws := h.fr (fun q o hq => by rw [hf]; exact hq) fun a ha => hold a (h.lt hw ha)
  have hs2 : SUB st2.2.1 s tm slo shi sfs e8 e11 := (hold s hsl).trans hs
  have hr2 : RNG st2.1 ws slo shi sfs c1 c2 := by rw [hf]; exact hr
  have hv2 := (hold v hvl).trans hv
  have hc2 : c2 ≤ n := by
    obtain ⟨-, ⟨b, u, r2, r3, r4, r5⟩, -⟩ := hr
    rw [r5, h.len]; exact cL_le h.sd
  have hq1 : st2.2.1 q1 = some (.inr (7, [va_rf none, va_rf none, va_rf none, .int 0, va_rf none])) := by rw [e1, e2]; exact g_upd_s
  have g3 : g_gr st2 v 6 3 (some s) := ⟨_, Or.inl hv2, hvs⟩
  have fin : ∀ s7 : g_St, Pt st2 q1 s7 (.inr (7, [va_rf none, va_rf (if c1 < c2 then some (nd c1) else none), va_rf (if c2 < n then some (ka c2) else E.2.2.2.2.1 4), .int mc, va_rf (some s)])) → Q (some q1) s7 := fun s7 hp => by
    rw [e1]
    refine hq s7 ⟨none, _, by rw [← e1]; exact hp.nx, hr.2.2, hc2, fun z => by rw [if_pos z], fun z => Or.inl (by rw [if_neg (by omega)])⟩ ⟨(by rw [e2] at hp; exact (g_Ext.new g_Ext.rf).tr hp.2.2.2.2), fun a ha => ?_⟩ (by rw [hp.1, hf]) (by rw [hp.2.1, e2]; rfl)
    rw [hp.2.2.2.1 a (by omega)]
    exact hold a ha
  refine ⟨_, g3, _, g3, s, rfl, ⟨_, Or.inl hs2⟩, ct_absLowest h2 hE2 hs2 hr2 ⟨rfl, _, g3, s, rfl, ⟨_, Or.inl hs2⟩, ct_absHighFence h2 hE2 hs2 hr2 ⟨rfl, wk_J35_init (wk_J34_init (pu hq1 fun s1 h1 => ⟨s, rfl, some tm, ?_, tm, rfl, mc, ?_, pu h1.nx fun s2 h3 => pu h3.nx fun s3 h4 => pu h4.nx fun s4 h5 => ?_⟩))⟩⟩⟩
  · have g5 : g_gr st2 s 5 0 (some tm) := ⟨_, Or.inl hs2, rfl⟩
    exact g5.mv (h1.2.2.2.1 s (by omega)) h1.1
  · obtain ⟨L, R, P, co, rt, lo', hi', hT, -⟩ := h2
    exact hT.gD.mv (h1.2.2.2.1 tm (fun e => by have := h.lt hw (Or.inl (Or.inl rfl)); omega)) h1.1
  · have hp := ((h1.tr h3).tr h4).tr h5
    show _ ∧ _
    unfold tnx
    by_cases z : c2 < n
    · rw [if_pos z]
      refine ⟨fun e => (by cases e), fun a e => ?_⟩
      cases e
      refine ⟨some (ka c2), ?_, pu h5.nx fun s5 h6 _ _ => fin s5 (by rw [if_pos z]; exact hp.tr h6)⟩
      obtain ⟨L, R, P, co, rt, lo', hi', hT, -⟩ := h2
      exact (hT.gK z).mv (hp.2.2.2.1 _ (fun e => by have := h.lt hw (Or.inl (Or.inr ⟨c2, z, rfl⟩)); omega)) hp.1
    · rw [if_neg z]
      refine ⟨fun _ o20 e => pu h5.nx fun s5 h6 _ _ => fin s5 (by rw [if_neg z, ← e]; exact hp.tr h6), fun a e => (by cases e)⟩
theorem ct_sHasNext {it i : Nat} {Q : Int32 → g_St → Prop} (h : TMx st tm n nd ka va mc x ws) (hU : Unb E st) (hi : SIt E st it s n nd ka mc i c2) (hq : Q (if i < c2 then nI 1 else nI 0) st) : wp_J34_hasNext l E 0 0 [va_rf (some it)] st Q := by
  have h0 := h
  obtain ⟨L, R, P, co, rt, lo', hi', hT, hS, hB, hn, hn2, hK, hV, hsd, hv1, hv2⟩ := h
  obtain ⟨last, nx, e1, k1, k2, k3, k4⟩ := hi
  refine wk_J34_hasNext ⟨_, ⟨_, Or.inl e1, rfl⟩, ?_⟩
  by_cases z : i < c2
  · rw [if_pos z] at hq
    have e2 := k3 z
    subst e2
    have hin : i < n := by omega
    show _ ∧ _
    refine ⟨fun e => (by cases e), fun a e => ?_⟩
    cases e
    refine ⟨_, ⟨_, Or.inl e1, rfl⟩, _, rfl, _, hT.gK hin, _, ⟨_, Or.inl e1, rfl⟩, fun e => ?_, fun _ => ⟨rfl, hq⟩⟩
    exfalso
    by_cases w : c2 < n
    · rw [if_pos w] at e
      have a1 := (hK i hin).1
      rw [Option.some.inj e] at a1
      have a2 := a1.inj (hK c2 w).1
      have hp := Pos.of hsd (kk ws i)
      rw [← hn] at hp
      have b1 := (hp.2.2.2 i hin).2.mp rfl
      have b2 := (hp.2.2.2 c2 w).2.mp a2
      have := hp.2.1
      omega
    · rw [if_neg w] at e
      obtain ⟨b, u1, u2, u3, u4⟩ := hU
      rw [u1] at e
      have a1 := (hK i hin).1
      rw [Option.some.inj e] at a1
      obtain ⟨v, g, hx, hz, f1, f2⟩ := a1
      rw [u3] at f1
      cases f1
  · rw [if_neg z] at hq
    have hic : i = c2 := by omega
    refine g_jn1_i (fun y => y = nI 0) (fun y e => by rw [e]; exact ⟨rfl, hq⟩) fun K3 hK3 => ?_
    refine g_jn0_i (hK3 _ rfl) fun K5 hK5 => ⟨fun _ => hK5, fun a e => ?_⟩
    subst e
    rcases k4 hic with w | w
    · cases w
    · have hc : c2 < n := by
        unfold tnx at w
        by_cases y : c2 < n
        · exact y
        · rw [if_neg y] at w; cases w
      unfold tnx at w
      rw [if_pos hc] at w
      cases w
      refine ⟨_, ⟨_, Or.inl e1, rfl⟩, _, rfl, _, hT.gK hc, _, ⟨_, Or.inl e1, rfl⟩, fun _ => hK5, fun e => absurd ?_ e⟩
      rw [if_pos hc]
theorem ct_sNextE {it i : Nat} {ss : List Value} {Q : Option Nat → g_St → Prop} (h : TMx st tm n nd ka va mc x ws) (hU : Unb E st) (hi : SIt E st it s n nd ka mc i c2) (hs : st.2.1 s = some (.inr (5, ss))) (hss : ss[0]? = some (va_rf (some tm))) (hic : i < c2)
    (hq : ∀ st' : g_St, st'.2.1 it = some (.inr (7, [va_rf (some (nd i)), va_rf (tnx n nd (i + 1)), va_rf (if c2 < n then some (ka c2) else E.2.2.2.2.1 4), .int mc, va_rf (some s)])) → SIt E st' it s n nd ka mc (i + 1) c2 → Sx (fun z => z = it) st st' → Q (some (nd i)) st') : wp_J34_nextEntry l E 0 0 [va_rf (some it)] st Q := by
  have h0 := h
  obtain ⟨L, R, P, co, rt, lo', hi', hT, hS, hB, hn, hn2, hK, hV, hsd, hv1, hv2⟩ := h
  obtain ⟨last, nx, e1, k1, k2, k3, k4⟩ := hi
  have e2 := k3 hic
  subst e2
  have hin : i < n := by omega
  refine wk_J34_nextEntry ⟨_, ⟨_, Or.inl e1, rfl⟩, ?_⟩
  show _ ∧ _
  refine ⟨fun e => (by cases e), fun a e => ?_⟩
  cases e
  refine ⟨_, hT.gK hin, _, ⟨_, Or.inl e1, rfl⟩, fun _ => ⟨_, ⟨_, Or.inl e1, rfl⟩, s, rfl, some tm, ⟨_, Or.inl hs, hss⟩, tm, rfl, mc, hT.gD, mc, ⟨_, Or.inl e1, rfl⟩, fun _ => ct_succ hT hS hin ⟨rfl, pu e1 fun s1 h1 => pu h1.nx fun s2 h2 => hq s2 h2.nx ⟨_, _, h2.nx, by omega, k2, fun z => ?_, fun z => Or.inr (by rw [z])⟩ (h1.tr h2).sx⟩, fun z => absurd rfl z⟩, fun e => ?_⟩
  · unfold tnx
    rw [if_pos (by omega)]
  · exfalso
    by_cases w : c2 < n
    · rw [if_pos w] at e
      have a1 := (hK i hin).1
      rw [Option.some.inj e] at a1
      have a2 := a1.inj (hK c2 w).1
      have hp := Pos.of hsd (kk ws i)
      rw [← hn] at hp
      have b1 := (hp.2.2.2 i hin).2.mp rfl
      have b2 := (hp.2.2.2 c2 w).2.mp a2
      have := hp.2.1
      omega
    · rw [if_neg w] at e
      obtain ⟨b, u1, u2, u3, u4⟩ := hU
      rw [u1] at e
      have a1 := (hK i hin).1
      rw [Option.some.inj e] at a1
      obtain ⟨v, g, hx, hz, f1, f2⟩ := a1
      rw [u3] at f1
      cases f1
theorem ct_sNext {it i : Nat} {ss : List Value} {Q : Option Nat → g_St → Prop} (h : TMx st tm n nd ka va mc x ws) (hU : Unb E st) (hi : SIt E st it s n nd ka mc i c2) (hs : st.2.1 s = some (.inr (5, ss))) (hss : ss[0]? = some (va_rf (some tm))) (hic : i < c2)
    (hq : ∀ st' : g_St, st'.2.1 it = some (.inr (7, [va_rf (some (nd i)), va_rf (tnx n nd (i + 1)), va_rf (if c2 < n then some (ka c2) else E.2.2.2.2.1 4), .int mc, va_rf (some s)])) → SIt E st' it s n nd ka mc (i + 1) c2 → Sx (fun z => z = it) st st' → Q (some (nd i)) st') : wp_J35_next l E 0 0 [va_rf (some it)] st Q := by
  have hi0 := hi
  obtain ⟨last, nx, e1, -⟩ := hi0
  exact wk_J35_next ⟨⟨_, Or.inl e1⟩, wk_J35_next_2 ⟨⟨_, Or.inl e1⟩, ct_sNextE h hU hi hs hss hic fun st' a b c _ _ => hq st' a b c⟩⟩
end GT12
