/-! TREE 8: sorted lists of words; the tree map's predicate; reading -/
section GT8
theorem ll_irr (t : List Nat) : ¬ t < t := List.lt_irrefl t
theorem ll_tr {a b c : List Nat} (h1 : a < b) (h2 : b < c) : a < c := List.lt_trans h1 h2
theorem ll_as {a b : List Nat} (h : a < b) : ¬ b < a := fun h2 => ll_irr _ (ll_tr h h2)
theorem ll_tri (a b : List Nat) : a < b ∨ a = b ∨ b < a := by
  by_cases h : a < b
  · exact Or.inl h
  · by_cases h2 : b < a
    · exact Or.inr (Or.inr h2)
    · exact Or.inr (Or.inl (List.le_antisymm (List.not_lt.mp h2) (List.not_lt.mp h)))
abbrev wL : Type := List (List Nat × Nat)
def kk (ws : wL) (i : Nat) : List Nat := (ws.getD i ([], 0)).1
def vv (ws : wL) (i : Nat) : Nat := (ws.getD i ([], 0)).2
def Sd (ws : wL) : Prop := ws.Pairwise (fun a b => a.1 < b.1)
/-- how many keys are less; not greater -/
def cL : wL → List Nat → Nat
  | [], _ => 0
  | w :: ws, t => if w.1 < t then cL ws t + 1 else 0
def dL : wL → List Nat → Nat
  | [], _ => 0
  | w :: ws, t => if t < w.1 then 0 else dL ws t + 1
theorem kk_0 {w : List Nat × Nat} {ws : wL} : kk (w :: ws) 0 = w.1 := rfl
theorem kk_s {w : List Nat × Nat} {ws : wL} {i : Nat} : kk (w :: ws) (i + 1) = kk ws i := rfl
theorem kk_mem {ws : wL} {i : Nat} (h : i < ws.length) : ∃ w ∈ ws, w.1 = kk ws i ∧ w.2 = vv ws i := by
  refine ⟨ws[i], List.getElem_mem h, ?_, ?_⟩
  · unfold kk
    rw [List.getD_eq_getElem?_getD, List.getElem?_eq_getElem h]
    rfl
  · unfold vv
    rw [List.getD_eq_getElem?_getD, List.getElem?_eq_getElem h]
    rfl
theorem cd_0 {ws : wL} {t : List Nat} (h : ∀ w ∈ ws, t < w.1) : cL ws t = 0 ∧ dL ws t = 0 := by
  cases ws with
  | nil => exact ⟨rfl, rfl⟩
  | cons w ws =>
    have := h w List.mem_cons_self
    unfold cL dL
    rw [if_neg (ll_as this), if_pos this]
    exact ⟨rfl, rfl⟩
theorem Pos.of {ws : wL} (hs : Sd ws) (t : List Nat) : Pos ws.length (kk ws) t (cL ws t) (dL ws t) := by
  induction ws with
  | nil => exact ⟨Nat.le_refl _, Nat.zero_le _, Nat.le_refl _, fun i hi => absurd hi (Nat.not_lt_zero _)⟩
  | cons w ws ih =>
    obtain ⟨h1, h2⟩ := List.pairwise_cons.mp hs
    obtain ⟨k1, k2, k3, k4⟩ := ih h2
    rcases ll_tri w.1 t with h | h | h
    · have e1 : cL (w :: ws) t = cL ws t + 1 := by
        show (if w.1 < t then _ else _) = _
        rw [if_pos h]
      have e2 : dL (w :: ws) t = dL ws t + 1 := by
        show (if t < w.1 then _ else _) = _
        rw [if_neg (ll_as h)]
      rw [e1, e2]
      refine ⟨by omega, by omega, by rw [List.length_cons]; omega, fun i hi => ?_⟩
      cases i with
      | zero =>
        rw [kk_0]
        refine ⟨⟨fun z => absurd z (ll_as h), fun z => by omega⟩, ⟨fun z => ?_, fun z => by omega⟩⟩
        rw [z] at h
        exact absurd h (ll_irr _)
      | succ i =>
        rw [List.length_cons] at hi
        have := k4 i (by omega)
        rw [kk_s, this.1, this.2]
        omega
    · have e3 := cd_0 (ws := ws) (t := t) fun x hx => by rw [← h]; exact h1 x hx
      have e1 : cL (w :: ws) t = 0 := by
        show (if w.1 < t then _ else _) = _
        rw [h, if_neg (ll_irr _)]
      have e2 : dL (w :: ws) t = 1 := by
        show (if t < w.1 then _ else _) = _
        rw [h, if_neg (ll_irr _), e3.2]
      rw [e1, e2]
      refine ⟨by omega, by omega, by rw [List.length_cons]; omega, fun i hi => ?_⟩
      cases i with
      | zero =>
        rw [kk_0, h]
        exact ⟨⟨fun z => absurd z (ll_irr _), fun z => by omega⟩, ⟨fun _ => by omega, fun _ => rfl⟩⟩
      | succ i =>
        rw [List.length_cons] at hi
        have := k4 i (by omega)
        rw [kk_s, this.1, this.2, e3.1, e3.2]
        omega
    · have e3 := cd_0 (ws := ws) (t := t) fun x hx => ll_tr h (h1 x hx)
      have e1 : cL (w :: ws) t = 0 := by
        show (if w.1 < t then _ else _) = _
        rw [if_neg (ll_as h)]
      have e2 : dL (w :: ws) t = 0 := by
        show (if t < w.1 then _ else _) = _
        rw [if_pos h]
      rw [e1, e2]
      refine ⟨by omega, by omega, by rw [List.length_cons]; omega, fun i hi => ?_⟩
      cases i with
      | zero =>
        rw [kk_0]
        exact ⟨⟨fun _ => Nat.le_refl _, fun _ => h⟩, ⟨fun z => by rw [z] at h; exact absurd h (ll_irr _), fun z => by omega⟩⟩
      | succ i =>
        rw [List.length_cons] at hi
        have := k4 i (by omega)
        rw [kk_s, this.1, this.2, e3.1, e3.2]
        omega
variable {l : Launch} {E : g_E} {st0 st : g_St} {tm n : Nat} {nd ka va : Nat → Nat} {mc : Int32} {x : tX} {ws : wL}
/-- the tree map tm with n nodes holds the sorted words ws -/
def TMx (st : g_St) (tm n : Nat) (nd ka va : Nat → Nat) (mc : Int32) (x : tX) (ws : wL) : Prop :=
  ∃ (L R P : Nat → Option Nat) (co : Nat → Int32) (rt : Option Nat) (lo hi : Nat → Nat), TS st st tm n nd ka va L R P co rt (nI n) mc x ∧ Shp n rt L R P lo hi ∧ tB co ∧ n = ws.length ∧ n < 2 ^ 20 ∧ KD st.1 n ka (kk ws) ∧ (∀ i, i < n → IntO st.1 (va i) (nI (vv ws i)) ∧ vv ws i < 2 ^ 31) ∧ Sd ws ∧ (∀ a, x.2.2.1 = some a → st.2.1 a = some (.inr (14, [va_rf (some tm)]))) ∧ ∀ a, x.2.2.2.1 = some a → st.2.1 a = some (.inr (8, [va_rf (some tm)]))
/-- its cells -/
def CX (tm n : Nat) (nd : Nat → Nat) (x : tX) (a : Nat) : Prop := TA tm n nd a ∨ x.2.2.1 = some a ∨ x.2.2.2.1 = some a
theorem TMx.fr {st' : g_St} (h : TMx st tm n nd ka va mc x ws) (hf : ∀ (q : Nat) (o : g_Ob), st.1 q = some o → st'.1 q = some o) (hh : ∀ a, CX tm n nd x a → st'.2.1 a = st.2.1 a) : TMx st' tm n nd ka va mc x ws := by
  obtain ⟨L, R, P, co, rt, lo, hi, ⟨-, h1, h2, h3⟩, hS, hB, hn, hn2, hK, hV, hs, hv1, hv2⟩ := h
  exact ⟨L, R, P, co, rt, lo, hi, ⟨Sx.rf, (hh _ (Or.inl (Or.inl rfl))).trans h1, fun i hi => (hh _ (Or.inl (Or.inr ⟨i, hi, rfl⟩))).trans (h2 i hi), h3⟩, hS, hB, hn, hn2, fun i hi => ⟨(hK i hi).1.mono hf, (hK i hi).2⟩, fun i hi => ⟨hf _ _ (hV i hi).1, (hV i hi).2⟩, hs, fun a e => (hh a (Or.inr (Or.inl e))).trans (hv1 a e), fun a e => (hh a (Or.inr (Or.inr e))).trans (hv2 a e)⟩
theorem TMx.len (h : TMx st tm n nd ka va mc x ws) : n = ws.length := by
  obtain ⟨L, R, P, co, rt, lo, hi, hT, hS, hB, hn, hn2, hK, hV, hs, hv1, hv2⟩ := h
  exact hn
theorem TMx.key (h : TMx st tm n nd ka va mc x ws) {i : Nat} (hi : i < n) : Str st.1 (ka i) (kk ws i) ∧ (kk ws i).length < 128 := by
  obtain ⟨L, R, P, co, rt, lo, hi', hT, hS, hB, hn, hn2, hK, hV, hs, hv1, hv2⟩ := h
  exact hK i hi
theorem TMx.val (h : TMx st tm n nd ka va mc x ws) {i : Nat} (hi : i < n) : IntO st.1 (va i) (nI (vv ws i)) ∧ vv ws i < 2 ^ 31 := by
  obtain ⟨L, R, P, co, rt, lo, hi', hT, hS, hB, hn, hn2, hK, hV, hs, hv1, hv2⟩ := h
  exact hV i hi
theorem TMx.sd (h : TMx st tm n nd ka va mc x ws) : Sd ws := by
  obtain ⟨L, R, P, co, rt, lo, hi', hT, hS, hB, hn, hn2, hK, hV, hs, hv1, hv2⟩ := h
  exact hs
theorem TMx.is (h : TMx st tm n nd ka va mc x ws) : g_is st tm 3 := by
  obtain ⟨L, R, P, co, rt, lo, hi', hT, hS, hB, hn, hn2, hK, hV, hs, hv1, hv2⟩ := h
  exact hT.gI
theorem TMx.lt (h : TMx st tm n nd ka va mc x ws) (hw : g_Wf st) {a : Nat} (ha : CX tm n nd x a) : a < st.2.2 := by
  obtain ⟨L, R, P, co, rt, lo, hi', hT, hS, hB, hn, hn2, hK, hV, hs, hv1, hv2⟩ := h
  rcases ha with (rfl | ⟨i, hi, rfl⟩) | ha | ha
  · exact (hw.2 _ _ hT.2.1).2
  · exact (hw.2 _ _ (hT.2.2.1 i hi)).2
  · exact (hw.2 _ _ (hv1 a ha)).2
  · exact (hw.2 _ _ (hv2 a ha)).2
theorem ct_mapSize {Q : Int32 → g_St → Prop} (h : TMx st tm n nd ka va mc x ws) (hq : Q (nI n) st) : wp_J5_size l E 0 0 [va_rf (some tm)] st Q := by
  obtain ⟨L, R, P, co, rt, lo, hi, hT, hS, hB, hn, hn2, hK, hV, hs, hv1, hv2⟩ := h
  exact wk_J5_size ⟨_, hT.gS, hq⟩
variable {k : Nat} {t : List Nat}
theorem ct_get {Q : Option Nat → g_St → Prop} (h : TMx st tm n nd ka va mc x ws) (hk : Str st.1 k t) (hkl : t.length < 128) (hE : Cst E st.1) (hq : Q (if cL ws t < dL ws t then some (va (cL ws t)) else none) st) : wp_J5_get l E 0 0 [va_rf (some tm), va_rf (some k)] st Q := by
  obtain ⟨L, R, P, co, rt, lo, hi, hT, hS, hB, hn, hn2, hK, hV, hs, hv1, hv2⟩ := h
  have hp := Pos.of hs t
  rw [← hn] at hp
  refine wk_J5_get ⟨hT.gI, ct_getEntry hT hS hK hk hkl hE.1 hp ⟨rfl, ?_⟩⟩
  show _ ∧ _
  by_cases e : cL ws t < dL ws t
  · rw [if_pos e] at hq ⊢
    refine ⟨fun z => (by cases z), fun a z => ?_⟩
    cases z
    exact ⟨_, hT.gV (by have := hp.2.2.1; omega), hq⟩
  · rw [if_neg e] at hq ⊢
    exact ⟨fun _ => hq, fun a z => (by cases z)⟩
theorem ct_containsKey {Q : Int32 → g_St → Prop} (h : TMx st tm n nd ka va mc x ws) (hk : Str st.1 k t) (hkl : t.length < 128) (hE : Cst E st.1) (hq : Q (if cL ws t < dL ws t then nI 1 else nI 0) st) : wp_J5_containsKey l E 0 0 [va_rf (some tm), va_rf (some k)] st Q := by
  obtain ⟨L, R, P, co, rt, lo, hi, hT, hS, hB, hn, hn2, hK, hV, hs, hv1, hv2⟩ := h
  have hp := Pos.of hs t
  rw [← hn] at hp
  refine wk_J5_containsKey ⟨hT.gI, ct_getEntry hT hS hK hk hkl hE.1 hp ⟨rfl, ?_⟩⟩
  show _ ∧ _
  by_cases e : cL ws t < dL ws t
  · rw [if_pos e] at hq ⊢
    exact ⟨fun z => (by cases z), fun a z => ⟨rfl, hq⟩⟩
  · rw [if_neg e] at hq ⊢
    exact ⟨fun _ => ⟨rfl, hq⟩, fun a z => (by cases z)⟩
def knx (n : Nat) (ka : Nat → Nat) (i : Nat) : Option Nat := if i < n then some (ka i) else none
theorem ct_keyOrNull {n' : Nat} {L R P : Nat → Option Nat} {co : Nat → Int32} {rt : Option Nat} {sz : Int32} {y : Option Nat} {Q : Option Nat → g_St → Prop} (h : TS st0 st tm n' nd ka va L R P co rt sz mc x) (hy : ∀ i, y = some i → i < n') (hq : Q (y.map ka) st) : wp_J5_keyOrNull l E 0 0 [va_rf (y.map nd)] st Q := by
  refine wk_J5_keyOrNull ?_
  show _ ∧ _
  refine ⟨fun e => ?_, fun a e => ?_⟩
  · rw [om_none e] at hq
    exact hq
  · obtain ⟨i, rfl, rfl⟩ := om_some e
    exact ⟨_, h.gK (hy i rfl), hq⟩
def inx (n i : Nat) : Option Nat := if i < n then some i else none
def ipv (b : Nat) : Option Nat := if 0 < b then some (b - 1) else none
theorem tnx_o {i : Nat} : tnx n nd i = (inx n i).map nd := by unfold tnx inx; split <;> rfl
theorem tpv_o {b : Nat} : tpv nd b = (ipv b).map nd := by unfold tpv ipv; split <;> rfl
theorem inx_lt {i : Nat} : ∀ j, inx n i = some j → j < n := by
  intro j e
  unfold inx at e
  split at e
  · cases e; assumption
  · cases e
theorem ipv_lt {b : Nat} (hb : b ≤ n) : ∀ j, ipv b = some j → j < n := by
  intro j e
  unfold ipv at e
  split at e
  · cases e; omega
  · cases e
theorem ct_floorKey {Q : Option Nat → g_St → Prop} (h : TMx st tm n nd ka va mc x ws) (hk : Str st.1 k t) (hkl : t.length < 128) (hE : Cst E st.1) (hq : Q ((ipv (dL ws t)).map ka) st) : wp_J5_floorKey l E 0 0 [va_rf (some tm), va_rf (some k)] st Q := by
  obtain ⟨L, R, P, co, rt, lo, hi, hT, hS, hB, hn, hn2, hK, hV, hs, hv1, hv2⟩ := h
  have hp := Pos.of hs t
  rw [← hn] at hp
  refine wk_J5_floorKey ⟨hT.gI, ct_getFloorEntry hT hS hK hk hkl hE.1 hp ⟨rfl, ?_⟩⟩
  rw [tpv_o]
  exact ct_keyOrNull hT (ipv_lt hp.2.2.1) ⟨rfl, hq⟩
theorem ct_lowerKey {Q : Option Nat → g_St → Prop} (h : TMx st tm n nd ka va mc x ws) (hk : Str st.1 k t) (hkl : t.length < 128) (hE : Cst E st.1) (hq : Q ((ipv (cL ws t)).map ka) st) : wp_J5_lowerKey l E 0 0 [va_rf (some tm), va_rf (some k)] st Q := by
  obtain ⟨L, R, P, co, rt, lo, hi, hT, hS, hB, hn, hn2, hK, hV, hs, hv1, hv2⟩ := h
  have hp := Pos.of hs t
  rw [← hn] at hp
  refine wk_J5_lowerKey ⟨hT.gI, ct_getLowerEntry hT hS hK hk hkl hE.1 hp ⟨rfl, ?_⟩⟩
  rw [tpv_o]
  exact ct_keyOrNull hT (ipv_lt (by have := hp.1; have := hp.2.2.1; omega)) ⟨rfl, hq⟩
theorem ct_ceilingKey {Q : Option Nat → g_St → Prop} (h : TMx st tm n nd ka va mc x ws) (hk : Str st.1 k t) (hkl : t.length < 128) (hE : Cst E st.1) (hq : Q ((inx n (cL ws t)).map ka) st) : wp_J5_ceilingKey l E 0 0 [va_rf (some tm), va_rf (some k)] st Q := by
  obtain ⟨L, R, P, co, rt, lo, hi, hT, hS, hB, hn, hn2, hK, hV, hs, hv1, hv2⟩ := h
  have hp := Pos.of hs t
  rw [← hn] at hp
  refine wk_J5_ceilingKey ⟨hT.gI, ct_getCeilingEntry hT hS hK hk hkl hE.1 hp ⟨rfl, ?_⟩⟩
  rw [tnx_o]
  exact ct_keyOrNull hT inx_lt ⟨rfl, hq⟩
theorem ct_higherKey {Q : Option Nat → g_St → Prop} (h : TMx st tm n nd ka va mc x ws) (hk : Str st.1 k t) (hkl : t.length < 128) (hE : Cst E st.1) (hq : Q ((inx n (dL ws t)).map ka) st) : wp_J5_higherKey l E 0 0 [va_rf (some tm), va_rf (some k)] st Q := by
  obtain ⟨L, R, P, co, rt, lo, hi, hT, hS, hB, hn, hn2, hK, hV, hs, hv1, hv2⟩ := h
  have hp := Pos.of hs t
  rw [← hn] at hp
  refine wk_J5_higherKey ⟨hT.gI, ct_getHigherEntry hT hS hK hk hkl hE.1 hp ⟨rfl, ?_⟩⟩
  rw [tnx_o]
  exact ct_keyOrNull hT inx_lt ⟨rfl, hq⟩
/-- an exported entry: a new object with key and value -/
def EN (h : g_H) (q a b : Nat) : Prop := h q = some (.inr (11, [va_rf (some a), va_rf (some b)]))
theorem ct_exportEntry {n' mc' ms : Nat} {L R P : Nat → Option Nat} {co : Nat → Int32} {rt : Option Nat} {sz : Int32} {y : Option Nat} {Q : Option Nat → g_St → Prop} (h : TS st0 st tm n' nd ka va L R P co rt sz mc x) (hw : g_Wf st) (hy : ∀ i, y = some i → i < n') (hmc : 1 ≤ mc') (hms : 2 ≤ ms) (hq0 : y = none → Q none st) (hq1 : ∀ i, y = some i → ∀ st' : g_St, EN st'.2.1 st.2.2 (ka i) (va i) → Sm st st' → Q (some st.2.2) st') : wp_J5_exportEntry l E mc' ms [va_rf (y.map nd)] st Q := by
  refine wk_J5_exportEntry ?_
  show _ ∧ _
  refine ⟨fun e => hq0 (om_none e), fun a e => ⟨hmc, hms, fun q9 st10 e1 e2 => ?_⟩⟩
  obtain ⟨i, rfl, rfl⟩ := om_some e
  have hi := hy i rfl
  subst e1; subst e2
  have hc := h.2.2.1 i hi
  have hlt := (hw.2 _ _ hc).2
  have hne : nd i ≠ st.2.2 := Nat.ne_of_lt hlt
  have g0 : g_Rd (g_new st (.inr (11, [va_rf none, va_rf none]))) (nd i) (tE nd ka va L R P co i) := Or.inl (by show g_upd st.2.1 st.2.2 _ (nd i) = _; rw [g_upd_n hne]; exact hc)
  refine wk_J41_init ⟨_, rfl, ⟨_, g0⟩, wk_J27_getKey ⟨_, ⟨_, g0, rfl⟩, ⟨rfl, _, g_upd_s, fun st4 e4 => ?_⟩⟩⟩
  have g1 : g_Rd st4 (nd i) (tE nd ka va L R P co i) := Or.inl (by rw [e4]; show g_upd (g_upd st.2.1 st.2.2 _) st.2.2 _ (nd i) = _; rw [g_upd_n hne, g_upd_n hne]; exact hc)
  refine ⟨⟨_, g1⟩, wk_J27_getValue ⟨_, ⟨_, g1, rfl⟩, ⟨rfl, _, by rw [e4]; exact g_upd_s, fun st7 e7 hx => hq1 i rfl _ ?_ ⟨?_, fun q hq => ?_⟩⟩⟩⟩
  · rw [e7]
    exact g_upd_s
  · exact (g_Ext.new g_Ext.rf).tr hx
  · rw [e7, e4]
    show g_upd (g_upd (g_upd st.2.1 st.2.2 _) st.2.2 _) st.2.2 _ q = _
    rw [g_upd_n (Nat.ne_of_lt hq), g_upd_n (Nat.ne_of_lt hq), g_upd_n (Nat.ne_of_lt hq)]
theorem ct_ceilingEntry {mc' ms : Nat} {Q : Option Nat → g_St → Prop} (h : TMx st tm n nd ka va mc x ws) (hk : Str st.1 k t) (hkl : t.length < 128) (hE : Cst E st.1) (hmc : 1 ≤ mc') (hms : 2 ≤ ms) (hq0 : ¬ cL ws t < n → Q none st) (hq1 : cL ws t < n → ∀ st' : g_St, EN st'.2.1 st.2.2 (ka (cL ws t)) (va (cL ws t)) → Sm st st' → Q (some st.2.2) st') : wp_J5_ceilingEntry l E mc' ms [va_rf (some tm), va_rf (some k)] st Q := by
  refine g_WPa.wf fun hw => ?_
  obtain ⟨L, R, P, co, rt, lo, hi, hT, hS, hB, hn, hn2, hK, hV, hs, hv1, hv2⟩ := h
  have hp := Pos.of hs t
  rw [← hn] at hp
  refine wk_J5_ceilingEntry ⟨hT.gI, ct_getCeilingEntry hT hS hK hk hkl hE.1 hp ⟨rfl, mc', ms, Nat.le_refl _, Nat.le_refl _, ?_⟩⟩
  rw [tnx_o]
  refine ct_exportEntry hT hw inx_lt hmc hms (fun e _ => hq0 fun z => ?_) fun i e st' h1 h2 _ => ?_
  · unfold inx at e
    rw [if_pos z] at e
    cases e
  · have hi := inx_lt i e
    unfold inx at e
    by_cases z : cL ws t < n
    · rw [if_pos z] at e
      cases e
      exact hq1 z st' h1 h2
    · rw [if_neg z] at e
      cases e
theorem ct_higherEntry {mc' ms : Nat} {Q : Option Nat → g_St → Prop} (h : TMx st tm n nd ka va mc x ws) (hk : Str st.1 k t) (hkl : t.length < 128) (hE : Cst E st.1) (hmc : 1 ≤ mc') (hms : 2 ≤ ms) (hq0 : ¬ dL ws t < n → Q none st) (hq1 : dL ws t < n → ∀ st' : g_St, EN st'.2.1 st.2.2 (ka (dL ws t)) (va (dL ws t)) → Sm st st' → Q (some st.2.2) st') : wp_J5_higherEntry l E mc' ms [va_rf (some tm), va_rf (some k)] st Q := by
  refine g_WPa.wf fun hw => ?_
  obtain ⟨L, R, P, co, rt, lo, hi, hT, hS, hB, hn, hn2, hK, hV, hs, hv1, hv2⟩ := h
  have hp := Pos.of hs t
  rw [← hn] at hp
  refine wk_J5_higherEntry ⟨hT.gI, ct_getHigherEntry hT hS hK hk hkl hE.1 hp ⟨rfl, mc', ms, Nat.le_refl _, Nat.le_refl _, ?_⟩⟩
  rw [tnx_o]
  refine ct_exportEntry hT hw inx_lt hmc hms (fun e _ => hq0 fun z => ?_) fun i e st' h1 h2 _ => ?_
  · unfold inx at e
    rw [if_pos z] at e
    cases e
  · have hi := inx_lt i e
    unfold inx at e
    by_cases z : dL ws t < n
    · rw [if_pos z] at e
      cases e
      exact hq1 z st' h1 h2
    · rw [if_neg z] at e
      cases e
theorem ct_J41_getKey {q a b : Nat} {Q : Option Nat → g_St → Prop} (h : EN st.2.1 q a b) (hq : Q (some a) st) : wp_J41_getKey l E 0 0 [va_rf (some q)] st Q := wk_J41_getKey ⟨_, ⟨_, Or.inl h, rfl⟩, hq⟩
theorem ct_J41_getValue {q a b : Nat} {Q : Option Nat → g_St → Prop} (h : EN st.2.1 q a b) (hq : Q (some b) st) : wp_J41_getValue l E 0 0 [va_rf (some q)] st Q := wk_J41_getValue ⟨_, ⟨_, Or.inl h, rfl⟩, hq⟩
end GT8
