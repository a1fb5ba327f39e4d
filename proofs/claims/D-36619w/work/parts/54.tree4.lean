/-! TREE 4: looking for keys -/
section GT4
variable {l : Launch} {E : g_E} {st0 st : g_St} {tm n : Nat} {nd ka va : Nat → Nat} {L R P : Nat → Option Nat} {co : Nat → Int32} {rt : Option Nat} {sz mc : Int32} {lo hi : Nat → Nat} {x : tX} {ks : Nat → List Nat}
/-- keys less than t: 0 .. c - 1; equal to t: c .. d - 1; greater: d .. n - 1 -/
def Pos (n : Nat) (ks : Nat → List Nat) (t : List Nat) (c d : Nat) : Prop := c ≤ d ∧ d ≤ c + 1 ∧ d ≤ n ∧ ∀ i, i < n → (t < ks i ↔ d ≤ i) ∧ (t = ks i ↔ c ≤ i ∧ i < d)
/-- the nodes' keys are Strings -/
def KD (f : g_H) (n : Nat) (ka : Nat → Nat) (ks : Nat → List Nat) : Prop := ∀ i, i < n → Str f (ka i) (ks i) ∧ (ks i).length < 128
def tpv (nd : Nat → Nat) (b : Nat) : Option Nat := if 0 < b then some (nd (b - 1)) else none
theorem i3 (x : Int32) : (x < 0 ∧ ¬ 0 ≤ x ∧ x ≤ 0 ∧ ¬ x = 0 ∧ ¬ 0 < x) ∨ (x = 0 ∧ 0 ≤ x ∧ x ≤ 0 ∧ ¬ x < 0 ∧ ¬ 0 < x) ∨ (0 < x ∧ 0 ≤ x ∧ ¬ x ≤ 0 ∧ ¬ x < 0 ∧ ¬ x = 0) := by
  simp only [Int32.lt_iff_toInt_lt, Int32.le_iff_toInt_le, ← Int32.toInt_inj, Int32.toInt_zero]
  omega
/-- a comparison with the node p says on which side the place is -/
theorem Pos.cmp {t : List Nat} {c d p : Nat} {y : Int32} (h : Pos n ks t c d) (hp : p < n) (hy : cmpv t (ks p) y) : (y < 0 ∧ ¬ 0 ≤ y ∧ y ≤ 0 ∧ ¬ y = 0 ∧ ¬ 0 < y ∧ d ≤ p) ∨ (y = 0 ∧ 0 ≤ y ∧ y ≤ 0 ∧ ¬ y < 0 ∧ ¬ 0 < y ∧ p = c ∧ d = c + 1) ∨ (0 < y ∧ 0 ≤ y ∧ ¬ y ≤ 0 ∧ ¬ y < 0 ∧ ¬ y = 0 ∧ p < c) := by
  obtain ⟨h1, h2, h3, h4⟩ := h
  obtain ⟨k1, k2⟩ := h4 p hp
  rcases i3 y with ⟨e1, e2, e3, e4, e5⟩ | ⟨e1, e2, e3, e4, e5⟩ | ⟨e1, e2, e3, e4, e5⟩
  · exact Or.inl ⟨e1, e2, e3, e4, e5, k1.mp (hy.1.mp e1)⟩
  · have := k2.mp (hy.2.mp e1)
    exact Or.inr (Or.inl ⟨e1, e2, e3, e4, e5, by omega, by omega⟩)
  · have q1 : ¬ d ≤ p := fun z => e4 (hy.1.mpr (k1.mpr z))
    have q2 : ¬ (c ≤ p ∧ p < d) := fun z => e5 (hy.2.mpr (k2.mpr z))
    exact Or.inr (Or.inr ⟨e1, e2, e3, e4, e5, by omega⟩)
theorem ct_J5_compare {a b : Nat} {t u : List Nat} {Q : Int32 → g_St → Prop} (h : TS st0 st tm n nd ka va L R P co rt sz mc x) (ha : Str st.1 a t) (hb : Str st.1 b u) (hu : ∃ a : Nat, E.2.2.2.2.1 5 = some a) (hat : t.length < 128) (hbu : u.length < 128) (hq : ∀ y, cmpv t u y → Q y st) : wp_J5_compare l E 0 0 [va_rf (some tm), va_rf (some a), va_rf (some b)] st Q :=
  wk_J5_compare ⟨_, h.gM, fun _ => ⟨ha.isN, a, rfl, ha.is, ct_J2_compareTo ha hb hu hat hbu fun y hy => ⟨rfl, hq y hy⟩⟩, fun a e => by cases e⟩
theorem climbR {p b : Nat} {Q : Option Nat → g_St → Prop} (h : TS st0 st tm n nd ka va L R P co rt sz mc x) (hS : Shp n rt L R P lo hi) (hp : p < n) (hb : hi p = b) (hq : Q (tnx n nd b) st) : g_lp2 (fun (K : (Option Nat) → (Option Nat) → Prop) (o7 : Option Nat) (o8 : Option Nat) => g_jn0 (fun (K12 : Prop) => (o7 = none → K12) ∧ (∀ a15 : Nat, o7 = some a15 → ∃ o16 : Option Nat, g_gr st a15 4 3 o16 ∧ (¬ o8 = o16 → K12) ∧ (o8 = o16 → ∃ o18 : Option Nat, g_gr st a15 4 4 o18 ∧ K o18 (some a15)))) (Q o7 st)) ((P p).map nd) (some (nd p)) := by
  obtain ⟨h1, h2, h3, h4, h5, h6, h7, h8, h9⟩ := id hS
  refine g_lp2_m (fun m o7 o8 => ∃ c, c < n ∧ o7 = (P c).map nd ∧ o8 = some (nd c) ∧ hi c = b ∧ m = n - (hi c - lo c)) ?_ ⟨p, hp, rfl, rfl, hb, rfl⟩
  rintro m o7 o8 K ⟨c, hc, rfl, rfl, hc1, rfl⟩ hK
  have bc := h1 c hc
  show _ ∧ _
  refine ⟨fun e => ?_, fun a15 e => ?_⟩
  · rw [e]
    have k1 := h6 c hc (om_none e)
    have k2 := h9 c k1
    unfold tnx at hq
    rw [if_neg (by omega)] at hq
    exact hq
  · rw [e]
    obtain ⟨a, hP, rfl⟩ := om_some e
    obtain ⟨ha, hLR⟩ := h7 c a hc hP
    have ba := h1 a ha
    refine ⟨_, h.gR ha, fun hne => ?_, fun heq => ?_⟩
    · rcases hLR with hL | hR'
      · have k := h3 a c ha hL
        have e2 : a = b := by omega
        unfold tnx at hq
        rw [if_pos (by omega), ← e2] at hq
        exact hq
      · exact absurd (by rw [hR']; rfl) hne
    · have hR' := h.injO hc (fun j hj => (h5 a j ha hj).1) heq
      have k := h5 a c ha hR'
      exact ⟨_, h.gP ha, hK _ _ _ ⟨a, ha, rfl, rfl, by omega, rfl⟩ (by omega)⟩
theorem climbL {p b : Nat} {Q : Option Nat → g_St → Prop} (h : TS st0 st tm n nd ka va L R P co rt sz mc x) (hS : Shp n rt L R P lo hi) (hp : p < n) (hb : lo p = b) (hq : Q (tpv nd b) st) : g_lp2 (fun (K : (Option Nat) → (Option Nat) → Prop) (o7 : Option Nat) (o8 : Option Nat) => g_jn0 (fun (K12 : Prop) => (o7 = none → K12) ∧ (∀ a15 : Nat, o7 = some a15 → ∃ o16 : Option Nat, g_gr st a15 4 2 o16 ∧ (¬ o8 = o16 → K12) ∧ (o8 = o16 → ∃ o18 : Option Nat, g_gr st a15 4 4 o18 ∧ K o18 (some a15)))) (Q o7 st)) ((P p).map nd) (some (nd p)) := by
  obtain ⟨h1, h2, h3, h4, h5, h6, h7, h8, h9⟩ := id hS
  refine g_lp2_m (fun m o7 o8 => ∃ c, c < n ∧ o7 = (P c).map nd ∧ o8 = some (nd c) ∧ lo c = b ∧ m = n - (hi c - lo c)) ?_ ⟨p, hp, rfl, rfl, hb, rfl⟩
  rintro m o7 o8 K ⟨c, hc, rfl, rfl, hc1, rfl⟩ hK
  have bc := h1 c hc
  show _ ∧ _
  refine ⟨fun e => ?_, fun a15 e => ?_⟩
  · rw [e]
    have k1 := h6 c hc (om_none e)
    have k2 := h9 c k1
    unfold tpv at hq
    rw [if_neg (by omega)] at hq
    exact hq
  · rw [e]
    obtain ⟨a, hP, rfl⟩ := om_some e
    obtain ⟨ha, hLR⟩ := h7 c a hc hP
    have ba := h1 a ha
    refine ⟨_, h.gL ha, fun hne => ?_, fun heq => ?_⟩
    · rcases hLR with hL | hR'
      · exact absurd (by rw [hL]; rfl) hne
      · have k := h5 a c ha hR'
        have e2 : b - 1 = a := by omega
        unfold tpv at hq
        rw [if_pos (by omega), e2] at hq
        exact hq
    · have hL := h.injO hc (fun j hj => (h3 a j ha hj).1) heq
      have k := h3 a c ha hL
      exact ⟨_, h.gP ha, hK _ _ _ ⟨a, ha, rfl, rfl, by omega, rfl⟩ (by omega)⟩
theorem ct_getEntry {k c d : Nat} {t : List Nat} {Q : Option Nat → g_St → Prop} (h : TS st0 st tm n nd ka va L R P co rt sz mc x) (hS : Shp n rt L R P lo hi) (hK : KD st.1 n ka ks) (hk : Str st.1 k t) (hkl : t.length < 128) (hu : ∃ a : Nat, E.2.2.2.2.1 5 = some a) (hp : Pos n ks t c d) (hq : Q (if c < d then some (nd c) else none) st) : wp_J5_getEntry l E 0 0 [va_rf (some tm), va_rf (some k)] st Q := by
  obtain ⟨h1, h2, h3, h4, h5, h6, h7, h8, h9⟩ := id hS
  obtain ⟨p1, p2, p3, p4⟩ := id hp
  refine wk_J5_getEntry ⟨_, h.gM, fun _ => wk_J24_requireNonNull ⟨fun e => (by cases e), fun a2 e => ⟨rfl, hk.isN, _, h.gT, ?_⟩⟩, fun a e => by cases e⟩
  refine g_lp1_m (fun m o => (o = none ∧ ¬ c < d) ∨ ∃ p, p < n ∧ o = some (nd p) ∧ lo p ≤ c ∧ d ≤ hi p ∧ m = hi p - lo p) ?_ (m := n) ?start
  case start =>
    cases hr : rt with
    | none =>
      have := h8 hr
      exact Or.inl ⟨rfl, by omega⟩
    | some r =>
      have k := h9 r hr
      exact Or.inr ⟨r, k.1, rfl, by omega, by omega, by omega⟩
  rintro m o K (⟨rfl, hcd⟩ | ⟨p, pn, rfl, q1, q2, rfl⟩) hKK
  · refine ⟨fun _ => ?_, fun a e => by cases e⟩
    rw [if_neg hcd] at hq
    exact hq
  · refine ⟨fun e => (by cases e), fun a e => ?_⟩
    cases e
    have bp := h1 p pn
    refine ⟨_, h.gK pn, k, rfl, hk.is, ct_J2_compareTo hk (hK p pn).1 hu hkl (hK p pn).2 fun y hy => ⟨rfl, ?_⟩⟩
    show _ ∧ _
    rcases hp.cmp pn hy with ⟨e1, e2, e3, e4, e5, e6⟩ | ⟨e1, e2, e3, e4, e5, e6, e7⟩ | ⟨e1, e2, e3, e4, e5, e6⟩
    · refine ⟨fun z => absurd z e2, fun _ => ⟨_, h.gL pn, ?_⟩⟩
      cases hL : L p with
      | none =>
        have := h2 p pn hL
        exact hKK 0 _ (Or.inl ⟨rfl, by omega⟩) (by omega)
      | some j =>
        have k3 := h3 p j pn hL
        have := h1 j k3.1
        exact hKK _ _ (Or.inr ⟨j, k3.1, rfl, by omega, by omega, rfl⟩) (by omega)
    · refine ⟨fun _ => ⟨fun _ => ?_, fun z => absurd e3 z⟩, fun z => absurd e2 z⟩
      rw [if_pos (by omega), ← e6] at hq
      exact hq
    · refine ⟨fun _ => ⟨fun z => absurd z e3, fun _ => ⟨_, h.gR pn, ?_⟩⟩, fun z => absurd e2 z⟩
      cases hR : R p with
      | none =>
        have := h4 p pn hR
        exact hKK 0 _ (Or.inl ⟨rfl, by omega⟩) (by omega)
      | some j =>
        have k3 := h5 p j pn hR
        have := h1 j k3.1
        exact hKK _ _ (Or.inr ⟨j, k3.1, rfl, by omega, by omega, rfl⟩) (by omega)
theorem ct_getHigherEntry {k c d : Nat} {t : List Nat} {Q : Option Nat → g_St → Prop} (h : TS st0 st tm n nd ka va L R P co rt sz mc x) (hS : Shp n rt L R P lo hi) (hK : KD st.1 n ka ks) (hk : Str st.1 k t) (hkl : t.length < 128) (hu : ∃ a : Nat, E.2.2.2.2.1 5 = some a) (hp : Pos n ks t c d) (hq : Q (tnx n nd d) st) : wp_J5_getHigherEntry l E 0 0 [va_rf (some tm), va_rf (some k)] st Q := by
  obtain ⟨h1, h2, h3, h4, h5, h6, h7, h8, h9⟩ := id hS
  obtain ⟨p1, p2, p3, p4⟩ := id hp
  refine wk_J5_getHigherEntry ⟨_, h.gT, ?_⟩
  refine g_lp1_m (fun m o => (o = none ∧ tnx n nd d = none) ∨ ∃ p, p < n ∧ o = some (nd p) ∧ lo p ≤ d ∧ d ≤ hi p ∧ m = hi p - lo p) ?_ (m := n) ?start
  case start =>
    cases hr : rt with
    | none =>
      have := h8 hr
      exact Or.inl ⟨rfl, by unfold tnx; rw [if_neg (by omega)]⟩
    | some r =>
      have k := h9 r hr
      exact Or.inr ⟨r, k.1, rfl, by omega, by omega, by omega⟩
  rintro m o K (⟨rfl, hcd⟩ | ⟨p, pn, rfl, q1, q2, rfl⟩) hKK
  · refine ⟨fun _ => ?_, fun a e => by cases e⟩
    rw [hcd] at hq
    exact hq
  · refine ⟨fun e => (by cases e), fun a e => ?_⟩
    cases e
    have bp := h1 p pn
    refine ⟨_, h.gK pn, h.gI, ct_J5_compare h hk (hK p pn).1 hu hkl (hK p pn).2 fun y hy => ⟨rfl, ?_⟩⟩
    show _ ∧ _
    rcases hp.cmp pn hy with ⟨e1, e2, e3, e4, e5, e6⟩ | ⟨e1, e2, e3, e4, e5, e6, e7⟩ | ⟨e1, e2, e3, e4, e5, e6⟩
    · refine ⟨fun z => absurd z e2, fun _ => ⟨_, h.gL pn, fun z => ?_, fun a z => ⟨_, h.gL pn, ?_⟩⟩⟩
      · have hL := om_none z
        have := h2 p pn hL
        unfold tnx at hq
        rw [if_pos (by omega), show d = p by omega] at hq
        exact hq
      · obtain ⟨j, hj, rfl⟩ := om_some z
        have k3 := h3 p j pn hj
        have := h1 j k3.1
        rw [hj]
        exact hKK _ _ (Or.inr ⟨j, k3.1, rfl, by omega, by omega, rfl⟩) (by omega)
    · refine ⟨fun _ => ⟨_, h.gR pn, fun z => ?_, fun a z => ⟨_, h.gR pn, ?_⟩⟩, fun z => absurd e2 z⟩
      · have hR := om_none z
        have := h4 p pn hR
        exact ⟨_, h.gP pn, climbR h hS pn (by omega) hq⟩
      · obtain ⟨j, hj, rfl⟩ := om_some z
        have k3 := h5 p j pn hj
        have := h1 j k3.1
        rw [hj]
        exact hKK _ _ (Or.inr ⟨j, k3.1, rfl, by omega, by omega, rfl⟩) (by omega)
    · refine ⟨fun _ => ⟨_, h.gR pn, fun z => ?_, fun a z => ⟨_, h.gR pn, ?_⟩⟩, fun z => absurd e2 z⟩
      · have hR := om_none z
        have := h4 p pn hR
        exact ⟨_, h.gP pn, climbR h hS pn (by omega) hq⟩
      · obtain ⟨j, hj, rfl⟩ := om_some z
        have k3 := h5 p j pn hj
        have := h1 j k3.1
        rw [hj]
        exact hKK _ _ (Or.inr ⟨j, k3.1, rfl, by omega, by omega, rfl⟩) (by omega)
theorem ct_getCeilingEntry {k c d : Nat} {t : List Nat} {Q : Option Nat → g_St → Prop} (h : TS st0 st tm n nd ka va L R P co rt sz mc x) (hS : Shp n rt L R P lo hi) (hK : KD st.1 n ka ks) (hk : Str st.1 k t) (hkl : t.length < 128) (hu : ∃ a : Nat, E.2.2.2.2.1 5 = some a) (hp : Pos n ks t c d) (hq : Q (tnx n nd c) st) : wp_J5_getCeilingEntry l E 0 0 [va_rf (some tm), va_rf (some k)] st Q := by
  obtain ⟨h1, h2, h3, h4, h5, h6, h7, h8, h9⟩ := id hS
  obtain ⟨p1, p2, p3, p4⟩ := id hp
  refine wk_J5_getCeilingEntry ⟨_, h.gT, ?_⟩
  refine g_lp1_m (fun m o => (o = none ∧ tnx n nd c = none) ∨ ∃ p, p < n ∧ o = some (nd p) ∧ lo p ≤ c ∧ c ≤ hi p ∧ m = hi p - lo p) ?_ (m := n) ?start
  case start =>
    cases hr : rt with
    | none =>
      have := h8 hr
      exact Or.inl ⟨rfl, by unfold tnx; rw [if_neg (by omega)]⟩
    | some r =>
      have k := h9 r hr
      exact Or.inr ⟨r, k.1, rfl, by omega, by omega, by omega⟩
  rintro m o K (⟨rfl, hcd⟩ | ⟨p, pn, rfl, q1, q2, rfl⟩) hKK
  · refine ⟨fun _ => ?_, fun a e => by cases e⟩
    rw [hcd] at hq
    exact hq
  · refine ⟨fun e => (by cases e), fun a e => ?_⟩
    cases e
    have bp := h1 p pn
    refine ⟨_, h.gK pn, h.gI, ct_J5_compare h hk (hK p pn).1 hu hkl (hK p pn).2 fun y hy => ⟨rfl, ?_⟩⟩
    show _ ∧ _
    rcases hp.cmp pn hy with ⟨e1, e2, e3, e4, e5, e6⟩ | ⟨e1, e2, e3, e4, e5, e6, e7⟩ | ⟨e1, e2, e3, e4, e5, e6⟩
    · refine ⟨fun z => absurd z e2, fun _ => ⟨_, h.gL pn, fun z => ?_, fun a z => ⟨_, h.gL pn, ?_⟩⟩⟩
      · have hL := om_none z
        have := h2 p pn hL
        unfold tnx at hq
        rw [if_pos (by omega), show c = p by omega] at hq
        exact hq
      · obtain ⟨j, hj, rfl⟩ := om_some z
        have k3 := h3 p j pn hj
        have := h1 j k3.1
        rw [hj]
        exact hKK _ _ (Or.inr ⟨j, k3.1, rfl, by omega, by omega, rfl⟩) (by omega)
    · refine ⟨fun _ => ⟨fun _ => ?_, fun z => absurd e3 z⟩, fun z => absurd e2 z⟩
      unfold tnx at hq
      rw [if_pos (by omega), show c = p by omega] at hq
      exact hq
    · refine ⟨fun _ => ⟨fun z => absurd z e3, fun _ => ⟨_, h.gR pn, fun z => ?_, fun a z => ⟨_, h.gR pn, ?_⟩⟩⟩, fun z => absurd e2 z⟩
      · have hR := om_none z
        have := h4 p pn hR
        exact ⟨_, h.gP pn, climbR h hS pn (by omega) hq⟩
      · obtain ⟨j, hj, rfl⟩ := om_some z
        have k3 := h5 p j pn hj
        have := h1 j k3.1
        rw [hj]
        exact hKK _ _ (Or.inr ⟨j, k3.1, rfl, by omega, by omega, rfl⟩) (by omega)
theorem ct_getFloorEntry {k c d : Nat} {t : List Nat} {Q : Option Nat → g_St → Prop} (h : TS st0 st tm n nd ka va L R P co rt sz mc x) (hS : Shp n rt L R P lo hi) (hK : KD st.1 n ka ks) (hk : Str st.1 k t) (hkl : t.length < 128) (hu : ∃ a : Nat, E.2.2.2.2.1 5 = some a) (hp : Pos n ks t c d) (hq : Q (tpv nd d) st) : wp_J5_getFloorEntry l E 0 0 [va_rf (some tm), va_rf (some k)] st Q := by
  obtain ⟨h1, h2, h3, h4, h5, h6, h7, h8, h9⟩ := id hS
  obtain ⟨p1, p2, p3, p4⟩ := id hp
  refine wk_J5_getFloorEntry ⟨_, h.gT, ?_⟩
  refine g_lp1_m (fun m o => (o = none ∧ tpv nd d = none) ∨ ∃ p, p < n ∧ o = some (nd p) ∧ lo p ≤ d ∧ d ≤ hi p ∧ m = hi p - lo p) ?_ (m := n) ?start
  case start =>
    cases hr : rt with
    | none =>
      have := h8 hr
      exact Or.inl ⟨rfl, by unfold tpv; rw [if_neg (by omega)]⟩
    | some r =>
      have k := h9 r hr
      exact Or.inr ⟨r, k.1, rfl, by omega, by omega, by omega⟩
  rintro m o K (⟨rfl, hcd⟩ | ⟨p, pn, rfl, q1, q2, rfl⟩) hKK
  · refine ⟨fun _ => ?_, fun a e => by cases e⟩
    rw [hcd] at hq
    exact hq
  · refine ⟨fun e => (by cases e), fun a e => ?_⟩
    cases e
    have bp := h1 p pn
    refine ⟨_, h.gK pn, h.gI, ct_J5_compare h hk (hK p pn).1 hu hkl (hK p pn).2 fun y hy => ⟨rfl, ?_⟩⟩
    show _ ∧ _
    rcases hp.cmp pn hy with ⟨e1, e2, e3, e4, e5, e6⟩ | ⟨e1, e2, e3, e4, e5, e6, e7⟩ | ⟨e1, e2, e3, e4, e5, e6⟩
    · refine ⟨fun _ => ⟨fun z => absurd z e2, fun _ => ⟨_, h.gL pn, fun z => ?_, fun a z => ⟨_, h.gL pn, ?_⟩⟩⟩, fun z => absurd e3 z⟩
      · have hL := om_none z
        have := h2 p pn hL
        exact ⟨_, h.gP pn, climbL h hS pn (by omega) hq⟩
      · obtain ⟨j, hj, rfl⟩ := om_some z
        have k3 := h3 p j pn hj
        have := h1 j k3.1
        rw [hj]
        exact hKK _ _ (Or.inr ⟨j, k3.1, rfl, by omega, by omega, rfl⟩) (by omega)
    · refine ⟨fun _ => ⟨fun _ => ?_, fun z => absurd e2 z⟩, fun z => absurd e3 z⟩
      unfold tpv at hq
      rw [if_pos (by omega), show d - 1 = p by omega] at hq
      exact hq
    · refine ⟨fun z => absurd z e3, fun _ => ⟨_, h.gR pn, fun z => ?_, fun a z => ⟨_, h.gR pn, ?_⟩⟩⟩
      · have hR := om_none z
        have := h4 p pn hR
        unfold tpv at hq
        rw [if_pos (by omega), show d - 1 = p by omega] at hq
        exact hq
      · obtain ⟨j, hj, rfl⟩ := om_some z
        have k3 := h5 p j pn hj
        have := h1 j k3.1
        rw [hj]
        exact hKK _ _ (Or.inr ⟨j, k3.1, rfl, by omega, by omega, rfl⟩) (by omega)
theorem ct_getLowerEntry {k c d : Nat} {t : List Nat} {Q : Option Nat → g_St → Prop} (h : TS st0 st tm n nd ka va L R P co rt sz mc x) (hS : Shp n rt L R P lo hi) (hK : KD st.1 n ka ks) (hk : Str st.1 k t) (hkl : t.length < 128) (hu : ∃ a : Nat, E.2.2.2.2.1 5 = some a) (hp : Pos n ks t c d) (hq : Q (tpv nd c) st) : wp_J5_getLowerEntry l E 0 0 [va_rf (some tm), va_rf (some k)] st Q := by
  obtain ⟨h1, h2, h3, h4, h5, h6, h7, h8, h9⟩ := id hS
  obtain ⟨p1, p2, p3, p4⟩ := id hp
  refine wk_J5_getLowerEntry ⟨_, h.gT, ?_⟩
  refine g_lp1_m (fun m o => (o = none ∧ tpv nd c = none) ∨ ∃ p, p < n ∧ o = some (nd p) ∧ lo p ≤ c ∧ c ≤ hi p ∧ m = hi p - lo p) ?_ (m := n) ?start
  case start =>
    cases hr : rt with
    | none =>
      have := h8 hr
      exact Or.inl ⟨rfl, by unfold tpv; rw [if_neg (by omega)]⟩
    | some r =>
      have k := h9 r hr
      exact Or.inr ⟨r, k.1, rfl, by omega, by omega, by omega⟩
  rintro m o K (⟨rfl, hcd⟩ | ⟨p, pn, rfl, q1, q2, rfl⟩) hKK
  · refine ⟨fun _ => ?_, fun a e => by cases e⟩
    rw [hcd] at hq
    exact hq
  · refine ⟨fun e => (by cases e), fun a e => ?_⟩
    cases e
    have bp := h1 p pn
    refine ⟨_, h.gK pn, h.gI, ct_J5_compare h hk (hK p pn).1 hu hkl (hK p pn).2 fun y hy => ⟨rfl, ?_⟩⟩
    show _ ∧ _
    rcases hp.cmp pn hy with ⟨e1, e2, e3, e4, e5, e6⟩ | ⟨e1, e2, e3, e4, e5, e6, e7⟩ | ⟨e1, e2, e3, e4, e5, e6⟩
    · refine ⟨fun _ => ⟨_, h.gL pn, fun z => ?_, fun a z => ⟨_, h.gL pn, ?_⟩⟩, fun z => absurd e3 z⟩
      · have hL := om_none z
        have := h2 p pn hL
        exact ⟨_, h.gP pn, climbL h hS pn (by omega) hq⟩
      · obtain ⟨j, hj, rfl⟩ := om_some z
        have k3 := h3 p j pn hj
        have := h1 j k3.1
        rw [hj]
        exact hKK _ _ (Or.inr ⟨j, k3.1, rfl, by omega, by omega, rfl⟩) (by omega)
    · refine ⟨fun _ => ⟨_, h.gL pn, fun z => ?_, fun a z => ⟨_, h.gL pn, ?_⟩⟩, fun z => absurd e3 z⟩
      · have hL := om_none z
        have := h2 p pn hL
        exact ⟨_, h.gP pn, climbL h hS pn (by omega) hq⟩
      · obtain ⟨j, hj, rfl⟩ := om_some z
        have k3 := h3 p j pn hj
        have := h1 j k3.1
        rw [hj]
        exact hKK _ _ (Or.inr ⟨j, k3.1, rfl, by omega, by omega, rfl⟩) (by omega)
    · refine ⟨fun z => absurd z e3, fun _ => ⟨_, h.gR pn, fun z => ?_, fun a z => ⟨_, h.gR pn, ?_⟩⟩⟩
      · have hR := om_none z
        have := h4 p pn hR
        unfold tpv at hq
        rw [if_pos (by omega), show c - 1 = p by omega] at hq
        exact hq
      · obtain ⟨j, hj, rfl⟩ := om_some z
        have k3 := h5 p j pn hj
        have := h1 j k3.1
        rw [hj]
        exact hKK _ _ (Or.inr ⟨j, k3.1, rfl, by omega, by omega, rfl⟩) (by omega)
end GT4
