/-! MODEL 8: near, beginnings, longest, shared, twin, pieces -/
section GMD8
variable {us ws : wL} {t : List Nat} {cs : Nat → List Nat} {l : Launch} {E : g_E} {st0 st : g_St} {m k0 : Nat} {Q : Int32 → g_St → Prop} {A : Nat → Nat → Int32} {W : Nat → Int64} {c ln mn : Int32}
def nrx (c : Nat) (t : List Nat) (ws : wL) : Option Nat := if c = 102 then ipv (dL ws t) else if c = 99 then inx ws.length (cL ws t) else if c = 108 then ipv (cL ws t) else inx ws.length (dL ws t)
def sp_near (c : Nat) (t : List Nat) (ws : wL) (cs : Nat → List Nat) : sR := if ¬ (c = 102 ∨ c = 99 ∨ c = 108 ∨ c = 104) then (1, nI 0, t, ws, cs) else match nrx c t ws with
  | none => (2, nI 0, t, ws, cs)
  | some i => (0, nI (vv ws i), kk ws i, ws, cs)
/-- which words are asked for; which of two is the better one -/
def one (c : Nat) (t k : List Nat) : Prop := if c = 102 then ¬ t < k else if c = 99 then ¬ k < t else if c = 108 then k < t else t < k
def btr (c : Nat) (k k' : List Nat) : Prop := if c = 102 ∨ c = 108 then k' < k else k < k'
theorem nrx_n (hp : us.Perm ws) (hs : Sd ws) {c : Nat} (h : ∀ w, w < us.length → ¬ one c t (kk us w)) : nrx c t ws = none := by
  have hP := Pos.of hs t
  have h2 : ∀ i, i < ws.length → ¬ one c t (kk ws i) := fun i hi => by
    obtain ⟨w, hw, e, _⟩ := pm_2 hp hi
    rw [← e]
    exact h w hw
  have p1 := hP.1
  have p2 := hP.2.1
  have p3 := hP.2.2.1
  have hlt : ∀ i, i < ws.length → (kk ws i < t ↔ i < cL ws t) := fun i hi => by
    have := hP.2.2.2 i hi
    constructor
    · intro z
      have n1 : ¬ dL ws t ≤ i := fun w => ll_as z (this.1.mpr w)
      have n2 : ¬ (cL ws t ≤ i ∧ i < dL ws t) := fun w => by
        rw [this.2.mpr w] at z
        exact ll_irr _ z
      omega
    · intro z
      rcases ll_tri (kk ws i) t with w | w | w
      · exact w
      · have := this.2.mp w.symm
        omega
      · have := this.1.mp w
        omega
  unfold nrx
  unfold one at h2
  by_cases c1 : c = 102
  · simp only [if_pos c1] at h2 ⊢
    unfold ipv
    rw [if_neg]
    intro z
    refine h2 (dL ws t - 1) (by omega) fun w => ?_
    have := (hP.2.2.2 _ (by omega)).1.mp w
    omega
  · simp only [if_neg c1] at h2 ⊢
    by_cases c2 : c = 99
    · simp only [if_pos c2] at h2 ⊢
      unfold inx
      rw [if_neg]
      intro z
      exact h2 _ z fun w => by have := (hlt _ z).mp w; omega
    · simp only [if_neg c2] at h2 ⊢
      by_cases c3 : c = 108
      · simp only [if_pos c3] at h2 ⊢
        unfold ipv
        rw [if_neg]
        intro z
        exact h2 (cL ws t - 1) (by omega) ((hlt _ (by omega)).mpr (by omega))
      · simp only [if_neg c3] at h2 ⊢
        unfold inx
        rw [if_neg]
        intro z
        exact h2 _ z ((hP.2.2.2 _ z).1.mpr (Nat.le_refl _))
theorem nrx_s (hp : us.Perm ws) (hs : Sd ws) {c b : Nat} (hb : b < us.length) (h1 : one c t (kk us b)) (h : ∀ w, w < us.length → one c t (kk us w) → ¬ btr c (kk us w) (kk us b)) : ∃ i, nrx c t ws = some i ∧ i < ws.length ∧ kk ws i = kk us b ∧ vv ws i = vv us b := by
  have hP := Pos.of hs t
  have k := pm_1 hp hs hb
  generalize cL ws (kk us b) = i at k
  obtain ⟨i1, -, i3, i4⟩ := k
  have h2 : ∀ j, j < ws.length → one c t (kk ws j) → ¬ btr c (kk ws j) (kk ws i) := fun j hj => by
    obtain ⟨w, hw, e, _⟩ := pm_2 hp hj
    rw [← e, i3]
    exact h w hw
  rw [← i3] at h1
  have p1 := hP.1
  have p2 := hP.2.1
  have p3 := hP.2.2.1
  have hlt : ∀ i, i < ws.length → (kk ws i < t ↔ i < cL ws t) := fun i hi => by
    have := hP.2.2.2 i hi
    constructor
    · intro z
      have n1 : ¬ dL ws t ≤ i := fun w => ll_as z (this.1.mpr w)
      have n2 : ¬ (cL ws t ≤ i ∧ i < dL ws t) := fun w => by
        rw [this.2.mpr w] at z
        exact ll_irr _ z
      omega
    · intro z
      rcases ll_tri (kk ws i) t with w | w | w
      · exact w
      · have := this.2.mp w.symm
        omega
      · have := this.1.mp w
        omega
  refine ⟨i, ?_, i1, i3, i4⟩
  unfold nrx
  unfold one at h1 h2
  unfold btr at h2
  by_cases c1 : c = 102
  · simp only [if_pos c1, c1, true_or, if_true] at h1 h2 ⊢
    have a1 : ¬ dL ws t ≤ i := fun w => h1 ((hP.2.2.2 i i1).1.mpr w)
    unfold ipv
    rw [if_pos (by omega)]
    congr 1
    rcases Nat.lt_or_ge i (dL ws t - 1) with w | w
    · exact absurd (hs.lt w (by omega)) (h2 (dL ws t - 1) (by omega) fun w => by have := (hP.2.2.2 _ (by omega)).1.mp w; omega)
    · omega
  · simp only [if_neg c1] at h1 h2 ⊢
    by_cases c2 : c = 99
    · simp only [if_pos c2] at h1 h2 ⊢
      have c3 : ¬ (c = 102 ∨ c = 108) := by omega
      simp only [if_neg c3] at h2
      have a1 : ¬ i < cL ws t := fun w => h1 ((hlt i i1).mpr w)
      unfold inx
      rw [if_pos (by omega)]
      congr 1
      rcases Nat.lt_or_ge (cL ws t) i with w | w
      · exact absurd (hs.lt w i1) (h2 (cL ws t) (by omega) fun w => by have := (hlt _ (by omega)).mp w; omega)
      · omega
    · simp only [if_neg c2] at h1 h2 ⊢
      by_cases c3 : c = 108
      · simp only [if_pos c3] at h1 h2 ⊢
        have c4 : c = 102 ∨ c = 108 := Or.inr c3
        simp only [if_pos c4] at h2
        have a1 := (hlt i i1).mp h1
        unfold ipv
        rw [if_pos (by omega)]
        congr 1
        rcases Nat.lt_or_ge i (cL ws t - 1) with w | w
        · exact absurd (hs.lt w (by omega)) (h2 (cL ws t - 1) (by omega) ((hlt _ (by omega)).mpr (by omega)))
        · omega
      · simp only [if_neg c3] at h1 h2 ⊢
        have c4 : ¬ (c = 102 ∨ c = 108) := by omega
        simp only [if_neg c4] at h2
        have a1 := (hP.2.2.2 i i1).1.mp h1
        unfold inx
        rw [if_pos (by omega)]
        congr 1
        rcases Nat.lt_or_ge (dL ws t) i with w | w
        · exact absurd (hs.lt w i1) (h2 (dL ws t) (by omega) ((hP.2.2.2 _ (by omega)).1.mpr (Nat.le_refl _)))
        · omega
theorem one_d (c : Nat) (t k : List Nat) : one c t k ∨ ¬ one c t k := Classical.em _
theorem one_c {c : Nat} {k : List Nat} {y : Int32} (hy : cmpv k t y) : (c = 102 → (one c t k ↔ ¬ 0 < y)) ∧ (c = 99 → (one c t k ↔ ¬ y < 0)) ∧ (c = 108 → (one c t k ↔ ¬ 0 ≤ y)) ∧ (c ≠ 102 → c ≠ 99 → c ≠ 108 → (one c t k ↔ ¬ y ≤ 0)) := by
  have ht : t < k ↔ 0 < y := by
    constructor
    · intro h
      rcases i3 y with ⟨e1, e2, e3, e4, e5⟩ | ⟨e1, e2, e3, e4, e5⟩ | ⟨e1, e2, e3, e4, e5⟩
      · exact absurd (hy.1.mp e1) (ll_as h)
      · rw [hy.2.mp e1] at h
        exact absurd h (ll_irr _)
      · exact e1
    · intro h
      rcases i3 y with ⟨e1, e2, e3, e4, e5⟩ | ⟨e1, e2, e3, e4, e5⟩ | ⟨e1, e2, e3, e4, e5⟩
      · exact absurd h e5
      · exact absurd h e5
      · rcases ll_tri t k with w | w | w
        · exact w
        · exact absurd (hy.2.mpr w.symm) e5
        · exact absurd (hy.1.mpr w) e4
  have i31 := i3 y
  unfold one
  refine ⟨fun c1 => ?_, fun c1 => ?_, fun c1 => ?_, fun c1 c2 c3 => ?_⟩
  · rw [if_pos c1, ht]
  · rw [if_neg (by omega), if_pos c1, hy.1]
  · rw [if_neg (by omega), if_neg (by omega), if_pos c1, ← hy.1]
    rcases i31 with ⟨e1, e2, e3, e4, e5⟩ | ⟨e1, e2, e3, e4, e5⟩ | ⟨e1, e2, e3, e4, e5⟩
    · exact ⟨fun _ => e2, fun _ => e1⟩
    · exact ⟨fun w => absurd w e4, fun w => absurd e2 w⟩
    · exact ⟨fun w => absurd w e4, fun w => absurd e2 w⟩
  · rw [if_neg c1, if_neg c2, if_neg c3, ht]
    rcases i31 with ⟨e1, e2, e3, e4, e5⟩ | ⟨e1, e2, e3, e4, e5⟩ | ⟨e1, e2, e3, e4, e5⟩
    · exact ⟨fun w => absurd w e5, fun w => absurd e3 w⟩
    · exact ⟨fun w => absurd w e5, fun w => absurd e3 w⟩
    · exact ⟨fun _ => e3, fun _ => e1⟩
theorem b_k {a b : Nat} {X Y : Prop} (ha : a < 2 ^ 31) (hb : b < 2 ^ 31) (h1 : a = b → X) (h2 : a ≠ b → Y) : (nI a = nI b → X) ∧ (¬ nI a = nI b → Y) := b_eq ha hb h1 h2
theorem ct_mnear {c : Nat} (h : MP st st m k0 t ws cs) (hs : Sd ws) (hc : c < 65536) (hq : mok st m Q (sp_near c t ws cs)) : wp_X2_near l E 0 0 [va_rf (some m), .int (nI c)] st Q := by
  obtain ⟨us, A, W, hp, h, hR⟩ := h
  have hn := hR.2.1.1
  have hdis := pm_dis hp hs
  refine wk_X2_near ?_
  refine g_lp2_m (fun mm x y => ∃ w, y = nI w ∧ w ≤ us.length ∧ ((x = -1 ∧ ∀ v, v < w → ¬ one c t (kk us v)) ∨ ∃ b, b < w ∧ x = nI b ∧ one c t (kk us b) ∧ ∀ v, v < w → one c t (kk us v) → ¬ btr c (kk us v) (kk us b)) ∧ mm = 100 - w) ?_ ⟨0, rfl, Nat.zero_le _, Or.inl ⟨rfl, fun v hv => absurd hv (Nat.not_lt_zero _)⟩, rfl⟩
  rintro mm x y K ⟨w, rfl, hw, hx, rfl⟩ hK
  refine ⟨_, h.gN, b_le (by omega) (by omega) (fun z => ?_) fun z => ⟨h.is, ct_mbeside h hR z fun y hy => ⟨rfl, ?_⟩⟩⟩
  · -- the end
    have ew : w = us.length := by omega
    subst ew
    unfold sp_near at hq
    by_cases zc : c = 102 ∨ c = 99 ∨ c = 108 ∨ c = 104
    · rw [if_neg (fun w => w zc)] at hq
      rcases hx with ⟨rfl, hno⟩ | ⟨b, hb, rfl, hb1, hb2⟩
      · rw [nrx_n hp hs hno] at hq
        have fin : g_is st m 16 ∧ wp_X2_fails l E 0 0 [va_rf (some m), .int (nI 2)] st (fun x11 st12 => g_Ext st st12 → (x11 = 0 → g_is st12 m 16 ∧ wp_X2_becomes l E 0 0 [va_rf (some m), .int (-1)] st12 (fun st14 => g_Ext st12 st14 → ∃ o15 : Option Nat, g_gr st14 m 16 6 o15 ∧ ∃ a16 : Nat, o15 = some a16 ∧ ∃ (n17 : Nat) (f18 : Nat → Int32) (j19 : Nat), g_ai st14 a16 0 n17 f18 ∧ (-1 : Int32) = nI j19 ∧ j19 < n17 ∧ j19 < 2 ^ 31 ∧ Q (f18 j19) st14)) ∧ (¬ x11 = 0 → Q (nI 0) st12)) := ⟨h.is, ct_mfails h (by omega) fun s1 h1 _ => b_tv (fun _ => hq s1 ⟨us, A, W, hp, h1, hR⟩) fun w => absurd (by omega) w⟩
        refine g_jn1_i (fun y => y = nI 2) (fun y e => by rw [e]; exact fin) fun K9 hK9 => ?_
        refine g_jn0_i (nle_neg (hK9 _ rfl)) fun K20 hK20 => b_eq (by omega) (by omega) (fun _ => hK20) fun c1 => b_eq (by omega) (by omega) (fun _ => hK20) fun c2 => b_eq (by omega) (by omega) (fun _ => hK20) fun c3 => b_eq (by omega) (by omega) (fun _ => hK20) fun c4 => by omega
      · obtain ⟨i, e1, i1, e2, e3⟩ := nrx_s hp hs hb hb1 hb2
        rw [e1] at hq
        refine g_jn1_i (fun y => y = nI 0) (fun y e => ?_) fun K9 hK9 => ?_
        · subst e
          refine ⟨h.is, ct_mfails h (by omega) fun s1 h1 _ => b_tv (fun w => absurd w (by omega)) fun _ => ⟨h1.is, ct_mbecomes h1 hR hb fun s2 A2 h2 hR2 hA _ => ⟨_, h2.g6, _, rfl, h2.r6 b rfl (by omega) ?_⟩⟩⟩
          rw [hA 6 (by decide), (hR.2.2.2.2.1 b hb).2.1, ← e3]
          have hq2 := hq s2 ⟨us, A2, W, hp, by show MS st s2 m _ (nI (kk ws i).length) _ _ _; rw [e2]; exact h2, by show MR (kk ws i) us cs A2; rw [e2]; exact hR2⟩
          exact hq2
        · refine g_jn0_i (le_pos (by omega) (hK9 _ rfl)) fun K20 hK20 => b_eq (by omega) (by omega) (fun _ => hK20) fun c1 => b_eq (by omega) (by omega) (fun _ => hK20) fun c2 => b_eq (by omega) (by omega) (fun _ => hK20) fun c3 => b_eq (by omega) (by omega) (fun _ => hK20) fun c4 => by omega
    · rw [if_pos zc] at hq
      refine g_jn1_i (fun y => y = nI 1) (fun y e => ?_) fun K9 hK9 => ?_
      · subst e
        exact ⟨h.is, ct_mfails h (by omega) fun s1 h1 _ => b_tv (fun _ => hq s1 ⟨us, A, W, hp, h1, hR⟩) fun w => absurd (by omega) w⟩
      · show _ ∧ _
        exact b_eq (by omega) (by omega) (fun c1 => by omega) fun c1 => b_eq (by omega) (by omega) (fun c2 => by omega) fun c2 => b_eq (by omega) (by omega) (fun c3 => by omega) fun c3 => b_eq (by omega) (by omega) (fun c4 => by omega) fun c4 => hK9 _ rfl
  · -- the word w
    obtain ⟨o1, o2, o3, o4⟩ := one_c (c := c) hy
    refine g_jn1_i (fun y => (y = nI 1 ∧ one c t (kk us w)) ∨ (y = nI 0 ∧ ¬ one c t (kk us w))) (fun x30 H30 => ?_) fun K31 hK31 => ?_
    rotate_left
    · refine b_ne (by omega) (by omega) (fun c1 => ⟨fun v => hK31 _ (Or.inr ⟨rfl, fun q => (o1 c1).mp q v⟩), fun v => hK31 _ (Or.inl ⟨rfl, (o1 c1).mpr v⟩)⟩) fun c1 => b_ne (by omega) (by omega) (fun c2 => ⟨fun v => hK31 _ (Or.inr ⟨rfl, fun q => (o2 c2).mp q v⟩), fun v => hK31 _ (Or.inl ⟨rfl, (o2 c2).mpr v⟩)⟩) fun c2 => b_ne (by omega) (by omega) (fun c3 => ⟨fun v => hK31 _ (Or.inr ⟨rfl, fun q => (o3 c3).mp q v⟩), fun v => hK31 _ (Or.inl ⟨rfl, (o3 c3).mpr v⟩)⟩) fun c3 => ⟨fun v => hK31 _ (Or.inr ⟨rfl, fun q => (o4 c1 c2 c3).mp q v⟩), fun v => hK31 _ (Or.inl ⟨rfl, (o4 c1 c2 c3).mpr v⟩)⟩
    refine g_jn1_i (fun y => (y = nI 1 ∧ (c = 102 ∨ c = 108)) ∨ (y = nI 0 ∧ ¬ (c = 102 ∨ c = 108))) (fun x33 H33 => ?_) fun K34 hK34 => ?_
    rotate_left
    · by_cases zc : c = 102 ∨ c = 108
      · exact g_jn0_i (hK34 _ (Or.inl ⟨rfl, zc⟩)) fun K50 hK50 => b_eq (by omega) (by omega) (fun _ => hK50) fun c1 => b_ne (by omega) (by omega) (fun _ => hK50) fun c2 => by omega
      · show _ ∧ _
        exact b_eq (by omega) (by omega) (fun c1 => by omega) fun c1 => b_ne (by omega) (by omega) (fun c2 => by omega) fun c2 => hK34 _ (Or.inr ⟨rfl, zc⟩)
    have step : ∀ x', ((x' = -1 ∧ ∀ v, v < w + 1 → ¬ one c t (kk us v)) ∨ ∃ b, b < w + 1 ∧ x' = nI b ∧ one c t (kk us b) ∧ ∀ v, v < w + 1 → one c t (kk us v) → ¬ btr c (kk us v) (kk us b)) → K x' (nI w + nI 1) := fun x' H => hK _ _ _ ⟨w + 1, nI_add w 1, z, H, rfl⟩ (by omega)
    refine g_jn1_i (fun x' => (x' = -1 ∧ ∀ v, v < w + 1 → ¬ one c t (kk us v)) ∨ ∃ b, b < w + 1 ∧ x' = nI b ∧ one c t (kk us b) ∧ ∀ v, v < w + 1 → one c t (kk us v) → ¬ btr c (kk us v) (kk us b)) (fun x' H => step x' H) fun K37 hK37 => ?_
    rcases H30 with ⟨rfl, ho⟩ | ⟨rfl, ho⟩
    · refine ⟨fun v => absurd v (by decide), fun _ => ?_⟩
      -- w is asked for: is it the better one?
      have take : (∀ v, v < w → one c t (kk us v) → ¬ btr c (kk us v) (kk us w)) → K37 (nI w) := fun H => hK37 _ (Or.inr ⟨w, Nat.lt_succ_self _, rfl, ho, fun v hv hv1 => by
        rcases Nat.lt_succ_iff_lt_or_eq.mp hv with q | q
        · exact H v q hv1
        · rw [q]
          unfold btr
          split <;> exact ll_irr _⟩)
      rcases hx with ⟨rfl, hno⟩ | ⟨b, hb, rfl, hb1, hb2⟩
      · exact g_jn0_i (take fun v hv hv1 => absurd hv1 (hno v hv)) fun K40 hK40 => ⟨fun _ => hK40, fun v => absurd (by decide) v⟩
      · have keep : ¬ btr c (kk us w) (kk us b) → K37 (nI b) := fun H => hK37 _ (Or.inr ⟨b, by omega, rfl, hb1, fun v hv hv1 => by
          rcases Nat.lt_succ_iff_lt_or_eq.mp hv with q | q
          · exact hb2 v q hv1
          · rw [q]; exact H⟩)
        have win : btr c (kk us w) (kk us b) → K37 (nI w) := fun H => take fun v hv hv1 q => hb2 v hv hv1 (by
          unfold btr at *
          by_cases zc : c = 102 ∨ c = 108
          · rw [if_pos zc] at *
            exact ll_tr H q
          · rw [if_neg zc] at *
            exact ll_tr q H)
        have neg : ¬ nI b < 0 := nI_pos (by omega)
        by_cases zb : btr c (kk us w) (kk us b)
        · refine g_jn0_i (win zb) fun K40 hK40 => ⟨fun _ => hK40, fun _ => ?_⟩
          unfold btr at zb
          rcases H33 with ⟨rfl, zc⟩ | ⟨rfl, zc⟩
          · rw [if_pos zc] at zb
            exact ⟨fun v => absurd v (by decide), fun _ => ⟨h.is, ct_misLess h hR (by omega) z ⟨rfl, b_tv (fun _ => hK40) fun v => absurd zb v⟩⟩⟩
          · rw [if_neg zc] at zb
            exact ⟨fun _ => ⟨h.is, ct_misLess h hR z (by omega) ⟨rfl, b_tv (fun _ => hK40) fun v => absurd zb v⟩⟩, fun v => absurd (by decide) v⟩
        · have zb0 := zb
          show _ ∧ _
          refine ⟨fun v => absurd v neg, fun _ => ?_⟩
          unfold btr at zb
          rcases H33 with ⟨rfl, zc⟩ | ⟨rfl, zc⟩
          · rw [if_pos zc] at zb
            exact ⟨fun v => absurd v (by decide), fun _ => ⟨h.is, ct_misLess h hR (by omega) z ⟨rfl, b_tv (fun v => absurd v zb) fun _ => keep zb0⟩⟩⟩
          · rw [if_neg zc] at zb
            exact ⟨fun _ => ⟨h.is, ct_misLess h hR z (by omega) ⟨rfl, b_tv (fun v => absurd v zb) fun _ => keep zb0⟩⟩, fun v => absurd (by decide) v⟩
    · refine ⟨fun _ => hK37 _ ?_, fun v => absurd (by decide) v⟩
      rcases hx with ⟨rfl, hno⟩ | ⟨b, hb, rfl, hb1, hb2⟩
      · refine Or.inl ⟨rfl, fun v hv => ?_⟩
        rcases Nat.lt_succ_iff_lt_or_eq.mp hv with q | q
        · exact hno v q
        · rw [q]; exact ho
      · refine Or.inr ⟨b, by omega, rfl, hb1, fun v hv hv1 => ?_⟩
        rcases Nat.lt_succ_iff_lt_or_eq.mp hv with q | q
        · exact hb2 v q hv1
        · rw [q] at hv1
          exact absurd hv1 ho
end GMD8
