/-! TREE 13: submaps: size, values, clear -/
section GT13
variable {l : Launch} {E : g_E} {st0 st : g_St} {tm n : Nat} {nd ka va : Nat → Nat} {mc : Int32} {x : tX} {ws : wL} {t u : List Nat} {s c1 c2 : Nat} {slo shi e8 e11 : Option Nat} {sfs : Int32}
theorem ct_subEntrySet {cb sb : Nat} {Q : Option Nat → g_St → Prop} (hs : SUB st.2.1 s tm slo shi sfs none e11) (hcb : 1 ≤ cb) (hsb : 4 ≤ sb)
    (hq : ∀ st' : g_St, st'.2.1 st.2.2 = some (.inr (6, [.int (-1), .int 0, va_rf (some s), va_rf (some s)])) → SUB st'.2.1 s tm slo shi sfs (some st.2.2) e11 → Se (fun z => z = s) st st' → st'.1 = st.1 → st'.2.2 = st.2.2 + 1 → Q (some st.2.2) st') : wp_J29_entrySet l E cb sb [va_rf (some s)] st Q := by
  refine g_WPa.wf fun hw => ?_
  have hsl := (hw.2 _ _ hs).2
  refine wk_J29_entrySet ⟨none, ⟨_, Or.inl hs, rfl⟩, ?_⟩
  show _ ∧ _
  refine ⟨fun _ => ⟨hcb, hsb, fun q10 st11 e1 e2 => ?_⟩, fun a e => (by cases e)⟩
  have hold : ∀ a, a < st.2.2 → st11.2.1 a = st.2.1 a := fun a ha => by rw [e2]; exact g_upd_n (by omega)
  refine wk_J33_init (pu (by rw [e1, e2]; exact g_upd_s) fun s1 h1 => wk_J32_init (pu h1.nx fun s2 h2 => wk_J31_init_J33 (wk_J30_init_J33 ⟨rfl, rfl, pu h2.nx fun s3 h3 _ _ => ?_⟩)))
  have hp := (h1.tr h2).tr h3
  have hs3 : SUB s3.2.1 s tm slo shi sfs none e11 := by
    unfold SUB
    rw [hp.2.2.2.1 s (by omega), hold s hsl]
    exact hs
  refine pu hs3 fun s4 h4 => ?_
  rw [e1]
  refine hq s4 ?_ (by rw [← e1]; exact h4.nx) ⟨(by rw [e2] at hp; exact (g_Ext.new g_Ext.rf).tr (hp.2.2.2.2.tr h4.2.2.2.2)), fun a ha hne => ?_⟩ (by rw [h4.1, hp.1, e2]; rfl) (by rw [h4.2.1, hp.2.1, e2]; rfl)
  · rw [h4.2.2.2.1 _ (by omega), ← e1]
    exact hp.nx
  · rw [h4.2.2.2.1 a hne, hp.2.2.2.1 a (by omega)]
    exact hold a ha
theorem ct_viewSize {v cb sb : Nat} {y : Int32} {Q : Int32 → g_St → Prop} (h : TMx st tm n nd ka va mc x ws) (hE : Cst E st.1) (hU : Unb E st) (hs : SUB st.2.1 s tm slo shi sfs e8 e11) (hr : RNG st.1 ws slo shi sfs c1 c2) (hv : st.2.1 v = some (.inr (6, [.int (-1), .int y, va_rf (some s), va_rf (some s)]))) (hcb : 1 ≤ cb) (hsb : 5 ≤ sb)
    (hq : ∀ st' : g_St, Se (fun z => z = v) st st' → st'.1 = st.1 → Q (nI (c2 - c1)) st') : wp_J32_size l E cb sb [va_rf (some v)] st Q := by
  refine g_WPi.wf fun hw => ?_
  have hsl := (hw.2 _ _ hs).2
  have hvl := (hw.2 _ _ hv).2
  have hsv : s ≠ v := fun e => by
    rw [e] at hs
    unfold SUB at hs
    rw [hv] at hs
    cases hs
  have htv : tm ≠ v := fun e => h.nc hv (by decide) (Or.inl (Or.inl e.symm))
  have hD : g_gi st tm 3 5 mc := by
    obtain ⟨L, R, P, co, rt, lo', hi', hT, -⟩ := h
    exact hT.gD
  have gv2 : g_gr st v 6 2 (some s) := ⟨_, Or.inl hv, rfl⟩
  have gs0 : g_gr st s 5 0 (some tm) := ⟨_, Or.inl hs, rfl⟩
  refine wk_J32_size ⟨_, gv2, s, rfl, sfs, ⟨_, Or.inl hs, rfl⟩, ?_⟩
  refine g_jn0_i ?_ fun K4 hK4 => ⟨fun _ => hK4, fun _ => ⟨_, gv2, s, rfl, nI 0, ⟨_, Or.inl hs, rfl⟩, fun _ => hK4, fun z => absurd rfl z⟩⟩
  refine ⟨-1, ⟨_, Or.inl hv, rfl⟩, ?_⟩
  refine g_jn3_i (fun s' _ _ => Se (fun z => z = v) st s' ∧ s'.1 = st.1 ∧ g_gi s' v 6 0 (nI (c2 - c1))) (fun s' a b ⟨k1, k2, k3⟩ => ⟨_, k3, hq s' k1 k2⟩) fun K10 hK10 => ?_
  refine g_jn0_i ?_ fun K13 hK13 => ⟨fun _ => hK13, fun z => absurd rfl z⟩
  refine ⟨_, gv2, s, rfl, _, gs0, tm, rfl, mc, hD, pu hv fun s1 h1 => pu h1.nx fun s2 h2 => ⟨cb, sb, Nat.le_refl _, Nat.le_refl _, ⟨_, Or.inl h2.nx⟩, ?_⟩⟩
  have hp := h1.tr h2
  have hold2 : ∀ a, a ≠ v → s2.2.1 a = st.2.1 a := hp.2.2.2.1
  have hT2 : TMx s2 tm n nd ka va mc x ws := h.fr (fun q o hq => by rw [hp.1]; exact hq) fun a ha => hold2 a (fun e => h.nc hv (by decide) (by rw [← e]; exact ha))
  have hs2 : SUB s2.2.1 s tm slo shi sfs e8 e11 := (hold2 s hsv).trans hs
  refine ct_subIter hT2 (by rw [hp.1]; exact hE) hs2 (by rw [hp.1]; exact hr) h2.nx rfl hcb hsb fun s3 hI hm hf hz hx => ?_
  rw [hp.2.1] at hI hz ⊢
  have hm2 : ∀ a, a < st.2.2 → s3.2.1 a = s2.2.1 a := fun a ha => hm.2 a (by rw [hp.2.1]; exact ha)
  have hxx : g_Ext st s3 := hp.2.2.2.2.tr hm.1
  refine g_lp1_m (fun m s' => ∃ i, c1 ≤ i ∧ SIt E s' st.2.2 s n nd ka mc i c2 ∧ s'.2.1 v = some (.inr (6, [.int (nI (i - c1)), .int mc, va_rf (some s), va_rf (some s)])) ∧ s'.1 = st.1 ∧ (∀ a, a < st.2.2 → a ≠ v → s'.2.1 a = st.2.1 a) ∧ g_Ext st s' ∧ m = c2 - i) ?_ ⟨c1, Nat.le_refl _, hI, ?_, by rw [hf, hp.1], fun a ha hne => (hm2 a ha).trans (hold2 a hne), hxx, rfl⟩
  rotate_left
  · rw [hm2 v hvl, h2.nx, Nat.sub_self]
    rfl
  rintro m s' K ⟨i, hi1, hI', hv', hf', ho', hx', rfl⟩ hK
  have hT' : TMx s' tm n nd ka va mc x ws := h.fr (fun q o hq => by rw [hf']; exact hq) fun a ha => ho' a (h.lt hw ha) (fun e => h.nc hv (by decide) (by rw [← e]; exact ha))
  have hs' : SUB s'.2.1 s tm slo shi sfs e8 e11 := (ho' s hsl hsv).trans hs
  have hI0 := hI'
  obtain ⟨last, nx, ei, k1, k2, -⟩ := hI0
  refine ⟨_, rfl, ⟨_, Or.inl ei⟩, ct_sHasNext hT' (hU.ext hx') hI' ⟨rfl, fun z => ?_, fun z => ?_⟩⟩
  · have hic : ¬ i < c2 := fun w => by rw [if_pos w] at z; exact absurd z (by decide)
    refine hK10 _ _ _ ⟨⟨hx', fun a ha hne => ho' a ha hne⟩, hf', _, Or.inl hv', ?_⟩
    rw [show i = c2 by omega]
    rfl
  · have hic : i < c2 := by
      by_cases w : i < c2
      · exact w
      · rw [if_neg w] at z; exact absurd rfl z
    refine ⟨nI (i - c1), ⟨_, Or.inl hv', rfl⟩, pu hv' fun s4 h4 => ?_⟩
    have hiv : st.2.2 ≠ v := by omega
    have hT4 : TMx s4 tm n nd ka va mc x ws := hT'.fr (fun q o hq => by rw [h4.1]; exact hq) fun a ha => h4.2.2.2.1 a (fun e => hT'.nc hv' (by decide) (by rw [← e]; exact ha))
    have hI4 : SIt E s4 st.2.2 s n nd ka mc i c2 := by
      obtain ⟨last, nx, ei, k1, k2, k3, k4⟩ := hI'
      exact ⟨last, nx, (h4.2.2.2.1 _ hiv).trans ei, k1, k2, k3, k4⟩
    refine ⟨⟨_, Or.inl ((h4.2.2.2.1 _ hiv).trans ei)⟩, ct_sNext hT4 (hU.ext (hx'.tr h4.2.2.2.2)) hI4 ((h4.2.2.2.1 s hsv).trans hs') rfl hic fun s5 _ hI5 hx5 _ => hK _ _ ⟨i + 1, by omega, hI5, ?_, by rw [hx5.1, h4.1]; exact hf', fun a ha hne => ?_, hx'.tr (h4.2.2.2.2.tr hx5.2.2.1), rfl⟩ (by omega)⟩
    · rw [hx5.2.2.2 v (Ne.symm hiv), h4.nx, show i + 1 - c1 = i - c1 + 1 by omega, ← nI_add]
      rfl
    · rw [hx5.2.2.2 a (by omega), h4.2.2.2.1 a hne]
      exact ho' a ha hne
theorem ct_subSize {cb sb : Nat} {Q : Int32 → g_St → Prop} (h : TMx st tm n nd ka va mc x ws) (hE : Cst E st.1) (hU : Unb E st) (hs : SUB st.2.1 s tm slo shi sfs none e11) (hr : RNG st.1 ws slo shi sfs c1 c2) (hcb : 2 ≤ cb) (hsb : 9 ≤ sb)
    (hq : ∀ st' : g_St, Se (fun z => z = s) st st' → st'.1 = st.1 → Q (nI (c2 - c1)) st') : wp_J28_size l E cb sb [va_rf (some s)] st Q := by
  refine g_WPi.wf fun hw => ?_
  refine wk_J28_size ⟨sfs, ⟨_, Or.inl hs, rfl⟩, ?_⟩
  refine g_jn4_i (fun y s' _ _ => Q y s') (fun y s' a b H => H) fun K6 hK6 => ?_
  refine g_jn0_i ?_ fun K8 hK8 => ⟨fun _ => hK8, fun _ => ⟨nI 0, ⟨_, Or.inl hs, rfl⟩, fun _ => hK8, fun z => absurd rfl z⟩⟩
  refine ⟨1, 4, by omega, by omega, ⟨_, Or.inl hs⟩, ct_subEntrySet hs (Nat.le_refl _) (Nat.le_refl _) fun s1 hv hs1 hse hf hz hx => ⟨_, rfl, cb - 1, sb - 4, Nat.le_refl _, Nat.le_refl _, ⟨_, Or.inl hv⟩, ?_⟩⟩
  have hT1 : TMx s1 tm n nd ka va mc x ws := h.fr (fun q o hq => by rw [hf]; exact hq) fun a ha => hse.2 a (h.lt hw ha) (fun e => h.nc hs (by decide) (by rw [← e]; exact ha))
  refine ct_viewSize hT1 (by rw [hf]; exact hE) (hU.ext hse.1) hs1 (by rw [hf]; exact hr) hv (by omega) (by omega) fun s2 hse2 hf2 _ => hK6 _ _ _ _ (hq s2 ⟨hse.1.tr hse2.1, fun a ha hne => ?_⟩ (hf2.trans hf))
  rw [hse2.2 a (by omega) (by omega)]
  exact hse.2 a ha hne
/-- the values of a submap: an iterator over them -/
theorem ct_subValues {cb sb : Nat} {Q : Option Nat → g_St → Prop} (hs : SUB st.2.1 s tm slo shi sfs e8 none) (hcb : 1 ≤ cb) (hsb : 1 ≤ sb)
    (hq : ∀ st' : g_St, st'.2.1 st.2.2 = some (.inr (12, [va_rf (some s)])) → SUB st'.2.1 s tm slo shi sfs e8 (some st.2.2) → Se (fun z => z = s) st st' → st'.1 = st.1 → st'.2.2 = st.2.2 + 1 → Q (some st.2.2) st') : wp_J4_values l E cb sb [va_rf (some s)] st Q := by
  refine g_WPa.wf fun hw => ?_
  have hsl := (hw.2 _ _ hs).2
  refine wk_J4_values ⟨none, ⟨_, Or.inl hs, rfl⟩, ?_⟩
  show _ ∧ _
  refine ⟨fun _ => ⟨hcb, hsb, fun q10 st11 e1 e2 => ?_⟩, fun a e => (by cases e)⟩
  have hold : ∀ a, a < st.2.2 → st11.2.1 a = st.2.1 a := fun a ha => by rw [e2]; exact g_upd_n (by omega)
  refine wk_J43_init (pu (by rw [e1, e2]; exact g_upd_s) fun s1 h1 => wk_J30_init_J43 ⟨rfl, fun _ => ?_⟩)
  have hs3 : SUB s1.2.1 s tm slo shi sfs e8 none := by
    unfold SUB
    rw [h1.2.2.2.1 s (by omega), hold s hsl]
    exact hs
  refine pu hs3 fun s4 h4 => ?_
  rw [e1]
  refine hq s4 ?_ (by rw [← e1]; exact h4.nx) ⟨(by rw [e2] at h1; exact (g_Ext.new g_Ext.rf).tr (h1.2.2.2.2.tr h4.2.2.2.2)), fun a ha hne => ?_⟩ (by rw [h4.1, h1.1, e2]; rfl) (by rw [h4.2.1, h1.2.1, e2]; rfl)
  · rw [h4.2.2.2.1 _ (by omega), ← e1]
    exact h1.nx
  · rw [h4.2.2.2.1 a hne, h1.2.2.2.1 a (by omega)]
    exact hold a ha
theorem ct_valIter {v cb sb : Nat} {Q : Option Nat → g_St → Prop} (h : TMx st tm n nd ka va mc x ws) (hE : Cst E st.1) (hs : SUB st.2.1 s tm slo shi sfs none e11) (hr : RNG st.1 ws slo shi sfs c1 c2) (hv : st.2.1 v = some (.inr (12, [va_rf (some s)]))) (hcb : 3 ≤ cb) (hsb : 11 ≤ sb)
    (hq : ∀ (st' : g_St) (it : Nat), st'.2.1 st.2.2 = some (.inr (13, [va_rf (some it), va_rf (some v)])) → st.2.2 < it → SIt E st' it s n nd ka mc c1 c2 → (∃ e8', SUB st'.2.1 s tm slo shi sfs e8' e11) → Se (fun z => z = s) st st' → st'.1 = st.1 → Q (some st.2.2) st') : wp_J43_iterator l E cb sb [va_rf (some v)] st Q := by
  refine g_WPa.wf fun hw => ?_
  have hsl := (hw.2 _ _ hs).2
  have hvl := (hw.2 _ _ hv).2
  have hsv : s ≠ v := fun e => by
    rw [e] at hs
    unfold SUB at hs
    rw [hv] at hs
    cases hs
  refine wk_J43_iterator ⟨by omega, by omega, fun q1 st2 e1 e2 => ⟨cb - 1, sb - 2, Nat.le_refl _, Nat.le_refl _, ?_⟩⟩
  have hold : ∀ a, a < st.2.2 → st2.2.1 a = st.2.1 a := fun a ha => by rw [e2]; exact g_upd_n (by omega)
  have hx2 : g_Ext st st2 := by rw [e2]; exact g_Ext.new g_Ext.rf
  refine wk_J44_init (pu (by rw [e1, e2]; exact g_upd_s) fun s1 h1 => ⟨some v, ⟨_, Or.inl h1.nx, rfl⟩, v, rfl, some s, ?_, s, rfl, 1, 4, by omega, by omega, ?_, ?_⟩)
  · have g : g_gr st v 12 0 (some s) := ⟨_, Or.inl hv, rfl⟩
    exact g.mv ((h1.2.2.2.1 v (by omega)).trans (hold v hvl)) (by rw [h1.1, e2]; rfl)
  · have g : g_is st s 5 := ⟨_, Or.inl hs⟩
    exact g.mv ((h1.2.2.2.1 s (by omega)).trans (hold s hsl)) (by rw [h1.1, e2]; rfl)
  have hs1 : SUB s1.2.1 s tm slo shi sfs none e11 := by
    unfold SUB
    rw [h1.2.2.2.1 s (by omega), hold s hsl]
    exact hs
  have hz1 : s1.2.2 = st.2.2 + 1 := by rw [h1.2.1, e2]; rfl
  have hf1 : s1.1 = st.1 := by rw [h1.1, e2]; rfl
  refine ct_subEntrySet hs1 (Nat.le_refl _) (Nat.le_refl _) fun s3 hv3 hs3 hse3 hf3 hz3 hx3 => ⟨_, rfl, cb - 1 - 1, sb - 2 - 4, Nat.le_refl _, Nat.le_refl _, ⟨_, Or.inl hv3⟩, ?_⟩
  have hold3 : ∀ a, a < st.2.2 → a ≠ s → s3.2.1 a = st.2.1 a := fun a ha hne => by
    rw [hse3.2 a (by omega) hne, h1.2.2.2.1 a (by omega)]
    exact hold a ha
  have hT3 : TMx s3 tm n nd ka va mc x ws := h.fr (fun q o hq => by rw [hf3, hf1]; exact hq) fun a ha => hold3 a (h.lt hw ha) (fun e => h.nc hs (by decide) (by rw [← e]; exact ha))
  refine ct_subIter hT3 (by rw [hf3, hf1]; exact hE) hs3 (by rw [hf3, hf1]; exact hr) hv3 rfl (by omega) (by omega) fun s4 hI hm hf4 hz4 hx4 => ?_
  have hq1 : s4.2.1 q1 = some (.inr (13, [va_rf none, va_rf (some v)])) := by
    rw [hm.2 q1 (by omega), hse3.2 q1 (by omega) (by omega)]
    exact h1.nx
  refine pu hq1 fun s5 h5 _ => ?_
  rw [e1]
  refine hq s5 s3.2.2 (by rw [← e1]; exact h5.nx) (by omega) ?_ ⟨some s1.2.2, ?_⟩ ⟨hx2.tr (h1.2.2.2.2.tr (hse3.1.tr (hm.1.tr h5.2.2.2.2))), fun a ha hne => ?_⟩ (by rw [h5.1, hf4, hf3, hf1])
  · obtain ⟨last, nx, ei, k1, k2, k3, k4⟩ := hI
    exact ⟨last, nx, (h5.2.2.2.1 _ (by omega)).trans ei, k1, k2, k3, k4⟩
  · unfold SUB
    rw [h5.2.2.2.1 s (by omega), hm.2 s (by omega)]
    exact hs3
  · rw [h5.2.2.2.1 a (by omega), hm.2 a (by omega)]
    exact hold3 a ha hne
theorem ct_vHasNext {w v it i : Nat} {Q : Int32 → g_St → Prop} (h : TMx st tm n nd ka va mc x ws) (hU : Unb E st) (hw : st.2.1 w = some (.inr (13, [va_rf (some it), va_rf (some v)]))) (hi : SIt E st it s n nd ka mc i c2) (hq : Q (if i < c2 then nI 1 else nI 0) st) : wp_J44_hasNext l E 0 0 [va_rf (some w)] st Q := by
  have hi0 := hi
  obtain ⟨last, nx, ei, -⟩ := hi0
  refine wk_J44_hasNext ⟨_, ⟨_, Or.inl hw, rfl⟩, it, rfl, ⟨_, Or.inl ei⟩, ct_sHasNext h hU hi ⟨rfl, ?_, hq⟩⟩
  by_cases z : i < c2
  · rw [if_pos z]; rfl
  · rw [if_neg z]; rfl
theorem ct_vNext {w v it i : Nat} {ss : List Value} {Q : Option Nat → g_St → Prop} (h : TMx st tm n nd ka va mc x ws) (hU : Unb E st) (hw : st.2.1 w = some (.inr (13, [va_rf (some it), va_rf (some v)]))) (hi : SIt E st it s n nd ka mc i c2) (hs : st.2.1 s = some (.inr (5, ss))) (hss : ss[0]? = some (va_rf (some tm))) (hic : i < c2)
    (hq : ∀ st' : g_St, SIt E st' it s n nd ka mc (i + 1) c2 → Sx (fun z => z = it) st st' → Q (some (va i)) st') : wp_J44_next l E 0 0 [va_rf (some w)] st Q := by
  have hi0 := hi
  obtain ⟨last, nx, ei, k1, k2, -⟩ := hi0
  refine wk_J44_next ⟨_, ⟨_, Or.inl hw, rfl⟩, it, rfl, ⟨_, Or.inl ei⟩, ct_sNext h hU hi hs hss hic fun s1 _ h1 h2 _ => ?_⟩
  have hT1 : TMx s1 tm n nd ka va mc x ws := h.fr (fun q o hq => by rw [h2.1]; exact hq) fun a ha => h2.2.2.2 a (fun e => h.nc ei (by decide) (by rw [← e]; exact ha))
  have hin : i < n := by omega
  exact ⟨fun a e => by cases e; exact hT1.isN hin, nd i, rfl, hT1.isN hin, ct_eVal hT1 hin ⟨rfl, hq s1 h1 h2⟩⟩
theorem ct_sRemove {it i : Nat} {ss : List Value} {Q : g_St → Prop} (h : TMx st tm n nd ka va mc x ws) (hi : st.2.1 it = some (.inr (7, [va_rf (some (nd i)), va_rf (tnx n nd (i + 1)), va_rf (if c2 < n then some (ka c2) else E.2.2.2.2.1 4), .int mc, va_rf (some s)]))) (hs : st.2.1 s = some (.inr (5, ss))) (hss : ss[0]? = some (va_rf (some tm))) (hic : i < c2) (hc2 : c2 ≤ n)
    (hq : ∀ (st' : g_St) (nd' ka' va' : Nat → Nat), TMx st' tm (n - 1) nd' ka' va' (mc + nI 1) x (ws.eraseIdx i) → SIt E st' it s (n - 1) nd' ka' (mc + nI 1) i (c2 - 1) → Sx (fun z => z = it ∨ CX tm n nd x z) st st' → (∀ z, CX tm (n - 1) nd' x z → CX tm n nd x z) → Q st') : wp_J35_remove l E 0 0 [va_rf (some it)] st Q := by
  refine g_WPv.wf fun hw => ?_
  have h0 := h
  obtain ⟨L, R, P, co, rt, lo', hi', hT, hS, hB, hn, hn2, hK, hV, hsd, hv1, hv2⟩ := h
  have hin : i < n := by omega
  have hits : s ≠ it := fun e => by rw [e, hi] at hs; cases hs
  have hni : ∀ a, CX tm n nd x a → a ≠ it := fun a ha e => h0.nc hi (by decide) (by rw [← e]; exact ha)
  refine wk_J35_remove ⟨⟨_, Or.inl hi⟩, wk_J34_removeAscending ⟨_, ⟨_, Or.inl hi, rfl⟩, fun e => (by cases e), fun a3 e => ?_⟩⟩
  cases e
  refine ⟨_, ⟨_, Or.inl hi, rfl⟩, s, rfl, some tm, ⟨_, Or.inl hs, hss⟩, tm, rfl, mc, hT.gD, mc, ⟨_, Or.inl hi, rfl⟩, fun _ => ⟨_, ⟨_, Or.inl hi, rfl⟩, _, rfl, _, hT.gL hin, ?_⟩, fun z => absurd rfl z⟩
  refine g_jn1_i (fun s1 => ∃ nx : Option Nat, Sx (fun z => z = it) st s1 ∧ s1.2.1 it = some (.inr (7, [va_rf (some (nd i)), va_rf nx, va_rf (if c2 < n then some (ka c2) else E.2.2.2.2.1 4), .int mc, va_rf (some s)])) ∧ ((L i = none ∨ R i = none) ∧ nx = tnx n nd (i + 1) ∨ (L i ≠ none ∧ R i ≠ none) ∧ nx = some (nd i))) (fun s1 H => ?_) fun K15 hK15 => ⟨fun e => hK15 _ ⟨_, Sx.rf, hi, Or.inl ⟨Or.inl (om_none e), rfl⟩⟩, fun a e => ⟨_, ⟨_, Or.inl hi, rfl⟩, _, rfl, _, hT.gR hin, fun e2 => hK15 _ ⟨_, Sx.rf, hi, Or.inl ⟨Or.inr (om_none e2), rfl⟩⟩, fun a2 e2 => ⟨_, ⟨_, Or.inl hi, rfl⟩, pu hi fun s1 h1 => hK15 _ ⟨_, h1.sx, h1.nx, Or.inr ⟨⟨fun z => (by rw [z] at e; cases e), fun z => (by rw [z] at e2; cases e2)⟩, rfl⟩⟩⟩⟩⟩
  obtain ⟨nx, hx1, hi1, hnx⟩ := H
  have hT1 : TS s1 s1 tm n nd ka va L R P co rt (nI n) mc x := ⟨Sx.rf, (hx1.2.2.2 tm (hni tm (Or.inl (Or.inl rfl)))).trans hT.2.1, fun j hj => (hx1.2.2.2 _ (hni _ (Or.inl (Or.inr ⟨j, hj, rfl⟩)))).trans (hT.2.2.1 j hj), hT.2.2.2⟩
  have hs1 := (hx1.2.2.2 s hits).trans hs
  have hw1 : g_Wf s1 ∨ True := Or.inr trivial
  refine ⟨_, ⟨_, Or.inl hi1, rfl⟩, s, rfl, some tm, ⟨_, Or.inl hs1, hss⟩, _, ⟨_, Or.inl hi1, rfl⟩, tm, rfl, hT1.gI, g_WPv.wf fun hw1 => ct_deleteEntry hT1 hS hB hin fun s2 hD _ => ?_⟩
  obtain ⟨q, ka', va', g1, g2, g3, g4⟩ := TMx.ofDEL hw1 hT1 hn hn2 (by rw [hx1.1]; exact hK) (by rw [hx1.1]; exact hV) hsd (fun a ha => by rw [hx1.2.2.2 a (hni a (Or.inr (Or.inl ha)))]; exact hv1 a ha) (fun a ha => by rw [hx1.2.2.2 a (hni a (Or.inr (Or.inr ha)))]; exact hv2 a ha) hin hD
  have hnc : ¬ CX tm n nd x it := fun z => hni it z rfl
  have hncs : ¬ CX tm n nd x s := h0.nc hs (by decide)
  have hi2 := (g4.2.2.2 it hnc).trans hi1
  have hs2 := (g4.2.2.2 s hncs).trans hs1
  refine pu hi2 fun s3 h3 => ⟨_, ⟨_, Or.inl h3.nx, rfl⟩, s, rfl, some tm, ⟨_, Or.inl ((h3.2.2.2.1 s hits).trans hs2), hss⟩, tm, rfl, mc + nI 1, ?_, pu h3.nx fun s4 h4 _ => ?_⟩
  · have hD2 : g_gi s2 tm 3 5 (mc + nI 1) := by
      obtain ⟨L, R, P, co, rt, lo', hi', hT, -⟩ := g1
      exact hT.gD
    exact hD2.mv (h3.2.2.2.1 tm (hni tm (Or.inl (Or.inl rfl)))) h3.1
  have hp := h3.tr h4
  have hsub : ∀ z, CX tm (n - 1) (fun k => nd (t_so q k)) x z → CX tm n nd x z := by
    rintro z ((rfl | ⟨k, hk, rfl⟩) | hz | hz)
    · exact Or.inl (Or.inl rfl)
    · exact Or.inl (Or.inr ⟨t_so q k, t_so_lt hk (by rcases g2 with ⟨w, _⟩ | ⟨w, w2, _⟩ <;> omega), rfl⟩)
    · exact Or.inr (Or.inl hz)
    · exact Or.inr (Or.inr hz)
  refine hq s4 _ ka' va' (g1.fr (fun q o hq => by rw [hp.1]; exact hq) fun a ha => hp.2.2.2.1 a (hni a (hsub a ha))) ⟨none, nx, ?_, by omega, by omega, fun z => ?_, fun z => ?_⟩ ?_ hsub
  · rw [hp.nx]
    have ef : (if c2 < n then some (ka c2) else E.2.2.2.2.1 4) = (if c2 - 1 < n - 1 then some (ka' (c2 - 1)) else E.2.2.2.2.1 4) := by
      by_cases w : c2 < n
      · rw [if_pos w, if_pos (by omega), (g3 (c2 - 1) (by omega)).1]
        unfold t_so
        rw [if_neg (by omega), Nat.sub_add_cancel (by omega)]
      · rw [if_neg w, if_neg (by omega)]
    rw [← ef]
    rfl
  · rcases g2 with ⟨w, w2⟩ | ⟨w, w2, w3⟩
    · rcases hnx with ⟨_, e⟩ | ⟨y, _⟩
      · rw [e, w]
        unfold tnx t_so
        dsimp only
        rw [if_pos (by omega), if_neg (by omega)]
      · rcases w2 with w2 | w2
        · exact absurd w2 y.1
        · exact absurd w2 y.2
    · rcases hnx with ⟨y, _⟩ | ⟨_, e⟩
      · rcases y with y | y
        · exact absurd y w3.1
        · exact absurd y w3.2
      · rw [e, w]
        unfold t_so
        dsimp only
        rw [if_pos (by omega)]
  · rcases g2 with ⟨w, w2⟩ | ⟨w, w2, w3⟩
    · rcases hnx with ⟨_, e⟩ | ⟨y, _⟩
      · rw [e, w, ← z]
        unfold tnx t_so
        dsimp only
        by_cases w4 : i + 1 < n
        · refine Or.inr ?_
          rw [if_pos w4, if_pos (by omega), if_neg (by omega)]
        · refine Or.inl ?_
          rw [if_neg w4]
      · rcases w2 with w2 | w2
        · exact absurd w2 y.1
        · exact absurd w2 y.2
    · rcases hnx with ⟨y, _⟩ | ⟨_, e⟩
      · rcases y with y | y
        · exact absurd y w3.1
        · exact absurd y w3.2
      · rw [e, w, ← z]
        unfold tnx t_so
        dsimp only
        refine Or.inr ?_
        rw [if_pos (by omega), if_pos (by omega)]
  · exact (hx1.wk fun z hz => Or.inl hz).tr ((g4.wk fun z hz => Or.inr hz).tr (hp.sx.wk fun z hz => Or.inl hz))
end GT13
