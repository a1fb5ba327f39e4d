/-! STEMSPAN 5: common, longest, shared, twin, pieces -/
section GXS5
variable {l : Launch} {E : g_E} {st st' : g_St} {a sb v N tm n ca b cb sb' : Nat} {nd ka va : Nat → Nat} {mc : Int32} {x : tX} {fc : Nat → Option Nat} {t u s : List Nat} {ws : wL} {cs : Nat → List Nat} {Q : Int32 → g_St → Prop} {X : String → g_St → Prop}
theorem ct_common {q q' : Nat} (h : Str st.1 q t) (h' : Str st.1 q' u) (ht : t.length < 128) (hu : u.length < 128) (ht2 : ∀ j, t.getD j 0 < 128) (hu2 : ∀ j, u.getD j 0 < 128) (hq : Q (nI (lcp t u)) st) : wp_X1_common l E 0 0 [va_rf (some q), va_rf (some q')] st Q := by
  have l1 := lcp_le1 t u
  have l2 := lcp_le2 t u
  refine wk_X1_common ?_
  refine g_lp1_m (fun mm x => ∃ k, x = nI k ∧ k ≤ lcp t u ∧ mm = 1000 - k) ?_ ⟨0, rfl, Nat.zero_le _, rfl⟩
  rintro mm x K ⟨k, rfl, hk, rfl⟩ hK
  refine ⟨_, rfl, h.is, ct_J2_length h ⟨rfl, ?_⟩⟩
  by_cases z : k = lcp t u
  · refine g_jn0_i (by rw [z]; exact hq) fun K7 hK7 => b_le (by omega) (by omega) (fun _ => hK7) fun w1 => ⟨_, rfl, h'.is, ct_J2_length h' ⟨rfl, b_le (by omega) (by omega) (fun _ => hK7) fun w2 => ⟨h.is, ct_J2_charAt h w1 ⟨rfl, h'.is, ct_J2_charAt h' w2 ⟨rfl, ?_⟩⟩⟩⟩⟩
    have ne := lcp_ne (a := t) (b := u) (by omega) (by omega)
    rw [← z] at ne
    have := ht2 k
    have := hu2 k
    exact b_ne (by omega) (by omega) (fun e => absurd e ne) fun _ => hK7
  · show _ ∧ _
    refine b_le (by omega) (by omega) (fun _ => by omega) fun w1 => ⟨_, rfl, h'.is, ct_J2_length h' ⟨rfl, b_le (by omega) (by omega) (fun _ => by omega) fun w2 => ⟨h.is, ct_J2_charAt h w1 ⟨rfl, h'.is, ct_J2_charAt h' w2 ⟨rfl, ?_⟩⟩⟩⟩⟩
    rw [lcp_eq (show k < lcp t u by omega)]
    exact ⟨fun e => absurd rfl e, fun _ => hK _ _ ⟨k + 1, nI_add k 1, by omega, rfl⟩ (by omega)⟩
theorem sgs.l8 (h : sgs t) (j : Nat) : t.getD j 0 < 128 := by
  have := h.lt j
  omega
theorem ct_commonS {q q' : Nat} (h : Str st.1 q t) (h' : Str st.1 q' u) (ht : t.length < 128) (hu : u.length < 128) (ht2 : sgs t) (hu2 : sgs u) (hq : Q (nI (lcp t u)) st) : wp_X1_common l E 0 0 [va_rf (some q), va_rf (some q')] st Q := ct_common h h' ht hu ht2.l8 hu2.l8 hq
theorem ct_begins {q q' : Nat} (h : Str st.1 q t) (h' : Str st.1 q' u) (ht : t.length < 128) (hu : u.length < 128) (ht2 : sgs t) (hu2 : sgs u) (hq : Q (tv (lcp t u = u.length)) st) : wp_X1_begins l E 0 0 [va_rf (some q), va_rf (some q')] st Q := by
  have l2 := lcp_le2 t u
  refine wk_X1_begins (ct_commonS h h' ht hu ht2 hu2 ⟨rfl, _, rfl, h'.is, ct_J2_length h' ⟨rfl, ?_⟩⟩)
  exact g_jn1_i (fun y => y = tv (lcp t u = u.length)) (fun y e => by rw [e]; exact ⟨tv_nar, hq⟩) fun K hK => b_ne (by omega) (by omega) (fun w => hK _ (tv_1 w).symm) fun w => hK _ (tv_0 w).symm
theorem lgX_cg (h : ∀ u ∈ ws, (lcp u.1 s = u.1.length ↔ lcp u.1 t = u.1.length)) : lgX s ws = lgX t ws := by
  induction ws with
  | nil => rfl
  | cons u us ih =>
    show Nat.max (if lcp u.1 s = u.1.length then u.1.length else 0) (lgX s us) = Nat.max (if lcp u.1 t = u.1.length then u.1.length else 0) (lgX t us)
    rw [ih fun v hv => h v (List.mem_cons_of_mem _ hv)]
    congr 1
    by_cases z : lcp u.1 s = u.1.length
    · rw [if_pos z, if_pos ((h u List.mem_cons_self).mp z)]
    · rw [if_neg z, if_neg (fun w => z ((h u List.mem_cons_self).mpr w))]
theorem lgX_ub {g : Nat} (h : ∀ u ∈ ws, lcp u.1 s = u.1.length → u.1.length ≤ g) : lgX s ws ≤ g := by
  induction ws with
  | nil => exact Nat.zero_le _
  | cons u us ih =>
    have h1 := ih fun v hv => h v (List.mem_cons_of_mem _ hv)
    have h2 := h u List.mem_cons_self
    show max (if lcp u.1 s = u.1.length then u.1.length else 0) (lgX s us) ≤ g
    split <;> omega
theorem lgX_mem {u : List Nat × Nat} (hu : u ∈ ws) (h : lcp u.1 s = u.1.length) : u.1.length ≤ lgX s ws := by
  induction ws with
  | nil => exact absurd hu List.not_mem_nil
  | cons w us ih =>
    show _ ≤ max (if lcp w.1 s = w.1.length then w.1.length else 0) (lgX s us)
    rcases List.mem_cons.mp hu with q | q
    · rw [← q, if_pos h]
      omega
    · have := ih q
      omega
/-- what the greatest word that is not greater tells -/
theorem fl_pre (hs : Sd ws) {i : Nat} (hi : i < ws.length) (hd : dL ws s = i + 1) {w : List Nat × Nat} (hw : w ∈ ws) (hp : lcp w.1 s = w.1.length) : w.1.length ≤ lcp (kk ws i) s := by
  obtain ⟨k, hk, e1, _⟩ := mem_kv hw
  have hP := Pos.of hs s
  have n1 : ∀ k, k < ws.length → k < dL ws s → ¬ s < kk ws k := fun k hk h1 h2 => by
    have := (hP.2.2.2 k hk).1.mp h2
    omega
  have kd : k < dL ws s := by
    rcases Nat.lt_or_ge k (dL ws s) with q | q
    · exact q
    · have := (hP.2.2.2 k hk).1.mpr q
      rw [e1] at this
      rcases (lcp_lt s w.1).mp this with ⟨h1, h2⟩ | ⟨h1, h2, h3⟩
      · rw [lcp_sym] at h1 h2
        omega
      · rw [lcp_sym] at h2
        omega
  rw [← hp, ← e1]
  refine lcp_m2 (fun q => ?_) (n1 i hi (by omega))
  by_cases z : k = i
  · rw [z] at q
    exact ll_irr _ q
  · exact ll_as q (hs.lt (by omega) hi)
theorem ct_longest {q : Nat} {kl : Nat} (h : TMx st tm n nd ka va mc x ws) (lt : ∀ z, CX tm n nd x z → z < st.2.2) (hsg : ∀ u ∈ ws, sgs u.1) (hE : Cst E st.1) (hu : Str st.1 q s) (hs8 : sgs s) (hl : s.length ≤ kl) (hkl : kl < 128) (hcb : 2 * kl ≤ cb) (hsb : kl * (kl + 4) ≤ sb') (hq : ∀ st' : g_St, Sb st.2.2 st st' → Q (nI (lgX s ws)) st') : wp_X1_longest l E cb sb' [va_rf (some tm), va_rf (some q)] st Q := by
  have hs := h.sd
  have hn := h.len
  refine wk_X1_longest ?_
  refine g_lp4_m (fun mm o s1 c s' => ∃ (q : Nat) (g : Nat), o = some q ∧ Str s1.1 q (s.take g) ∧ g ≤ s.length ∧ lgX s ws = lgX (s.take g) ws ∧ Sb st.2.2 st s1 ∧ 2 * g ≤ c ∧ g * (kl + 4) ≤ s' ∧ mm = g) ?_ ⟨q, s.length, rfl, by rw [List.take_length]; exact hu, Nat.le_refl _, by rw [List.take_length], Sb.rf, by omega, ?_, rfl⟩
  · rintro mm o s1 c s' K ⟨q, g, rfl, hq1, hg, hlg, hb, hc, hs', rfl⟩ hK
    have h1 : TMx s1 tm n nd ka va mc x ws := h.fr hb.1.2.1 fun z hz => hb.2 z (lt z hz)
    have hlen : (s.take mm).length = mm := by rw [List.length_take]; omega
    refine ⟨_, rfl, hq1.is, ct_J2_isEmpty hq1 ⟨rfl, ?_⟩⟩
    by_cases e : s.take mm = []
    · rw [if_pos e]
      rw [e] at hlg
      refine ⟨fun _ => ?_, fun w => absurd w (by decide)⟩
      have := (lgX_ub (s := []) (ws := ws) (g := 0) fun u hu1 hp => by rw [lcp_nil] at hp; omega)
      rw [show lgX s ws = 0 by omega] at hq
      exact hq s1 hb
    · rw [if_neg e]
      refine ⟨fun w => absurd rfl w, fun _ => ⟨_, rfl, h1.is, ct_floorKey h1 hq1 (by omega) (hE.ext hb.1) ⟨rfl, ?_⟩⟩⟩
      cases hd : dL ws (s.take mm) with
      | zero =>
        refine ⟨fun w e => (by cases e), fun _ => ?_, fun w e => (by cases e)⟩
        have hz : lgX (s.take mm) ws ≤ 0 := lgX_ub fun w hw hp => by
          exfalso
          obtain ⟨k, hk, e1, _⟩ := mem_kv hw
          have hP := Pos.of hs (s.take mm)
          have := (hP.2.2.2 k hk).1.mpr (by omega)
          rw [e1] at this
          rcases (lcp_lt (s.take mm) w.1).mp this with ⟨h1, h2⟩ | ⟨h1, h2, h3⟩
          · rw [lcp_sym] at h1 h2
            omega
          · rw [lcp_sym] at h2
            omega
        rw [show lgX s ws = 0 by omega] at hq
        exact hq s1 hb
      | succ i =>
        have hi : i < ws.length := by
          have := (Pos.of hs (s.take mm)).2.2.1
          omega
        have hky := h1.key (i := i) (by omega)
        have hks := hsg _ (kv_mem hi)
        have ei : ipv (i + 1) = some i := rfl
        rw [ei]
        have l1 := lcp_le1 (kk ws i) (s.take mm)
        have l2 := lcp_le2 (kk ws i) (s.take mm)
        have hpre : ∀ w ∈ ws, lcp w.1 (s.take mm) = w.1.length → w.1.length ≤ lcp (kk ws i) (s.take mm) := fun w hw hp => fl_pre hs hi hd hw hp
        refine ⟨fun w e => (by cases e; exact hky.1.is), fun e => (by cases e), fun w e => ?_⟩
        cases e
        refine ct_commonS hky.1 hq1 hky.2 (by omega) hks (hs8.tk mm) ⟨rfl, hky.1.is, ct_J2_length hky.1 ⟨rfl, b_ne (by omega) (by omega) (fun z => ?_) fun z => ?_⟩⟩
        · have e1 : lgX s ws = lcp (kk ws i) (s.take mm) := by
            rw [hlg]
            exact Nat.le_antisymm (lgX_ub hpre) (by rw [z]; exact lgX_mem (u := (kk ws i, vv ws i)) (kv_mem hi) z)
          rw [e1] at hq
          exact hq s1 hb
        · have hlt : lcp (kk ws i) (s.take mm) < mm := by
            rcases Nat.lt_or_ge (lcp (kk ws i) (s.take mm)) mm with q | q
            · exact q
            · exfalso
              have hP := Pos.of hs (s.take mm)
              have : s.take mm < kk ws i := (lcp_lt _ _).mpr (Or.inl ⟨by rw [lcp_sym]; omega, by rw [lcp_sym]; omega⟩)
              have := (hP.2.2.2 i hi).1.mp this
              omega
          have hmul : (lcp (kk ws i) (s.take mm) + 1) * (kl + 4) ≤ mm * (kl + 4) := Nat.mul_le_mul_right _ hlt
          rw [Nat.add_mul, Nat.one_mul] at hmul
          refine ⟨2, kl + 4, by omega, by omega, hq1.is, ct_J2_substring (hE.ext hb.1) hq1 (Nat.zero_le _) (by omega) (Nat.le_refl _) (by omega) fun q2 s2 hq2 hs2 _ => hK _ _ _ _ _ ⟨q2, lcp (kk ws i) (s.take mm), rfl, ?_, by omega, ?_, hb.tr (hs2.bl hb.z), by omega, by omega, rfl⟩ hlt⟩
          · have ec : cut (s.take mm) 0 (lcp (kk ws i) (s.take mm) - 0) = s.take (lcp (kk ws i) (s.take mm)) := by
              unfold cut
              rw [List.drop_zero, Nat.sub_zero, List.take_take]
              congr 1
              omega
            rw [ec] at hq2
            exact hq2
          · rw [hlg]
            refine lgX_cg fun w hw => ?_
            have hp2 := hpre w hw
            have l3 := lcp_le1 w.1 (s.take mm)
            have e3 : s.take (lcp (kk ws i) (s.take mm)) = (s.take mm).take (lcp (kk ws i) (s.take mm)) := by rw [List.take_take]; congr 1; omega
            rw [e3, lcp_take w.1 (s.take mm) (lcp (kk ws i) (s.take mm))]
            omega
  · exact Nat.le_trans (Nat.mul_le_mul_right _ hl) hsb
end GXS5
