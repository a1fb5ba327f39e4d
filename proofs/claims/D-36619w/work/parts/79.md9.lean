/-! MODEL 9: beginnings, longest, shared, twin, pieces -/
section GMD9
variable {us ws : wL} {t : List Nat} {cs : Nat → List Nat} {l : Launch} {E : g_E} {st0 st : g_St} {m k0 : Nat} {Q : Int32 → g_St → Prop} {A : Nat → Nat → Int32} {W : Nat → Int64} {c ln mn : Int32}
theorem Sd.ltc (hs : Sd ws) {i : Nat} (hi : i < ws.length) : kk ws i < t ↔ i < cL ws t := by
  have hP := Pos.of hs t
  have p1 := hP.1
  have := hP.2.2.2 i hi
  constructor
  · intro z
    have n1 : ¬ dL ws t ≤ i := fun w => ll_as z (this.1.mpr w)
    have n2 : ¬ (cL ws t ≤ i ∧ i < dL ws t) := fun w => by
      rw [this.2.mpr w] at z
      exact ll_irr _ z
    omega
  · intro z
    rcases ll_tri (kk ws i) t with w | w | w
    · exact w
    · have := this.2.mp w.symm
      omega
    · have := this.1.mp w
      omega
theorem okW.sg (h : okW us) : ∀ u ∈ us, sgs u.1 := fun u hu => (h.2 u hu).2.2.1
theorem pre_ix (hs : Sd ws) (hW : okW ws) {i : Nat} (hi : i < ws.length) : lcp (kk ws i) t = t.length ↔ cL ws t ≤ i ∧ i < cL ws (bh t) := by
  rw [pre_iff (hW.kk hi).2.2.1, hs.ltc hi, hs.ltc hi]
  omega
theorem nB_cL (hs : Sd ws) (hW : okW ws) : nB t ws + cL ws t = cL ws (bh t) := by
  rw [← cnt_cL hs, ← cnt_cL hs]
  exact nB_cnt hW.sg
def sp_begun (t : List Nat) (ws : wL) (cs : Nat → List Nat) : sR := (0, nI (nB t ws), t, ws, cs)
theorem ct_mbegun (h : MP st st m k0 t ws cs) (hq : mok st m Q (sp_begun t ws cs)) : wp_X2_begun l E 0 0 [va_rf (some m)] st Q := by
  obtain ⟨us, A, W, hp, h, hR⟩ := h
  have hn := hR.2.1.1
  refine wk_X2_begun (h.pC _ fun s1 h1 => ?_)
  refine g_lp2_m (fun mm x y => ∃ v, y = nI v ∧ v ≤ us.length ∧ x = nI (nB t (us.take v)) ∧ mm = 100 - v) ?_ ⟨0, rfl, Nat.zero_le _, rfl, rfl⟩
  rintro mm x y K ⟨v, rfl, hv, rfl, rfl⟩ hK
  refine ⟨_, h1.gN, b_le (by omega) (by omega) (fun z => ?_) fun z => ⟨h1.is, ct_misBegun h1 hR z ⟨rfl, ?_⟩⟩⟩
  · rw [tkn z, nB_pm hp]
    exact hq s1 ⟨us, A, W, hp, h1, hR⟩
  · refine g_jn1_i (fun x => x = nI (nB t (us.take (v + 1)))) (fun x e => hK _ _ _ ⟨v + 1, nI_add v 1, z, e, rfl⟩ (by omega)) fun K12 hK12 => ?_
    rw [tk1 z, nB_1] at hK12
    refine b_tv (fun y => hK12 _ ?_) fun y => hK12 _ ?_
    · rw [if_pos y, nI_add]
    · rw [if_neg y]
      rfl
def sp_begunAt (p : Int32) (t : List Nat) (ws : wL) (cs : Nat → List Nat) : sR := if p < nI 0 ∨ nI (nB t ws) ≤ p then (1, nI 0, t, ws, cs) else (0, nI (vv ws (cL ws t + p.toNatClampNeg)), kk ws (cL ws t + p.toNatClampNeg), ws, cs)
theorem ct_mbegunAt {p : Int32} (h : MP st st m k0 t ws cs) (hs : Sd ws) (hq : mok st m Q (sp_begunAt p t ws cs)) : wp_X2_begunAt l E 0 0 [va_rf (some m), .int p] st Q := by
  obtain ⟨us, A, W, hp, h, hR⟩ := h
  have hn := hR.2.1.1
  have hW := hR.2.1
  have hWs := hW.pm hp
  have hlen := hp.length_eq
  have hnb := nB_cL (t := t) hs hWs
  have hcb : cL ws (bh t) ≤ ws.length := cL_le hs
  have hix : ∀ w, w < us.length → lcp (kk us w) t = t.length → ∃ i, i < ws.length ∧ kk ws i = kk us w ∧ vv ws i = vv us w ∧ cL ws t ≤ i ∧ i < cL ws (bh t) ∧ nBk t (kk us w) us = i - cL ws t := fun w hw hpr => by
    obtain ⟨i1, i2, i3, i4⟩ := pm_1 hp hs hw
    have e := nBk_cnt hW.sg (hW.kk hw).2.2.1 hpr
    have e2 := (pre_ix (t := t) hs hWs i1).mp (by rw [i3]; exact hpr)
    rw [cnt_pm hp, cnt_cL hs, cnt_pm hp, cnt_cL hs] at e
    exact ⟨_, i1, i3, i4, e2.1, e2.2, by omega⟩
  unfold sp_begunAt at hq
  refine wk_X2_begunAt ?_
  refine g_lp2_m (fun mm x y => ∃ w, y = nI w ∧ w ≤ us.length ∧ ((x = -1 ∧ ∀ v, v < w → lcp (kk us v) t = t.length → nI (nBk t (kk us v) us) ≠ p) ∨ ∃ b, b < w ∧ x = nI b ∧ lcp (kk us b) t = t.length ∧ nI (nBk t (kk us b) us) = p) ∧ mm = 100 - w) ?_ ⟨0, rfl, Nat.zero_le _, Or.inl ⟨rfl, fun v hv => absurd hv (Nat.not_lt_zero _)⟩, rfl⟩
  rintro mm x y K ⟨w, rfl, hw, hx, rfl⟩ hK
  refine ⟨_, h.gN, b_le (by omega) (by omega) (fun z => ?_) fun z => ?_⟩
  · have ew : w = us.length := by omega
    subst ew
    rcases hx with ⟨rfl, hno⟩ | ⟨b, hb, rfl, hb1, hb2⟩
    · have hbad : p < nI 0 ∨ nI (nB t ws) ≤ p := by
        by_cases v : p < nI 0 ∨ nI (nB t ws) ≤ p
        · exact v
        · exfalso
          obtain ⟨j, hj, rfl⟩ := i_in2 v (by omega)
          obtain ⟨w, hw, e1, _⟩ := pm_2 hp (i := cL ws t + j) (by omega)
          have hpr : lcp (kk us w) t = t.length := by
            rw [e1]
            exact (pre_ix hs hWs (by omega)).mpr ⟨by omega, by omega⟩
          obtain ⟨i, i1, i2, _, i3, i4, i5⟩ := hix w hw hpr
          have : i = cL ws t + j := by
            rw [e1] at i2
            rcases Nat.lt_trichotomy i (cL ws t + j) with q | q | q
            · have := hs.lt q (by omega)
              rw [i2] at this
              exact absurd this (ll_irr _)
            · exact q
            · have := hs.lt q i1
              rw [i2] at this
              exact absurd this (ll_irr _)
          exact hno w hw hpr (by rw [i5, this]; congr 1; omega)
      rw [if_pos hbad] at hq
      show _ ∧ _
      exact nle_neg ⟨h.is, ct_mfails h (by omega) fun s1 h1 _ => b_tv (fun _ => hq s1 ⟨us, A, W, hp, h1, hR⟩) fun w => absurd (by omega) w⟩
    · obtain ⟨i, i1, i2, i6, i3, i4, i5⟩ := hix b hb hb1
      rw [i5] at hb2
      subst hb2
      have hok : ¬ (nI (i - cL ws t) < nI 0 ∨ nI (nB t ws) ≤ nI (i - cL ws t)) := by
        rw [nI_ltI (by omega) (by omega), nI_leI (by omega) (by omega)]
        omega
      rw [if_neg hok, nI_clamp (by omega), show cL ws t + (i - cL ws t) = i by omega, i2, i6] at hq
      show _ ∧ _
      refine le_pos (by omega) ⟨h.is, ct_mfails h (by omega) fun s1 h1 _ => b_tv (fun w => absurd w (by omega)) fun _ => ⟨h1.is, ct_mbecomes h1 hR hb fun s2 A2 h2 hR2 hA _ => ⟨_, h2.g6, _, rfl, h2.r6 b rfl (by omega) ?_⟩⟩⟩
      rw [hA 6 (by decide), (hR.2.2.2.2.1 b hb).2.1]
      exact hq s2 ⟨us, A2, W, hp, h2, hR2⟩
  · have step : ∀ x', ((x' = -1 ∧ ∀ v, v < w + 1 → lcp (kk us v) t = t.length → nI (nBk t (kk us v) us) ≠ p) ∨ ∃ b, b < w + 1 ∧ x' = nI b ∧ lcp (kk us b) t = t.length ∧ nI (nBk t (kk us b) us) = p) → K x' (nI w + nI 1) := fun x' H => hK _ _ _ ⟨w + 1, nI_add w 1, z, H, rfl⟩ (by omega)
    refine g_lp2_m (fun mm x22 x23 => ∃ v, x23 = nI v ∧ v ≤ us.length ∧ x22 = nI (nBk t (kk us w) (us.take v)) ∧ mm = 100 - v) ?_ ⟨0, rfl, Nat.zero_le _, rfl, rfl⟩
    rintro mm x22 x23 K2 ⟨v, rfl, hv, rfl, rfl⟩ hK2
    refine ⟨_, h.gN, b_le (by omega) (by omega) (fun y => ⟨h.is, ct_misBegun h hR z ⟨rfl, ?_⟩⟩) fun y => ⟨h.is, ct_misBegun h hR y ⟨rfl, ?_⟩⟩⟩
    · rw [tkn y]
      refine g_jn1_i (fun x' => (x' = -1 ∧ ∀ v, v < w + 1 → lcp (kk us v) t = t.length → nI (nBk t (kk us v) us) ≠ p) ∨ ∃ b, b < w + 1 ∧ x' = nI b ∧ lcp (kk us b) t = t.length ∧ nI (nBk t (kk us b) us) = p) (fun x' H => step x' H) fun K31 hK31 => ?_
      have keep : (lcp (kk us w) t = t.length → nI (nBk t (kk us w) us) ≠ p) → K31 x := fun H => hK31 _ (by
        rcases hx with ⟨rfl, hno⟩ | ⟨b, hb, rfl, hb1, hb2⟩
        · refine Or.inl ⟨rfl, fun v hv hv1 => ?_⟩
          rcases Nat.lt_succ_iff_lt_or_eq.mp hv with q | q
          · exact hno v q hv1
          · rw [q] at hv1 ⊢
            exact H hv1
        · exact Or.inr ⟨b, by omega, rfl, hb1, hb2⟩)
      refine b_tv (fun q => ⟨fun r => keep fun _ => r, fun r => hK31 _ (Or.inr ⟨w, Nat.lt_succ_self _, rfl, q, r⟩)⟩) fun q => keep fun r => absurd r q
    · refine g_jn1_i (fun x' => x' = nI (nBk t (kk us w) (us.take (v + 1)))) (fun x' e => hK2 _ _ _ ⟨v + 1, nI_add v 1, y, e, rfl⟩ (by omega)) fun K38 hK38 => ?_
      rw [tk1 y, nBk_1] at hK38
      refine b_tv (fun q => ⟨h.is, ct_misLess h hR y z ⟨rfl, b_tv (fun r => hK38 _ ?_) fun r => hK38 _ ?_⟩⟩) fun q => hK38 _ ?_
      · rw [if_pos ⟨q, r⟩, nI_add]
      · rw [if_neg (fun w => r w.2)]
        rfl
      · rw [if_neg (fun w => q w.1)]
        rfl
def sp_sum (t : List Nat) (ws : wL) (cs : Nat → List Nat) : sR := (0, nI (sB t ws), t, ws, cs)
theorem ct_msum (h : MP st st m k0 t ws cs) (hq : mok st m Q (sp_sum t ws cs)) : wp_X2_sum l E 0 0 [va_rf (some m)] st Q := by
  obtain ⟨us, A, W, hp, h, hR⟩ := h
  have hn := hR.2.1.1
  refine wk_X2_sum (h.pC _ fun s1 h1 => ?_)
  refine g_lp2_m (fun mm x y => ∃ v, y = nI v ∧ v ≤ us.length ∧ x = nI (sB t (us.take v)) ∧ mm = 100 - v) ?_ ⟨0, rfl, Nat.zero_le _, rfl, rfl⟩
  rintro mm x y K ⟨v, rfl, hv, rfl, rfl⟩ hK
  refine ⟨_, h1.gN, b_le (by omega) (by omega) (fun z => ?_) fun z => ⟨h1.is, ct_misBegun h1 hR z ⟨rfl, ?_⟩⟩⟩
  · rw [tkn z, sB_pm hp]
    exact hq s1 ⟨us, A, W, hp, h1, hR⟩
  · refine g_jn1_i (fun x => x = nI (sB t (us.take (v + 1)))) (fun x e => hK _ _ _ ⟨v + 1, nI_add v 1, z, e, rfl⟩ (by omega)) fun K12 hK12 => ?_
    have e1 : sB t [(kk us v, vv us v)] = if lcp (kk us v) t = t.length then vv us v else 0 := Nat.add_zero _
    rw [tk1 z, sB_app, e1] at hK12
    refine b_tv (fun y => ⟨_, h1.g6, _, rfl, h1.r6 v rfl (by omega) (hK12 _ ?_)⟩) fun y => hK12 _ ?_
    · rw [if_pos y, (hR.2.2.2.2.1 v z).2.1, nI_add]
    · rw [if_neg y]
      rfl
/-- the words that don't begin with t -/
def nP (t : List Nat) (ws : wL) : wL := ws.filter (fun u => decide (¬ lcp u.1 t = t.length))
def sp_gone (t : List Nat) (ws : wL) (cs : Nat → List Nat) : sR := (0, nI (nB t ws), t, nP t ws, cs)
theorem nP_pm (hp : us.Perm ws) : (nP t us).Perm (nP t ws) := hp.filter _
theorem nP_c {u : List Nat × Nat} : nP t (u :: us) = if lcp u.1 t = t.length then nP t us else u :: nP t us := by
  unfold nP
  rw [List.filter_cons]
  by_cases z : lcp u.1 t = t.length
  · rw [if_pos z, if_neg]
    simp [z]
  · rw [if_neg z, if_pos]
    simp [z]
theorem ct_mgone (h : MP st st m k0 t ws cs) (hq : mok st m Q (sp_gone t ws cs)) : wp_X2_gone l E 0 0 [va_rf (some m)] st Q := by
  obtain ⟨us, A, W, hp, h, hR⟩ := h
  have hn := hR.2.1.1
  refine wk_X2_gone (h.pC _ fun s1 h1 => ⟨_, h1.gN, ?_⟩)
  refine g_lp3_m (fun mm x4 x5 s => ∃ (w : Nat) (us' : wL) (A' : Nat → Nat → Int32), x5 = nI w - nI 1 ∧ w ≤ us'.length ∧ us'.length ≤ us.length ∧ MS st s m (nI 0) (nI t.length) (nI us'.length) A' W ∧ MR t us' cs A' ∧ (nP t us').Perm (nP t us) ∧ (∃ g, x4 = nI g ∧ g + nB t us' = nB t us) ∧ (∀ v, w ≤ v → v < us'.length → ¬ lcp (kk us' v) t = t.length) ∧ mm = w) ?_ ⟨us.length, us, A, rfl, Nat.le_refl _, Nat.le_refl _, h1, hR, List.Perm.refl _, ⟨0, rfl, Nat.zero_add _⟩, fun v h1 h2 => by omega, rfl⟩
  rintro mm x4 x5 s K ⟨w, us', A', rfl, hw, hul, hS, hR', hP, ⟨g, rfl, hg⟩, hno, rfl⟩ hK
  have hn' := hR'.2.1.1
  refine ⟨fun z => ?_, fun z => ?_⟩
  · have e := (sb_neg mm (by omega)).mp z
    subst e
    have hnone : nB t us' = 0 := by
      unfold nB
      rw [List.countP_eq_zero]
      intro u hu
      obtain ⟨i, hi, e1, _⟩ := mem_kv hu
      have := hno i (Nat.zero_le _) hi
      rw [e1] at this
      simp [this]
    have hsame : nP t us' = us' := by
      unfold nP
      rw [List.filter_eq_self]
      intro u hu
      obtain ⟨i, hi, e1, _⟩ := mem_kv hu
      have := hno i (Nat.zero_le _) hi
      rw [e1] at this
      simp [this]
    rw [show g = nB t ws by rw [← nB_pm hp]; omega]
    rw [hsame] at hP
    exact hq s ⟨us', A', W, hP.trans (nP_pm hp), hS, hR'⟩
  · have hm0 : mm ≠ 0 := fun e => z ((sb_neg mm (by omega)).mpr e)
    obtain ⟨w, rfl⟩ := Nat.exists_eq_succ_of_ne_zero hm0
    rw [Nat.succ_eq_add_one] at *
    rw [sb_pr]
    have hw' : w < us'.length := by omega
    refine ⟨hS.is, ct_misBegun hS hR' hw' ⟨rfl, ?_⟩⟩
    refine g_jn2_i (fun y s' => ∃ (us2 : wL) (A2 : Nat → Nat → Int32), w ≤ us2.length ∧ us2.length ≤ us.length ∧ MS st s' m (nI 0) (nI t.length) (nI us2.length) A2 W ∧ MR t us2 cs A2 ∧ (nP t us2).Perm (nP t us) ∧ (∃ g, y = nI g ∧ g + nB t us2 = nB t us) ∧ ∀ v, w ≤ v → v < us2.length → ¬ lcp (kk us2 v) t = t.length) (fun y s' ⟨us2, A2, g1, g2, g3, g4, g5, g6, g7⟩ => hK w _ _ _ ⟨w, us2, A2, by rw [← Int32.sub_eq_add_neg]; rfl, g1, g2, g3, g4, g5, g6, g7, rfl⟩ (by omega)) fun K14 hK14 => ?_
    refine b_vt (fun y => ⟨hS.is, ct_mgoes hS hR' hw' fun s2 A2 h2 hR2 _ => hK14 _ _ ⟨gz us' w, A2, by rw [gz_len]; omega, by rw [gz_len]; omega, by rw [gz_len]; exact h2, hR2, ?_, ⟨g + 1, nI_add g 1, ?_⟩, fun v hv1 hv2 => ?_⟩⟩) fun y => hK14 _ _ ⟨us', A', by omega, hul, hS, hR', hP, ⟨g, rfl, hg⟩, fun v hv1 hv2 => ?_⟩
    · have k := nP_pm (t := t) (gz_pm hw')
      rw [nP_c, if_pos y] at k
      exact k.symm.trans hP
    · have k := nB_pm (t := t) (gz_pm hw')
      rw [nB_c, if_pos y] at k
      omega
    · rw [gz_len] at hv2
      rw [(gz_k hw' hv2).1]
      split
      · rename_i e
        exact hno (us'.length - 1) (by omega) (by omega)
      · exact hno v (by omega) (by omega)
    · by_cases e : v = w
      · rw [e]; exact y
      · exact hno v (by omega) hv2
theorem ct_mlongestAt {f : Nat} (h : MS st0 st m c (nI t.length) (nI us.length) A W) (hR : MR t us cs A) (hf : f ≤ t.length) (hq : Q (nI (lgX (t.drop f) us)) st) : wp_X2_longestAt l E 0 0 [va_rf (some m), .int (nI f)] st Q := by
  have hn := hR.2.1.1
  have hW := hR.2.1
  refine wk_X2_longestAt ?_
  refine g_lp2_m (fun mm x y => ∃ v, y = nI v ∧ v ≤ us.length ∧ x = nI (lgX (t.drop f) (us.take v)) ∧ mm = 100 - v) ?_ ⟨0, rfl, Nat.zero_le _, rfl, rfl⟩
  rintro mm x y K ⟨v, rfl, hv, rfl, rfl⟩ hK
  have hb := (lgX_le (s := t.drop f) (us := us.take v) fun u hu => (hW.2 u (List.mem_of_mem_take hu)).2.1).1
  refine ⟨_, h.gN, b_le (by omega) (by omega) (fun z => ?_) fun z => ⟨h.is, ct_mlike h hR z hf ⟨rfl, _, h.g5, _, rfl, h.r5 v rfl (by omega) ?_⟩⟩⟩
  · rw [tkn z]
    exact hq
  · have kv := hW.kk z
    have e5 := (hR.2.2.2.2.1 v z).1
    have l1 := lcp_le1 (kk us v) (t.drop f)
    rw [e5]
    refine g_jn1_i (fun x => x = nI (lgX (t.drop f) (us.take (v + 1)))) (fun x e => hK _ _ _ ⟨v + 1, nI_add v 1, z, e, rfl⟩ (by omega)) fun K15 hK15 => ?_
    rw [tk1 z, lgX_1] at hK15
    refine b_ne (by omega) (by omega) (fun y => ⟨_, h.g5, _, rfl, h.r5 v rfl (by omega) ?_⟩) fun y => hK15 _ ?_
    · rw [e5]
      refine b_le (by omega) (by omega) (fun w => hK15 _ ?_) fun w => ⟨_, h.g5, _, rfl, h.r5 v rfl (by omega) (hK15 _ ?_)⟩
      · rw [if_neg (fun q => by have q2 : lgX (t.drop f) (us.take v) < (kk us v).length := q.2; omega)]
      · rw [e5, if_pos ⟨y, w⟩]
    · rw [if_neg (fun q => y q.1)]
def sp_longest (p : Int32) (t : List Nat) (ws : wL) (cs : Nat → List Nat) : sR := if p < nI 0 ∨ nI t.length < p then (1, nI 0, t, ws, cs) else (0, nI (lgX (t.drop p.toNatClampNeg) ws), t, ws, cs)
theorem ct_mlongest {p : Int32} (h : MP st st m k0 t ws cs) (hq : mok st m Q (sp_longest p t ws cs)) : wp_X2_longest l E 0 0 [va_rf (some m), .int p] st Q := by
  obtain ⟨us, A, W, hp, h, hR⟩ := h
  have hT1 := hR.1.1
  unfold sp_longest at hq
  refine wk_X2_longest ⟨_, h.gL, ct_min ⟨rfl, ?_⟩⟩
  by_cases z : p < nI 0 ∨ nI t.length < p
  · rw [if_pos z] at hq
    rw [tv_0 (fun w => w z)]
    show _ ∧ _
    refine ⟨fun _ => ⟨h.is, ct_mfails h (by omega) fun s1 h1 _ => ?_⟩, fun w => absurd (by decide) w⟩
    show _ ∧ _
    exact b_tv (fun _ => hq s1 ⟨us, A, W, hp, h1, hR⟩) fun w => absurd (by omega) w
  · rw [if_neg z] at hq
    rw [tv_1 z]
    obtain ⟨j, hj, rfl⟩ := i_in (fun w => z (Or.inl w)) (fun w => z (Or.inr w)) (by omega)
    rw [nI_clamp (by omega)] at hq
    show _ ∧ _
    refine ⟨fun w => absurd w (by decide), fun _ => ⟨h.is, ct_mfails h (by omega) fun s1 h1 _ => ?_⟩⟩
    show _ ∧ _
    refine b_tv (fun w => absurd w (by omega)) fun _ => ⟨h1.is, ct_mlongestAt h1 hR hj ⟨rfl, ?_⟩⟩
    rw [lgX_pm hp]
    exact hq s1 ⟨us, A, W, hp, h1, hR⟩
def sp_shared (t : List Nat) (ws : wL) (cs : Nat → List Nat) : sR := (0, nI (shX t ws), t, ws, cs)
theorem ct_mshared (h : MP st st m k0 t ws cs) (hq : mok st m Q (sp_shared t ws cs)) : wp_X2_shared l E 0 0 [va_rf (some m)] st Q := by
  obtain ⟨us, A, W, hp, h, hR⟩ := h
  have hn := hR.2.1.1
  have hT1 := hR.1.1
  refine wk_X2_shared (h.pC _ fun s1 h1 => ?_)
  refine g_lp2_m (fun mm x y => ∃ v, y = nI v ∧ v ≤ us.length ∧ x = nI (shX t (us.take v)) ∧ mm = 100 - v) ?_ ⟨0, rfl, Nat.zero_le _, rfl, rfl⟩
  rintro mm x y K ⟨v, rfl, hv, rfl, rfl⟩ hK
  have hb := shX_le (t := t) (us := us.take v)
  refine ⟨_, h1.gN, b_le (by omega) (by omega) (fun z => ?_) fun z => ⟨h1.is, ct_mlike h1 hR z (Nat.zero_le _) ⟨rfl, ?_⟩⟩⟩
  · rw [tkn z, shX_pm hp]
    exact hq s1 ⟨us, A, W, hp, h1, hR⟩
  · rw [List.drop_zero]
    have l2 := lcp_le2 (kk us v) t
    refine g_jn1_i (fun x => x = nI (shX t (us.take (v + 1)))) (fun x e => hK _ _ _ ⟨v + 1, nI_add v 1, z, e, rfl⟩ (by omega)) fun K12 hK12 => ?_
    rw [tk1 z, shX_1] at hK12
    refine b_le (by omega) (by omega) (fun w => hK12 _ ?_) fun w => ⟨h1.is, ct_mlike h1 hR z (Nat.zero_le _) ⟨rfl, hK12 _ ?_⟩⟩
    · rw [if_neg (fun q => by have q : shX t (us.take v) < lcp (kk us v) t := q; omega)]
    · rw [List.drop_zero, if_pos w]
def sp_twin (t : List Nat) (ws : wL) (cs : Nat → List Nat) : sR := if ws.length < 2 then (1, nI 0, t, ws, cs) else (0, nI (twX ws), t, ws, cs)
theorem tv_dummy : True := trivial
theorem ct_mtwin (h : MP st st m k0 t ws cs) (hq : mok st m Q (sp_twin t ws cs)) : wp_X2_twin l E 0 0 [va_rf (some m)] st Q := by
  obtain ⟨us, A, W, hp, h, hR⟩ := h
  have hn := hR.2.1.1
  have hW := hR.2.1
  have hlen := hp.length_eq
  unfold sp_twin at hq
  refine wk_X2_twin ⟨_, h.gN, ?_⟩
  by_cases z : ws.length < 2
  · rw [if_pos z] at hq
    show _ ∧ _
    exact b_le (by omega) (by omega) (fun w => by omega) fun _ => ⟨h.is, ct_mfails h (by omega) fun s1 h1 _ => b_tv (fun _ => hq s1 ⟨us, A, W, hp, h1, hR⟩) fun w => absurd (by omega) w⟩
  · rw [if_neg z] at hq
    show _ ∧ _
    refine b_le (by omega) (by omega) (fun _ => ⟨h.is, ct_mfails h (by omega) fun s1 h1 _ => b_tv (fun w => absurd w (by omega)) fun _ => ?_⟩) fun w => by omega
    refine g_lp2_m (fun mm x y => ∃ w, y = nI w ∧ w ≤ us.length ∧ x = nI (twX (us.take w)) ∧ mm = 100 - w) ?_ ⟨0, rfl, Nat.zero_le _, rfl, rfl⟩
    rintro mm x y K ⟨w, rfl, hw, rfl, rfl⟩ hK
    refine ⟨_, h1.gN, b_le (by omega) (by omega) (fun z => ?_) fun z => ?_⟩
    · rw [tkn z, twX_pm hp]
      exact hq s1 ⟨us, A, W, hp, h1, hR⟩
    · have hb1 := twX_le (us := us.take w) fun u hu => (hW.2 u (List.mem_of_mem_take hu)).2.1
      refine g_lp2_m (fun mm x y => ∃ v, y = nI v ∧ v ≤ w ∧ x = nI (Nat.max (twX (us.take w)) (shX (kk us w) (us.take v))) ∧ mm = 100 - v) ?_ ⟨0, rfl, Nat.zero_le _, by rw [show shX (kk us w) (us.take 0) = 0 from rfl, show Nat.max (twX (us.take w)) 0 = twX (us.take w) from Nat.max_zero _], rfl⟩
      rintro mm x y K2 ⟨v, rfl, hv, rfl, rfl⟩ hK2
      have hb2 := shX_le (t := kk us w) (us := us.take v)
      have kw := hW.kk z
      have hb3 : Nat.max (twX (us.take w)) (shX (kk us w) (us.take v)) ≤ 10 := by
        rw [mx_if]
        split <;> omega
      refine b_le (by omega) (by omega) (fun y => ?_) fun y => ⟨h1.is, ct_mlikeW h1 hR (by omega) z ⟨rfl, ?_⟩⟩
      · refine hK _ _ _ ⟨w + 1, nI_add w 1, z, ?_, rfl⟩ (by omega)
        rw [tk1 z, twX_1, show v = w by omega]
      · have l1 := lcp_le2 (kk us v) (kk us w)
        have vn : v < us.length := by omega
        refine g_jn1_i (fun x => x = nI (Nat.max (twX (us.take w)) (shX (kk us w) (us.take (v + 1))))) (fun x e => hK2 _ _ _ ⟨v + 1, nI_add v 1, y, e, rfl⟩ (by omega)) fun K23 hK23 => ?_
        rw [tk1 vn, shX_1] at hK23
        have e0 : (kk us v, vv us v).1 = kk us v := rfl
        simp only [e0, mx_if] at hK23 ⊢
        refine b_le (by omega) (by split <;> omega) (fun q => hK23 _ ?_) fun q => ⟨h1.is, ct_mlikeW h1 hR vn z ⟨rfl, hK23 _ ?_⟩⟩
        · congr 1
          grind
        · congr 1
          grind
end GMD9
