/-! STEMSPAN 6: longest, shared, twin, pieces, piece -/
section GXS6
variable {l : Launch} {E : g_E} {st st' : g_St} {a sb v N tm n ca b cb sb' : Nat} {nd ka va : Nat → Nat} {mc : Int32} {x : tX} {fc : Nat → Option Nat} {t u s : List Nat} {ws : wL} {cs : Nat → List Nat} {Q : Int32 → g_St → Prop} {X : String → g_St → Prop}
theorem SPx.ctl (h : SPx E st a sb v N tm n nd ka va mc x ca fc t ws cs) {z : Nat} (hz : CX tm n nd x z) : SD a sb v tm n nd x ca z := Or.inr (Or.inr (Or.inr (Or.inr hz)))
/-- longest(words, a substring) -/
theorem ct_longW {q : Nat} (h : SPx E st a sb v N tm n nd ka va mc x ca fc t ws cs) (hw : g_Wf st) (hu : Str st.1 q s) (hs8 : sgs s) (hl : s.length ≤ 24) (hcb : 48 ≤ cb) (hsb : 672 ≤ sb') (hq : ∀ st' : g_St, Sb st.2.2 st st' → Q (nI (lgX s ws)) st') : wp_X1_longest l E cb sb' [va_rf (some tm), va_rf (some q)] st Q :=
  ct_longest (kl := 24) h.tmS (fun z hz => h.lt hw (h.ctl hz)) h.W.sg h.cE hu hs8 hl (by omega) (by omega) (by omega) hq
theorem Sb.le {b' : Nat} (h : Sb b st st') (hb : b' ≤ b) : Sb b' st st' := ⟨h.1, fun q hq => h.2 q (by omega)⟩
theorem ct_xlongest {p0 : Int32} (hl : l.stackTraces = false) (h : SP E st a t ws cs) (hcb : 100 ≤ cb) (hsb : 1000 ≤ sb') (hq : xq E st a Q X [nIO] (sp_longest p0 t ws cs)) : wpx_X1_longest_2 l E cb sb' [va_rf (some a), .int p0] st Q X := by
  refine g_WPX.wf fun hw => ?_
  obtain ⟨sb, v, N, tm, n, nd, ka, va, mc, x, ca, fc, h⟩ := h
  have hT := h.T
  have hT1 := hT.1
  have lt := fun z hz => h.lt hw (z := z) hz
  unfold sp_longest at hq
  refine wkx_X1_longest_2 hl ?_
  by_cases z : p0 < nI 0 ∨ nI t.length < p0
  · rw [if_pos z] at hq
    refine g_jn0_i ⟨by omega, by omega, hq st h.sp Sy.rf⟩ fun K hK => ⟨fun _ => hK, fun w1 => ⟨_, h.sbt, _, rfl, h.sbi, h.len ⟨rfl, fun w2 => ?_, fun _ => hK⟩⟩⟩
    exfalso
    rcases z with z | z
    · exact w1 z
    · exact absurd z (Int32.not_lt.mpr w2)
  · rw [if_neg z] at hq
    obtain ⟨j, hj, rfl⟩ := i_in (x := p0) (n := t.length) (fun w => z (Or.inl w)) (fun w => z (Or.inr w)) (by omega)
    rw [nI_clamp (by omega)] at hq
    show _ ∧ _
    refine ⟨fun w => absurd (Or.inl w) z, fun _ => ⟨_, h.sbt, _, rfl, h.sbi, h.len ⟨rfl, b_le (by omega) (by omega) (fun _ => ⟨_, h.tmt, _, h.sbt, _, rfl, 2, 28, by omega, by omega, h.sbi, ct_sbSub h.cE h.sbS hj (Nat.le_refl _) (by omega) fun q1 s1 hq1 hs1 _ => ?_⟩) fun w => by omega⟩⟩⟩
    have hb1 := hs1.bl (Nat.le_refl st.2.2)
    have h1 := h.fb lt hb1
    refine ⟨48, 672, by omega, by omega, g_WPi.wf fun hw1 => ct_longW h1 hw1 hq1 (hT.2.dp j) (by rw [List.length_drop]; omega) (Nat.le_refl _) (Nat.le_refl _) fun s2 hb2 _ => ?_⟩
    have hb3 := hb1.tr (hb2.le hb1.z)
    exact hq s2 (h.fb lt hb3).sp hb3.sy
/-- what the text has in common with the neighbours -/
def flN (t : List Nat) (ws : wL) : Nat := if 0 < dL ws t then lcp (kk ws (dL ws t - 1)) t else 0
def ceN (t : List Nat) (ws : wL) : Nat := if cL ws t < ws.length then lcp (kk ws (cL ws t)) t else 0
theorem shX_nb (hs : Sd ws) : shX t ws = if flN t ws ≤ ceN t ws then ceN t ws else flN t ws := by
  have hP := Pos.of hs t
  have p1 := hP.1
  have p2 := hP.2.1
  have p3 := hP.2.2.1
  have n1 : ∀ k, k < ws.length → k < dL ws t → ¬ t < kk ws k := fun k hk h1 h2 => by
    have := (hP.2.2.2 k hk).1.mp h2
    omega
  have n2 : ∀ k, k < ws.length → cL ws t ≤ k → ¬ kk ws k < t := fun k hk h1 h2 => by
    have := (hs.ltc hk).mp h2
    omega
  have f1 : flN t ws ≤ shX t ws := by
    unfold flN
    split
    · exact shX_mem (u := (kk ws (dL ws t - 1), vv ws (dL ws t - 1))) (kv_mem (by omega))
    · exact Nat.zero_le _
  have f2 : ceN t ws ≤ shX t ws := by
    unfold ceN
    split
    · exact shX_mem (u := (kk ws (cL ws t), vv ws (cL ws t))) (kv_mem (by omega))
    · exact Nat.zero_le _
  have f3 : shX t ws ≤ if flN t ws ≤ ceN t ws then ceN t ws else flN t ws := shX_ub fun u hu => by
    obtain ⟨k, hk, e1, _⟩ := mem_kv hu
    rw [← e1]
    by_cases z : k < dL ws t
    · have : lcp (kk ws k) t ≤ flN t ws := by
        unfold flN
        rw [if_pos (by omega)]
        refine lcp_m2 (fun q => ?_) (n1 _ (by omega) (by omega))
        by_cases y : k = dL ws t - 1
        · rw [← y] at q
          exact ll_irr _ q
        · exact ll_as q (hs.lt (by omega) (by omega))
      split <;> omega
    · have : lcp (kk ws k) t ≤ ceN t ws := by
        unfold ceN
        rw [if_pos (by omega), lcp_sym (kk ws k), lcp_sym (kk ws (cL ws t))]
        refine lcp_m1 (n2 _ (by omega) (by omega)) (fun q => ?_)
        by_cases y : k = cL ws t
        · rw [y] at q
          exact ll_irr _ q
        · exact ll_as q (hs.lt (by omega) hk)
      split <;> omega
  split at f3 <;> rename_i z
  · rw [if_pos z]
    omega
  · rw [if_neg z]
    omega
theorem ct_nbF {q : Nat} {o : Option Nat} {K : Int32 → Prop} (h : TMx st tm n nd ka va mc x ws) (hW : okW ws) (hu : Str st.1 q t) (hul : t.length < 128) (ht : sgs t) (eo : o = (ipv (dL ws t)).map ka) (hK : K (nI (flN t ws))) : (o = none → K (nI 0)) ∧ (∀ a29 : Nat, o = some a29 → wp_X1_common l E 0 0 [va_rf (some a29), va_rf (some q)] st (fun x30 stx => stx = st ∧ K x30)) := by
  have hn := h.len
  have p3 := (Pos.of h.sd t).2.2.1
  unfold flN at hK
  cases hd : dL ws t with
  | zero =>
    rw [hd, if_neg (by omega)] at hK
    rw [eo, hd]
    exact ⟨fun _ => hK, fun w e => by cases e⟩
  | succ i =>
    rw [hd, if_pos (by omega), Nat.add_sub_cancel] at hK
    rw [eo, hd]
    have hky := h.key (i := i) (by omega)
    refine ⟨fun e => (by cases e), fun w e => ?_⟩
    cases e
    exact ct_commonS hky.1 hu hky.2 hul (hW.kk (by omega)).2.2.1 ht ⟨rfl, hK⟩
theorem ct_nbC {q : Nat} {o : Option Nat} {K : Int32 → Prop} (h : TMx st tm n nd ka va mc x ws) (hW : okW ws) (hu : Str st.1 q t) (hul : t.length < 128) (ht : sgs t) (eo : o = (inx n (cL ws t)).map ka) (hK : K (nI (ceN t ws))) : (o = none → K (nI 0)) ∧ (∀ a29 : Nat, o = some a29 → wp_X1_common l E 0 0 [va_rf (some a29), va_rf (some q)] st (fun x30 stx => stx = st ∧ K x30)) := by
  have hn := h.len
  unfold ceN at hK
  unfold inx at eo
  by_cases z : cL ws t < n
  · rw [if_pos (by omega)] at hK
    rw [if_pos z] at eo
    rw [eo]
    have hky := h.key z
    refine ⟨fun e => (by cases e), fun w e => ?_⟩
    cases e
    exact ct_commonS hky.1 hu hky.2 hul (hW.kk (by omega)).2.2.1 ht ⟨rfl, hK⟩
  · rw [if_neg (by omega)] at hK
    rw [if_neg z] at eo
    rw [eo]
    exact ⟨fun _ => hK, fun w e => by cases e⟩
theorem ipvN (h : TMx st tm n nd ka va mc x ws) : g_isN st ((ipv (dL ws t)).map ka) 1 := fun w e => by
  have hn := h.len
  have p3 := (Pos.of h.sd t).2.2.1
  cases hd : ipv (dL ws t) with
  | none => rw [hd] at e; cases e
  | some i =>
    rw [hd] at e
    cases e
    have := ipv_l2 hd
    exact (h.key (by omega)).1.is
theorem inxN (h : TMx st tm n nd ka va mc x ws) {i : Nat} : g_isN st ((inx n i).map ka) 1 := fun w e => by
  unfold inx at e
  split at e
  · cases e
    exact (h.key (by assumption)).1.is
  · cases e
theorem flN_le : flN t ws ≤ t.length := by
  unfold flN
  split
  · exact lcp_le2 _ _
  · exact Nat.zero_le _
theorem ceN_le : ceN t ws ≤ t.length := by
  unfold ceN
  split
  · exact lcp_le2 _ _
  · exact Nat.zero_le _
theorem ct_xshared (h : SP E st a t ws cs) (hcb : 100 ≤ cb) (hsb : 1000 ≤ sb') (hq : xq E st a Q X [] (sp_shared t ws cs)) : wp_X1_shared l E cb sb' [va_rf (some a)] st Q := by
  refine g_WPi.wf fun hw => ?_
  obtain ⟨sb, v, N, tm, n, nd, ka, va, mc, x, ca, fc, h⟩ := h
  have hT := h.T
  have hT1 := hT.1
  have hW := h.W
  have lt := fun z hz => h.lt hw (z := z) hz
  have f1 := flN_le (t := t) (ws := ws)
  have f2 := ceN_le (t := t) (ws := ws)
  refine wk_X1_shared ⟨_, h.sbt, _, rfl, 2, 28, by omega, by omega, h.sbi, ct_toString h.sbS (by omega) (by omega) fun q1 s1 hq1 hs1 _ => ?_⟩
  have hb1 := hs1.bl (Nat.le_refl st.2.2)
  have h1 := h.fb lt hb1
  refine ⟨_, h1.tmt, _, rfl, h1.tmS.is, ct_floorKey h1.tmS hq1 (by omega) h1.cE ⟨rfl, ipvN h1.tmS, _, h1.tmt, _, rfl, h1.tmS.is, ct_ceilingKey h1.tmS hq1 (by omega) h1.cE ⟨rfl, inxN h1.tmS, ?_⟩⟩⟩
  refine g_jn1_i (fun y => y = nI (flN t ws)) (fun y1 e1 => ?_) fun K14 hK14 => ct_nbF h1.tmS hW hq1 (by omega) hT.2 rfl (hK14 _ rfl)
  refine g_jn1_i (fun y => y = nI (ceN t ws)) (fun y2 e2 => ?_) fun K17 hK17 => ct_nbC h1.tmS hW hq1 (by omega) hT.2 rfl (hK17 _ rfl)
  rw [e1, e2]
  refine g_jn1_i (fun y => y = nI (shX t ws)) (fun y3 e3 => by rw [e3]; exact hq s1 h1.sp hb1.sy) fun K20 hK20 => b_le (by omega) (by omega) (fun z => hK20 _ ?_) fun z => hK20 _ ?_
  · rw [shX_nb h.tmS.sd, if_pos z]
  · rw [shX_nb h.tmS.sd, if_neg (by omega)]
theorem Cst.e1 {f : g_H} (h : Cst E f) : ∃ q, E.2.2.2.2.1 1 = some q ∧ Str f q [] := h.2.2.2.1
theorem ct_xtwin (hl : l.stackTraces = false) (h : SP E st a t ws cs) (hcb : 100 ≤ cb) (hsb : 1000 ≤ sb') (hq : xq E st a Q X [nNS] (sp_twin t ws cs)) : wpx_X1_twin l E cb sb' [va_rf (some a)] st Q X := by
  refine g_WPX.wf fun hw => ?_
  obtain ⟨sb, v, N, tm, n, nd, ka, va, mc, x, ca, fc, h⟩ := h
  have hW := h.W
  have hW1 := hW.1
  have hs := h.tmS.sd
  have hn := h.tmS.len
  unfold sp_twin at hq
  refine wkx_X1_twin hl ⟨_, h.tmt, _, rfl, h.tmS.is, ct_mapSize h.tmS ⟨rfl, b_le (by omega) (by omega) (fun z => ?_) fun z => ?_⟩⟩
  · rw [if_neg (by omega)] at hq
    obtain ⟨qe, he1, he2⟩ := h.cE.e1
    rintro o5 rfl
    refine ⟨_, h.tmt, _, rfl, 1, 1, by omega, by omega, h.tmS.is, ct_keySet h.tmS (Nat.le_refl _) (Nat.le_refl _) fun q1 s1 x1 hM hv1 _ hse _ _ => ?_⟩
    obtain ⟨h1, hY1⟩ := h.mp hw (Nat.le_refl _) hM hW (hse.wk fun z _ e => Or.inl (Or.inl e))
    refine ⟨_, rfl, 1, 4, by omega, by omega, ⟨_, Or.inl hv1⟩, g_WPa.wf fun hw1 => ct_keyIter h1.tmS hv1 (Nat.le_refl _) (Nat.le_refl _) fun s2 hI2 hs2 _ _ _ => ?_⟩
    have lt1 := fun z hz => h1.lt hw1 (z := z) hz
    have hb2 := hs2.bl (Nat.le_refl s1.2.2)
    refine g_lp3_m (fun mm y o s => ∃ k p u, y = nI (adN ws (k - 1)) ∧ k ≤ n ∧ o = some p ∧ Str s.1 p u ∧ sgs u ∧ u.length < 128 ∧ (k = 0 → u = []) ∧ (∀ i, k = i + 1 → u = kk ws i) ∧ Sb s1.2.2 s1 s ∧ IT s 10 s1.2.2 tm n nd mc k ∧ mm = 100 - k) ?_ ⟨0, qe, [], rfl, Nat.zero_le _, he1, (he2.ext hY1.1).ext hs2.1, fun c hc => absurd hc List.not_mem_nil, by decide, fun _ => rfl, fun i e => by omega, hb2, hI2, rfl⟩
    rintro mm y o s K ⟨k, p, u, rfl, hk, rfl, hp, hsu, hu8, hu0, hu1, hb, hI, rfl⟩ hK
    have hS := h1.fb lt1 hb
    refine ⟨_, rfl, by obtain ⟨la, e⟩ := hI; exact ⟨_, Or.inl e⟩, ct_hasNextK hI ⟨rfl, ?_⟩⟩
    by_cases kn : k < n
    · rw [if_pos kn]
      refine ⟨fun e => absurd e (by decide), fun _ => ⟨by obtain ⟨la, e⟩ := hI; exact ⟨_, Or.inl e⟩, ct_nextK hS.tmS hI kn fun s4 hI4 hs4 _ => ?_⟩⟩
      have hb4 := hb.tr (hs4.se.bl hb.z fun z e => Nat.le_of_eq e.symm)
      have h4 := h1.fb lt1 hb4
      have hky := h4.tmS.key kn
      have kw := hW.kk (w := k) (by omega)
      have l2 := lcp_le2 u (kk ws k)
      have had : k - 1 < ws.length := by omega
      have hadl := adN_le hW had
      have e1 : adN ws k = if adN ws (k - 1) < lcp u (kk ws k) then lcp u (kk ws k) else adN ws (k - 1) := by
        cases k with
        | zero =>
          rw [hu0 rfl]
          rfl
        | succ i =>
          rw [hu1 i rfl, Nat.add_sub_cancel]
          exact mx_if _ _
      refine ⟨hky.1.isN, ct_commonS (hp.ext hs4.2.2.1) hky.1 hu8 hky.2 hsu kw.2.2.1 ⟨rfl, ?_⟩⟩
      refine g_jn1_i (fun y => y = nI (adN ws k)) (fun y e => hK _ _ _ _ ⟨k + 1, _, kk ws k, e, kn, rfl, hky.1, kw.2.2.1, hky.2, fun e => by omega, fun i e => by cases e; rfl, hb4, hI4, rfl⟩ (by omega)) fun K30 hK30 => b_le (by omega) (by omega) (fun w => hK30 _ ?_) fun w => hK30 _ ?_
      · rw [e1, if_neg (by omega)]
      · rw [e1, if_pos w]
    · rw [if_neg kn]
      refine ⟨fun _ => ?_, fun e => absurd rfl e⟩
      have ek : k = ws.length := by omega
      rw [ek, ← twX_all hs]
      exact hq s hS.sp (hY1.tr (hb.le hY1.1.1).sy)
  · rw [if_pos (by omega)] at hq
    exact ⟨by omega, by omega, hq st h.sp Sy.rf⟩
/-- one greedy step -/
theorem ct_step {p : Nat} {G : Int32 → g_St → Prop} (h : SPx E st a sb v N tm n nd ka va mc x ca fc t ws cs) (hw : g_Wf st) (hp : p ≤ t.length) (hG : ∀ s', Sb st.2.2 st s' → G (nI (lgX (t.drop p) ws)) s') : ∃ mc18 ms19 : Nat, mc18 = 2 ∧ ms19 = 28 ∧ g_is st sb 0 ∧ wp_J1_substring l E mc18 ms19 [va_rf (some sb), .int (nI p)] st (fun o16 st17 => g_Ext st st17 → ∃ mc22 ms23 : Nat, mc22 = 48 ∧ ms23 = 672 ∧ wp_X1_longest l E mc22 ms23 [va_rf (some tm), va_rf o16] st17 (fun x20 st21 => g_Ext st17 st21 → G x20 st21)) := by
  have hT := h.T
  have hT1 := hT.1
  have lt := fun z hz => h.lt hw (z := z) hz
  refine ⟨2, 28, rfl, rfl, h.sbi, ct_sbSub h.cE h.sbS hp (Nat.le_refl _) (by omega) fun q1 s1 hq1 hs1 _ => ?_⟩
  have hb1 := hs1.bl (Nat.le_refl st.2.2)
  have h1 := h.fb lt hb1
  exact ⟨48, 672, rfl, rfl, g_WPi.wf fun hw1 => ct_longW h1 hw1 hq1 (hT.2.dp p) (by rw [List.length_drop]; omega) (Nat.le_refl _) (Nat.le_refl _) fun s2 hb2 _ => hG s2 (hb1.tr (hb2.le hb1.z))⟩
theorem lgX_nil : lgX [] ws = 0 := by
  induction ws with
  | nil => rfl
  | cons u us ih =>
    show max (if lcp u.1 [] = u.1.length then u.1.length else 0) (lgX [] us) = 0
    rw [ih, lcp_nil]
    split <;> omega
theorem ct_pieces (h : SPx E st a sb v N tm n nd ka va mc x ca fc t ws cs) (hcb : 1300 ≤ cb) (hsb : 18000 ≤ sb') (hq : ∀ s', Sb st.2.2 st s' → Q (sp_pieces t ws cs).2.1 s') : wp_X1_pieces l E cb sb' [va_rf (some a)] st Q := by
  refine g_WPi.wf fun hw => ?_
  have hT := h.T
  have hT1 := hT.1
  have hW := h.W
  have lt := fun z hz => h.lt hw (z := z) hz
  refine wk_X1_pieces ?_
  refine g_lp5_m (fun mm y1 y2 s c s' => ∃ i, (gS ws t i).2 = i ∧ y2 = nI (gS ws t i).1 ∧ y1 = nI i ∧ Sb st.2.2 st s ∧ 1300 ≤ c + 50 * i ∧ 18000 ≤ s' + 700 * i ∧ mm = 100 - i) ?_ ⟨0, rfl, rfl, rfl, Sb.rf, by omega, by omega, rfl⟩
  rintro mm y1 y2 s c s' K ⟨i, hi, rfl, rfl, hb, hc, hs', rfl⟩ hK
  have g := gS_le (us := ws) (t := t) hW.le i
  have g2 := lgX_drop hW.le g.1
  have hS := h.fb lt hb
  refine ⟨_, hS.sbt, _, rfl, hS.sbi, hS.len ⟨rfl, b_le (by omega) (by omega) (fun z => ?_) fun z => ⟨_, hS.tmt, _, hS.sbt, _, rfl, ?_⟩⟩⟩
  · have e0 : lgX (t.drop (gS ws t i).1) ws = 0 := by rw [List.drop_eq_nil_of_le z, lgX_nil]
    have e := gS_25 e0 (by omega)
    have e2 : (sp_pieces t ws cs).2.1 = nI i := by
      show (if (gS ws t 25).1 = t.length then nI (gS ws t 25).2 else -1 - nI (gS ws t 25).1) = nI i
      rw [e, if_pos (by omega), hi]
    rw [e2] at hq
    exact hq s hb
  · refine ⟨2, 28, by omega, by omega, hS.sbi, g_WPa.wf fun hws => ?_⟩
    have key : ∀ s3, Sb s.2.2 s s3 → (fun (x20 : Int32) (st21 : g_St) => (¬ x20 = 0 → K (nI i + nI 1) (nI (gS ws t i).1 + x20) st21 (c - 2 - 48) (s' - 28 - 672)) ∧ (x20 = 0 → Q (-1 - nI (gS ws t i).1) st21)) (nI (lgX (t.drop (gS ws t i).1) ws)) s3 := fun s3 hb3 => by
      have hb4 := hb.tr (hb3.le hb.z)
      show (¬ nI _ = nI 0 → _) ∧ (nI _ = nI 0 → _)
      refine b_ne (by omega) (by omega) (fun w => ?_) fun w => ?_
      · have e := gS_25 w (by omega)
        have e2 : (sp_pieces t ws cs).2.1 = -1 - nI (gS ws t i).1 := by
          show (if (gS ws t 25).1 = t.length then nI (gS ws t 25).2 else -1 - nI (gS ws t 25).1) = _
          rw [e, if_neg (by omega)]
        rw [e2] at hq
        exact hq s3 hb4
      · exact hK _ _ _ _ _ _ ⟨i + 1, by rw [gS_go hi w], by rw [gS_go hi w, nI_add], nI_add i 1, hb4, by omega, by omega, rfl⟩ (by omega)
    obtain ⟨_, _, e1, e2, _, hst⟩ := ct_step (l := l) (G := fun (x20 : Int32) (st21 : g_St) => (¬ x20 = 0 → K (nI i + nI 1) (nI (gS ws t i).1 + x20) st21 (c - 2 - 48) (s' - 28 - 672)) ∧ (x20 = 0 → Q (-1 - nI (gS ws t i).1) st21)) hS hws g.1 key
    subst e1
    subst e2
    refine g_WPa.mono hst fun o s1 hx hQ hx2 => ?_
    obtain ⟨_, _, e1, e2, hst2⟩ := hQ hx2
    subst e1
    subst e2
    exact ⟨48, 672, by omega, by omega, hst2⟩
theorem ct_xpieces (h : SP E st a t ws cs) (hcb : 1300 ≤ cb) (hsb : 18000 ≤ sb') (hq : xq E st a Q X [] (sp_pieces t ws cs)) : wp_X1_pieces l E cb sb' [va_rf (some a)] st Q := by
  refine g_WPi.wf fun hw => ?_
  obtain ⟨sb, v, N, tm, n, nd, ka, va, mc, x, ca, fc, h⟩ := h
  have lt := fun z hz => h.lt hw (z := z) hz
  exact ct_pieces h hcb hsb fun s' hb => hq s' (h.fb lt hb).sp hb.sy
end GXS6
