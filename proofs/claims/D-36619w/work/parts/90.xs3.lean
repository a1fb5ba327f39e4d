/-! STEMSPAN 3: put, take, number, rank, word, near -/
section GXS3
variable {l : Launch} {E : g_E} {st st' : g_St} {a sb v N tm n ca b cb sb' : Nat} {nd ka va : Nat → Nat} {mc : Int32} {x : tX} {fc : Nat → Option Nat} {t : List Nat} {ws : wL} {cs : Nat → List Nat} {Q : Int32 → g_St → Prop} {X : String → g_St → Prop}
theorem okW.ins {w : Nat} (h : okW ws) (hs : Sd ws) (h1 : 1 ≤ t.length) (h2 : t.length ≤ 10) (h3 : sgs t) (hw : w ≤ 999) (hn : cL ws t < dL ws t ∨ ws.length ≠ 24) : okW (insS t w ws) := by
  refine ⟨?_, fun u hu => ?_⟩
  · have := h.1
    have hc : cL ws t ≤ ws.length := cL_le hs
    rw [insS_eq hs]
    split
    · rw [List.length_set]; exact this
    · rw [List.length_insertIdx, if_pos hc]
      omega
  · rcases insS_mem hu with q | q
    · exact h.2 u q
    · rw [q]
      exact ⟨h1, h2, h3, hw⟩
theorem okW.del (h : okW ws) : okW (delS t ws) := ⟨Nat.le_trans (List.length_filter_le _ _) h.1, fun u hu => h.2 u (List.mem_filter.mp hu).1⟩
/-- the map has changed -/
theorem SPx.mp {n' : Nat} {nd' ka' va' : Nat → Nat} {mc' : Int32} {x' : tX} {ws' : wL} (h : SPx E st a sb v N tm n nd ka va mc x ca fc t ws cs) (hw : g_Wf st) (hb : b ≤ st.2.2) (hM : TMx st' tm n' nd' ka' va' mc' x' ws') (hW : okW ws') (hs : Se (CX tm n nd x) st st') : SPx E st' a sb v N tm n' nd' ka' va' mc' x' ca fc t ws' cs ∧ Sy b st st' := by
  obtain ⟨n1, n2, n3, n4, n5, n6, n7, n8, n9⟩ := h.nsb
  have lt := fun z hz => h.lt hw (z := z) hz
  refine ⟨?_, h.sy hs hb fun z hz => Or.inr (Or.inr (Or.inr (Or.inr hz)))⟩
  obtain ⟨h1, h2, h3, h4, h5, h6, h7, h8, h9, h10, h11⟩ := h
  have hx := hs.1
  refine ⟨(hs.2 a (lt a (Or.inl rfl)) n8).trans h1, h2.fr (hs.2 sb (lt sb (Or.inr (Or.inl rfl))) n6) (hs.2 v (lt v (Or.inr (Or.inr (Or.inl rfl)))) n7), h3, hM, (hs.2 ca (lt ca (Or.inr (Or.inr (Or.inr (Or.inl rfl))))) n9).trans h5, fun j hj => ?_, h7, hW, h9, h10.ext hx, h11.ext hx⟩
  obtain ⟨q, e1, e2⟩ := h6 j hj
  exact ⟨q, e1, e2.ext hx⟩
/-- other cells have changed, made since -/
theorem SPx.nw {D : Nat → Prop} (h : SPx E st a sb v N tm n nd ka va mc x ca fc t ws cs) (lt : ∀ z, SD a sb v tm n nd x ca z → z < b) (hs : Se D st st') (hb : b ≤ st.2.2) (hD : ∀ z, D z → b ≤ z) : SPx E st' a sb v N tm n nd ka va mc x ca fc t ws cs := h.fr hs.1 fun z hz => hs.2 z (Nat.lt_of_lt_of_le (lt z hz) hb) fun w => by have := hD z w; have := lt z hz; omega
theorem Se.syn {D : Nat → Prop} (hs : Se D st st') (hb : b ≤ st.2.2) (hD : ∀ z, D z → b ≤ z) : Sy b st st' := hs.sy hb fun z hz w => by have := hD z hz; omega
theorem ct_xput {p0 : Int32} (hl : l.stackTraces = false) (h : SP E st a t ws cs) (hcb : 100 ≤ cb) (hsb : 1000 ≤ sb') (hq : xq E st a Q X [nIA, nUO, nIS] (sp_put p0 t ws cs)) : wpx_X1_put l E cb sb' [va_rf (some a), .int p0] st Q X := by
  refine g_WPX.wf fun hw => ?_
  obtain ⟨sb, v, N, tm, n, nd, ka, va, mc, x, ca, fc, h⟩ := h
  have hT := h.T
  have hT1 := hT.1
  have hW := h.W
  have hW1 := hW.1
  have hs := h.tmS.sd
  have hn := h.tmS.len
  have lt := fun z hz => h.lt hw (z := z) hz
  unfold sp_put at hq
  refine wkx_X1_put hl ?_
  by_cases z : p0 < nI 0 ∨ nI 999 < p0
  · rw [if_pos z] at hq
    refine g_jn0_i ⟨by omega, by omega, hq st h.sp Sy.rf⟩ fun K hK => ⟨fun _ => hK, fun w1 => ⟨fun w2 => ?_, fun _ => hK⟩⟩
    exfalso
    rcases z with z | z
    · exact w1 z
    · exact absurd z (Int32.not_lt.mpr w2)
  · rw [if_neg z] at hq
    obtain ⟨p, hp, rfl⟩ := i_in (x := p0) (n := 999) (fun w => z (Or.inl w)) (fun w => z (Or.inr w)) (by omega)
    rw [nI_clamp (by omega)] at hq
    show _ ∧ _
    refine ⟨fun w => absurd (Or.inl w) z, fun _ => b_le (by omega) (by omega) (fun _ => ⟨_, h.sbt, _, rfl, h.sbi, h.len ⟨rfl, ?_⟩⟩) fun w => by omega⟩
    by_cases y : t.length < 1 ∨ 10 < t.length
    · rw [if_pos y] at hq
      refine g_jn0_i ⟨by omega, by omega, hq st h.sp Sy.rf⟩ fun K hK => ?_
      show (nI _ = nI 0 → _) ∧ (¬ nI _ = nI 0 → _)
      exact b_eq (by omega) (by omega) (fun _ => hK) fun _ => ⟨_, h.sbt, _, rfl, h.sbi, h.len ⟨rfl, b_le (by omega) (by omega) (fun w => by omega) fun _ => hK⟩⟩
    · rw [if_neg y] at hq
      show _ ∧ _
      show (nI _ = nI 0 → _) ∧ (¬ nI _ = nI 0 → _)
      refine b_eq (by omega) (by omega) (fun w => by omega) fun _ => ⟨_, h.sbt, _, rfl, h.sbi, h.len ⟨rfl, b_le (by omega) (by omega) (fun _ => ⟨_, h.sbt, _, rfl, 2, 28, by omega, by omega, h.sbi, ct_toString h.sbS (by omega) (by omega) fun q1 s1 hq1 hs1 _ => ?_⟩) fun w => by omega⟩⟩
      have h1 := h.sm lt hs1 (Nat.le_refl _)
      refine ⟨_, h1.tmt, _, rfl, h1.tmS.is, ct_mapSize h1.tmS ⟨rfl, ?_⟩⟩
      by_cases c : cL ws t < dL ws t ∨ ws.length ≠ 24
      · refine g_jn0_i ?_ fun K hK => b_ne (by omega) (by omega) (fun w => ⟨_, h1.tmt, _, rfl, h1.tmS.is, ct_containsKey h1.tmS hq1 (by omega) h1.cE ⟨rfl, ?_⟩⟩) fun _ => hK
        · refine ⟨_, h1.tmt, 1, 1, by omega, by omega, g_WPa.wf fun hw1 => ct_J14_valueOf h1.cE (by omega) (Nat.le_refl _) (Nat.le_refl _) fun q2 s2 hi2 hs2 _ => ?_⟩
          have h2 := h1.sm lt hs2 hs1.1.1
          refine ⟨_, rfl, 1, 6, by omega, by omega, h2.tmS.is, g_WPa.wf fun hw2 => ct_put h2.tmS (hq1.ext hs2.1) (by omega) h2.cE hi2 (by omega) (Nat.le_refl _) (Nat.le_refl _) (by omega) fun o s3 n' nd' ka' va' mc'' eo hM _ _ hse _ _ => ?_⟩
          have oki := hW.ins (t := t) (w := p) hs (by omega) (by omega) hT.2 hp c
          obtain ⟨h3, hY⟩ := h2.mp hw2 (Nat.le_trans hs1.1.1 hs2.1.1) hM oki hse
          have hYY := ((hs1.sy (Nat.le_refl _)).tr (hs2.sy hs1.1.1)).tr hY
          by_cases c1 : cL ws t < dL ws t
          · rw [if_pos c1] at hq eo
            rw [eo]
            have hi : cL ws t < n := by
              have := (Pos.of hs t).2.2.1
              omega
            have hv0 := (h2.tmS.val hi).1
            have hv : IntO s3.1 (va (cL ws t)) (nI (vv ws (cL ws t))) := hse.1.2.1 _ _ hv0
            refine ⟨fun w e => (by cases e; exact ⟨_, Or.inr hv⟩), ?_⟩
            refine g_jn1_i (fun r => r = nI (vv ws (cL ws t))) (fun r e => by rw [e]; exact hq s3 h3.sp hYY) fun K2 hK2 => ⟨fun e => (by cases e), fun w e => ?_⟩
            cases e
            exact ⟨⟨_, Or.inr hv⟩, ct_J14_intValue hv ⟨rfl, hK2 _ rfl⟩⟩
          · rw [if_neg c1] at hq eo
            rw [if_neg (by omega)] at hq
            rw [eo]
            refine ⟨fun w e => (by cases e), ?_⟩
            exact g_jn1_i (fun r => r = -1) (fun r e => by rw [e]; exact hq s3 h3.sp hYY) fun K2 hK2 => ⟨fun e => hK2 _ rfl, fun w e => (by cases e)⟩
        · rw [if_pos (by omega)]
          exact ⟨fun _ => hK, fun e => absurd e (by decide)⟩
      · have c1 : ¬ cL ws t < dL ws t := fun e => c (Or.inl e)
        have c2 : ws.length = 24 := by omega
        rw [if_neg c1, if_pos c2] at hq
        show _ ∧ _
        refine b_ne (by omega) (by omega) (fun w => ⟨_, h1.tmt, _, rfl, h1.tmS.is, ct_containsKey h1.tmS hq1 (by omega) h1.cE ⟨rfl, ?_⟩⟩) fun w => by omega
        rw [if_neg c1]
        exact ⟨fun e => absurd rfl e, fun _ => ⟨by omega, by omega, hq s1 h1.sp (hs1.sy (Nat.le_refl _))⟩⟩
theorem ct_xtake (hl : l.stackTraces = false) (h : SP E st a t ws cs) (hcb : 100 ≤ cb) (hsb : 1000 ≤ sb') (hq : xq E st a Q X [nNS] (sp_take t ws cs)) : wpx_X1_take l E cb sb' [va_rf (some a)] st Q X := by
  refine g_WPX.wf fun hw => ?_
  obtain ⟨sb, v, N, tm, n, nd, ka, va, mc, x, ca, fc, h⟩ := h
  have hT := h.T
  have hT1 := hT.1
  have hW := h.W
  have hs := h.tmS.sd
  have hn := h.tmS.len
  have lt := fun z hz => h.lt hw (z := z) hz
  unfold sp_take at hq
  refine wkx_X1_take hl ⟨_, h.tmt, _, h.sbt, _, rfl, 2, 28, by omega, by omega, h.sbi, ct_toString h.sbS (by omega) (by omega) fun q1 s1 hq1 hs1 _ => ?_⟩
  have h1 := h.sm lt hs1 (Nat.le_refl _)
  refine ⟨_, rfl, h1.tmS.is, g_WPa.wf fun hw1 => ct_remove h1.tmS hq1 (by omega) h1.cE fun o s3 n' nd' ka' va' mc'' eo hM hse _ _ => ?_⟩
  obtain ⟨h3, hY⟩ := h1.mp hw1 hs1.1.1 hM hW.del hse.se
  have hYY := (hs1.sy (Nat.le_refl _)).tr hY
  by_cases c1 : cL ws t < dL ws t
  · rw [if_pos c1] at hq eo
    rw [eo]
    have hi : cL ws t < n := by
      have := (Pos.of hs t).2.2.1
      omega
    have hv : IntO s3.1 (va (cL ws t)) (nI (vv ws (cL ws t))) := hse.2.2.1.2.1 _ _ (h1.tmS.val hi).1
    refine ⟨fun w e => (by cases e; exact ⟨_, Or.inr hv⟩), fun e => (by cases e), fun w e => ?_⟩
    cases e
    exact ⟨⟨_, Or.inr hv⟩, ct_J14_intValue hv ⟨rfl, hq s3 h3.sp hYY⟩⟩
  · rw [if_neg c1] at hq eo
    rw [eo]
    have e0 : delS t ws = ws := by rw [delS_eq hs, if_neg c1]
    rw [e0] at h3
    exact ⟨fun w e => (by cases e), fun _ => ⟨by omega, by omega, hq s3 h3.sp hYY⟩, fun w e => (by cases e)⟩
theorem ct_xnumber (hl : l.stackTraces = false) (h : SP E st a t ws cs) (hcb : 100 ≤ cb) (hsb : 1000 ≤ sb') (hq : xq E st a Q X [nNS] (sp_number t ws cs)) : wpx_X1_number l E cb sb' [va_rf (some a)] st Q X := by
  refine g_WPX.wf fun hw => ?_
  obtain ⟨sb, v, N, tm, n, nd, ka, va, mc, x, ca, fc, h⟩ := h
  have hT := h.T
  have hT1 := hT.1
  have hs := h.tmS.sd
  have hn := h.tmS.len
  have lt := fun z hz => h.lt hw (z := z) hz
  unfold sp_number at hq
  refine wkx_X1_number hl ⟨_, h.tmt, _, h.sbt, _, rfl, 2, 28, by omega, by omega, h.sbi, ct_toString h.sbS (by omega) (by omega) fun q1 s1 hq1 hs1 _ => ?_⟩
  have h1 := h.sm lt hs1 (Nat.le_refl _)
  have hYY := hs1.sy (Nat.le_refl st.2.2)
  refine ⟨_, rfl, h1.tmS.is, ct_get h1.tmS hq1 (by omega) h1.cE ⟨rfl, ?_⟩⟩
  by_cases c1 : cL ws t < dL ws t
  · rw [if_pos c1] at hq ⊢
    have hi : cL ws t < n := by
      have := (Pos.of hs t).2.2.1
      omega
    have hv := (h1.tmS.val hi).1
    refine ⟨fun w e => (by cases e; exact ⟨_, Or.inr hv⟩), fun e => (by cases e), fun w e => ?_⟩
    cases e
    exact ⟨⟨_, Or.inr hv⟩, ct_J14_intValue hv ⟨rfl, hq s1 h1.sp hYY⟩⟩
  · rw [if_neg c1] at hq ⊢
    exact ⟨fun w e => (by cases e), fun _ => ⟨by omega, by omega, hq s1 h1.sp hYY⟩, fun w e => (by cases e)⟩
theorem ct_xrank (h : SP E st a t ws cs) (hcb : 100 ≤ cb) (hsb : 1000 ≤ sb') (hq : xq E st a Q X [] (sp_rank t ws cs)) : wp_X1_rank l E cb sb' [va_rf (some a)] st Q := by
  refine g_WPi.wf fun hw => ?_
  obtain ⟨sb, v, N, tm, n, nd, ka, va, mc, x, ca, fc, h⟩ := h
  have hT1 := h.T.1
  have lt := fun z hz => h.lt hw (z := z) hz
  refine wk_X1_rank ⟨_, h.tmt, _, h.sbt, _, rfl, 2, 28, by omega, by omega, h.sbi, ct_toString h.sbS (by omega) (by omega) fun q1 s1 hq1 hs1 _ => ?_⟩
  have h1 := h.sm lt hs1 (Nat.le_refl _)
  refine ⟨_, rfl, 1, 12, by omega, by omega, h1.tmS.is, ct_headMap h1.tmS h1.cE hq1 (by omega) (Nat.le_refl _) (Nat.le_refl _) fun s2 hS2 hs2 _ _ _ => ?_⟩
  have h2 := h1.sm lt hs2 hs1.1.1
  refine ⟨_, rfl, 2, 9, by omega, by omega, ⟨_, Or.inl hS2⟩, ct_subSize (c1 := 0) (c2 := cL ws t) h2.tmS h2.cE h2.U hS2 ⟨Or.inl ⟨rfl, rfl⟩, ⟨_, t, rfl, hq1.ext hs2.1, by omega, rfl⟩, Nat.zero_le _⟩ (Nat.le_refl _) (Nat.le_refl _) fun s3 hs3 _ _ => ?_⟩
  have h3 := h2.nw lt hs3 (Nat.le_trans hs1.1.1 hs2.1.1) fun z hz => by rw [hz]; exact hs1.1.1
  exact hq s3 h3.sp (((hs1.sy (Nat.le_refl _)).tr (hs2.sy hs1.1.1)).tr (hs3.syn (Nat.le_trans hs1.1.1 hs2.1.1) fun z hz => by rw [hz]; exact hs1.1.1))
theorem ct_xword {p0 : Int32} (hl : l.stackTraces = false) (h : SP E st a t ws cs) (hcb : 100 ≤ cb) (hsb : 1000 ≤ sb') (hq : xq E st a Q X [nIO] (sp_word p0 t ws cs)) : wpx_X1_word l E cb sb' [va_rf (some a), .int p0] st Q X := by
  refine g_WPX.wf fun hw => ?_
  obtain ⟨sb, v, N, tm, n, nd, ka, va, mc, x, ca, fc, h⟩ := h
  have hW := h.W
  have hW1 := hW.1
  have hn := h.tmS.len
  have lt := fun z hz => h.lt hw (z := z) hz
  unfold sp_word at hq
  refine wkx_X1_word hl ?_
  by_cases z : p0 < nI 0 ∨ nI ws.length ≤ p0
  · rw [if_pos z] at hq
    refine g_jn0_i ⟨by omega, by omega, hq st h.sp Sy.rf⟩ fun K hK => ⟨fun _ => hK, fun w1 => ⟨_, h.tmt, _, rfl, h.tmS.is, ct_mapSize h.tmS ⟨rfl, fun w2 => ?_, fun _ => hK⟩⟩⟩
    exfalso
    rcases z with z | z
    · exact w1 z
    · rw [hn] at w2
      exact absurd w2 (Int32.not_lt.mpr z)
  · rw [if_neg z] at hq
    obtain ⟨j, hj, rfl⟩ := i_in2 z (by omega)
    rw [nI_clamp (by omega)] at hq
    have hkj := hW.kk hj
    show _ ∧ _
    refine ⟨fun w => absurd (Or.inl w) z, fun _ => ⟨_, h.tmt, _, rfl, h.tmS.is, ct_mapSize h.tmS ⟨rfl, b_lt (by omega) (by omega) (fun _ => ?_) fun w => by omega⟩⟩⟩
    refine ⟨_, h.tmt, _, rfl, 1, 1, by omega, by omega, h.tmS.is, ct_keySet h.tmS (Nat.le_refl _) (Nat.le_refl _) fun q1 s1 x1 hM hv1 _ hse _ _ => ?_⟩
    obtain ⟨h1, hY1⟩ := h.mp hw (Nat.le_refl _) hM hW (hse.wk fun z _ e => Or.inl (Or.inl e))
    refine ⟨_, rfl, 1, 4, by omega, by omega, ⟨_, Or.inl hv1⟩, g_WPa.wf fun hw1 => ct_keyIter h1.tmS hv1 (Nat.le_refl _) (Nat.le_refl _) fun s2 hI2 hs2 _ _ _ => ?_⟩
    have lt1 := fun z hz => h1.lt hw1 (z := z) hz
    have h2 := h1.sm lt1 hs2 (Nat.le_refl _)
    have hY2 := hY1.tr (hs2.sy hY1.1.1)
    refine ⟨_, rfl, by obtain ⟨la, e⟩ := hI2; exact ⟨_, Or.inl e⟩, ct_nextK h2.tmS hI2 (by omega) fun s3 hI3 hs3 _ => ?_⟩
    have h3 := h2.nw lt1 hs3.se hs2.1.1 fun z e => Nat.le_of_eq e.symm
    have hY3 := hY2.tr (hs3.se.syn (Nat.le_trans hY1.1.1 hs2.1.1) fun z e => by rw [e]; exact hY1.1.1)
    refine ⟨(h3.tmS.key (by omega)).1.isN, ?_⟩
    refine g_lp3_m (fun mm o y s => ∃ k, o = some (ka k) ∧ y = nI k ∧ k ≤ j ∧ SPx E s a sb v N tm n nd ka va mc x1 ca fc t ws cs ∧ IT s 10 s1.2.2 tm n nd mc (k + 1) ∧ Sy st.2.2 st s ∧ s1.2.2 ≤ s.2.2 ∧ mm = 100 - k) ?_ ⟨0, rfl, rfl, Nat.zero_le _, h3, hI3, hY3, Nat.le_trans hs2.1.1 hs3.se.1.1, rfl⟩
    rintro mm o y s K ⟨k, rfl, rfl, hk, hS, hI, hY, hsz, rfl⟩ hK
    refine b_le (by omega) (by omega) (fun w => ?_) fun w => ⟨by obtain ⟨la, e⟩ := hI; exact ⟨_, Or.inl e⟩, ct_nextK hS.tmS hI (by omega) fun s4 hI4 hs4 _ => ?_⟩
    · have e : k = j := by omega
      subst e
      have hky := (hS.tmS.key (i := k) (by omega)).1
      refine ⟨1, 34, by omega, by omega, hS.is, ct_become hS hky ⟨by omega, hkj.2.2.1⟩ (Nat.le_refl _) (Nat.le_refl _) fun s4 v4 N4 h4 hY4 _ => ⟨_, rfl, (hky.ext hY4.1).is, ct_J2_length (hky.ext hY4.1) ⟨rfl, ?_⟩⟩⟩
      exact hq s4 h4.sp (hY.tr (hY4.le hY.1.1))
    · have h4 := hS.nw lt1 hs4.se hsz fun z e => Nat.le_of_eq e.symm
      exact ⟨(h4.tmS.key (by omega)).1.isN, hK _ _ _ _ ⟨k + 1, rfl, nI_add k 1, by omega, h4, hI4, hY.tr (hs4.se.syn hY.1.1 fun z e => by rw [e]; exact hY1.1.1), Nat.le_trans hsz hs4.se.1.1, rfl⟩ (by omega)⟩
theorem ipv_l2 {i c : Nat} (h : ipv c = some i) : i < c := by
  unfold ipv at h
  split at h
  · cases h; omega
  · cases h
theorem inx_l2 {i c : Nat} (h : inx n c = some i) : i < n := by
  unfold inx at h
  split at h
  · cases h; assumption
  · cases h
theorem nrx_lt {c i : Nat} (hs : Sd ws) (h : nrx c t ws = some i) : i < ws.length := by
  have hp := Pos.of hs t
  have h0 := hp.1
  have h1 := hp.2.1
  have h2 := hp.2.2.1
  unfold nrx at h
  split at h
  · have := ipv_l2 h; omega
  · split at h
    · exact inx_l2 h
    · split at h
      · have := ipv_l2 h; omega
      · exact inx_l2 h
theorem ct_xnear {c : Nat} (hl : l.stackTraces = false) (h : SP E st a t ws cs) (hc : c < 65536) (hcb : 100 ≤ cb) (hsb : 1000 ≤ sb') (hq : xq E st a Q X [nIA, nNS] (sp_near c t ws cs)) : wpx_X1_near l E cb sb' [va_rf (some a), .int (nI c)] st Q X := by
  refine g_WPX.wf fun hw => ?_
  obtain ⟨sb, v, N, tm, n, nd, ka, va, mc, x, ca, fc, h⟩ := h
  have hT1 := h.T.1
  have hW := h.W
  have hW1 := hW.1
  have hs := h.tmS.sd
  have hn := h.tmS.len
  have lt := fun z hz => h.lt hw (z := z) hz
  unfold sp_near at hq
  refine wkx_X1_near hl ⟨_, h.sbt, _, rfl, 2, 28, by omega, by omega, h.sbi, ct_toString h.sbS (by omega) (by omega) fun q1 s1 hq1 hs1 _ => ?_⟩
  have h1 := h.sm lt hs1 (Nat.le_refl _)
  have hY1 := hs1.sy (Nat.le_refl st.2.2)
  by_cases z : c = 102 ∨ c = 99 ∨ c = 108 ∨ c = 104
  · rw [if_neg (fun w => w z)] at hq
    show g_jn1 _ _
    refine g_jn1_i (fun o => o = (nrx c t ws).map ka) (fun o eo => ?_) fun K10 hK10 => ?_
    · rw [eo]
      cases e : nrx c t ws with
      | none =>
        rw [e] at hq
        exact ⟨fun _ => ⟨by omega, by omega, hq s1 h1.sp hY1⟩, fun w e => (by cases e)⟩
      | some i =>
        rw [e] at hq
        have hi := nrx_lt hs e
        have hky := (h1.tmS.key (i := i) (by omega)).1
        have kw := hW.kk hi
        refine ⟨fun e => (by cases e), fun w e => ?_⟩
        cases e
        refine ⟨1, 34, by omega, by omega, h1.is, ct_become h1 hky ⟨by omega, kw.2.2.1⟩ (Nat.le_refl _) (Nat.le_refl _) fun s4 v4 N4 h4 hY4 _ => ⟨_, h4.tmt, _, rfl, h4.tmS.is, ct_get h4.tmS (hky.ext hY4.1) (by omega) h4.cE ⟨rfl, ?_⟩⟩⟩
        obtain ⟨p1, p2⟩ := Pos.at hs hi
        rw [p1, p2, if_pos (Nat.lt_succ_self _)]
        have hv := (h4.tmS.val (i := i) (by omega)).1
        exact ⟨fun w e => (by cases e; exact ⟨_, Or.inr hv⟩), _, rfl, ⟨_, Or.inr hv⟩, ct_J14_intValue hv ⟨rfl, hq s4 h4.sp (hY1.tr (hY4.le hY1.1.1))⟩⟩
    · have kN : ∀ o, o = (nrx c t ws).map ka → g_isN s1 o 1 := fun o eo w ew => by
        rw [eo] at ew
        cases e : nrx c t ws with
        | none => rw [e] at ew; cases ew
        | some i =>
          rw [e] at ew
          cases ew
          exact (h1.tmS.key (by have := nrx_lt hs e; omega)).1.is
      have go : ∀ o, o = (nrx c t ws).map ka → g_isN s1 o 1 ∧ K10 o := fun o eo => ⟨kN o eo, hK10 o eo⟩
      have cn : ∀ d : Nat, d < 2 ^ 31 → nI c = nI d → c = d := fun d hd e => (nI_eq (by omega) hd).mp e
      refine ⟨fun w => ?_, fun w => ?_, fun w => ?_, fun w => ?_, fun w => ?_⟩
      · rcases z with z | z | z | z
        · exact absurd (by rw [z]) (w 102 (by simp))
        · exact absurd (by rw [z]) (w 99 (by simp))
        · exact absurd (by rw [z]) (w 108 (by simp))
        · exact absurd (by rw [z]) (w 104 (by simp))
      · have e := cn 99 (by omega) w
        refine ⟨_, h1.tmt, _, rfl, h1.tmS.is, ct_ceilingKey h1.tmS hq1 (by omega) h1.cE ⟨rfl, go _ ?_⟩⟩
        rw [e, hn]
        rfl
      · have e := cn 102 (by omega) w
        refine ⟨_, h1.tmt, _, rfl, h1.tmS.is, ct_floorKey h1.tmS hq1 (by omega) h1.cE ⟨rfl, go _ ?_⟩⟩
        rw [e]
        rfl
      · have e := cn 104 (by omega) w
        refine ⟨_, h1.tmt, _, rfl, h1.tmS.is, ct_higherKey h1.tmS hq1 (by omega) h1.cE ⟨rfl, go _ ?_⟩⟩
        rw [e, hn]
        rfl
      · have e := cn 108 (by omega) w
        refine ⟨_, h1.tmt, _, rfl, h1.tmS.is, ct_lowerKey h1.tmS hq1 (by omega) h1.cE ⟨rfl, go _ ?_⟩⟩
        rw [e]
        rfl
  · rw [if_pos z] at hq
    have cn : ∀ d : Nat, d < 2 ^ 31 → nI c = nI d → c = d := fun d hd e => (nI_eq (by omega) hd).mp e
    refine g_jn0_i ⟨by omega, by omega, hq s1 h1.sp hY1⟩ fun K7 hK7 => ⟨fun _ => hK7, fun w => ?_, fun w => ?_, fun w => ?_, fun w => ?_⟩
    · exact absurd (Or.inr (Or.inl (cn 99 (by omega) w))) z
    · exact absurd (Or.inl (cn 102 (by omega) w)) z
    · exact absurd (Or.inr (Or.inr (Or.inr (cn 104 (by omega) w)))) z
    · exact absurd (Or.inr (Or.inr (Or.inl (cn 108 (by omega) w)))) z
end GXS3
