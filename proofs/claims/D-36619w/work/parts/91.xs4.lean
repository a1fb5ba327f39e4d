/-! STEMSPAN 4: beginnings: behind, span, begun, begunAt, sum, gone -/
section GXS4
variable {l : Launch} {E : g_E} {st st' : g_St} {a sb v N tm n ca b cb sb' : Nat} {nd ka va : Nat → Nat} {mc : Int32} {x : tX} {fc : Nat → Option Nat} {t u : List Nat} {ws : wL} {cs : Nat → List Nat} {Q : Int32 → g_St → Prop} {X : String → g_St → Prop}
/-- below b nothing has changed -/
def Sb (b : Nat) (st st' : g_St) : Prop := g_Ext st st' ∧ ∀ q, q < b → st'.2.1 q = st.2.1 q
theorem Sb.rf : Sb b st st := ⟨g_Ext.rf, fun _ _ => rfl⟩
theorem Sb.tr {s1 s2 s3 : g_St} (h1 : Sb b s1 s2) (h2 : Sb b s2 s3) : Sb b s1 s3 := ⟨h1.1.tr h2.1, fun q hq => (h2.2 q hq).trans (h1.2 q hq)⟩
theorem Sb.sm (h : Sb st.2.2 st st') : Sm st st' := h
theorem Sm.bl (h : Sm st st') (hb : b ≤ st.2.2) : Sb b st st' := ⟨h.1, fun q hq => h.2 q (by omega)⟩
theorem Se.bl {D : Nat → Prop} (h : Se D st st') (hb : b ≤ st.2.2) (hD : ∀ z, D z → b ≤ z) : Sb b st st' := ⟨h.1, fun q hq => h.2 q (by omega) fun w => by have := hD q w; omega⟩
theorem Sb.sy (h : Sb b st st') : Sy b st st' := ⟨h.1, fun q hq _ => h.2 q hq⟩
theorem Sb.z (h : Sb b st st') : st.2.2 ≤ st'.2.2 := h.1.1
theorem SPx.fb (h : SPx E st a sb v N tm n nd ka va mc x ca fc t ws cs) (lt : ∀ z, SD a sb v tm n nd x ca z → z < b) (hs : Sb b st st') : SPx E st' a sb v N tm n nd ka va mc x ca fc t ws cs := h.fr hs.1 fun z hz => hs.2 z (lt z hz)
theorem SPx.mp2 {n' : Nat} {nd' ka' va' : Nat → Nat} {mc' : Int32} {x' : tX} {ws' : wL} {D : Nat → Prop} (h : SPx E st a sb v N tm n nd ka va mc x ca fc t ws cs) (lt : ∀ z, SD a sb v tm n nd x ca z → z < b) (hb : b ≤ st.2.2) (hM : TMx st' tm n' nd' ka' va' mc' x' ws') (hW : okW ws') (hs : Se D st st') (hD : ∀ z, D z → b ≤ z ∨ CX tm n nd x z) : SPx E st' a sb v N tm n' nd' ka' va' mc' x' ca fc t ws' cs ∧ Sy b st st' := by
  obtain ⟨n1, n2, n3, n4, n5, n6, n7, n8, n9⟩ := h.nsb
  have k0 : ∀ z, SD a sb v tm n nd x ca z → ¬ CX tm n nd x z → st'.2.1 z = st.2.1 z := fun z hz hn => hs.2 z (Nat.lt_of_lt_of_le (lt z hz) hb) fun w => by
    rcases hD z w with q | q
    · have := lt z hz
      omega
    · exact hn q
  refine ⟨?_, hs.sy hb fun z hz hzb => ?_⟩
  · obtain ⟨h1, h2, h3, h4, h5, h6, h7, h8, h9, h10, h11⟩ := h
    have hx := hs.1
    refine ⟨(k0 a (Or.inl rfl) n8).trans h1, h2.fr (k0 sb (Or.inr (Or.inl rfl)) n6) (k0 v (Or.inr (Or.inr (Or.inl rfl))) n7), h3, hM, (k0 ca (Or.inr (Or.inr (Or.inr (Or.inl rfl)))) n9).trans h5, fun j hj => ?_, h7, hW, h9, h10.ext hx, h11.ext hx⟩
    obtain ⟨q, e1, e2⟩ := h6 j hj
    exact ⟨q, e1, e2.ext hx⟩
  · rcases hD z hz with q | q
    · omega
    · exact h.kd (Or.inr (Or.inr (Or.inr (Or.inr q))))
theorem grow_o2 {m N' : Nat} (hN : N = 16 ∨ N = 34) (hm : m ≤ 34) (e : N' = if N < m then nwN N m else N) : N' = 16 ∨ N' = 34 := by
  rw [e]
  split
  · unfold nwN
    split <;> omega
  · exact hN
theorem grow_s2 {m : Nat} (hN : N = 16 ∨ N = 34) (hm : m ≤ 34) (h : N < m) : nwN N m ≤ 34 := by
  unfold nwN
  split <;> omega
/-- a new builder -/
theorem sb_new {cb sb : Nat} {q1 : Nat} {st2 : g_St} {G : g_St → Prop} (e1 : q1 = st.2.2) (e2 : st2 = g_new st (.inr (0, [va_rf none, .int 0, .int 0, .int 0]))) (hcb : 1 ≤ cb) (hsb : 16 ≤ sb) (k : ∀ (s3 : g_St) (v : Nat), SB s3.2.1 q1 [] v 16 → st.2.2 ≤ v → Sb st.2.2 st s3 → G s3) : wp_J1_init l E cb sb [va_rf (some q1)] st2 (fun st3 => g_Ext st2 st3 → G st3) := by
  subst e1
  subst e2
  refine ct_J1_init (m := .int 0) g_upd_s (Nat.lt_succ_self _) hcb hsb fun s3 hS hs _ => k s3 _ hS (Nat.le_succ _) ?_
  exact (Sm.bl Sm.new (Nat.le_refl _)).tr (hs.bl (Nat.le_succ _) fun z hz => by rw [hz]; exact Nat.le_refl _)
theorem ct_behind {q : Nat} {Q : Option Nat → g_St → Prop} (hu : Str st.1 q u) (hul : u.length ≤ 24) (hcb : 6 ≤ cb) (hsb : 120 ≤ sb') (hq : ∀ (q' : Nat) (st' : g_St), Str st'.1 q' (bh u) → Sb st.2.2 st st' → Q (some q') st') : wp_X1_behind l E cb sb' [va_rf (some q)] st Q := by
  refine wk_X1_behind ⟨by omega, by omega, fun q1 s2 e1 e2 => ⟨1, 16, by omega, by omega, sb_new e1 e2 (Nat.le_refl _) (Nat.le_refl _) fun s3 v3 hS3 hv3 hb3 => ?_⟩⟩
  have hq1 : st.2.2 ≤ q1 := Nat.le_of_eq e1.symm
  refine ⟨1, 34, by omega, by omega, hS3.is, ct_appendS hS3 (by omega) (hu.ext hb3.1) (by omega) (fun _ => Nat.le_refl _) (fun w => grow_s2 (Or.inl rfl) (by rw [List.length_nil]; omega) w) fun s4 v4 N4 hS4 e4 ev4 hs4 _ _ => ?_⟩
  have hb4 := hb3.tr (hs4.bl hb3.z fun z hz => hz.elim (fun e => by rw [e]; exact hq1) fun e => by rw [e]; exact hv3)
  have hv4 : st.2.2 ≤ v4 := ev4.elim (fun e => by rw [e]; exact hv3) fun e => Nat.le_trans hb3.z e
  rw [List.nil_append] at hS4
  rw [List.length_nil, Nat.zero_add] at e4
  have N4o := grow_o2 (Or.inl rfl) (by omega) e4
  refine ⟨1, 34, by omega, by omega, hS4.is, ct_appendC hS4 (by omega) (by omega) (fun _ => Nat.le_refl _) (fun w => grow_s2 N4o (by omega) w) fun s5 v5 N5 hS5 e5 ev5 hs5 _ _ => ?_⟩
  have hb5 := hb4.tr (hs5.bl hb4.z fun z hz => hz.elim (fun e => by rw [e]; exact hq1) fun e => by rw [e]; exact hv4)
  have hl5 : (u ++ [103]).length = u.length + 1 := by rw [List.length_append]; rfl
  refine ⟨2, 30, by omega, by omega, hS5.is, ct_toString hS5 (by omega) (by omega) fun q6 s6 hq6 hs6 _ => hq q6 s6 hq6 (hb5.tr (hs6.bl hb5.z))⟩
theorem bh_len : (bh u).length = u.length + 1 := by
  unfold bh
  rw [List.length_append]
  rfl
theorem ct_xspan {q : Nat} (h : SPx E st a sb v N tm n nd ka va mc x ca fc t ws cs) (hu : Str st.1 q u) (hul : u.length ≤ 24) (hcb : 9 ≤ cb) (hsb : 141 ≤ sb') (hq : ∀ st' : g_St, Sb st.2.2 st st' → Q (nI (cL ws (bh u) - cL ws u)) st') : wp_X1_span l E cb sb' [va_rf (some a), va_rf (some q)] st Q := by
  refine g_WPi.wf fun hw => ?_
  have lt := fun z hz => h.lt hw (z := z) hz
  have hbl := bh_len (u := u)
  refine wk_X1_span ⟨_, h.tmt, 6, 120, by omega, by omega, ct_behind hu hul (Nat.le_refl _) (Nat.le_refl _) fun q1 s1 hq1 hb1 _ => ?_⟩
  have h1 := h.fb lt hb1
  have hu1 := hu.ext hb1.1
  refine ⟨_, rfl, 1, 12, by omega, by omega, h1.tmS.is, ct_subMap h1.tmS h1.cE hu1 (by omega) hq1 (by omega) (Or.inl lt_bh) (Nat.le_refl _) (Nat.le_refl _) fun s2 hS2 hs2 _ _ _ => ?_⟩
  have hb2 := hb1.tr (hs2.bl hb1.z)
  have h2 := h.fb lt hb2
  refine ⟨_, rfl, 2, 9, by omega, by omega, ⟨_, Or.inl hS2⟩, ct_subSize (c1 := cL ws u) (c2 := cL ws (bh u)) h2.tmS h2.cE h2.U hS2 ⟨Or.inr ⟨rfl, _, u, rfl, hu1.ext hs2.1, by omega, rfl⟩, ⟨_, _, rfl, hq1.ext hs2.1, by omega, rfl⟩, ?_⟩ (Nat.le_refl _) (Nat.le_refl _) fun s3 hs3 _ _ => hq s3 (hb2.tr (hs3.bl hb2.z fun z hz => by rw [hz]; exact hb1.z))⟩
  have := nB_cL (t := u) h.tmS.sd h.W
  omega
theorem ct_xbegun (h : SP E st a t ws cs) (hcb : 100 ≤ cb) (hsb : 1000 ≤ sb') (hq : xq E st a Q X [] (sp_begun t ws cs)) : wp_X1_begun l E cb sb' [va_rf (some a)] st Q := by
  refine g_WPi.wf fun hw => ?_
  obtain ⟨sb, v, N, tm, n, nd, ka, va, mc, x, ca, fc, h⟩ := h
  have hT1 := h.T.1
  have lt := fun z hz => h.lt hw (z := z) hz
  refine wk_X1_begun ⟨_, h.sbt, _, rfl, 2, 28, by omega, by omega, h.sbi, ct_toString h.sbS (by omega) (by omega) fun q1 s1 hq1 hs1 _ => ?_⟩
  have hb1 := hs1.bl (Nat.le_refl _)
  have h1 := h.fb lt hb1
  refine ⟨9, 141, by omega, by omega, h1.is, ct_xspan h1 hq1 hT1 (Nat.le_refl _) (Nat.le_refl _) fun s2 hb2 _ => ?_⟩
  have hB : Sb st.2.2 st s2 := hb1.tr ⟨hb2.1, fun q hq => hb2.2 q (Nat.lt_of_lt_of_le hq hb1.z)⟩
  have := nB_cL (t := t) h.tmS.sd h.W
  rw [show cL ws (bh t) - cL ws t = nB t ws by omega]
  exact hq s2 (h.fb lt hB).sp hB.sy
theorem ct_xbegunAt {p0 : Int32} (hl : l.stackTraces = false) (h : SP E st a t ws cs) (hcb : 100 ≤ cb) (hsb : 1000 ≤ sb') (hq : xq E st a Q X [nNS] (sp_begunAt p0 t ws cs)) : wpx_X1_begunAt l E cb sb' [va_rf (some a), .int p0] st Q X := by
  refine g_WPX.wf fun hw => ?_
  obtain ⟨sb, v, N, tm, n, nd, ka, va, mc, x, ca, fc, h⟩ := h
  have hT1 := h.T.1
  have hW := h.W
  have hW1 := hW.1
  have hs := h.tmS.sd
  have hn := h.tmS.len
  have lt := fun z hz => h.lt hw (z := z) hz
  have hnb := nB_cL (t := t) hs hW
  have hcb2 : cL ws (bh t) ≤ ws.length := cL_le hs
  unfold sp_begunAt at hq
  refine wkx_X1_begunAt hl ⟨_, h.sbt, _, rfl, 2, 28, by omega, by omega, h.sbi, ct_toString h.sbS (by omega) (by omega) fun q1 s1 hq1 hs1 _ => ?_⟩
  have hb1 := hs1.bl (Nat.le_refl st.2.2)
  have h1 := h.fb lt hb1
  show _ ∧ _
  refine ⟨fun w => ?_, fun w1 => ⟨9, 141, by omega, by omega, h1.is, ct_xspan h1 hq1 hT1 (Nat.le_refl _) (Nat.le_refl _) fun s2 hb2 _ => ?_⟩⟩
  · have w : p0 < nI 0 := w
    rw [if_pos (Or.inl w)] at hq
    exact ⟨by omega, by omega, hq s1 h1.sp hb1.sy⟩
  · have hB : Sb st.2.2 st s2 := hb1.tr ⟨hb2.1, fun q hq => hb2.2 q (Nat.lt_of_lt_of_le hq hb1.z)⟩
    have h2 := h.fb lt hB
    rw [show cL ws (bh t) - cL ws t = nB t ws by omega]
    refine ⟨fun w2 => ?_, fun w2 => ?_⟩
    · have hz : ¬ (p0 < nI 0 ∨ nI (nB t ws) ≤ p0) := fun w => w.elim w1 fun q => absurd w2 (Int32.not_lt.mpr q)
      rw [if_neg hz] at hq
      obtain ⟨j, hj, rfl⟩ := i_in2 hz (by omega)
      rw [nI_clamp (by omega)] at hq
      have hkj := hW.kk (w := cL ws t + j) (by omega)
      refine ⟨_, h2.tmt, _, rfl, 1, 2, by omega, by omega, h2.tmS.is, ct_ceilingEntry h2.tmS (hq1.ext hb2.1) (by omega) h2.cE (Nat.le_refl _) (Nat.le_refl _) (fun e => by omega) fun _ s3 hN3 hs3 _ => ?_⟩
      have hb3 := hB.tr (hs3.bl hB.z)
      refine g_lp5_m (fun mm o y s c s' => ∃ (k q : Nat), o = some q ∧ y = nI k ∧ k ≤ j ∧ EN s.2.1 q (ka (cL ws t + k)) (va (cL ws t + k)) ∧ Sb st.2.2 st s ∧ 60 ≤ c + k ∧ 600 ≤ s' + 2 * k ∧ mm = 100 - k) ?_ ⟨0, _, rfl, rfl, Nat.zero_le _, hN3, hb3, by omega, by omega, rfl⟩
      rintro mm o y s c s' K ⟨k, q, rfl, rfl, hk, hN, hb, hc, hs', rfl⟩ hK
      have hS := h.fb lt hb
      have hky := (hS.tmS.key (i := cL ws t + k) (by omega)).1
      have hkw := hW.kk (w := cL ws t + k) (by omega)
      refine b_le (by omega) (by omega) (fun w => ⟨_, rfl, ⟨_, Or.inl hN⟩, ct_J41_getKey hN ⟨rfl, hky.isN, 1, 34, by omega, by omega, hS.is, g_WPv.wf fun hws => ?_⟩⟩) fun w => ⟨_, hS.tmt, _, rfl, ⟨_, Or.inl hN⟩, ct_J41_getKey hN ⟨rfl, hky.isN, _, rfl, 1, 2, by omega, by omega, hS.tmS.is, ?_⟩⟩
      · have e : k = j := by omega
        subst e
        refine ct_become hS hky ⟨by omega, hkj.2.2.1⟩ (Nat.le_refl _) (Nat.le_refl _) fun s4 v4 N4 h4 hY4 _ => ?_
        have hN4 : EN s4.2.1 q (ka (cL ws t + k)) (va (cL ws t + k)) := (hY4.2 q (hws.2 q _ hN).2 fun o ho hx => by
          rw [hN] at ho
          cases ho
          revert hx
          simp [X1o]).trans hN
        have hv := (h4.tmS.val (i := cL ws t + k) (by omega)).1
        exact ⟨⟨_, Or.inl hN4⟩, ct_J41_getValue hN4 ⟨rfl, fun w e => (by cases e; exact ⟨_, Or.inr hv⟩), _, rfl, ⟨_, Or.inr hv⟩, ct_J14_intValue hv ⟨rfl, hq s4 h4.sp (hb.sy.tr (hY4.le hb.z))⟩⟩⟩
      · have hpk := Pos.at hs (i := cL ws t + k) (by omega)
        refine ct_higherEntry hS.tmS hky (by omega) hS.cE (Nat.le_refl _) (Nat.le_refl _) (fun e => by omega) fun _ s4 hN4 hs4 _ => hK _ _ _ _ _ _ ⟨k + 1, _, rfl, nI_add k 1, by omega, ?_, hb.tr (hs4.bl hb.z), by omega, by omega, rfl⟩ (by omega)
        rw [hpk.2] at hN4
        exact hN4
    · rw [if_pos (Or.inr (Int32.not_lt.mp w2))] at hq
      exact ⟨by omega, by omega, hq s2 h2.sp hB.sy⟩
theorem sB_zero (h : ∀ u ∈ ws, ¬ lcp u.1 t = t.length) : sB t ws = 0 := by
  induction ws with
  | nil => rfl
  | cons u us ih =>
    show (if lcp u.1 t = t.length then u.2 else 0) + sB t us = 0
    rw [if_neg (h u List.mem_cons_self), ih fun v hv => h v (List.mem_cons_of_mem _ hv)]
theorem mem_tk {i : Nat} {y : List Nat × Nat} (h : y ∈ ws.take i) : ∃ k, k < i ∧ k < ws.length ∧ kk ws k = y.1 := by
  obtain ⟨k, hk, e⟩ := List.getElem_of_mem h
  rw [List.length_take] at hk
  refine ⟨k, by omega, by omega, ?_⟩
  rw [List.getElem_take] at e
  rw [kk_q, List.getElem?_eq_getElem (by omega), ← e]
  rfl
theorem mem_dp {i : Nat} {y : List Nat × Nat} (h : y ∈ ws.drop i) : ∃ k, i ≤ k ∧ k < ws.length ∧ kk ws k = y.1 := by
  obtain ⟨k, hk, e⟩ := List.getElem_of_mem h
  rw [List.length_drop] at hk
  refine ⟨i + k, by omega, by omega, ?_⟩
  rw [List.getElem_drop] at e
  rw [kk_q, List.getElem?_eq_getElem (by omega), ← e]
  rfl
theorem sB_lo (hs : Sd ws) (hW : okW ws) : sB t (ws.take (cL ws t)) = 0 := sB_zero fun u hu => by
  obtain ⟨k, h1, h2, e⟩ := mem_tk hu
  rw [← e, pre_ix hs hW h2]
  omega
theorem sB_hi (hs : Sd ws) (hW : okW ws) : sB t (ws.take (cL ws (bh t))) = sB t ws := by
  have h0 : sB t (ws.drop (cL ws (bh t))) = 0 := sB_zero fun u hu => by
    obtain ⟨k, h1, h2, e⟩ := mem_dp hu
    rw [← e, pre_ix hs hW h2]
    omega
  have := sB_app (t := t) (us := ws.take (cL ws (bh t))) (vs := ws.drop (cL ws (bh t)))
  rw [List.take_append_drop] at this
  omega
theorem nP_tk (hs : Sd ws) (hW : okW ws) : nP t ws = ws.take (cL ws t) ++ ws.drop (cL ws (bh t)) := by
  have hnb := nB_cL (t := t) hs hW
  have e : ws = ws.take (cL ws t) ++ ((ws.take (cL ws (bh t))).drop (cL ws t) ++ ws.drop (cL ws (bh t))) := by
    have h1 : ws.take (cL ws t) = (ws.take (cL ws (bh t))).take (cL ws t) := by rw [List.take_take]; congr 1; omega
    rw [h1, ← List.append_assoc, List.take_append_drop, List.take_append_drop]
  have f1 : nP t (ws.take (cL ws t)) = ws.take (cL ws t) := by
    unfold nP
    rw [List.filter_eq_self]
    intro u hu
    obtain ⟨k, h1, h2, e⟩ := mem_tk hu
    have : ¬ lcp u.1 t = t.length := by rw [← e, pre_ix hs hW h2]; omega
    simp [this]
  have f3 : nP t (ws.drop (cL ws (bh t))) = ws.drop (cL ws (bh t)) := by
    unfold nP
    rw [List.filter_eq_self]
    intro u hu
    obtain ⟨k, h1, h2, e⟩ := mem_dp hu
    have : ¬ lcp u.1 t = t.length := by rw [← e, pre_ix hs hW h2]; omega
    simp [this]
  have f2 : nP t ((ws.take (cL ws (bh t))).drop (cL ws t)) = [] := by
    unfold nP
    rw [List.filter_eq_nil_iff]
    intro u hu
    obtain ⟨k, h1, h2, e⟩ := mem_dp hu
    rw [List.length_take] at h2
    have hk : k < ws.length := by omega
    have e2 : kk ws k = u.1 := by
      rw [← e, kk_q, kk_q, List.getElem?_take, if_pos (by omega)]
    have : lcp u.1 t = t.length := by rw [← e2, pre_ix hs hW hk]; omega
    simp [this]
  have fa : ∀ (x y : wL), nP t (x ++ y) = nP t x ++ nP t y := fun x y => List.filter_append x y
  have := congrArg (nP t) e
  rw [fa, fa, f1, f2, f3, List.nil_append] at this
  exact this
theorem okW.nP (h : okW ws) : okW (nP t ws) := ⟨Nat.le_trans (List.length_filter_le _ _) h.1, fun u hu => h.2 u (List.mem_filter.mp hu).1⟩
theorem ct_xgone (h : SP E st a t ws cs) (hcb : 100 ≤ cb) (hsb : 1000 ≤ sb') (hq : xq E st a Q X [] (sp_gone t ws cs)) : wp_X1_gone l E cb sb' [va_rf (some a)] st Q := by
  refine g_WPi.wf fun hw => ?_
  obtain ⟨sb, v, N, tm, n, nd, ka, va, mc, x, ca, fc, h⟩ := h
  have hT1 := h.T.1
  have hW := h.W
  have hs := h.tmS.sd
  have hn := h.tmS.len
  have lt := fun z hz => h.lt hw (z := z) hz
  have hbl := bh_len (u := t)
  have hnb := nB_cL (t := t) hs hW
  have hcb2 : cL ws (bh t) ≤ ws.length := cL_le hs
  refine wk_X1_gone ⟨_, h.tmt, _, rfl, h.tmS.is, ct_mapSize h.tmS ⟨rfl, _, h.sbt, _, rfl, 2, 28, by omega, by omega, h.sbi, ct_toString h.sbS (by omega) (by omega) fun q1 s1 hq1 hs1 _ => ?_⟩⟩
  have hb1 := hs1.bl (Nat.le_refl st.2.2)
  have h1 := h.fb lt hb1
  refine ⟨_, h1.tmt, 6, 120, by omega, by omega, ct_behind hq1 hT1 (Nat.le_refl _) (Nat.le_refl _) fun q2 s2 hq2 hb2' _ => ?_⟩
  have hb2 : Sb st.2.2 st s2 := hb1.tr ⟨hb2'.1, fun q hq => hb2'.2 q (Nat.lt_of_lt_of_le hq hb1.z)⟩
  have h2 := h.fb lt hb2
  have hq1' := hq1.ext hb2'.1
  refine ⟨_, rfl, 1, 12, by omega, by omega, h2.tmS.is, ct_subMap h2.tmS h2.cE hq1' (by omega) hq2 (by omega) (Or.inl lt_bh) (Nat.le_refl _) (Nat.le_refl _) fun s3 hS3 hs3 _ _ _ => ?_⟩
  have hb3 := hb2.tr (hs3.bl hb2.z)
  have h3 := h.fb lt hb3
  refine ⟨_, rfl, 2, 9, by omega, by omega, ⟨_, Or.inl hS3⟩, ct_subClear (c1 := cL ws t) (c2 := cL ws (bh t)) h3.tmS h3.cE h3.U hS3 ⟨Or.inr ⟨rfl, _, t, rfl, hq1'.ext hs3.1, by omega, rfl⟩, ⟨_, _, rfl, hq2.ext hs3.1, by omega, rfl⟩, by omega⟩ (Nat.le_refl _) (Nat.le_refl _) fun s4 n' nd' ka' va' mc' hM hse _ _ _ => ?_⟩
  rw [← nP_tk hs hW] at hM
  obtain ⟨h4, hY4⟩ := h3.mp2 lt hb3.z hM hW.nP hse fun z hz => hz.imp (fun e => by rw [e]; exact hb2.z) id
  have hn4 := h4.tmS.len
  have e4 : (nP t ws).length = ws.length - nB t ws := by
    rw [nP_tk hs hW, List.length_append, List.length_take, List.length_drop]
    omega
  refine ⟨_, h4.tmt, _, rfl, h4.tmS.is, ct_mapSize h4.tmS ⟨rfl, ?_⟩⟩
  rw [su_sub (by omega), show n - n' = nB t ws by omega]
  exact hq s4 h4.sp (hb3.sy.tr hY4)
theorem ct_xsum (h : SP E st a t ws cs) (hcb : 100 ≤ cb) (hsb : 1000 ≤ sb') (hq : xq E st a Q X [] (sp_sum t ws cs)) : wp_X1_sum l E cb sb' [va_rf (some a)] st Q := by
  refine g_WPi.wf fun hw => ?_
  obtain ⟨sb, v, N, tm, n, nd, ka, va, mc, x, ca, fc, h⟩ := h
  have hT1 := h.T.1
  have hW := h.W
  have hW1 := hW.1
  have hs := h.tmS.sd
  have hn := h.tmS.len
  have lt := fun z hz => h.lt hw (z := z) hz
  have hbl := bh_len (u := t)
  have hnb := nB_cL (t := t) hs hW
  have hcb2 : cL ws (bh t) ≤ ws.length := cL_le hs
  refine wk_X1_sum ⟨_, h.sbt, _, rfl, 2, 28, by omega, by omega, h.sbi, ct_toString h.sbS (by omega) (by omega) fun q1 s1 hq1 hs1 _ => ?_⟩
  have hb1 := hs1.bl (Nat.le_refl st.2.2)
  have h1 := h.fb lt hb1
  refine ⟨_, h1.tmt, 6, 120, by omega, by omega, ct_behind hq1 hT1 (Nat.le_refl _) (Nat.le_refl _) fun q2 s2 hq2 hb2' _ => ?_⟩
  have hb2 : Sb st.2.2 st s2 := hb1.tr ⟨hb2'.1, fun q hq => hb2'.2 q (Nat.lt_of_lt_of_le hq hb1.z)⟩
  have h2 := h.fb lt hb2
  have hq1' := hq1.ext hb2'.1
  refine ⟨_, rfl, 1, 12, by omega, by omega, h2.tmS.is, ct_subMap h2.tmS h2.cE hq1' (by omega) hq2 (by omega) (Or.inl lt_bh) (Nat.le_refl _) (Nat.le_refl _) fun s3 hS3 hs3 _ hz3 _ => ?_⟩
  have hb3 := hb2.tr (hs3.bl hb2.z)
  refine ⟨_, rfl, 1, 1, by omega, by omega, ⟨_, Or.inl hS3⟩, ct_subValues hS3 (Nat.le_refl _) (Nat.le_refl _) fun s4 hv4 hS4 hs4 _ _ _ => ?_⟩
  have hb4 := hb3.tr (hs4.bl hb3.z fun z hz => by rw [hz]; exact hb2.z)
  have h4 := h.fb lt hb4
  have hR4 : RNG s4.1 ws (some q1) (some q2) (nI 0) (cL ws t) (cL ws (bh t)) := ⟨Or.inr ⟨rfl, _, t, rfl, (hq1'.ext hs3.1).ext hs4.1, by omega, rfl⟩, ⟨_, _, rfl, (hq2.ext hs3.1).ext hs4.1, by omega, rfl⟩, by omega⟩
  refine ⟨_, rfl, 3, 11, by omega, by omega, ⟨_, Or.inl hv4⟩, ct_valIter h4.tmS h4.cE hS4 hR4 hv4 (Nat.le_refl _) (Nat.le_refl _) fun s5 it hw5 hit hI5 ⟨e8, hS5⟩ hs5 _ _ => ?_⟩
  have hb5 := hb4.tr (hs5.bl hb4.z fun z hz => by rw [hz]; exact hb2.z)
  have hsub5 : s5.2.1 s2.2.2 = some (.inr (5, [va_rf (some tm), va_rf (some q1), va_rf (some q2), .int (nI 0), .int (nI 0), .int (nI 1), .int (nI 0), va_rf none, va_rf e8, va_rf none, va_rf none, va_rf (some s3.2.2)])) := hS5
  refine g_lp2_m (fun mm y s => ∃ i, y = nI (sB t (ws.take i)) ∧ cL ws t ≤ i ∧ i ≤ cL ws (bh t) ∧ Sb st.2.2 st s ∧ SIt E s it s2.2.2 n nd ka mc i (cL ws (bh t)) ∧ (∀ z, z ≠ it → s.2.1 z = s5.2.1 z) ∧ mm = 100 - i) ?_ ⟨cL ws t, by rw [sB_lo hs hW], Nat.le_refl _, by omega, hb5, hI5, fun _ _ => rfl, rfl⟩
  rintro mm y s K ⟨i, rfl, hi1, hi2, hb, hI, hfr, rfl⟩ hK
  have hS := h.fb lt hb
  have hww : s.2.1 s4.2.2 = some (.inr (13, [va_rf (some it), va_rf (some s3.2.2)])) := (hfr _ (by omega)).trans hw5
  have hne : s2.2.2 ≠ it := by
    have := hs3.1.1
    have := hs4.1.1
    omega
  refine ⟨_, rfl, ⟨_, Or.inl hww⟩, ct_vHasNext hS.tmS hS.U hww hI ⟨rfl, ?_⟩⟩
  by_cases z : i < cL ws (bh t)
  · rw [if_pos z]
    refine ⟨fun e => absurd e (by decide), fun _ => ⟨⟨_, Or.inl hww⟩, ct_vNext hS.tmS hS.U hww hI ((hfr _ hne).trans hsub5) rfl z fun s6 hI6 hs6 _ => ?_⟩⟩
    have hb6 := hb.tr (hs6.se.bl hb.z fun z e => by rw [e]; have := hb4.z; omega)
    have h6 := h.fb lt hb6
    have hv := (h6.tmS.val (i := i) (by omega)).1
    refine ⟨fun w e => (by cases e; exact ⟨_, Or.inr hv⟩), _, rfl, ⟨_, Or.inr hv⟩, ct_J14_intValue hv ⟨rfl, hK _ _ _ ⟨i + 1, ?_, by omega, z, hb6, hI6, fun z hz => (hs6.2.2.2 z hz).trans (hfr z hz), rfl⟩ (by omega)⟩⟩
    have hpre := (pre_ix (t := t) hs hW (i := i) (by omega)).mpr ⟨hi1, z⟩
    have e1 : sB t [(kk ws i, vv ws i)] = if lcp (kk ws i) t = t.length then vv ws i else 0 := Nat.add_zero _
    rw [tk1 (by omega : i < ws.length), sB_app, e1, if_pos hpre, nI_add]
  · rw [if_neg z]
    refine ⟨fun _ => ?_, fun e => absurd rfl e⟩
    rw [show i = cL ws (bh t) by omega, sB_hi hs hW]
    exact hq s hS.sp hb.sy
end GXS4
