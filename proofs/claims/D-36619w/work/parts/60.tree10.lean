/-! TREE 10: put, remove, clear, new -/
section GT10
variable {l : Launch} {E : g_E} {st0 st : g_St} {tm n : Nat} {nd ka va : Nat → Nat} {L R P : Nat → Option Nat} {co : Nat → Int32} {rt : Option Nat} {sz mc : Int32} {lo hi : Nat → Nat} {x : tX} {ws : wL} {t : List Nat}
/-- the views' cells lie apart from the tree's -/
theorem TS.vw (h : TS st0 st tm n nd ka va L R P co rt sz mc x) {a c : Nat} {fs : List Value} (ha : st.2.1 a = some (.inr (c, fs))) (hc : c ≠ 3 ∧ c ≠ 4) : ¬ TA tm n nd a := by
  rintro (rfl | ⟨i, hi, rfl⟩)
  · rw [h.2.1] at ha
    unfold tM at ha
    simp only [Option.some.injEq, Sum.inr.injEq, Prod.mk.injEq] at ha
    exact hc.1 ha.1.symm
  · rw [h.2.2.1 i hi] at ha
    unfold tE at ha
    simp only [Option.some.injEq, Sum.inr.injEq, Prod.mk.injEq] at ha
    exact hc.2 ha.1.symm
theorem TMx.ofINS {st' : g_St} {k a b v : Nat} (hw : g_Wf st) (hT : TS st st tm n nd ka va L R P co rt (nI n) mc x) (hn : n = ws.length) (hn2 : n + 1 < 2 ^ 20) (hK : KD st.1 n ka (kk ws)) (hV : ∀ i, i < n → IntO st.1 (va i) (nI (vv ws i)) ∧ vv ws i < 2 ^ 31) (hs : Sd (ws.insertIdx k (t, v))) (hv1 : ∀ a, x.2.2.1 = some a → st.2.1 a = some (.inr (14, [va_rf (some tm)]))) (hv2 : ∀ a, x.2.2.2.1 = some a → st.2.1 a = some (.inr (8, [va_rf (some tm)]))) (hk : k ≤ n) (ha : Str st.1 a t) (hat : t.length < 128) (hb : IntO st.1 b (nI v)) (hv : v < 2 ^ 31) (hI : INS st tm n nd ka va (nI n) mc x k a b st') : ∃ nd' : Nat → Nat, TMx st' tm (n + 1) nd' (f_in ka k a) (f_in va k b) (mc + nI 1) x (ws.insertIdx k (t, v)) ∧ st'.1 = st.1 ∧ st'.2.2 = st.2.2 + 1 ∧ Se (CX tm n nd x) st st' ∧ ∀ z, CX tm (n + 1) nd' x z → CX tm n nd x z ∨ st.2.2 ≤ z := by
  obtain ⟨nd', L', R', P', co', rt', lo', hi', e1, e2, e3, e4, hse, hT', hS', hB'⟩ := hI
  have hlen : k ≤ ws.length := by omega
  refine ⟨nd', ⟨L', R', P', co', rt', lo', hi', by rw [nI_add] at hT'; exact hT', hS', hB', ?_, hn2, fun i hi => ?_, fun i hi => ?_, hs, fun a ha => ?_, fun a ha => ?_⟩, e3, e4, hse.wk (fun q _ hq => Or.inl hq), ?_⟩
  · rw [List.length_insertIdx_of_le_length hlen]
    omega
  · rw [e3, kk_q, insI_k hlen (by omega)]
    unfold f_in
    split
    · exact ⟨ha, hat⟩
    · have : t_si k i < n := by
        unfold t_si
        split <;> omega
      rw [← kk_q]
      exact hK _ this
  · rw [e3, vv_q, insI_k hlen (by omega)]
    unfold f_in
    split
    · exact ⟨hb, hv⟩
    · have : t_si k i < n := by
        unfold t_si
        split <;> omega
      rw [← vv_q]
      exact hV _ this
  · rw [hse.2 a (hw.2 _ _ (hv1 a ha)).2 (hT.vw (hv1 a ha) (by decide))]
    exact hv1 a ha
  · rw [hse.2 a (hw.2 _ _ (hv2 a ha)).2 (hT.vw (hv2 a ha) (by decide))]
    exact hv2 a ha
  · rintro z ((rfl | ⟨i, hi, rfl⟩) | hz | hz)
    · exact Or.inl (Or.inl (Or.inl rfl))
    · by_cases e : i = k
      · rw [e, e1]
        exact Or.inr (Nat.le_refl _)
      · refine Or.inl (Or.inl (Or.inr ⟨t_si k i, ?_, e2 i e hi⟩))
        unfold t_si
        split <;> omega
    · exact Or.inl (Or.inr (Or.inl hz))
    · exact Or.inl (Or.inr (Or.inr hz))
theorem TMx.ofDEL {st' : g_St} {i : Nat} (hw : g_Wf st) (hT : TS st st tm n nd ka va L R P co rt (nI n) mc x) (hn : n = ws.length) (hn2 : n < 2 ^ 20) (hK : KD st.1 n ka (kk ws)) (hV : ∀ i, i < n → IntO st.1 (va i) (nI (vv ws i)) ∧ vv ws i < 2 ^ 31) (hs : Sd ws) (hv1 : ∀ a, x.2.2.1 = some a → st.2.1 a = some (.inr (14, [va_rf (some tm)]))) (hv2 : ∀ a, x.2.2.2.1 = some a → st.2.1 a = some (.inr (8, [va_rf (some tm)]))) (hi : i < n) (hD : DEL st tm n nd ka va L R (nI n) mc x i st') : ∃ (q : Nat) (ka' va' : Nat → Nat), TMx st' tm (n - 1) (fun k => nd (t_so q k)) ka' va' (mc + nI 1) x (ws.eraseIdx i) ∧ ((q = i ∧ (L i = none ∨ R i = none)) ∨ (q = i + 1 ∧ i + 1 < n ∧ L i ≠ none ∧ R i ≠ none)) ∧ (∀ k, k < n - 1 → ka' k = ka (t_so i k) ∧ va' k = va (t_so i k)) ∧ Sx (CX tm n nd x) st st' := by
  obtain ⟨q, ka', va', L', R', P', co', rt', lo', hi', hsx, hT', hS', hB', hqi, hkv⟩ := hD
  have ek : ∀ k, k < n - 1 → (ws.eraseIdx i)[k]? = ws[t_so i k]? := fun k hk => by
    rw [List.getElem?_eraseIdx]
    unfold t_so
    split <;> rfl
  have es : ∀ k, k < n - 1 → t_so i k < n := fun k hk => t_so_lt hk hi
  refine ⟨q, ka', va', ⟨L', R', P', co', rt', lo', hi', by rw [su_sub (by omega)] at hT'; exact hT', hS', hB', ?_, by omega, fun k hk => ?_, fun k hk => ?_, ?_, fun a ha => ?_, fun a ha => ?_⟩, hqi, hkv, hsx.wk (fun q hq => Or.inl hq)⟩
  · rw [List.length_eraseIdx, if_pos (by omega)]
    omega
  · rw [hsx.1, (hkv k hk).1, kk_q, ek k hk, ← kk_q]
    exact hK _ (es k hk)
  · rw [hsx.1, (hkv k hk).2, vv_q, ek k hk, ← vv_q]
    exact hV _ (es k hk)
  · exact hs.sublist (List.eraseIdx_sublist _ _)
  · rw [hsx.2.2.2 a (hT.vw (hv1 a ha) (by decide))]
    exact hv1 a ha
  · rw [hsx.2.2.2 a (hT.vw (hv2 a ha) (by decide))]
    exact hv2 a ha
theorem ct_put {a b v mc' ms : Nat} {Q : Option Nat → g_St → Prop} (h : TMx st tm n nd ka va mc x ws) (ha : Str st.1 a t) (hat : t.length < 128) (hE : Cst E st.1) (hb : IntO st.1 b (nI v)) (hv : v < 2 ^ 31) (hmc : 1 ≤ mc') (hms : 6 ≤ ms) (hn1 : n + 1 < 2 ^ 20)
    (hq : ∀ (o : Option Nat) (st' : g_St) (n' : Nat) (nd' ka' va' : Nat → Nat) (mc'' : Int32), o = (if cL ws t < dL ws t then some (va (cL ws t)) else none) → TMx st' tm n' nd' ka' va' mc'' x (insS t v ws) → st'.1 = st.1 → st'.2.2 ≤ st.2.2 + 1 → Se (CX tm n nd x) st st' → (∀ z, CX tm n' nd' x z → CX tm n nd x z ∨ st.2.2 ≤ z) → Q o st') : wp_J5_put l E mc' ms [va_rf (some tm), va_rf (some a), va_rf (some b)] st Q := by
  refine g_WPa.wf fun hw => ?_
  obtain ⟨L, R, P, co, rt, lo, hi, hT, hS, hB, hn, hn2, hK, hV, hs, hv1, hv2⟩ := h
  obtain ⟨h1, h2, h3, h4, h5, h6, h7, h8, h9⟩ := id hS
  have hp := Pos.of hs t
  rw [← hn] at hp
  obtain ⟨p1, p2, p3, -⟩ := id hp
  have hsi := insS_sd (t := t) (v := v) hs
  have hse := insS_eq (t := t) (v := v) hs
  have fin : ¬ cL ws t < dL ws t → ∀ st' : g_St, INS st tm n nd ka va (nI n) mc x (cL ws t) a b st' → Q none st' := fun hc st' hI => by
    rw [if_neg hc] at hse
    obtain ⟨nd', g1, g2, g3, g4, g5⟩ := TMx.ofINS hw hT hn hn1 hK hV (by rw [← hse]; exact hsi) hv1 hv2 (by omega) ha hat hb hv hI
    rw [← hse] at g1
    exact hq _ _ _ _ _ _ _ (by rw [if_neg hc]) g1 g2 (by omega) g4 g5
  refine wk_J5_put ⟨mc', ms, Nat.le_refl _, Nat.le_refl _, hT.gI, wk_J5_put_2 ⟨_, hT.gT, fun e => ?_, fun a3 e => ⟨_, hT.gM, fun _ => wk_J24_requireNonNull ⟨fun e' => (by cases e'), fun a2 e' => ⟨rfl, ha.isN, ?_⟩⟩, fun a e' => (by cases e')⟩⟩⟩
  · have hr := om_none e
    have hn0 := h8 hr
    subst hr
    subst hn0
    have hc0 : cL ws t = 0 := by omega
    have hfin := fin (by omega)
    rw [hc0] at hfin
    exact ⟨mc', ms, Nat.le_refl _, Nat.le_refl _, hT.gI, ct_addEmpty hT hw ha hat hE.1 hmc hms fun st' hI _ _ => hfin st' hI⟩
  · obtain ⟨r, hr, rfl⟩ := om_some e
    have kr := h9 r hr
    refine g_lp1_m (fun m o => ∃ p, p < n ∧ o = some (nd p) ∧ lo p ≤ cL ws t ∧ dL ws t ≤ hi p ∧ m = hi p - lo p) ?_ ⟨r, kr.1, rfl, by omega, by omega, rfl⟩
    rintro m o K ⟨p, pn, rfl, q1, q2, rfl⟩ hKK
    have bp := h1 p pn
    refine ⟨_, rfl, _, hT.gK pn, a, rfl, ha.is, ct_J2_compareTo ha (hK p pn).1 hE.1 hat (hK p pn).2 fun y hy => ⟨rfl, ?_⟩⟩
    show _ ∧ _
    have add : ∀ (z : Int32) (k : Nat), k = cL ws t → ¬ cL ws t < dL ws t → ((z = nI 0 ∧ R p = none ∧ k = p + 1) ∨ (z = nI 1 ∧ L p = none ∧ k = p)) → (∃ mc28 ms29 : Nat, mc28 ≤ mc' ∧ ms29 ≤ ms ∧ g_is st tm 3 ∧ wp_J5_addEntry l E mc28 ms29 [va_rf (some tm), va_rf (some a), va_rf (some b), va_rf (some (nd p)), .int z] st (fun st27 => g_Ext st st27 → g_Ext st st27 → Q none st27)) := fun z k hk hc hz => by
      subst hk
      exact ⟨mc', ms, Nat.le_refl _, Nat.le_refl _, hT.gI, ct_addEntry hT hS hB hw pn hz hmc hms fun st' hI _ _ => fin hc st' hI⟩
    rcases hp.cmp pn hy with ⟨e1, e2, e3, e4, e5, e6⟩ | ⟨e1, e2, e3, e4, e5, e6, e7⟩ | ⟨e1, e2, e3, e4, e5, e6⟩
    · refine ⟨fun z => absurd z e2, fun _ => ⟨_, hT.gL pn, fun z => ?_, fun a23 z => ?_⟩⟩
      · have hL := om_none z
        have := h2 p pn hL
        show _ ∧ _
        exact ⟨fun z => absurd z e2, fun _ => add (nI 1) p (by omega) (by omega) (Or.inr ⟨rfl, hL, rfl⟩)⟩
      · obtain ⟨j, hj, rfl⟩ := om_some z
        have k3 := h3 p j pn hj
        have := h1 j k3.1
        exact hKK _ _ ⟨j, k3.1, rfl, by omega, by omega, rfl⟩ (by omega)
    · refine ⟨fun _ => ⟨fun _ => ⟨_, hT.gV pn, ?_⟩, fun z => absurd e3 z⟩, fun z => absurd e2 z⟩
      have hcd : cL ws t < dL ws t := by omega
      rw [if_pos hcd] at hse
      have hset : ∀ i, i < n → (ws.set (cL ws t) (t, v))[i]? = if i = p then some (t, v) else ws[i]? := fun i hi => by
        rw [List.getElem?_set, e6]
        by_cases z : cL ws t = i
        · rw [if_pos z, if_pos z.symm, if_pos (by omega)]
        · rw [if_neg z, if_neg (Ne.symm z)]
      refine g_jn1_i (fun s => ∃ (st' : g_St), s = st' ∧ TS st st' tm n nd ka (t_up va p b) L R P co rt (nI n) mc x) (fun s H => ?_) fun K36 hK36 => ?_
      · obtain ⟨st', rfl, hT'⟩ := H
        refine fun _ => hq _ _ n nd ka (t_up va p b) mc (by rw [if_pos hcd, ← e6]) ⟨L, R, P, co, rt, lo, hi, hT'.s, hS, hB, ?_, hn2, fun i hi => ?_, fun i hi => ?_, hsi, fun a ha => ?_, fun a ha => ?_⟩ hT'.1.1 (by rw [hT'.1.2.1]; omega) (hT'.1.se.wk fun q _ hq => Or.inl hq) (fun z hz => Or.inl hz)
        · rw [hse, List.length_set]
          exact hn
        · rw [hT'.1.1, hse, kk_q, hset i hi]
          split
          · rename_i z
            have k := hK i hi
            have kq := (hp.2.2.2 i hi).2.mpr (by omega)
            rw [← kq] at k
            exact k
          · rw [← kk_q]
            exact hK i hi
        · rw [hT'.1.1, hse, vv_q, hset i hi]
          unfold t_up
          split
          · exact ⟨hb, hv⟩
          · rw [← vv_q]
            exact hV i hi
        · rw [hT'.1.2.2.2 a (hT.vw (hv1 a ha) (by decide))]
          exact hv1 a ha
        · rw [hT'.1.2.2.2 a (hT.vw (hv2 a ha) (by decide))]
          exact hv2 a ha
      · refine g_jn0_i (hT.pV pn b fun st41 hT41 => hK36 _ ⟨_, rfl, hT41⟩) fun K38 hK38 => ⟨fun _ => hK38, fun z => absurd z (by decide)⟩
    · refine ⟨fun _ => ⟨fun z => absurd z e3, fun _ => ⟨_, hT.gR pn, fun z => ?_, fun a23 z => ?_⟩⟩, fun z => absurd e2 z⟩
      · have hR := om_none z
        have := h4 p pn hR
        show _ ∧ _
        exact ⟨fun _ => add (nI 0) (p + 1) (by omega) (by omega) (Or.inl ⟨rfl, hR, rfl⟩), fun z => absurd e2 z⟩
      · obtain ⟨j, hj, rfl⟩ := om_some z
        have k3 := h5 p j pn hj
        have := h1 j k3.1
        exact hKK _ _ ⟨j, k3.1, rfl, by omega, by omega, rfl⟩ (by omega)
/-- the words without t -/
def delS (t : List Nat) (ws : wL) : wL := ws.filter (fun w => decide (w.1 ≠ t))
theorem delS_0 {ws : wL} (h : ∀ w ∈ ws, w.1 ≠ t) : delS t ws = ws := by
  unfold delS
  rw [List.filter_eq_self]
  intro w hw
  exact decide_eq_true (h w hw)
theorem delS_eq {ws : wL} (hs : Sd ws) : delS t ws = if cL ws t < dL ws t then ws.eraseIdx (cL ws t) else ws := by
  induction ws with
  | nil => rfl
  | cons w ws ih =>
    obtain ⟨h1, h2⟩ := List.pairwise_cons.mp hs
    have k := ih h2
    unfold cL dL
    have e0 : delS t (w :: ws) = if w.1 ≠ t then w :: delS t ws else delS t ws := by
      unfold delS
      rw [List.filter_cons]
      by_cases z : w.1 = t
      · simp [z]
      · simp [z]
    rw [e0]
    rcases ll_tri w.1 t with z | z | z
    · have ne : w.1 ≠ t := fun e => by rw [e] at z; exact ll_irr _ z
      rw [if_pos z, if_neg (ll_as z), if_pos ne, k]
      by_cases y : cL ws t < dL ws t
      · rw [if_pos y, if_pos (by omega)]
        rfl
      · rw [if_neg y, if_neg (by omega)]
    · rw [z, if_neg (ll_irr _), if_neg (ll_irr _), if_neg (fun y => y rfl), if_pos (by omega), delS_0]
      · rfl
      · intro y hy e
        have := h1 y hy
        rw [z, e] at this
        exact ll_irr _ this
    · have ne : w.1 ≠ t := fun e => by rw [e] at z; exact ll_irr _ z
      rw [if_neg (ll_as z), if_pos z, if_pos ne, if_neg (by omega), delS_0]
      intro y hy e
      have := ll_tr z (h1 y hy)
      rw [e] at this
      exact ll_irr _ this
theorem ct_remove {a : Nat} {Q : Option Nat → g_St → Prop} (h : TMx st tm n nd ka va mc x ws) (ha : Str st.1 a t) (hat : t.length < 128) (hE : Cst E st.1)
    (hq : ∀ (o : Option Nat) (st' : g_St) (n' : Nat) (nd' ka' va' : Nat → Nat) (mc'' : Int32), o = (if cL ws t < dL ws t then some (va (cL ws t)) else none) → TMx st' tm n' nd' ka' va' mc'' x (delS t ws) → Sx (CX tm n nd x) st st' → (∀ z, CX tm n' nd' x z → CX tm n nd x z) → Q o st') : wp_J5_remove l E 0 0 [va_rf (some tm), va_rf (some a)] st Q := by
  refine g_WPa.wf fun hw => ?_
  have h' := h
  obtain ⟨L, R, P, co, rt, lo, hi, hT, hS, hB, hn, hn2, hK, hV, hs, hv1, hv2⟩ := h
  have hp := Pos.of hs t
  rw [← hn] at hp
  have hde := delS_eq (t := t) hs
  refine wk_J5_remove ⟨hT.gI, ct_getEntry hT hS hK ha hat hE.1 hp ⟨rfl, fun e => ?_, fun a3 e => ?_⟩⟩
  · by_cases hc : cL ws t < dL ws t
    · rw [if_pos hc] at e; cases e
    · rw [if_neg hc] at hde
      rw [← hde] at h'
      exact hq _ _ _ _ _ _ _ (by rw [if_neg hc]) (by rw [hde] at h' ⊢; exact h') Sx.rf (fun z hz => hz)
  · by_cases hc : cL ws t < dL ws t
    · rw [if_pos hc] at e hde
      cases e
      have hcn : cL ws t < n := by have := hp.2.2.1; omega
      refine ⟨_, hT.gV hcn, hT.gI, ct_deleteEntry hT hS hB hcn fun st' hD _ => ?_⟩
      obtain ⟨q, ka', va', g1, g2, g3, g4⟩ := TMx.ofDEL hw hT hn hn2 hK hV hs hv1 hv2 hcn hD
      rw [← hde] at g1
      refine hq _ _ _ _ _ _ _ (by rw [if_pos hc]) g1 g4 ?_
      rintro z ((rfl | ⟨i, hi, rfl⟩) | hz | hz)
      · exact Or.inl (Or.inl rfl)
      · exact Or.inl (Or.inr ⟨t_so q i, t_so_lt hi (by rcases g2 with ⟨w, _⟩ | ⟨w, w2, _⟩ <;> omega), rfl⟩)
      · exact Or.inr (Or.inl hz)
      · exact Or.inr (Or.inr hz)
    · rw [if_neg hc] at e; cases e
theorem ct_clear {Q : g_St → Prop} (h : TMx st tm n nd ka va mc x ws) (hq : ∀ st' : g_St, TMx st' tm 0 nd ka va (mc + nI 1) x [] → Sx (CX tm n nd x) st st' → Q st') : wp_J5_clear l E 0 0 [va_rf (some tm)] st Q := by
  obtain ⟨L, R, P, co, rt, lo, hi, hT, hS, hB, hn, hn2, hK, hV, hs, hv1, hv2⟩ := h
  refine wk_J5_clear ⟨_, hT.gD, hT.pM _ fun s1 hT1 => hT1.pS _ fun s2 hT2 => hT2.pT none fun s3 hT3 => hq s3 ⟨_, _, _, co, none, _, _, ⟨Sx.rf, hT3.2.1, fun i hi => absurd hi (Nat.not_lt_zero _), fun i j hi => absurd hi (Nat.not_lt_zero _)⟩, Shp.zero, hB, rfl, by decide, fun i hi => absurd hi (Nat.not_lt_zero _), fun i hi => absurd hi (Nat.not_lt_zero _), List.Pairwise.nil, fun a ha => ?_, fun a ha => ?_⟩ (hT3.1.wk fun z hz => Or.inl hz)⟩
  · rw [hT3.1.2.2.2 a (hT.vw (hv1 a ha) (by decide))]
    exact hv1 a ha
  · rw [hT3.1.2.2.2 a (hT.vw (hv2 a ha) (by decide))]
    exact hv2 a ha
theorem ct_mapNew {a : Nat} {Q : g_St → Prop} (ha : st.2.1 a = some (.inr (3, [va_rf none, va_rf none, va_rf none, va_rf none, .int 0, .int 0, va_rf none, va_rf none, va_rf none]))) (hq : ∀ st' : g_St, TMx st' a 0 (fun _ => 0) (fun _ => 0) (fun _ => 0) (nI 0) (va_rf none, va_rf none, none, none, va_rf none) [] → Sx (fun z => z = a) st st' → Q st') : wp_J5_init l E 0 0 [va_rf (some a)] st Q := by
  refine wk_J5_init (wk_J4_init_J5 ⟨rfl, pu ha fun s1 h1 => pu h1.nx fun s2 h2 => pu h2.nx fun s3 h3 => ?_⟩)
  have h := (h1.tr h2).tr h3
  exact hq s3 ⟨_, _, _, fun _ => nI 1, none, _, _, ⟨Sx.rf, h.nx, fun i hi => absurd hi (Nat.not_lt_zero _), fun i j hi => absurd hi (Nat.not_lt_zero _)⟩, Shp.zero, fun _ => Or.inr rfl, rfl, by decide, fun i hi => absurd hi (Nat.not_lt_zero _), fun i hi => absurd hi (Nat.not_lt_zero _), List.Pairwise.nil, fun a ha => (by cases ha), fun a ha => (by cases ha)⟩ h.sx
end GT10
