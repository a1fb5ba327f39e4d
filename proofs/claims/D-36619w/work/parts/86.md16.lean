/-! MODEL 16: areTwins, isTrue, checksum, thrown, a new one -/
section GMD16
variable {us ws : wL} {t : List Nat} {cs : Nat → List Nat} {l : Launch} {E : g_E} {st0 st : g_St} {m k0 : Nat} {A : Nat → Nat → Int32} {W : Nat → Int64} {c ln mn : Int32}
theorem ct_mareTwins {Q : Int32 → g_St → Prop} (hp : us.Perm ws) (hs : Sd ws) (h : MS st0 st m c ln (nI us.length) A W) (hR : MR t us cs A) (hO : ORD us us.length A) (hq : Q (nI 1) st) : wp_X2_areTwins l E 0 0 [va_rf (some m)] st Q := by
  have hW := hR.2.1
  have hn := hW.1
  have hWs := hW.pm hp
  have hlen := hp.length_eq
  refine wk_X2_areTwins ⟨_, h.gN, b_le (by omega) (by omega) (fun w2 => ?_) fun _ => hq⟩
  refine g_lp2_m (fun mm x y => ∃ w, y = nI w ∧ w ≤ us.length ∧ x = nI (twX (us.take w)) ∧ mm = 100 - w) ?_ ⟨0, rfl, Nat.zero_le _, rfl, rfl⟩
  rintro mm x y K ⟨w, rfl, hw, rfl, rfl⟩ hK
  refine ⟨_, h.gN, b_le (by omega) (by omega) (fun z => ?_) fun z => ?_⟩
  · rw [tkn z, twX_pm hp]
    have htw := twX_all hs
    refine g_lp2_m (fun mm x y => ∃ k, y = nI (k + 1) ∧ k + 1 ≤ us.length ∧ x = nI (adN ws k) ∧ mm = 100 - k) ?_ ⟨0, rfl, by omega, rfl, rfl⟩
    rintro mm x y K2 ⟨k, rfl, hk, rfl, rfl⟩ hK2
    refine ⟨_, h.gN, b_le (by omega) (by omega) (fun v => ?_) fun v => ?_⟩
    · refine g_jn1_i (fun x => x = nI 1) (fun x e => by rw [e]; exact ⟨rfl, hq⟩) fun K18 hK18 => ⟨fun q => ?_, fun _ => hK18 _ rfl⟩
      rw [htw, show ws.length - 1 = k by omega] at q
      exact absurd rfl q
    · obtain ⟨a, ha, ha8, hak, _⟩ := ord_k hp hs hO (k := k) (by omega)
      obtain ⟨b, hb, hb8, hbk, _⟩ := ord_k hp hs hO (k := k + 1) (by omega)
      have l1 := lcp_le2 (kk us a) (kk us b)
      have kb := hW.kk hb
      have had := adN_le hWs (k := k) (by omega)
      refine ⟨_, h.g8, _, rfl, h.r8 k (sb_pr k) (by omega) ⟨_, h.g8, _, rfl, h.r8 (k + 1) rfl (by omega) ⟨h.is, ?_⟩⟩⟩
      rw [ha8, hb8]
      refine ct_mlikeW h hR ha hb ⟨rfl, ?_⟩
      have e1 : adN ws (k + 1) = if adN ws k < lcp (kk us a) (kk us b) then lcp (kk us a) (kk us b) else adN ws k := by
        rw [hak, hbk]
        exact mx_if _ _
      refine g_jn1_i (fun x => x = nI (adN ws (k + 1))) (fun x e => hK2 _ _ _ ⟨k + 1, nI_add (k + 1) 1, by omega, e, rfl⟩ (by omega)) fun K34 hK34 => b_le (by omega) (by omega) (fun q => hK34 _ ?_) fun q => ⟨_, h.g8, _, rfl, h.r8 k (sb_pr k) (by omega) ⟨_, h.g8, _, rfl, h.r8 (k + 1) rfl (by omega) ⟨h.is, ?_⟩⟩⟩
      · rw [e1, if_neg (by omega)]
      · rw [ha8, hb8]
        refine ct_mlikeW h hR ha hb ⟨rfl, hK34 _ ?_⟩
        rw [e1, if_pos q]
  · have hb1 := twX_le (us := us.take w) fun u hu => (hW.2 u (List.mem_of_mem_take hu)).2.1
    refine g_lp2_m (fun mm x y => ∃ v, y = nI v ∧ v ≤ w ∧ x = nI (Nat.max (twX (us.take w)) (shX (kk us w) (us.take v))) ∧ mm = 100 - v) ?_ ⟨0, rfl, Nat.zero_le _, by rw [show shX (kk us w) (us.take 0) = 0 from rfl, show Nat.max (twX (us.take w)) 0 = twX (us.take w) from Nat.max_zero _], rfl⟩
    rintro mm x y K2 ⟨v, rfl, hv, rfl, rfl⟩ hK2
    have hb2 := shX_le (t := kk us w) (us := us.take v)
    have kw := hW.kk z
    have hb3 : Nat.max (twX (us.take w)) (shX (kk us w) (us.take v)) ≤ 10 := by
      rw [mx_if]
      split <;> omega
    refine b_le (by omega) (by omega) (fun y => ?_) fun y => ⟨h.is, ct_mlikeW h hR (by omega) z ⟨rfl, ?_⟩⟩
    · refine hK _ _ _ ⟨w + 1, nI_add w 1, z, ?_, rfl⟩ (by omega)
      rw [tk1 z, twX_1, show v = w by omega]
    · have l1 := lcp_le2 (kk us v) (kk us w)
      have vn : v < us.length := by omega
      refine g_jn1_i (fun x => x = nI (Nat.max (twX (us.take w)) (shX (kk us w) (us.take (v + 1))))) (fun x e => hK2 _ _ _ ⟨v + 1, nI_add v 1, y, e, rfl⟩ (by omega)) fun K23 hK23 => ?_
      rw [tk1 vn, shX_1] at hK23
      have e0 : (kk us v, vv us v).1 = kk us v := rfl
      simp only [e0, mx_if] at hK23 ⊢
      refine b_le (by omega) (by split <;> omega) (fun q => hK23 _ ?_) fun q => ⟨h.is, ct_mlikeW h hR vn z ⟨rfl, hK23 _ ?_⟩⟩
      · congr 1
        grind
      · congr 1
        grind
def sp_isTrue (t : List Nat) (ws : wL) (cs : Nat → List Nat) : sR := (0, nI 1, t, ws, cs)
theorem ct_misTrue {Q : Int32 → g_St → Prop} (h : MP st st m k0 t ws cs) (hs : Sd ws) (hq : mok st m Q (sp_isTrue t ws cs)) : wp_X2_isTrue l E 0 0 [va_rf (some m)] st Q := by
  obtain ⟨us, A, W, hp, h, hR⟩ := h
  have hT1 := hR.1.1
  refine wk_X2_isTrue (h.pC _ fun s1 h1 => ⟨h1.is, ct_morders h1 hR (pm_dis hp hs) fun s2 A2 h2 hR2 hO _ _ => ?_⟩)
  have fin : Q (nI 1) s2 := hq s2 ⟨us, A2, W, hp, h2, hR2⟩
  refine g_lp1_m (fun mm x => ∃ g, x = nI g ∧ g ≤ 11 ∧ g ≤ t.length + 1 ∧ mm = 100 - g) ?_ ⟨0, rfl, Nat.zero_le _, Nat.zero_le _, rfl⟩
  rintro mm x K ⟨g, rfl, hg, hg2, rfl⟩ hK
  refine ⟨_, h2.gL, ?_⟩
  refine g_jn0_i ⟨h2.is, ct_mareTwins hp hs h2 hR2 hO ⟨rfl, rfl, fin⟩⟩ fun K9 hK9 => b_lt (by omega) (by omega) (fun _ => hK9) fun y => b_lt (by omega) (by omega) (fun _ => hK9) fun y2 => ⟨h2.is, ct_misSide hp hs h2 hR2 hO y ⟨rfl, fun _ => hK _ _ ⟨g + 1, nI_add g 1, by omega, by omega, rfl⟩ (by omega), fun w => absurd w (by decide)⟩⟩
/-- the checksum -/
def ckL (y : Int64) (t : List Nat) : Int64 := t.foldl (fun y x => 31 * y + (nI x).toInt64) y
def ckW (y : Int64) (ws : wL) : Int64 := ws.foldl (fun y u => 31 * ckL y u.1 + (nI u.2).toInt64) y
def ckC (y : Int64) (cs : Nat → List Nat) : Nat → Int64
  | 0 => y
  | n + 1 => ckL (31 * ckC y cs n + (nI (cs n).length).toInt64) (cs n)
def sp_checksum (t : List Nat) (ws : wL) (cs : Nat → List Nat) : Int64 := ckC (ckW (ckL 7 t) ws) cs 6
theorem ckL_1 {y : Int64} {k : Nat} (h : k < t.length) : ckL y (t.take (k + 1)) = 31 * ckL y (t.take k) + (nI (t.getD k 0)).toInt64 := by
  unfold ckL
  rw [List.take_succ_eq_append_getElem h, List.foldl_append, List.getD_eq_getElem?_getD, List.getElem?_eq_getElem h]
  rfl
theorem ckW_1 {y : Int64} {k : Nat} (h : k < ws.length) : ckW y (ws.take (k + 1)) = 31 * ckL (ckW y (ws.take k)) (kk ws k) + (nI (vv ws k)).toInt64 := by
  unfold ckW
  rw [tk1 h, List.foldl_append]
  rfl
theorem ct_mchecksum {Q : Int64 → g_St → Prop} (h : MP st st m k0 t ws cs) (hs : Sd ws) (hq : ∀ st', MP st st' m 0 t ws cs → Q (sp_checksum t ws cs) st') : wp_X2_checksum l E 0 0 [va_rf (some m)] st Q := by
  obtain ⟨us, A, W, hp, h, hR⟩ := h
  have hT1 := hR.1.1
  have hW := hR.2.1
  have hn := hW.1
  have hC := hR.2.2.1
  have hlen := hp.length_eq
  refine wk_X2_checksum (h.pC _ fun s1 h1 => ?_)
  refine g_lp2_m (fun mm y x => ∃ k, x = nI k ∧ k ≤ t.length ∧ y = ckL 7 (t.take k) ∧ mm = 100 - k) ?_ ⟨0, rfl, Nat.zero_le _, rfl, rfl⟩
  rintro mm y x K ⟨k, rfl, hk, rfl, rfl⟩ hK
  refine ⟨_, h1.gL, b_le (by omega) (by omega) (fun z => ?_) fun z => ⟨_, h1.g1, _, rfl, h1.r1 k rfl (by omega) (hK _ _ _ ⟨k + 1, nI_add k 1, z, ?_, rfl⟩ (by omega))⟩⟩
  · rw [List.take_of_length_le z]
    refine ⟨h1.is, ct_morders h1 hR (pm_dis hp hs) fun s2 A2 h2 hR2 hO _ _ => ?_⟩
    refine g_lp2_m (fun mm y x => ∃ k, x = nI k ∧ k ≤ ws.length ∧ y = ckW (ckL 7 t) (ws.take k) ∧ mm = 100 - k) ?_ ⟨0, rfl, Nat.zero_le _, rfl, rfl⟩
    rintro mm y x K13 ⟨k, rfl, hk, rfl, rfl⟩ hK13
    refine ⟨_, h2.gN, b_le (by omega) (by omega) (fun v => ?_) fun v => ?_⟩
    · rw [tkn (by omega)]
      refine g_lp2_m (fun mm y x => ∃ j, x = nI j ∧ j ≤ 6 ∧ y = ckC (ckW (ckL 7 t) ws) cs j ∧ mm = 100 - j) ?_ ⟨0, rfl, Nat.zero_le _, rfl, rfl⟩
      rintro mm y x K20 ⟨j, rfl, hj, rfl, rfl⟩ hK20
      refine b_le (by omega) (by omega) (fun q => ?_) fun q => ⟨_, h2.g7, _, rfl, h2.r7 j rfl q ?_⟩
      · rw [show j = 6 by omega]
        exact hq s2 ⟨us, A2, W, hp, h2, hR2⟩
      · have kc := hC j q
        obtain ⟨e7, e3⟩ := hR2.2.2.2.2.2 j q
        rw [e7]
        refine g_lp2_m (fun mm y x => ∃ i, x = nI i ∧ i ≤ (cs j).length ∧ y = ckL (31 * ckC (ckW (ckL 7 t) ws) cs j + (nI (cs j).length).toInt64) ((cs j).take i) ∧ mm = 100 - i) ?_ ⟨0, rfl, Nat.zero_le _, rfl, rfl⟩
        rintro mm y x K31 ⟨i, rfl, hi, rfl, rfl⟩ hK31
        refine ⟨_, h2.g7, _, rfl, h2.r7 j rfl q ?_⟩
        rw [e7]
        refine b_le (by omega) (by omega) (fun r => hK20 _ _ _ ⟨j + 1, nI_add j 1, q, ?_, rfl⟩ (by omega)) fun r => ⟨_, h2.g3, _, rfl, h2.r3 (3 * j + i) (by rw [nI_mul, nI_add]) (by omega) (hK31 _ _ _ ⟨i + 1, nI_add i 1, r, ?_, rfl⟩ (by omega))⟩
        · rw [List.take_of_length_le r]
          rfl
        · rw [ckL_1 r, e3 i r]
    · have v : k < ws.length := by omega
      obtain ⟨w, hw, hw8, hwk, hwv⟩ := ord_k hp hs hO v
      have kw := hW.kk hw
      obtain ⟨e5, e6, e2⟩ := hR2.2.2.2.2.1 w hw
      refine ⟨_, h2.g8, _, rfl, h2.r8 k rfl (by omega) ?_⟩
      rw [hw8]
      refine g_lp2_m (fun mm y x => ∃ i, x = nI i ∧ i ≤ (kk us w).length ∧ y = ckL (ckW (ckL 7 t) (ws.take k)) ((kk us w).take i) ∧ mm = 100 - i) ?_ ⟨0, rfl, Nat.zero_le _, rfl, rfl⟩
      rintro mm y x K58 ⟨i, rfl, hi, rfl, rfl⟩ hK58
      refine ⟨_, h2.g5, _, rfl, h2.r5 w rfl (by omega) ?_⟩
      rw [e5]
      refine b_le (by omega) (by omega) (fun r => ⟨_, h2.g6, _, rfl, h2.r6 w rfl (by omega) (hK13 _ _ _ ⟨k + 1, nI_add k 1, v, ?_, rfl⟩ (by omega))⟩) fun r => ⟨_, h2.g2, _, rfl, h2.r2 (10 * w + i) (by rw [nI_mul, nI_add]) (by omega) (hK58 _ _ _ ⟨i + 1, nI_add i 1, r, ?_, rfl⟩ (by omega))⟩
      · rw [List.take_of_length_le r, ckW_1 v, e6, hwk, hwv]
      · rw [ckL_1 r, e2 i r]
  · rw [ckL_1 z, hR.2.2.2.1 k z]
theorem ct_mthrown {Q : Int32 → g_St → Prop} (h : MP st0 st m k0 t ws cs) (hq : Q (nI k0) st) : wp_X2_thrown l E 0 0 [va_rf (some m)] st Q := by
  obtain ⟨us, A, W, hp, h, hR⟩ := h
  exact wk_X2_thrown ⟨_, h.gC, hq⟩
/-- a new one, so far -/
def NI (st0 st : g_St) (m : Nat) (fs : List Value) (L : List g_Ob) : Prop := st.2.1 m = some (.inr (16, fs)) ∧ st.2.2 = m + 1 + L.length ∧ st.1 = st0.1 ∧ (∀ a, a < m → st.2.1 a = st0.2.1 a) ∧ ∀ k o, L[k]? = some o → st.2.1 (m + 1 + k) = some o
theorem NI.ad {fs : List Value} {L : List g_Ob} {mk : Nat → g_Ob} {N cb sb j : Nat} {G : Nat → g_St → Prop} (h : NI st0 st m fs L) (hN : N ≤ 67108864) (h1 : 1 ≤ cb) (h2 : N ≤ sb) (k : ∀ st5, NI st0 st5 m (fs.set j (va_rf (some (m + 1 + L.length)))) (L ++ [mk N]) → G N st5) : ∃ n1 : Nat, nI N = nI n1 ∧ n1 ≤ 67108864 ∧ 1 ≤ cb ∧ n1 ≤ sb ∧ ∀ (q2 : Nat) (st3 : g_St), q2 = st.2.2 → st3 = g_new st (mk n1) → ∃ fs4 : List Value, st3.2.1 m = some (.inr (16, fs4)) ∧ ∀ st5 : g_St, st5 = g_put st3 m (.inr (16, fs4.set j (va_rf (some q2)))) → G n1 st5 := by
  obtain ⟨g1, g2, g3, g4, g5⟩ := h
  refine ⟨N, rfl, hN, h1, h2, fun q2 st3 e1 e2 => ⟨fs, ?_, fun st5 e3 => k st5 ?_⟩⟩
  · rw [e2]
    exact (g_upd_n (by omega)).trans g1
  · rw [e3, e2, e1]
    refine ⟨by rw [g2]; exact g_upd_s, ?_, g3, fun a ha => ?_, fun i o hi => ?_⟩
    · rw [List.length_append]
      show st.2.2 + 1 = _
      rw [g2]
      rfl
    · exact (g_upd_n (by omega)).trans ((g_upd_n (by omega)).trans (g4 a ha))
    · refine (g_upd_n (by omega)).trans ?_
      by_cases q : i < L.length
      · rw [List.getElem?_append_left q] at hi
        exact (g_upd_n (by omega)).trans (g5 i o hi)
      · rw [List.getElem?_append_right (by omega)] at hi
        have hq : i = L.length := by
          have := (List.getElem?_eq_some_iff.mp hi).1
          have this : i - L.length < 1 := this
          omega
        rw [hq, Nat.sub_self] at hi
        have hi : some (mk N) = some o := hi
        rw [← hi, hq, ← g2]
        exact g_upd_s
def cs0 (j : Nat) : List Nat := [97 + j]
theorem ct_minit {cb sb : Nat} {Q : g_St → Prop} (h : st.2.1 m = some (.inr (16, [.int 0, va_rf none, va_rf none, va_rf none, va_rf none, va_rf none, va_rf none, va_rf none, .int 0, .int 0, va_rf none, va_rf none, va_rf none, va_rf none]))) (hz : st.2.2 = m + 1) (hcb : 11 ≤ cb) (hsb : 600 ≤ sb) (hq : ∀ st', MP st' st' m 0 [] [] cs0 → st'.1 = st.1 → st'.2.2 = m + 12 → (∀ a, a < m → st'.2.1 a = st.2.1 a) → Q st') : wp_X2_init l E cb sb [va_rf (some m)] st Q := by
  have h0 : NI st st m [.int 0, va_rf none, va_rf none, va_rf none, va_rf none, va_rf none, va_rf none, va_rf none, .int 0, .int 0, va_rf none, va_rf none, va_rf none, va_rf none] [] := ⟨h, hz, rfl, fun _ _ => rfl, fun k o hk => by simp at hk⟩
  refine wk_X2_init ?_
  refine h0.ad (by omega) (by omega) (by omega) fun s1 h1 => ?_
  refine h1.ad (by omega) (by omega) (by omega) fun s2 h2 => ?_
  refine h2.ad (by omega) (by omega) (by omega) fun s3 h3 => ?_
  refine h3.ad (by omega) (by omega) (by omega) fun s4 h4 => ?_
  refine h4.ad (by omega) (by omega) (by omega) fun s5 h5 => ?_
  refine h5.ad (by omega) (by omega) (by omega) fun s6 h6 => ?_
  refine h6.ad (by omega) (by omega) (by omega) fun s7 h7 => ?_
  refine h7.ad (by omega) (by omega) (by omega) fun s8 h8 => ?_
  refine h8.ad (by omega) (by omega) (by omega) fun s9 h9 => ?_
  refine h9.ad (by omega) (by omega) (by omega) fun s10 h10 => ?_
  refine h10.ad (by omega) (by omega) (by omega) fun s11 h11 => ?_
  obtain ⟨i1, i2, i3, i4, i5⟩ := h11
  have hS : MS s11 s11 m (nI 0) (nI 0) (nI 0) (fun _ _ => 0) (fun _ => 0) := ⟨Sx.rf, i1, i5 0 _ rfl, i5 1 _ rfl, i5 2 _ rfl, i5 3 _ rfl, i5 4 _ rfl, i5 5 _ rfl, i5 6 _ rfl, i5 7 _ rfl, i5 8 _ rfl, i5 10 _ rfl, i5 9 _ rfl⟩
  refine g_lp2_m (fun mm x s => ∃ (j : Nat) (A : Nat → Nat → Int32), x = nI j ∧ j ≤ 6 ∧ MS s11 s m (nI 0) (nI 0) (nI 0) A (fun _ => 0) ∧ (∀ i, i < j → A 7 i = nI 1 ∧ A 3 (3 * i) = nI (97 + i)) ∧ mm = 100 - j) ?_ ⟨0, _, rfl, Nat.zero_le _, hS, fun i hi => absurd hi (Nat.not_lt_zero _), rfl⟩
  rintro mm x s K ⟨j, A, rfl, hj, h, hI, rfl⟩ hK
  refine b_le (by omega) (by omega) (fun z => ?_) fun z => ⟨_, h.g3, _, rfl, h.w3 (3 * j) (by rw [nI_mul]) (by omega) fun s2 h2 => ⟨_, h2.g7, _, rfl, h2.w7 j rfl z fun s3 h3 => hK _ _ _ ⟨j + 1, _, nI_add j 1, z, h3, fun i hi => ?_, rfl⟩ (by omega)⟩⟩
  · refine hq s ⟨[], A, _, List.Perm.refl _, h.s, ⟨Nat.zero_le _, fun c hc => absurd hc List.not_mem_nil⟩, ⟨Nat.zero_le _, fun c hc => absurd hc List.not_mem_nil⟩, fun i hi => ⟨Nat.le_refl 1, (by decide : (1 : Nat) ≤ 3), sgs.one ⟨by omega, by omega⟩⟩, fun i hi => absurd hi (Nat.not_lt_zero _), fun i hi => absurd hi (Nat.not_lt_zero _), fun i hi => ?_⟩ (h.1.1.trans i3) (h.1.2.1.trans i2) fun a ha => ?_
    · obtain ⟨e1, e2⟩ := hI i (by omega)
      refine ⟨e1, fun k hk => ?_⟩
      have hk : k < 1 := hk
      rw [show k = 0 by omega]
      exact e2
    · exact (h.1.2.2.2 a (fun w => by have := w.1; omega)).trans (i4 a ha)
  · rw [nar_sg j z, t_up_s, t_up_n (by decide), t_up_n (by decide), t_up_s]
    by_cases q : i = j
    · rw [q, va_up_self, va_up_self]
      exact ⟨rfl, rfl⟩
    · rw [va_up_ne _ _ q, va_up_ne _ _ (by omega)]
      exact hI i (by omega)
end GMD16
