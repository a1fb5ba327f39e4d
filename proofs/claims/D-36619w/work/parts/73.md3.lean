/-! MODEL 3: going through the words -/
section GMD3
variable {l : Launch} {E : g_E} {st0 st : g_St} {m : Nat} {c ln mn : Int32} {A : Nat → Nat → Int32} {W : Nat → Int64} {t : List Nat} {us : wL} {cs : Nat → List Nat}
theorem tk1 {us : wL} {w : Nat} (h : w < us.length) : us.take (w + 1) = us.take w ++ [(kk us w, vv us w)] := by
  rw [List.take_add_one, List.getElem?_eq_getElem h]
  congr 1
  show [us[w]] = _
  rw [kk_q, vv_q, List.getElem?_eq_getElem h]
  rfl
theorem tkn {us : wL} {w : Nat} (h : us.length ≤ w) : us.take w = us := List.take_of_length_le h
theorem im1 (k : Nat) : nI (k + 1) + (-1) = nI k := by
  rw [show ((-1 : Int32)) = - nI 1 by decide, ← Int32.sub_eq_add_neg]
  exact nI_pred k
theorem i_neg1 : ¬ (0 : Int32) ≤ -1 := by decide
theorem i_pos {n : Nat} (h : n < 2 ^ 31) : (0 : Int32) ≤ nI n := nI_pos' h
/-- the word that the text is -/
theorem ct_mown {Q : Int32 → g_St → Prop} (h : MS st0 st m c (nI t.length) (nI us.length) A W) (hR : MR t us cs A) (hq1 : ∀ w, w < us.length → kk us w = t → Q (nI w) st) (hq0 : (∀ w, w < us.length → kk us w ≠ t) → Q (-1) st) : wp_X2_own l E 0 0 [va_rf (some m)] st Q := by
  have hn := hR.2.1.1
  refine wk_X2_own ?_
  refine g_lp1_m (fun mm x => ∃ w, x = nI w ∧ w ≤ us.length ∧ (∀ v, v < w → kk us v ≠ t) ∧ mm = 100 - w) ?_ ⟨0, rfl, Nat.zero_le _, fun v hv => absurd hv (Nat.not_lt_zero _), rfl⟩
  rintro mm x K ⟨w, rfl, hw, hv, rfl⟩ hK
  refine ⟨_, h.gN, b_le (by omega) (by omega) (fun z => hq0 fun v hv2 => hv v (by omega)) fun z => ⟨h.is, ct_mbeside h hR z fun y hy => ⟨rfl, fun e => ?_, fun e => hq1 w z (hy.2.mp e)⟩⟩⟩
  refine hK _ _ ⟨w + 1, nI_add w 1, z, fun v hv2 => ?_, rfl⟩ (by omega)
  rcases Nat.lt_succ_iff_lt_or_eq.mp hv2 with q | q
  · exact hv v q
  · rw [q]
    exact fun z2 => e (hy.2.mpr z2)
/-- how many words are less than t -/
def cnt (t : List Nat) (us : wL) : Nat := us.countP (fun u => decide (u.1 < t))
theorem cnt_1 {t : List Nat} {u : List Nat × Nat} {us : wL} : cnt t (us ++ [u]) = cnt t us + if u.1 < t then 1 else 0 := by
  unfold cnt
  rw [List.countP_append, List.countP_singleton]
  simp
theorem cnt_le {t : List Nat} {us : wL} : cnt t us ≤ us.length := List.countP_le_length
theorem ct_mrankOf {w : Nat} {Q : Int32 → g_St → Prop} (h : MS st0 st m c ln (nI us.length) A W) (hR : MR t us cs A) (hw : w < us.length) (hq : Q (nI (cnt (kk us w) us)) st) : wp_X2_rankOf l E 0 0 [va_rf (some m), .int (nI w)] st Q := by
  have hn := hR.2.1.1
  refine wk_X2_rankOf ?_
  refine g_lp2_m (fun mm x y => ∃ v, y = nI v ∧ v ≤ us.length ∧ x = nI (cnt (kk us w) (us.take v)) ∧ mm = 100 - v) ?_ ⟨0, rfl, Nat.zero_le _, rfl, rfl⟩
  rintro mm x y K ⟨v, rfl, hv, rfl, rfl⟩ hK
  refine ⟨_, h.gN, b_le (by omega) (by omega) (fun z => ?_) fun z => ⟨h.is, ct_misLess h hR z hw ⟨rfl, ?_⟩⟩⟩
  · rw [tkn z]
    exact hq
  · refine g_jn1_i (fun x => x = nI (cnt (kk us w) (us.take (v + 1)))) (fun x e => hK _ _ _ ⟨v + 1, nI_add v 1, z, e, rfl⟩ (by omega)) fun K10 hK10 => ?_
    refine b_tv (fun y => hK10 _ ?_) fun y => hK10 _ ?_
    · rw [tk1 z, cnt_1, nI_add]
      show _ = nI (_ + if kk us v < kk us w then 1 else 0)
      rw [if_pos y]
    · rw [tk1 z, cnt_1]
      show _ = nI (_ + if kk us v < kk us w then 1 else 0)
      rw [if_neg y]
      rfl
/-- ranks and words by ranks -/
def ORD (us : wL) (n : Nat) (A : Nat → Nat → Int32) : Prop := ∀ w, w < n → A 9 w = nI (cnt (kk us w) us) ∧ A 8 (cnt (kk us w) us) = nI w
theorem cnt_lt {us : wL} {w : Nat} (hw : w < us.length) : cnt (kk us w) us < us.length := by
  have h1 : cnt (kk us w) us ≤ us.length := cnt_le
  rcases Nat.lt_or_ge (cnt (kk us w) us) us.length with h | h
  · exact h
  · exfalso
    have e : us.countP (fun u => decide (u.1 < kk us w)) = us.length := Nat.le_antisymm h1 h
    rw [List.countP_eq_length] at e
    obtain ⟨u, hu, e1, _⟩ := kk_mem hw
    have := e u hu
    rw [e1] at this
    exact ll_irr _ (of_decide_eq_true this)
theorem cnt_c {t : List Nat} {u : List Nat × Nat} {us : wL} : cnt t (u :: us) = cnt t us + if u.1 < t then 1 else 0 := by
  unfold cnt
  rw [List.countP_cons]
  simp
theorem cnt_mono {us : wL} {a b : Nat} (ha : a < us.length) (hab : kk us a < kk us b) : cnt (kk us a) us < cnt (kk us b) us := by
  have : ∀ vs : wL, (∃ u ∈ vs, u.1 = kk us a) → cnt (kk us a) vs < cnt (kk us b) vs := by
    intro vs
    induction vs with
    | nil => rintro ⟨u, hu, _⟩; exact absurd hu List.not_mem_nil
    | cons v vs ih =>
      rintro ⟨u, hu, e⟩
      have mono : cnt (kk us a) vs ≤ cnt (kk us b) vs := List.countP_mono_left fun x _ hx => by
        have := of_decide_eq_true hx
        exact decide_eq_true (ll_tr this hab)
      rw [cnt_c, cnt_c]
      rcases List.mem_cons.mp hu with q | q
      · subst q
        rw [e, if_neg (ll_irr _), if_pos hab]
        omega
      · have k := ih ⟨u, q, e⟩
        by_cases z : v.1 < kk us a
        · rw [if_pos z, if_pos (ll_tr z hab)]
          omega
        · rw [if_neg z]
          omega
  obtain ⟨u, hu, e, _⟩ := kk_mem ha
  exact this us ⟨u, hu, e⟩
def dis (us : wL) : Prop := ∀ a b, a < us.length → b < us.length → kk us a = kk us b → a = b
theorem cnt_inj {us : wL} (hd : dis us) {a b : Nat} (ha : a < us.length) (hb : b < us.length) (e : cnt (kk us a) us = cnt (kk us b) us) : a = b := by
  rcases ll_tri (kk us a) (kk us b) with h | h | h
  · have := cnt_mono ha h
    omega
  · exact hd a b ha hb h
  · have := cnt_mono hb h
    omega
theorem ct_morders {Q : g_St → Prop} (h : MS st0 st m c ln (nI us.length) A W) (hR : MR t us cs A) (hd : dis us) (hq : ∀ (st' : g_St) (A' : Nat → Nat → Int32), MS st0 st' m c ln (nI us.length) A' W → MR t us cs A' → ORD us us.length A' → (∀ k, k ≠ 8 → k ≠ 9 → A' k = A k) → Q st') : wp_X2_orders l E 0 0 [va_rf (some m)] st Q := by
  have hn := hR.2.1.1
  refine wk_X2_orders ?_
  refine g_lp2_m (fun mm x s => ∃ w A', x = nI w ∧ w ≤ us.length ∧ MS st0 s m c ln (nI us.length) A' W ∧ MR t us cs A' ∧ ORD us w A' ∧ (∀ k, k ≠ 8 → k ≠ 9 → A' k = A k) ∧ mm = 100 - w) ?_ ⟨0, A, rfl, Nat.zero_le _, h, hR, fun v hv => absurd hv (Nat.not_lt_zero _), fun _ _ _ => rfl, rfl⟩
  rintro mm x s K ⟨w, A', rfl, hw, hS, hR', hO, hA, rfl⟩ hK
  refine ⟨_, hS.gN, b_le (by omega) (by omega) (fun z => hq s A' hS hR' (by rw [show us.length = w by omega]; exact hO) hA) fun z => ⟨_, hS.g9, hS.is, ct_mrankOf hS hR' z ⟨rfl, _, rfl, hS.w9 w rfl (by omega) fun s1 h1 => ⟨_, h1.g8, _, h1.g9, _, rfl, h1.r9 w rfl (by omega) ⟨_, rfl, ?_⟩⟩⟩⟩⟩
  have cl := cnt_lt z
  rw [show (t_up A' 9 (va_up (A' 9) w (nI (cnt (kk us w) us)))) 9 w = nI (cnt (kk us w) us) by rw [t_up_s, va_up_self]]
  refine h1.w8 (cnt (kk us w) us) rfl (by omega) fun s2 h2 => hK _ _ _ ⟨w + 1, _, nI_add w 1, z, h2, (hR'.cg (by rw [t_up_n (by decide), t_up_n (by decide)]) (by rw [t_up_n (by decide), t_up_n (by decide)]) (by rw [t_up_n (by decide), t_up_n (by decide)]) (by rw [t_up_n (by decide), t_up_n (by decide)]) (by rw [t_up_n (by decide), t_up_n (by decide)]) (by rw [t_up_n (by decide), t_up_n (by decide)])), fun v hv => ?_, fun k k8 k9 => by rw [t_up_n k8, t_up_n k9]; exact hA k k8 k9, rfl⟩ (by omega)
  rw [t_up_n (show (9 : Nat) ≠ 8 by decide), t_up_s, t_up_s, t_up_n (show (8 : Nat) ≠ 9 by decide)]
  rcases Nat.lt_succ_iff_lt_or_eq.mp hv with q | q
  · have k := hO v q
    refine ⟨by rw [va_up_ne _ _ (by omega)]; exact k.1, ?_⟩
    rw [va_up_ne _ _ (fun e => by have := cnt_inj hd (by omega) z e; omega)]
    exact k.2
  · rw [q]
    exact ⟨va_up_self _ _ _, va_up_self _ _ _⟩
theorem mch : ∀ c : Nat, c < 128 → vp_nar .char (nI c) = nI c := by decide +kernel
theorem ct_mbecomes {w : Nat} {Q : g_St → Prop} (h : MS st0 st m c (nI t.length) mn A W) (hR : MR t us cs A) (hw : w < us.length) (hq : ∀ (st' : g_St) (A' : Nat → Nat → Int32), MS st0 st' m c (nI (kk us w).length) mn A' W → MR (kk us w) us cs A' → (∀ k, k ≠ 1 → A' k = A k) → Q st') : wp_X2_becomes l E 0 0 [va_rf (some m), .int (nI w)] st Q := by
  obtain ⟨hT, hW, hC, r1, r2, r3⟩ := hR
  have kw := hW.kk hw
  obtain ⟨e5, e6, e2⟩ := r2 w hw
  have hn := hW.1
  refine wk_X2_becomes ⟨_, h.g5, _, rfl, h.r5 w rfl (by omega) ?_⟩
  rw [e5]
  refine h.pL _ fun s1 h1 => ?_
  refine g_lp2_m (fun mm x s => ∃ k A', x = nI k ∧ k ≤ (kk us w).length ∧ MS st0 s m c (nI (kk us w).length) mn A' W ∧ (∀ j, j < k → A' 1 j = nI ((kk us w).getD j 0)) ∧ (∀ k, k ≠ 1 → A' k = A k) ∧ mm = 100 - k) ?_ ⟨0, A, rfl, Nat.zero_le _, h1, fun v hv => absurd hv (Nat.not_lt_zero _), fun _ _ => rfl, rfl⟩
  rintro mm x s K ⟨k, A', rfl, hk, hS, hA1, hA, rfl⟩ hK
  refine ⟨_, hS.gL, b_le (by omega) (by omega) (fun z => hq s A' hS ⟨⟨by omega, kw.2.2.1⟩, hW, hC, fun j hj => hA1 j (by omega), ?_, ?_⟩ hA) fun z => ⟨_, hS.g1, _, hS.g2, _, rfl, hS.r2 (10 * w + k) (by rw [nI_mul, nI_add]) (by omega) ⟨_, rfl, ?_⟩⟩⟩
  · rw [hA 5 (by decide), hA 6 (by decide), hA 2 (by decide)]
    exact r2
  · rw [hA 7 (by decide), hA 3 (by decide)]
    exact r3
  · have b1 := kw.2.2.1.lt k
    rw [hA 2 (by decide), e2 k z, mch _ (by omega)]
    refine hS.w1 k rfl (by omega) fun s2 h2 => hK _ _ _ ⟨k + 1, _, nI_add k 1, z, h2, fun j hj => ?_, fun q hq => by rw [t_up_n hq]; exact hA q hq, rfl⟩ (by omega)
    rw [t_up_s]
    rcases Nat.lt_succ_iff_lt_or_eq.mp hj with q | q
    · rw [va_up_ne _ _ (by omega)]
      exact hA1 j q
    · rw [q, va_up_self]
/-- the last word comes into the place of w -/
def gz (us : wL) (w : Nat) : wL := (us.set w (kk us (us.length - 1), vv us (us.length - 1))).take (us.length - 1)
theorem gz_len {us : wL} {w : Nat} : (gz us w).length = us.length - 1 := by
  unfold gz
  rw [List.length_take, List.length_set]
  omega
theorem gz_q {us : wL} {w v : Nat} (hw : w < us.length) (hv : v < us.length - 1) : (gz us w)[v]? = if v = w then some (kk us (us.length - 1), vv us (us.length - 1)) else us[v]? := by
  unfold gz
  rw [List.getElem?_take, if_pos hv, List.getElem?_set]
  by_cases e : w = v
  · rw [if_pos e, if_pos e.symm, if_pos hw]
  · rw [if_neg e, if_neg (Ne.symm e)]
theorem gz_k {us : wL} {w v : Nat} (hw : w < us.length) (hv : v < us.length - 1) : kk (gz us w) v = (if v = w then kk us (us.length - 1) else kk us v) ∧ vv (gz us w) v = (if v = w then vv us (us.length - 1) else vv us v) := by
  rw [kk_q, vv_q, gz_q hw hv]
  split
  · exact ⟨rfl, rfl⟩
  · rw [← kk_q, ← vv_q]
    exact ⟨rfl, rfl⟩
theorem gz_ok {us : wL} {w : Nat} (h : okW us) (hw : w < us.length) : okW (gz us w) := by
  refine ⟨by rw [gz_len]; have := h.1; omega, fun u hu => ?_⟩
  unfold gz at hu
  have hu := List.mem_of_mem_take hu
  rcases List.mem_or_eq_of_mem_set hu with q | q
  · exact h.2 u q
  · rw [q]
    exact h.kk (by omega)
theorem ct_mgoes {w : Nat} {Q : g_St → Prop} (h : MS st0 st m c ln (nI us.length) A W) (hR : MR t us cs A) (hw : w < us.length) (hq : ∀ (st' : g_St) (A' : Nat → Nat → Int32), MS st0 st' m c ln (nI (us.length - 1)) A' W → MR t (gz us w) cs A' → Q st') : wp_X2_goes l E 0 0 [va_rf (some m), .int (nI w)] st Q := by
  obtain ⟨hT, hW, hC, r1, r2, r3⟩ := hR
  have hn := hW.1
  obtain ⟨e5, e6, e2⟩ := r2 (us.length - 1) (by omega)
  have kl := hW.kk (w := us.length - 1) (by omega)
  refine wk_X2_goes ⟨_, h.gN, ?_⟩
  rw [su_sub (by omega)]
  refine h.pN _ fun s1 h1 => ⟨_, h1.g5, _, h1.g5, _, h1.gN, _, rfl, h1.r5 (us.length - 1) rfl (by omega) ⟨_, rfl, h1.w5 w rfl (by omega) fun s2 h2 => ⟨_, h2.g6, _, h2.g6, _, h2.gN, _, rfl, h2.r6 (us.length - 1) rfl (by omega) ⟨_, rfl, h2.w6 w rfl (by omega) fun s3 h3 => ?_⟩⟩⟩⟩
  refine g_lp2_m (fun mm x s => ∃ k A', x = nI k ∧ k ≤ 10 ∧ MS st0 s m c ln (nI (us.length - 1)) A' W ∧ (∀ j, (10 * w ≤ j ∧ j < 10 * w + k → A' 2 j = vp_nar .char (A 2 (10 * (us.length - 1) + (j - 10 * w)))) ∧ (¬ (10 * w ≤ j ∧ j < 10 * w + k) → A' 2 j = A 2 j)) ∧ A' 5 = va_up (A 5) w (A 5 (us.length - 1)) ∧ A' 6 = va_up (A 6) w (A 6 (us.length - 1)) ∧ A' 1 = A 1 ∧ A' 3 = A 3 ∧ A' 7 = A 7 ∧ mm = 100 - k) ?_ ⟨0, _, rfl, Nat.zero_le _, h3, fun j => ⟨fun z => by omega, fun _ => ?_⟩, ?_, ?_, ?_, ?_, ?_, rfl⟩
  rotate_left
  · rw [t_up_n (by decide), t_up_n (by decide)]
  · rw [t_up_n (by decide), t_up_s]
  · rw [t_up_s, t_up_n (by decide)]
  · rw [t_up_n (by decide), t_up_n (by decide)]
  · rw [t_up_n (by decide), t_up_n (by decide)]
  · rw [t_up_n (by decide), t_up_n (by decide)]
  rintro mm x s K ⟨k, A', rfl, hk, hS, hA2, hA5, hA6, hA1, hA3, hA7, rfl⟩ hK
  refine b_le (by omega) (by omega) (fun z => ?_) fun z => ⟨_, hS.g2, _, hS.g2, _, hS.gN, _, rfl, hS.r2 (10 * (us.length - 1) + k) (by rw [nI_mul, nI_add]) (by omega) ⟨_, rfl, ?_⟩⟩
  · have hk10 : k = 10 := by omega
    subst hk10
    refine hq s A' hS ⟨hT, gz_ok hW hw, hC, by rw [hA1]; exact r1, fun v hv => ?_, by rw [hA7, hA3]; exact r3⟩
    rw [gz_len] at hv
    have gk := gz_k hw hv
    rw [gk.1, gk.2, hA5, hA6]
    by_cases e : v = w
    · rw [if_pos e, if_pos e, e, va_up_self, va_up_self]
      refine ⟨e5, e6, fun j hj => ?_⟩
      rw [(hA2 (10 * w + j)).1 (by omega), show 10 * (us.length - 1) + (10 * w + j - 10 * w) = 10 * (us.length - 1) + j by omega, e2 j hj]
      have := kl.2.2.1.lt j
      exact mch _ (by omega)
    · rw [if_neg e, if_neg e, va_up_ne _ _ e, va_up_ne _ _ e]
      obtain ⟨q5, q6, q2⟩ := r2 v (by omega)
      refine ⟨q5, q6, fun j hj => ?_⟩
      have := hW.kk (w := v) (by omega)
      rw [(hA2 (10 * v + j)).2 (by omega)]
      exact q2 j hj
  · have sq : 10 * (us.length - 1) + k < 240 := by omega
    refine hS.w2 (10 * w + k) (by rw [nI_mul, nI_add]) (by omega) fun s4 h4 => hK _ _ _ ⟨k + 1, _, nI_add k 1, by omega, h4, fun j => ?_, by rw [t_up_n (by decide)]; exact hA5, by rw [t_up_n (by decide)]; exact hA6, by rw [t_up_n (by decide)]; exact hA1, by rw [t_up_n (by decide)]; exact hA3, by rw [t_up_n (by decide)]; exact hA7, rfl⟩ (by omega)
    rw [t_up_s, (hA2 (10 * (us.length - 1) + k)).2 (by omega)]
    by_cases e : j = 10 * w + k
    · rw [e, va_up_self, show 10 * w + k - 10 * w = k by omega]
      exact ⟨fun _ => rfl, fun z => absurd ⟨by omega, by omega⟩ z⟩
    · rw [va_up_ne _ _ e]
      exact ⟨fun z => (hA2 j).1 (by omega), fun z => (hA2 j).2 (by omega)⟩
end GMD3
