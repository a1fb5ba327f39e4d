/-! MODEL 14: writing all words -/
section GMD14
variable {us ws : wL} {t : List Nat} {cs : Nat → List Nat} {l : Launch} {E : g_E} {st0 st : g_St} {m k0 : Nat} {Q : Int32 → g_St → Prop} {A : Nat → Nat → Int32} {W : Nat → Int64} {c ln mn : Int32}
theorem MR.cg4 {A' : Nat → Nat → Int32} (hR : MR t us cs A) (hA : ∀ q, q ≠ 4 → A' q = A q) : MR t us cs A' := hR.cg (hA 1 (by decide)) (hA 2 (by decide)) (hA 3 (by decide)) (hA 5 (by decide)) (hA 6 (by decide)) (hA 7 (by decide))
theorem ct_mwritten {w : Nat} (h : MS st0 st m c ln mn A W) (hR : MR t us cs A) (hw : w < us.length) (hq : ∀ (st' : g_St) (A' : Nat → Nat → Int32), MS st0 st' m c ln mn A' W → MR t us cs A' → MD (wr cs (kk us w)) A' → (∀ q, q ≠ 4 → A' q = A q) → Q (nI (wr cs (kk us w)).length) st') : wp_X2_written l E 0 0 [va_rf (some m), .int (nI w)] st Q := by
  have hC := hR.2.2.1
  have kw := hR.2.1.kk hw
  have hn := hR.2.1.1
  refine wk_X2_written ?_
  refine g_lp3_m (fun mm x y s => ∃ (k : Nat) (A' : Nat → Nat → Int32), x = nI (wr cs ((kk us w).take k)).length ∧ y = nI k ∧ k ≤ (kk us w).length ∧ MS st0 s m c ln mn A' W ∧ (∀ q, q ≠ 4 → A' q = A q) ∧ MD (wr cs ((kk us w).take k)) A' ∧ mm = 100 - k) ?_ ⟨0, A, rfl, rfl, Nat.zero_le _, h, fun _ _ => rfl, fun i hi => absurd hi (Nat.not_lt_zero _), rfl⟩
  rintro mm x y s K ⟨k, A', rfl, rfl, hk, hS, hA, hM, rfl⟩ hK
  have hR2 := hR.cg4 hA
  refine ⟨_, hS.g5, _, rfl, hS.r5 w rfl (by omega) ?_⟩
  rw [(hR2.2.2.2.2.1 w hw).1]
  refine b_le (by omega) (by omega) (fun z => ?_) fun z => ?_
  · rw [List.take_of_length_le z] at hM ⊢
    exact hq s A' hS hR2 hM hA
  · obtain ⟨e1, e2⟩ := sg97 kw.2.2.1 z
    have hb := wr_len hC (kw.2.2.1.tk k)
    have hc := hC _ e2
    rw [List.length_take] at hb
    refine ⟨_, hS.g2, _, rfl, hS.r2 (10 * w + k) (by rw [nI_mul, nI_add]) (by omega) ⟨hS.is, ?_⟩⟩
    rw [(hR2.2.2.2.2.1 w hw).2.2 k z, e1]
    refine ct_mputs hS hR2 hM e2 (by omega) fun s2 A2 h2 hR3 hM2 hA2 _ => hK _ _ _ _ ⟨k + 1, A2, ?_, nI_add k 1, z, h2, fun q hq => (hA2 q hq).trans (hA q hq), ?_, rfl⟩ (by omega)
    · rw [wr_tk z, List.length_append]
    · rw [wr_tk z]
      exact hM2
abbrev lgW (cs : Nat → List Nat) (us : wL) : Prop := ∃ u, u ∈ us ∧ 10 < (wr cs u.1).length
def cW (cs : Nat → List Nat) (us : wL) : Nat := us.countP (fun u => decide (u.1.length < (wr cs u.1).length))
def wp (cs : Nat → List Nat) (u : List Nat × Nat) : List Nat × Nat := (wr cs u.1, u.2)
def sp_writeAll (t : List Nat) (ws : wL) (cs : Nat → List Nat) : sR := if ¬ OR cs then (1, nI 0, t, ws, cs) else if lgW cs ws then (2, nI 0, t, ws, cs) else (0, nI (cW cs ws), t, ws.map (wp cs), cs)
theorem lgW_1 {u : List Nat × Nat} : lgW cs (us ++ [u]) ↔ lgW cs us ∨ 10 < (wr cs u.1).length := by
  constructor
  · rintro ⟨v, hv, h⟩
    rcases List.mem_append.mp hv with q | q
    · exact Or.inl ⟨v, q, h⟩
    · rw [List.mem_singleton.mp q] at h
      exact Or.inr h
  · rintro (⟨v, hv, h⟩ | h)
    · exact ⟨v, List.mem_append_left _ hv, h⟩
    · exact ⟨u, List.mem_append_right _ List.mem_cons_self, h⟩
theorem lgW_pm (hp : us.Perm ws) : lgW cs us ↔ lgW cs ws := ⟨fun ⟨u, h1, h2⟩ => ⟨u, hp.mem_iff.mp h1, h2⟩, fun ⟨u, h1, h2⟩ => ⟨u, hp.mem_iff.mpr h1, h2⟩⟩
theorem cW_1 {u : List Nat × Nat} : cW cs (us ++ [u]) = cW cs us + if u.1.length < (wr cs u.1).length then 1 else 0 := by
  unfold cW
  rw [List.countP_append, List.countP_singleton]
  simp
theorem cW_le : cW cs us ≤ us.length := List.countP_le_length
/-- the first w words written -/
def mxW (cs : Nat → List Nat) (us : wL) (w : Nat) : wL := (us.take w).map (wp cs) ++ us.drop w
theorem mxW_len {w : Nat} : (mxW cs us w).length = us.length := by
  unfold mxW
  rw [List.length_append, List.length_map, List.length_take, List.length_drop]
  omega
theorem mxW_q {w i : Nat} (hi : i < us.length) : (mxW cs us w)[i]? = if i < w then (us[i]?).map (wp cs) else us[i]? := by
  unfold mxW
  by_cases z : i < w
  · rw [if_pos z, List.getElem?_append_left (by rw [List.length_map, List.length_take]; omega), List.getElem?_map, List.getElem?_take, if_pos z]
  · rw [if_neg z, List.getElem?_append_right (by rw [List.length_map, List.length_take]; omega), List.getElem?_drop, List.length_map, List.length_take]
    congr 1
    omega
theorem mxW_k {w i : Nat} (hi : i < us.length) : kk (mxW cs us w) i = (if i < w then wr cs (kk us i) else kk us i) ∧ vv (mxW cs us w) i = vv us i := by
  rw [kk_q, vv_q, mxW_q hi, kk_q, vv_q, List.getElem?_eq_getElem hi]
  by_cases z : i < w
  · rw [if_pos z, if_pos z]
    exact ⟨rfl, rfl⟩
  · rw [if_neg z, if_neg z]
    exact ⟨rfl, rfl⟩
theorem mxW_ok {w : Nat} (hC : okC cs) (hW : okW us) (hl : ¬ lgW cs us) : okW (mxW cs us w) := by
  refine ⟨by rw [mxW_len]; exact hW.1, fun u hu => ?_⟩
  obtain ⟨i, hi, e1, e2⟩ := mem_kv hu
  rw [mxW_len] at hi
  obtain ⟨k1, k2⟩ := mxW_k (cs := cs) (w := w) hi
  rw [k1] at e1
  rw [k2] at e2
  have kw := hW.kk hi
  rw [← e1, ← e2]
  split
  · have := wr_len hC kw.2.2.1
    have h10 : ¬ 10 < (wr cs (kk us i)).length := fun q => hl ⟨_, kv_mem hi, q⟩
    exact ⟨by omega, by omega, wr_sgs hC kw.2.2.1, kw.2.2.2⟩
  · exact kw
theorem ct_mwriteAll (h : MP st st m k0 t ws cs) (hq : mok st m Q (sp_writeAll t ws cs)) : wp_X2_writeAll l E 0 0 [va_rf (some m)] st Q := by
  obtain ⟨us, A, W, hp, h, hR⟩ := h
  have hC := hR.2.2.1
  have hW := hR.2.1
  have hn := hW.1
  unfold sp_writeAll at hq
  refine wk_X2_writeAll ?_
  refine g_lp3_m (fun mm x y s => ∃ (w : Nat) (A' : Nat → Nat → Int32), x = tv (lgW cs (us.take w)) ∧ y = nI w ∧ w ≤ us.length ∧ MS st s m (nI k0) (nI t.length) (nI us.length) A' W ∧ (∀ q, q ≠ 4 → A' q = A q) ∧ mm = 100 - w) ?_ ⟨0, A, (tv_0 (fun ⟨u, hu, _⟩ => absurd hu List.not_mem_nil)).symm, rfl, Nat.zero_le _, h, fun _ _ => rfl, rfl⟩
  rintro mm x y s K ⟨w, A', rfl, rfl, hw, hS, hA, rfl⟩ hK
  have hR2 := hR.cg4 hA
  refine ⟨_, hS.gN, b_le (by omega) (by omega) (fun z => ?_) fun z => ?_⟩
  · rw [tkn z]
    refine ⟨hS.is, ct_mareOrderly hS hR2 ⟨rfl, ?_⟩⟩
    refine g_jn1_i (fun x => x = nI (if ¬ OR cs then 1 else if lgW cs us then 2 else 0)) (fun x10 e10 => ?_) fun K11 hK11 => b_vt (fun y => b_tv (fun v => hK11 _ ?_) fun v => hK11 _ ?_) fun y => hK11 _ ?_
    · rw [e10]
      by_cases y : OR cs
      · rw [if_neg (fun q => q y)] at hq ⊢
        by_cases v : lgW cs us
        · rw [if_pos ((lgW_pm hp).mp v)] at hq
          rw [if_pos v]
          exact ⟨hS.is, ct_mfails hS (by omega) fun s1 h1 _ => b_tv (fun _ => hq s1 ⟨us, A', W, hp, h1, hR2⟩) fun q => absurd (by omega) q⟩
        · rw [if_neg (fun q => v ((lgW_pm hp).mpr q))] at hq
          rw [if_neg v]
          refine ⟨hS.is, ct_mfails hS (by omega) fun s1 h1 _ => b_tv (fun q => absurd q (by omega)) fun _ => ?_⟩
          refine g_lp3_m (fun mm x y s => ∃ (w : Nat) (A' : Nat → Nat → Int32), x = nI (cW cs (us.take w)) ∧ y = nI w ∧ w ≤ us.length ∧ MS st s m (nI 0) (nI t.length) (nI us.length) A' W ∧ MR t (mxW cs us w) cs A' ∧ mm = 100 - w) ?_ ⟨0, A', rfl, rfl, Nat.zero_le _, h1, hR2, rfl⟩
          rintro mm x y s K19 ⟨w, A2, rfl, rfl, hw, h2, hR3, rfl⟩ hK19
          refine ⟨_, h2.gN, b_le (by omega) (by omega) (fun z => ?_) fun z => ⟨h2.is, ct_mwritten h2 hR3 (by rw [mxW_len]; exact z) fun s3 A3 h3 hR4 hM hA3 _ => ?_⟩⟩
          · rw [tkn z]
            have e1 : mxW cs us w = us.map (wp cs) := by
              unfold mxW
              rw [tkn z, List.drop_eq_nil_of_le z, List.append_nil]
            rw [e1] at hR3
            have e2 : cW cs us = cW cs ws := hp.countP_eq _
            rw [e2]
            exact hq s ⟨us.map (wp cs), A2, W, hp.map _, by rw [List.length_map]; exact h2, hR3⟩
          · have kw0 := (mxW_k (cs := cs) (w := w) z).1
            rw [if_neg (Nat.lt_irrefl _)] at kw0
            rw [kw0] at hM ⊢
            have kw := hW.kk z
            have hb := wr_len hC kw.2.2.1
            have hsg := wr_sgs hC kw.2.2.1
            have h10 : ¬ 10 < (wr cs (kk us w)).length := fun q => v ⟨_, kv_mem z, q⟩
            refine ⟨_, h3.g5, _, rfl, h3.r5 w rfl (by omega) ?_⟩
            have e5 := (hR4.2.2.2.2.1 w (by rw [mxW_len]; exact z)).1
            rw [kw0] at e5
            rw [e5]
            refine g_jn1_i (fun x => x = nI (cW cs (us.take (w + 1)))) (fun x31 e31 => ?_) fun K32 hK32 => b_le (by omega) (by omega) (fun q => hK32 _ ?_) fun q => hK32 _ ?_
            · refine ⟨_, h3.g5, _, rfl, h3.w5 w rfl (by omega) fun s4 h4 => ?_⟩
              refine g_lp2_m (fun mm x s => ∃ (k : Nat) (A' : Nat → Nat → Int32), x = nI k ∧ k ≤ (wr cs (kk us w)).length ∧ MS st s m (nI 0) (nI t.length) (nI us.length) A' W ∧ (∀ q, q ≠ 2 → q ≠ 5 → A' q = A3 q) ∧ A' 5 = va_up (A3 5) w (nI (wr cs (kk us w)).length) ∧ (∀ i, A' 2 i = if 10 * w ≤ i ∧ i < 10 * w + k then nI ((wr cs (kk us w)).getD (i - 10 * w) 0) else A3 2 i) ∧ mm = 100 - k) ?_ ⟨0, _, rfl, Nat.zero_le _, h4, fun q q1 q2 => t_up_n q2, t_up_s, fun i => by rw [t_up_n (by decide), if_neg (by omega)], rfl⟩
              rintro mm x s5 K42 ⟨k, A4, rfl, hk, h5, hA4, hA45, hA42, rfl⟩ hK42
              refine b_le (by omega) (by omega) (fun q => ?_) fun q => ⟨_, h5.g2, _, h5.g4, _, rfl, h5.r4 k rfl (by omega) ⟨_, rfl, h5.w2 (10 * w + k) (by rw [nI_mul, nI_add]) (by omega) fun s6 h6 => ?_⟩⟩
              · have ek : k = (wr cs (kk us w)).length := by omega
                rw [ek] at hA42
                refine hK19 _ _ _ _ ⟨w + 1, A4, e31, nI_add w 1, z, h5, ?_, rfl⟩ (by omega)
                obtain ⟨r0, r1, r2, r3, r4, r5⟩ := hR4
                refine ⟨r0, mxW_ok hC hW v, r2, ?_, fun i hi => ?_, ?_⟩
                · rw [hA4 1 (by decide) (by decide)]
                  exact r3
                · rw [mxW_len] at hi
                  have e := r4 i (by rw [mxW_len]; exact hi)
                  obtain ⟨k1, k2⟩ := mxW_k (cs := cs) (w := w) hi
                  obtain ⟨k3, k4⟩ := mxW_k (cs := cs) (w := w + 1) hi
                  rw [k1, k2] at e
                  rw [k3, k4, hA45, hA4 6 (by decide) (by decide)]
                  have kl : (if i < w then wr cs (kk us i) else kk us i).length ≤ 10 := by
                    rw [← k1]
                    exact ((mxW_ok hC hW v).kk (by rw [mxW_len]; exact hi)).2.1
                  by_cases q2 : i = w
                  · rw [q2, if_pos (Nat.lt_succ_self _), va_up_self]
                    rw [q2] at e
                    refine ⟨rfl, e.2.1, fun j hj => ?_⟩
                    rw [hA42, if_pos ⟨by omega, by omega⟩, show 10 * w + j - 10 * w = j by omega]
                  · have e9 : (if i < w + 1 then wr cs (kk us i) else kk us i) = if i < w then wr cs (kk us i) else kk us i := by
                      by_cases q3 : i < w
                      · rw [if_pos q3, if_pos (by omega)]
                      · rw [if_neg q3, if_neg (by omega)]
                    rw [va_up_ne _ _ q2, e9]
                    refine ⟨e.1, e.2.1, fun j hj => ?_⟩
                    rw [hA42, if_neg (by omega)]
                    exact e.2.2 j hj
                · rw [hA4 7 (by decide) (by decide), hA4 3 (by decide) (by decide)]
                  exact r5
              · have b1 := hsg.lt k
                refine hK42 _ _ _ ⟨k + 1, _, nI_add k 1, q, h6, fun q q1 q2 => by rw [t_up_n q1]; exact hA4 q q1 q2, by rw [t_up_n (by decide)]; exact hA45, fun i => ?_, rfl⟩ (by omega)
                rw [t_up_s, hA4 4 (by decide) (by decide), hM k q, mch _ (by omega)]
                by_cases q2 : i = 10 * w + k
                · rw [q2, va_up_self, if_pos ⟨by omega, by omega⟩, show 10 * w + k - 10 * w = k by omega]
                · rw [va_up_ne _ _ q2, hA42]
                  by_cases q3 : 10 * w ≤ i ∧ i < 10 * w + k
                  · rw [if_pos q3, if_pos ⟨q3.1, by omega⟩]
                  · rw [if_neg q3, if_neg (by omega)]
            · rw [tk1 z, cW_1, if_neg (show ¬ (kk us w).length < (wr cs (kk us w)).length by omega)]
              rfl
            · rw [tk1 z, cW_1, if_pos q, nI_add]
      · rw [if_pos y] at hq ⊢
        exact ⟨hS.is, ct_mfails hS (by omega) fun s1 h1 _ => b_tv (fun _ => hq s1 ⟨us, A', W, hp, h1, hR2⟩) fun q => absurd (by omega) q⟩
    · rw [if_neg (fun q => q y), if_pos v]
    · rw [if_neg (fun q => q y), if_neg v]
    · rw [if_pos y]
  · have kw := hW.kk z
    have hb := wr_len hC kw.2.2.1
    refine ⟨hS.is, ct_mwritten hS hR2 z fun s2 A2 h2 hR3 hM hA2 _ => ?_⟩
    refine g_jn1_i (fun x => x = tv (10 < (wr cs (kk us w)).length)) (fun x e => ?_) fun K71 hK71 => b_le (by omega) (by omega) (fun q => hK71 _ (tv_0 (by omega)).symm) fun q => hK71 _ (tv_1 q).symm
    rw [e, tv_or]
    refine hK _ _ _ _ ⟨w + 1, A2, ?_, nI_add w 1, z, h2, fun q hq => (hA2 q hq).trans (hA q hq), rfl⟩ (by omega)
    rw [tk1 z]
    exact tv_cg lgW_1.symm
end GMD14
