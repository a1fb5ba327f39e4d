/-! MODEL 7: operations on words -/
section GMD7
variable {us ws : wL} {t : List Nat} {cs : Nat → List Nat} {l : Launch} {E : g_E} {st0 st : g_St} {m k0 : Nat} {Q : Int32 → g_St → Prop} {A : Nat → Nat → Int32} {W : Nat → Int64} {c ln mn : Int32}
theorem okW.pm (hp : us.Perm ws) (h : okW us) : okW ws := ⟨by rw [← hp.length_eq]; exact h.1, fun u hu => h.2 u (hp.mem_iff.mpr hu)⟩
theorem nle_neg {X Y : Prop} (h : Y) : ((0 : Int32) ≤ -1 → X) ∧ (¬ (0 : Int32) ≤ -1 → Y) := ⟨fun w => absurd w i_neg1, fun _ => h⟩
theorem le_pos {n : Nat} {X Y : Prop} (hn : n < 2 ^ 31) (h : X) : ((0 : Int32) ≤ nI n → X) ∧ (¬ (0 : Int32) ≤ nI n → Y) := ⟨fun _ => h, fun w => absurd (i_pos hn) w⟩
/-- a word's place, or -1 -/
def pl (us : wL) (t : List Nat) (x : Int32) : Prop := (∃ w, w < us.length ∧ kk us w = t ∧ x = nI w) ∨ x = -1 ∧ ∀ w, w < us.length → kk us w ≠ t
theorem ct_mown1 (h : MS st0 st m c (nI t.length) (nI us.length) A W) (hR : MR t us cs A) (hq : ∀ x, pl us t x → Q x st) : wp_X2_own l E 0 0 [va_rf (some m)] st Q :=
  ct_mown h hR (fun w hw e => hq _ (Or.inl ⟨w, hw, e, rfl⟩)) fun hno => hq _ (Or.inr ⟨rfl, hno⟩)
/-- found in the sorted words -/
theorem pl_f {w : Nat} (hp : us.Perm ws) (hs : Sd ws) (hw : w < us.length) (e : kk us w = t) : cL ws t < dL ws t ∧ cL ws t < ws.length ∧ vv ws (cL ws t) = vv us w := by
  have k := pm_1 hp hs hw
  rw [e] at k
  exact ⟨k.2.1, k.1, k.2.2.2⟩
theorem pl_n (hp : us.Perm ws) (hs : Sd ws) (h : ∀ w, w < us.length → kk us w ≠ t) : ¬ cL ws t < dL ws t := fun w => by
  obtain ⟨i, hi, e⟩ := (fnd hs).mp w
  obtain ⟨w, hw, e1, _⟩ := pm_2 hp hi
  exact h w hw (e1.trans e)
def sp_put (p : Int32) (t : List Nat) (ws : wL) (cs : Nat → List Nat) : sR := if p < nI 0 ∨ nI 999 < p then (1, nI 0, t, ws, cs) else if t.length < 1 ∨ 10 < t.length then (2, nI 0, t, ws, cs) else if cL ws t < dL ws t then (0, nI (vv ws (cL ws t)), t, insS t p.toNatClampNeg ws, cs) else if ws.length = 24 then (3, nI 0, t, ws, cs) else (0, -1, t, insS t p.toNatClampNeg ws, cs)
theorem put_q {us : wL} {w v i : Nat} (hi : i < us.length) : (us.set w (t, v))[i]? = if i = w then some (t, v) else us[i]? := by
  rw [List.getElem?_set]
  by_cases e : w = i
  · rw [if_pos e, if_pos e.symm, if_pos (by omega)]
  · rw [if_neg e, if_neg (Ne.symm e)]
theorem ct_mput {p : Int32} (h : MP st st m k0 t ws cs) (hs : Sd ws) (hq : mok st m Q (sp_put p t ws cs)) : wp_X2_put l E 0 0 [va_rf (some m), .int p] st Q := by
  obtain ⟨us, A, W, hp, h, hR⟩ := h
  have hR0 := hR
  obtain ⟨hT, hW, hC, r1, r2, r3⟩ := hR
  have hT1 := hT.1
  have hn := hW.1
  have hlen := hp.length_eq
  unfold sp_put at hq
  refine wk_X2_put ⟨h.is, ct_mown1 h hR0 fun x1 hx1 => ⟨rfl, ct_min ⟨rfl, ?_⟩⟩⟩
  refine g_jn1_i (fun y => ∃ k : Nat, y = nI k ∧ k < 10 ∧ (0 < k → mok st m Q (k, nI 0, t, ws, cs)) ∧ (k = 0 → ¬ (p < nI 0 ∨ nI 999 < p) ∧ ¬ (t.length < 1 ∨ 10 < t.length) ∧ (x1 = -1 → us.length ≠ 24))) (fun y H => ?_) fun K4 hK4 => ?_
  rotate_left
  · by_cases z : p < nI 0 ∨ nI 999 < p
    · rw [if_pos z] at hq
      rw [tv_0 (fun w => w z)]
      exact ⟨fun w => absurd (by decide) w, fun _ => hK4 _ ⟨1, rfl, by omega, fun _ => hq, fun w => by omega⟩⟩
    · rw [if_neg z] at hq
      rw [tv_1 z]
      refine ⟨fun _ => ⟨_, h.gL, ct_min ⟨rfl, ?_⟩⟩, fun w => absurd w (by decide)⟩
      have e : (nI t.length < nI 1 ∨ nI 10 < nI t.length) ↔ (t.length < 1 ∨ 10 < t.length) := by
        rw [nI_ltI (by omega) (by omega), nI_ltI (by omega) (by omega)]
      rw [tv_cg (not_congr e)]
      by_cases z2 : t.length < 1 ∨ 10 < t.length
      · rw [if_pos z2] at hq
        rw [tv_0 (fun w => w z2)]
        exact ⟨fun w => absurd (by decide) w, fun _ => hK4 _ ⟨2, rfl, by omega, fun _ => hq, fun w => by omega⟩⟩
      · rw [if_neg z2] at hq
        rw [tv_1 z2]
        refine ⟨fun _ => ?_, fun w => absurd w (by decide)⟩
        rcases hx1 with ⟨w, hw, hwt, rfl⟩ | ⟨rfl, hno⟩
        · show _ ∧ _
          exact le_pos (by omega) (hK4 _ ⟨0, rfl, by omega, fun w => by omega, fun _ => ⟨z, z2, fun e => absurd (show (0 : Int32) ≤ -1 by rw [← e]; exact i_pos (by omega)) i_neg1⟩⟩)
        · by_cases z3 : us.length = 24
          · rw [if_neg (pl_n hp hs hno), if_pos (by omega)] at hq
            show _ ∧ _
            exact nle_neg ⟨_, h.gN, b_ne (by omega) (by omega) (fun _ => hK4 _ ⟨3, rfl, by omega, fun _ => hq, fun w => by omega⟩) fun w => absurd z3 w⟩
          · show _ ∧ _
            exact nle_neg ⟨_, h.gN, b_ne (by omega) (by omega) (fun w => absurd w z3) fun _ => hK4 _ ⟨0, rfl, by omega, fun w => by omega, fun _ => ⟨z, z2, fun _ => z3⟩⟩⟩
  obtain ⟨k, rfl, hk, hk1, hk2⟩ := H
  refine ⟨h.is, ct_mfails h (by omega) fun s1 h1 _ => b_tv (fun w => hk1 w s1 ⟨us, A, W, hp, h1, hR0⟩) fun w => ?_⟩
  obtain ⟨z1, z2, z3⟩ := hk2 (by omega)
  have hk0 : k = 0 := by omega
  subst hk0
  rw [if_neg z1, if_neg z2] at hq
  obtain ⟨v, hv, rfl⟩ := i_in (fun w => z1 (Or.inl w)) (fun w => z1 (Or.inr w)) (by omega)
  rw [nI_clamp (by omega)] at hq
  rcases hx1 with ⟨w, hw, hwt, rfl⟩ | ⟨rfl, hno⟩
  · obtain ⟨f1, f2, f3⟩ := pl_f hp hs hw hwt
    rw [if_pos f1] at hq
    obtain ⟨q5, q6, q2⟩ := r2 w hw
    have hkt : t = kk us w := hwt.symm
    refine g_jn1_i (fun y => y = nI (vv us w)) (fun y e => ?_) fun K10 hK10 => le_pos (by omega) ⟨_, h1.g6, _, rfl, h1.r6 w rfl (by omega) (hK10 _ q6)⟩
    subst e
    refine g_jn2_i (fun y s => y = nI w ∧ s = s1) (fun y s e => ?_) fun K14 hK14 => le_pos (by omega) (hK14 _ _ ⟨rfl, rfl⟩)
    obtain ⟨rfl, rfl⟩ := e
    have hsl : (us.set w (t, v)).length = us.length := List.length_set
    have hki : ∀ i, i < us.length → kk (us.set w (t, v)) i = kk us i ∧ vv (us.set w (t, v)) i = if i = w then v else vv us i := fun i hi => by
      rw [kk_q (ws := us.set w (t, v)), vv_q (ws := us.set w (t, v)), put_q hi]
      by_cases e : i = w
      · rw [if_pos e, if_pos e, e]
        exact ⟨hkt, rfl⟩
      · rw [if_neg e, if_neg e, ← kk_q, ← vv_q]
        exact ⟨rfl, rfl⟩
    refine ⟨_, h1.g6, _, rfl, h1.w6 w rfl (by omega) fun s2 h2 => ?_⟩
    rw [f3] at hq
    refine hq s2 ⟨us.set w (t, v), _, W, ?_, by rw [hsl]; exact h2, hT, ⟨by rw [hsl]; exact hn, fun u hu => ?_⟩, hC, by rw [t_up_n (by decide)]; exact r1, fun i hi => ?_, by rw [t_up_n (by decide), t_up_n (by decide)]; exact r3⟩
    · show (us.set w (t, v)).Perm (insS t v ws)
      rw [insS_eq hs, if_pos f1]
      have hwp := (gz_pm hw).symm.trans (hp.trans (er_pm f2))
      have e1 : (us.set w (t, v)).Perm ((t, v) :: us.eraseIdx w) := set_p hw
      have e2 : (ws.set (cL ws t) (t, v)).Perm ((t, v) :: ws.eraseIdx (cL ws t)) := set_p f2
      have e3 : ((kk us w, vv us w) :: us.eraseIdx w).Perm ((kk ws (cL ws t), vv ws (cL ws t)) :: ws.eraseIdx (cL ws t)) := (er_pm hw).symm.trans (hp.trans (er_pm f2))
      have e4 : kk ws (cL ws t) = kk us w := by
        have := pm_1 hp hs hw
        rw [hwt] at this
        rw [this.2.2.1, hwt]
      rw [e4, f3] at e3
      exact e1.trans ((List.Perm.cons (t, v) (List.Perm.cons_inv e3)).trans e2.symm)
    · rcases List.mem_or_eq_of_mem_set hu with q | q
      · exact hW.2 u q
      · rw [q]
        have := hW.kk hw
        rw [hwt] at this
        exact ⟨this.1, this.2.1, this.2.2.1, hv⟩
    · rw [hsl] at hi
      obtain ⟨e5, e6, e2⟩ := r2 i hi
      rw [(hki i hi).1, (hki i hi).2, t_up_n (by decide), t_up_s, t_up_n (by decide)]
      refine ⟨e5, ?_, e2⟩
      by_cases e : i = w
      · rw [if_pos e, e, va_up_self]
      · rw [if_neg e, va_up_ne _ _ e]
        exact e6
  · have hnf := pl_n hp hs hno
    rw [if_neg hnf, if_neg (by have := z3 rfl; omega)] at hq
    have hn24 : us.length < 24 := by have := z3 rfl; omega
    refine g_jn1_i (fun y => y = -1) (fun y e => ?_) fun K10 hK10 => nle_neg (hK10 _ rfl)
    subst e
    have hal : (us ++ [(t, v)]).length = us.length + 1 := by rw [List.length_append]; rfl
    have hki : ∀ i, i < us.length + 1 → kk (us ++ [(t, v)]) i = (if i < us.length then kk us i else t) ∧ vv (us ++ [(t, v)]) i = if i < us.length then vv us i else v := fun i hi => by
      rw [kk_q (ws := us ++ [(t, v)]), vv_q (ws := us ++ [(t, v)])]
      by_cases e : i < us.length
      · rw [if_pos e, if_pos e, List.getElem?_append_left e, ← kk_q, ← vv_q]
        exact ⟨rfl, rfl⟩
      · rw [if_neg e, if_neg e, List.getElem?_append_right (by omega), show i - us.length = 0 by omega]
        exact ⟨rfl, rfl⟩
    refine g_jn2_i (fun y s => ∃ A', y = nI us.length ∧ MS st s m (nI 0) (nI t.length) (nI (us.length + 1)) A' W ∧ (∀ j, j < t.length → A' 2 (10 * us.length + j) = nI (t.getD j 0)) ∧ (∀ j, j < 10 * us.length → A' 2 j = A 2 j) ∧ A' 5 = va_up (A 5) us.length (nI t.length) ∧ (∀ q, q ≠ 2 → q ≠ 5 → A' q = A q)) (fun y s H => ?_) fun K14 hK14 => nle_neg ⟨_, h1.gN, _, h1.gN, ?_⟩
    · obtain ⟨A', rfl, hS, g1, g2, g3, g4⟩ := H
      refine ⟨_, hS.g6, _, rfl, hS.w6 us.length rfl (by omega) fun s2 h2 => ?_⟩
      refine hq s2 ⟨us ++ [(t, v)], _, W, ?_, by rw [hal]; exact h2, hT, ⟨by rw [hal]; omega, fun u hu => ?_⟩, hC, by rw [t_up_n (by decide), g4 1 (by decide) (by decide)]; exact r1, fun i hi => ?_, by rw [t_up_n (by decide), t_up_n (by decide), g4 7 (by decide) (by decide), g4 3 (by decide) (by decide)]; exact r3⟩
      · have e1 : (us ++ [(t, v)]).Perm ((t, v) :: us) := List.perm_append_comm
        refine e1.trans ((List.Perm.cons (t, v) hp).trans (insS_pm0 fun u hu e => ?_).symm)
        obtain ⟨i, hi, e1, _⟩ := mem_kv hu
        exact hnf ((fnd hs).mpr ⟨i, hi, e1.trans e⟩)
      · rcases List.mem_append.mp hu with q | q
        · exact hW.2 u q
        · rw [List.mem_singleton.mp q]
          exact ⟨show 1 ≤ t.length by omega, show t.length ≤ 10 by omega, hT.2, hv⟩
      · rw [hal] at hi
        rw [(hki i hi).1, (hki i hi).2, t_up_n (by decide), t_up_s, t_up_n (by decide), g3, g4 6 (by decide) (by decide)]
        by_cases e : i < us.length
        · obtain ⟨e5, e6, e2⟩ := r2 i e
          rw [if_pos e, if_pos e, va_up_ne _ _ (by omega), va_up_ne _ _ (by omega)]
          refine ⟨e5, e6, fun j hj => ?_⟩
          have := hW.kk e
          rw [g2 _ (by omega)]
          exact e2 j hj
        · have e' : i = us.length := by omega
          subst e'
          rw [if_neg e, if_neg e, va_up_self, va_up_self]
          exact ⟨rfl, rfl, g1⟩
    · rw [nI_add]
      refine h1.pN _ fun s2 h2 => ⟨_, h2.g5, _, h2.gL, _, rfl, h2.w5 us.length rfl (by omega) fun s3 h3 => ?_⟩
      refine g_lp2_m (fun mm x s => ∃ j A', x = nI j ∧ j ≤ t.length ∧ MS st s m (nI 0) (nI t.length) (nI (us.length + 1)) A' W ∧ (∀ q, q < j → A' 2 (10 * us.length + q) = nI (t.getD q 0)) ∧ (∀ q, q < 10 * us.length → A' 2 q = A 2 q) ∧ A' 5 = va_up (A 5) us.length (nI t.length) ∧ (∀ q, q ≠ 2 → q ≠ 5 → A' q = A q) ∧ mm = 100 - j) ?_ ⟨0, _, rfl, Nat.zero_le _, h3, fun q hq => by omega, fun q _ => by rw [t_up_n (by decide)], by rw [t_up_s], fun q _ h5 => by rw [t_up_n h5], rfl⟩
      rintro mm x s K ⟨j, A', rfl, hj, hS, g1, g2, g3, g4, rfl⟩ hK
      refine ⟨_, hS.gL, b_le (by omega) (by omega) (fun y => hK14 _ _ ⟨A', rfl, hS, fun q hq => g1 q (by omega), g2, g3, g4⟩) fun y => ⟨_, hS.g2, _, hS.g1, _, rfl, hS.r1 j rfl (by omega) ⟨_, rfl, ?_⟩⟩⟩
      have b1 := hT.2.lt j
      rw [g4 1 (by decide) (by decide), r1 j y, mch _ (by omega)]
      refine hS.w2 (10 * us.length + j) (by rw [nI_mul, nI_add]) (by omega) fun s4 h4 => hK _ _ _ ⟨j + 1, _, nI_add j 1, y, h4, fun q hq => ?_, fun q hq => ?_, by rw [t_up_n (by decide)]; exact g3, fun q h2' h5 => by rw [t_up_n h2']; exact g4 q h2' h5, rfl⟩ (by omega)
      · rw [t_up_s]
        by_cases e : q = j
        · rw [e, va_up_self]
        · rw [va_up_ne _ _ (by omega)]
          exact g1 q (by omega)
      · rw [t_up_s, va_up_ne _ _ (by omega)]
        exact g2 q hq
def sp_take (t : List Nat) (ws : wL) (cs : Nat → List Nat) : sR := if cL ws t < dL ws t then (0, nI (vv ws (cL ws t)), t, delS t ws, cs) else (1, nI 0, t, ws, cs)
theorem gz_del {w : Nat} (hp : us.Perm ws) (hs : Sd ws) (hw : w < us.length) (e : kk us w = t) : (gz us w).Perm (delS t ws) := by
  obtain ⟨f1, f2, f3⟩ := pl_f hp hs hw e
  rw [delS_eq hs, if_pos f1]
  have k := pm_1 hp hs hw
  rw [e] at k
  have e3 := (gz_pm hw).symm.trans (hp.trans (er_pm f2))
  rw [k.2.2.1, f3, e] at e3
  exact List.Perm.cons_inv e3
theorem ct_mtake (h : MP st st m k0 t ws cs) (hs : Sd ws) (hq : mok st m Q (sp_take t ws cs)) : wp_X2_take l E 0 0 [va_rf (some m)] st Q := by
  obtain ⟨us, A, W, hp, h, hR⟩ := h
  have hn := hR.2.1.1
  unfold sp_take at hq
  refine wk_X2_take ⟨h.is, ct_mown1 h hR fun x1 hx1 => ⟨rfl, ?_⟩⟩
  rcases hx1 with ⟨w, hw, hwt, rfl⟩ | ⟨rfl, hno⟩
  · obtain ⟨f1, f2, f3⟩ := pl_f hp hs hw hwt
    rw [if_pos f1, f3] at hq
    show _ ∧ _
    refine le_pos (by omega) ⟨h.is, ct_mfails h (by omega) fun s1 h1 _ => b_tv (fun w => absurd w (by omega)) fun _ => ⟨_, h1.g6, _, rfl, h1.r6 w rfl (by omega) ⟨h1.is, ct_mgoes h1 hR hw fun s2 A' h2 hR2 _ => ?_⟩⟩⟩
    rw [(hR.2.2.2.2.1 w hw).2.1]
    exact hq s2 ⟨gz us w, A', W, gz_del hp hs hw hwt, by rw [gz_len]; exact h2, hR2⟩
  · rw [if_neg (pl_n hp hs hno)] at hq
    show _ ∧ _
    exact nle_neg ⟨h.is, ct_mfails h (by omega) fun s1 h1 _ => b_tv (fun _ => hq s1 ⟨us, A, W, hp, h1, hR⟩) fun w => absurd (by omega) w⟩
def sp_number (t : List Nat) (ws : wL) (cs : Nat → List Nat) : sR := if cL ws t < dL ws t then (0, nI (vv ws (cL ws t)), t, ws, cs) else (1, nI 0, t, ws, cs)
theorem ct_mnumber (h : MP st st m k0 t ws cs) (hs : Sd ws) (hq : mok st m Q (sp_number t ws cs)) : wp_X2_number l E 0 0 [va_rf (some m)] st Q := by
  obtain ⟨us, A, W, hp, h, hR⟩ := h
  have hn := hR.2.1.1
  unfold sp_number at hq
  refine wk_X2_number ⟨h.is, ct_mown1 h hR fun x1 hx1 => ⟨rfl, ?_⟩⟩
  rcases hx1 with ⟨w, hw, hwt, rfl⟩ | ⟨rfl, hno⟩
  · obtain ⟨f1, f2, f3⟩ := pl_f hp hs hw hwt
    rw [if_pos f1, f3] at hq
    show _ ∧ _
    refine le_pos (by omega) ⟨h.is, ct_mfails h (by omega) fun s1 h1 _ => ?_⟩
    show _ ∧ _
    refine b_tv (fun w => absurd w (by omega)) fun _ => ⟨_, h1.g6, _, rfl, h1.r6 w rfl (by omega) ?_⟩
    rw [(hR.2.2.2.2.1 w hw).2.1]
    exact hq s1 ⟨us, A, W, hp, h1, hR⟩
  · rw [if_neg (pl_n hp hs hno)] at hq
    show _ ∧ _
    refine nle_neg ⟨h.is, ct_mfails h (by omega) fun s1 h1 _ => ?_⟩
    show _ ∧ _
    exact b_tv (fun _ => hq s1 ⟨us, A, W, hp, h1, hR⟩) fun w => absurd (by omega) w
def sp_words (t : List Nat) (ws : wL) (cs : Nat → List Nat) : sR := (0, nI ws.length, t, ws, cs)
theorem ct_mwords (h : MP st st m k0 t ws cs) (hq : mok st m Q (sp_words t ws cs)) : wp_X2_words l E 0 0 [va_rf (some m)] st Q := by
  obtain ⟨us, A, W, hp, h, hR⟩ := h
  refine wk_X2_words (h.pC _ fun s1 h1 => ⟨_, h1.gN, ?_⟩)
  rw [hp.length_eq]
  exact hq s1 ⟨us, A, W, hp, h1, hR⟩
def sp_rank (t : List Nat) (ws : wL) (cs : Nat → List Nat) : sR := (0, nI (cL ws t), t, ws, cs)
theorem ct_mrank (h : MP st st m k0 t ws cs) (hs : Sd ws) (hq : mok st m Q (sp_rank t ws cs)) : wp_X2_rank l E 0 0 [va_rf (some m)] st Q := by
  obtain ⟨us, A, W, hp, h, hR⟩ := h
  have hn := hR.2.1.1
  refine wk_X2_rank (h.pC _ fun s1 h1 => ?_)
  refine g_lp2_m (fun mm x y => ∃ v, y = nI v ∧ v ≤ us.length ∧ x = nI (cnt t (us.take v)) ∧ mm = 100 - v) ?_ ⟨0, rfl, Nat.zero_le _, rfl, rfl⟩
  rintro mm x y K ⟨v, rfl, hv, rfl, rfl⟩ hK
  refine ⟨_, h1.gN, b_le (by omega) (by omega) (fun z => ?_) fun z => ⟨h1.is, ct_mbeside h1 hR z fun y hy => ⟨rfl, ?_⟩⟩⟩
  · rw [tkn z, cnt_pm hp, cnt_cL hs]
    exact hq s1 ⟨us, A, W, hp, h1, hR⟩
  · refine g_jn1_i (fun x => x = nI (cnt t (us.take (v + 1)))) (fun x e => hK _ _ _ ⟨v + 1, nI_add v 1, z, e, rfl⟩ (by omega)) fun K12 hK12 => ?_
    rw [tk1 z, cnt_1] at hK12
    rcases i3 y with ⟨e1, e2, e3, e4, e5⟩ | ⟨e1, e2, e3, e4, e5⟩ | ⟨e1, e2, e3, e4, e5⟩
    · refine ⟨fun w => absurd w e2, fun _ => hK12 _ ?_⟩
      rw [if_pos (hy.1.mp e1), nI_add]
    · refine ⟨fun _ => hK12 _ ?_, fun w => absurd e2 w⟩
      rw [if_neg (fun w => e4 (hy.1.mpr w))]
      rfl
    · refine ⟨fun _ => hK12 _ ?_, fun w => absurd e2 w⟩
      rw [if_neg (fun w => e4 (hy.1.mpr w))]
      rfl
def sp_word (p : Int32) (t : List Nat) (ws : wL) (cs : Nat → List Nat) : sR := if p < nI 0 ∨ nI ws.length ≤ p then (1, nI 0, t, ws, cs) else (0, nI (kk ws p.toNatClampNeg).length, kk ws p.toNatClampNeg, ws, cs)
theorem ct_mword {p : Int32} (h : MP st st m k0 t ws cs) (hs : Sd ws) (hq : mok st m Q (sp_word p t ws cs)) : wp_X2_word l E 0 0 [va_rf (some m), .int p] st Q := by
  obtain ⟨us, A, W, hp, h, hR⟩ := h
  have hn := hR.2.1.1
  have hlen := hp.length_eq
  unfold sp_word at hq
  refine wk_X2_word ⟨_, h.gN, ct_min ⟨rfl, ?_⟩⟩
  rw [tv_cg (not_congr (i_last (p := p) (n := us.length) (by omega))), hlen]
  by_cases z : p < nI 0 ∨ nI ws.length ≤ p
  · rw [if_pos z] at hq
    rw [tv_0 (fun w => w z)]
    show _ ∧ _
    exact ⟨fun _ => ⟨h.is, ct_mfails h (by omega) fun s1 h1 _ => b_tv (fun _ => hq s1 ⟨us, A, W, hp, h1, hR⟩) fun w => absurd (by omega) w⟩, fun w => absurd (by decide) w⟩
  · rw [if_neg z] at hq
    rw [tv_1 z]
    obtain ⟨j, hj, rfl⟩ := i_in2 z (by omega)
    rw [nI_clamp (by omega)] at hq
    show _ ∧ _
    refine ⟨fun w => absurd w (by decide), fun _ => ⟨h.is, ct_mfails h (by omega) fun s1 h1 _ => b_tv (fun w => absurd w (by omega)) fun _ => ⟨h1.is, ct_morders h1 hR (pm_dis hp hs) fun s2 A2 h2 hR2 hO _ _ => ⟨_, h2.g8, _, rfl, h2.r8 j rfl (by omega) ⟨h2.is, ?_⟩⟩⟩⟩⟩
    obtain ⟨w, hw, e1, e2⟩ := pm_2 hp hj
    have ho := hO w hw
    rw [e1, cnt_pm hp, cnt_cL hs, (Pos.at hs hj).1] at ho
    rw [ho.2]
    refine ct_mbecomes h2 hR2 hw fun s3 A3 h3 hR3 _ _ => ⟨_, h3.gL, ?_⟩
    rw [e1] at h3 hR3 ⊢
    exact hq s3 ⟨us, A3, W, hp, h3, hR3⟩
end GMD7
