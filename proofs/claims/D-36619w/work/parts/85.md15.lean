/-! MODEL 15: isTrue -/
section GMD15
variable {us ws : wL} {t : List Nat} {cs : Nat → List Nat} {l : Launch} {E : g_E} {st0 st : g_St} {m k0 : Nat} {Q : Int32 → g_St → Prop} {A : Nat → Nat → Int32} {W : Nat → Int64} {c ln mn : Int32}
theorem lcp_take (u t : List Nat) (g : Nat) : lcp u (t.take g) = min (lcp u t) g := by
  induction u generalizing t g with
  | nil => show 0 = min 0 g; omega
  | cons x as ih =>
    cases t with
    | nil => rw [List.take_nil]; show 0 = min 0 g; omega
    | cons y bs =>
      cases g with
      | zero => show 0 = min _ 0; omega
      | succ g =>
        show (if x = y then lcp as (bs.take g) + 1 else 0) = min (if x = y then lcp as bs + 1 else 0) (g + 1)
        split
        · rw [ih]
          omega
        · omega
theorem lcp_m2 {a b c : List Nat} (h1 : ¬ b < a) (h2 : ¬ c < b) : lcp a c ≤ lcp b c := by
  induction c generalizing a b with
  | nil => rw [lcp_nil, lcp_nil]; exact Nat.le_refl _
  | cons z cs ih =>
    cases a with
    | nil => exact Nat.zero_le _
    | cons x as =>
      cases b with
      | nil => exact absurd (List.nil_lt_cons _ _) h1
      | cons y bs =>
        show (if x = z then lcp as cs + 1 else 0) ≤ (if y = z then lcp bs cs + 1 else 0)
        rw [List.cons_lt_cons_iff] at h1 h2
        by_cases e : x = z
        · have e2 : y = z := by omega
          rw [if_pos e, if_pos e2]
          have := ih (a := as) (b := bs) (fun w => h1 (Or.inr ⟨by omega, w⟩)) (fun w => h2 (Or.inr ⟨by omega, w⟩))
          omega
        · rw [if_neg e]
          exact Nat.zero_le _
theorem lcp_m1 {a b c : List Nat} (h1 : ¬ b < a) (h2 : ¬ c < b) : lcp a c ≤ lcp a b := by
  induction a generalizing c b with
  | nil => exact Nat.le_refl _
  | cons x as ih =>
    cases c with
    | nil => rw [lcp_nil]; exact Nat.zero_le _
    | cons z cs =>
      cases b with
      | nil => exact absurd (List.nil_lt_cons _ _) h1
      | cons y bs =>
        show (if x = z then lcp as cs + 1 else 0) ≤ (if x = y then lcp as bs + 1 else 0)
        rw [List.cons_lt_cons_iff] at h1 h2
        by_cases e : x = z
        · have e2 : x = y := by omega
          rw [if_pos e, if_pos e2]
          have := ih (b := bs) (c := cs) (fun w => h1 (Or.inr ⟨by omega, w⟩)) (fun w => h2 (Or.inr ⟨by omega, w⟩))
          omega
        · rw [if_neg e]
          exact Nat.zero_le _
theorem shX_mem {u : List Nat × Nat} (h : u ∈ us) : lcp u.1 t ≤ shX t us := by
  induction us with
  | nil => exact absurd h List.not_mem_nil
  | cons v us ih =>
    show _ ≤ max (lcp v.1 t) (shX t us)
    rcases List.mem_cons.mp h with q | q
    · rw [q]; omega
    · have := ih q
      omega
theorem shX_ub {n : Nat} (h : ∀ u ∈ us, lcp u.1 t ≤ n) : shX t us ≤ n := by
  induction us with
  | nil => exact Nat.zero_le _
  | cons v us ih =>
    have h1 := h v List.mem_cons_self
    have h2 := ih fun u hu => h u (List.mem_cons_of_mem _ hu)
    show max (lcp v.1 t) (shX t us) ≤ n
    omega
/-- the most that of the first words two neighbours have in common -/
def adN (ws : wL) : Nat → Nat
  | 0 => 0
  | k + 1 => Nat.max (adN ws k) (lcp (kk ws k) (kk ws (k + 1)))
theorem twX_ad (hs : Sd ws) (k : Nat) (hk : k < ws.length) : twX (ws.take (k + 1)) = adN ws k := by
  induction k with
  | zero =>
    rw [tk1 hk, twX_1]
    exact Nat.max_self 0
  | succ k ih =>
    rw [tk1 hk, twX_1, ih (by omega)]
    show Nat.max _ _ = Nat.max _ _
    congr 1
    refine Nat.le_antisymm (shX_ub fun u hu => ?_) (shX_mem (u := (kk ws k, vv ws k)) ?_)
    · obtain ⟨i, hi, e⟩ := List.getElem_of_mem hu
      rw [List.length_take] at hi
      have e1 : u.1 = kk ws i := by
        rw [← e, List.getElem_take, kk_q, List.getElem?_eq_getElem (by omega)]
        rfl
      rw [e1]
      refine lcp_m2 (fun w => ?_) (fun w => ?_)
      · by_cases q : i = k
        · rw [q] at w
          exact ll_irr _ w
        · exact ll_as w (hs.lt (by omega) (by omega))
      · exact ll_as w (hs.lt (by omega) hk)
    · rw [tk1 (by omega : k < ws.length)]
      exact List.mem_append_right _ List.mem_cons_self
theorem twX_all (hs : Sd ws) : twX ws = adN ws (ws.length - 1) := by
  cases ws with
  | nil => rfl
  | cons u us =>
    have := twX_ad hs us.length (Nat.lt_succ_self _)
    rw [tkn (us := u :: us) (w := us.length + 1) (Nat.le_refl _)] at this
    exact this
theorem adN_le (hW : okW ws) {k : Nat} (hk : k < ws.length) : adN ws k ≤ 10 := by
  induction k with
  | zero => exact Nat.zero_le _
  | succ k ih =>
    have h1 := ih (by omega)
    have h2 := lcp_le2 (kk ws k) (kk ws (k + 1))
    have h3 := (hW.kk hk).2.1
    show max (adN ws k) (lcp (kk ws k) (kk ws (k + 1))) ≤ 10
    omega
theorem tk_pre {u : List Nat} {g : Nat} (hg : g ≤ t.length) : g ≤ lcp u t ↔ lcp u (t.take g) = (t.take g).length := by
  rw [lcp_take, List.length_take]
  omega
theorem tk_lt {u : List Nat} {g : Nat} (hg : g ≤ t.length) (h : lcp u t < g) : u < t.take g ↔ lcp u t = u.length ∨ (lcp u t ≠ u.length ∧ u.getD (lcp u t) 0 < t.getD (lcp u t) 0) := by
  have e : lcp u (t.take g) = lcp u t := by rw [lcp_take]; omega
  have l1 := lcp_le1 u t
  have e2 : (t.take g).getD (lcp u t) 0 = t.getD (lcp u t) 0 := by
    rw [List.getD_eq_getElem?_getD, List.getElem?_take, if_pos h, List.getD_eq_getElem?_getD]
  rw [lcp_lt, e, e2, List.length_take]
  omega
theorem i_neg2 {r : Nat} (h : r < 2 ^ 31) : ¬ nI r ≤ -1 := fun w => i_neg1 (Int32.le_trans (i_pos h) w)
theorem ord_k (hp : us.Perm ws) (hs : Sd ws) (hO : ORD us us.length A) {k : Nat} (hk : k < ws.length) : ∃ w, w < us.length ∧ A 8 k = nI w ∧ kk us w = kk ws k ∧ vv us w = vv ws k := by
  obtain ⟨w, hw, e1, e2⟩ := pm_2 hp hk
  have := (hO w hw).2
  rw [cnt_pm hp, cnt_cL hs, e1, (Pos.at hs hk).1] at this
  exact ⟨w, hw, this, e1, e2⟩
theorem ct_misSide {g : Nat} (hp : us.Perm ws) (hs : Sd ws) (h : MS st0 st m c (nI t.length) (nI us.length) A W) (hR : MR t us cs A) (hO : ORD us us.length A) (hg : g ≤ t.length) (hq : Q (nI 1) st) : wp_X2_isSideBySide l E 0 0 [va_rf (some m), .int (nI g)] st Q := by
  have hW := hR.2.1
  have hn := hW.1
  have hT := hR.1
  have hT1 := hT.1
  have hWs := hW.pm hp
  have hlen := hp.length_eq
  have hnb := nB_cL (t := t.take g) hs hWs
  have hcb : cL ws (bh (t.take g)) ≤ ws.length := cL_le hs
  have hrk : ∀ w, w < us.length → lcp (kk us w) (t.take g) = (t.take g).length → cL ws (t.take g) ≤ cnt (kk us w) us ∧ cnt (kk us w) us < cL ws (bh (t.take g)) := fun w hw hpr => by
    obtain ⟨i1, i2, i3, i4⟩ := pm_1 hp hs hw
    have e2 := (pre_ix (t := t.take g) hs hWs i1).mp (by rw [i3]; exact hpr)
    rw [cnt_pm hp, cnt_cL hs]
    exact e2
  have hex : ∀ i, cL ws (t.take g) ≤ i → i < cL ws (bh (t.take g)) → ∃ w, w < us.length ∧ lcp (kk us w) (t.take g) = (t.take g).length ∧ cnt (kk us w) us = i := fun i h1 h2 => by
    obtain ⟨w, hw, e1, _⟩ := pm_2 hp (i := i) (by omega)
    refine ⟨w, hw, ?_, ?_⟩
    · rw [e1]
      exact (pre_ix hs hWs (by omega)).mpr ⟨h1, h2⟩
    · rw [cnt_pm hp, cnt_cL hs, e1]
      exact (Pos.at hs (by omega)).1
  refine wk_X2_isSideBySide ⟨_, h.gN, ?_⟩
  refine g_lp5_m (fun mm x2 x3 x4 x5 x6 => ∃ w, x6 = nI w ∧ w ≤ us.length ∧ x4 = nI (nB (t.take g) (us.take w)) ∧ x5 = nI (cnt (t.take g) (us.take w)) ∧ ((x2 = nI us.length ∧ x3 = -1 ∧ (∀ v, v < w → lcp (kk us v) (t.take g) ≠ (t.take g).length)) ∨ ((∃ a, a < w ∧ lcp (kk us a) (t.take g) = (t.take g).length ∧ x2 = nI (cnt (kk us a) us) ∧ ∀ v, v < w → lcp (kk us v) (t.take g) = (t.take g).length → cnt (kk us a) us ≤ cnt (kk us v) us) ∧ (∃ b, b < w ∧ lcp (kk us b) (t.take g) = (t.take g).length ∧ x3 = nI (cnt (kk us b) us) ∧ ∀ v, v < w → lcp (kk us v) (t.take g) = (t.take g).length → cnt (kk us v) us ≤ cnt (kk us b) us))) ∧ mm = 100 - w) ?_ ⟨0, rfl, Nat.zero_le _, rfl, rfl, Or.inl ⟨rfl, rfl, fun v hv => absurd hv (Nat.not_lt_zero _)⟩, rfl⟩
  rintro mm x2 x3 x4 x5 x6 K ⟨w, rfl, hw, rfl, rfl, hL, rfl⟩ hK
  have hnB : nB (t.take g) (us.take w) ≤ w := by
    have : nB (t.take g) (us.take w) ≤ (us.take w).length := List.countP_le_length
    rw [List.length_take] at this
    omega
  have hcn : cnt (t.take g) (us.take w) ≤ w := by
    have := cnt_le (t := t.take g) (us := us.take w)
    rw [List.length_take] at this
    omega
  refine ⟨_, h.gN, b_le (by omega) (by omega) (fun z => ?_) fun z => ?_⟩
  · refine g_jn1_i (fun x => x = nI 1) (fun x e => by rw [e]; exact ⟨rfl, hq⟩) fun K13 hK13 => ?_
    rw [tkn z] at hnB hcn ⊢
    have ew : w = us.length := by omega
    subst ew
    refine g_jn0_i (hK13 _ rfl) fun K15 hK15 => ?_
    show (nI _ = nI 0 → _) ∧ (¬ nI _ = nI 0 → _)
    refine b_eq (by omega) (by omega) (fun _ => hK15) fun y => ?_
    rw [nB_pm hp] at y hnB ⊢
    rw [cnt_pm hp, cnt_cL hs] at hcn ⊢
    have y : nB (t.take g) ws ≠ 0 := y
    rcases hL with ⟨_, _, hno⟩ | ⟨⟨a, ha, ha1, rfl, ha2⟩, ⟨b, hb, hb1, rfl, hb2⟩⟩
    · obtain ⟨v, hv, hv1, _⟩ := hex (cL ws (t.take g)) (Nat.le_refl _) (by omega)
      exact absurd hv1 (hno v hv)
    · obtain ⟨v, hv, hv1, hv2⟩ := hex (cL ws (t.take g)) (Nat.le_refl _) (by omega)
      obtain ⟨u, hu, hu1, hu2⟩ := hex (cL ws (bh (t.take g)) - 1) (by omega) (by omega)
      have a1 := hrk a ha ha1
      have a2 := ha2 v hv hv1
      have b1 := hrk b hb hb1
      have b2 := hb2 u hu hu1
      rw [hv2] at a2
      rw [hu2] at b2
      have ea : cnt (kk us a) us = cL ws (t.take g) := by omega
      have eb : cnt (kk us b) us = cL ws (t.take g) + (nB (t.take g) ws - 1) := by omega
      rw [ea, eb]
      show _ ∧ _
      rw [su_sub (by omega), nI_add]
      refine ⟨fun q => absurd (by congr 1; omega) q, fun _ => ⟨fun q => absurd rfl q, fun _ => hK15⟩⟩
  · have kw := hW.kk z
    have hc := cnt_lt (us := us) z
    have l1 := lcp_le1 (kk us w) t
    have l2 := lcp_le2 (kk us w) t
    obtain ⟨e5, e6, e2⟩ := hR.2.2.2.2.1 w z
    refine ⟨_, h.g5, _, rfl, h.r5 w rfl (by omega) ?_⟩
    rw [e5]
    refine g_jn1_i (fun x => x = tv (g ≤ lcp (kk us w) t)) (fun x30 e30 => ?_) fun K31 hK31 => ?_
    · rw [e30]
      have eB : nB (t.take g) (us.take (w + 1)) = nB (t.take g) (us.take w) + if lcp (kk us w) (t.take g) = (t.take g).length then 1 else 0 := by rw [tk1 z, nB_1]
      have eC : cnt (t.take g) (us.take (w + 1)) = cnt (t.take g) (us.take w) + if kk us w < t.take g then 1 else 0 := by rw [tk1 z, cnt_1]
      by_cases one : g ≤ lcp (kk us w) t
      · have hpr := (tk_pre hg).mp one
        rw [if_pos hpr] at eB
        have nlt : ¬ kk us w < t.take g := ((pre_iff kw.2.2.1).mp hpr).1
        rw [if_neg nlt] at eC
        show _ ∧ _
        refine b_tv (fun _ => ⟨_, h.g9, _, rfl, h.r9 w rfl (by omega) ?_⟩) fun q => absurd one q
        rw [(hO w z).1]
        refine g_jn1_i (fun x => ∃ a, a < w + 1 ∧ lcp (kk us a) (t.take g) = (t.take g).length ∧ x = nI (cnt (kk us a) us) ∧ ∀ v, v < w + 1 → lcp (kk us v) (t.take g) = (t.take g).length → cnt (kk us a) us ≤ cnt (kk us v) us) (fun x70 e70 => ?_) fun K71 hK71 => ?_
        · refine ⟨_, h.g9, _, rfl, h.r9 w rfl (by omega) ?_⟩
          rw [(hO w z).1]
          have go : ∀ x, (∃ b, b < w + 1 ∧ lcp (kk us b) (t.take g) = (t.take g).length ∧ x = nI (cnt (kk us b) us) ∧ ∀ v, v < w + 1 → lcp (kk us v) (t.take g) = (t.take g).length → cnt (kk us v) us ≤ cnt (kk us b) us) → K x70 x (nI (nB (t.take g) (us.take w)) + nI 1) (nI (cnt (t.take g) (us.take w))) (nI w + nI 1) := fun x hx => hK _ _ _ _ _ _ ⟨w + 1, nI_add w 1, z, by rw [eB, nI_add], by rw [eC]; rfl, Or.inr ⟨e70, hx⟩, rfl⟩ (by omega)
          rcases hL with ⟨_, rfl, hno⟩ | ⟨_, ⟨b, hb, hb1, rfl, hb2⟩⟩
          · refine ⟨fun q => absurd q (i_neg2 (by omega)), fun _ => ⟨_, h.g9, _, rfl, h.r9 w rfl (by omega) ?_⟩⟩
            rw [(hO w z).1]
            refine go _ ⟨w, Nat.lt_succ_self _, hpr, rfl, fun v hv hv1 => ?_⟩
            by_cases q : v = w
            · rw [q]; exact Nat.le_refl _
            · exact absurd hv1 (hno v (by omega))
          · have hcb := cnt_lt (us := us) (w := b) (by omega)
            refine b_le (by omega) (by omega) (fun q => go _ ⟨b, by omega, hb1, rfl, fun v hv hv1 => ?_⟩) fun q => ⟨_, h.g9, _, rfl, h.r9 w rfl (by omega) ?_⟩
            · by_cases r : v = w
              · rw [r]; exact q
              · exact hb2 v (by omega) hv1
            · rw [(hO w z).1]
              refine go _ ⟨w, Nat.lt_succ_self _, hpr, rfl, fun v hv hv1 => ?_⟩
              by_cases r : v = w
              · rw [r]; exact Nat.le_refl _
              · have := hb2 v (by omega) hv1
                omega
        · rcases hL with ⟨rfl, _, hno⟩ | ⟨⟨a, ha, ha1, rfl, ha2⟩, _⟩
          · refine b_le (by omega) (by omega) (fun q => by omega) fun q => ⟨_, h.g9, _, rfl, h.r9 w rfl (by omega) ?_⟩
            rw [(hO w z).1]
            refine hK71 _ ⟨w, Nat.lt_succ_self _, hpr, rfl, fun v hv hv1 => ?_⟩
            by_cases r : v = w
            · rw [r]; exact Nat.le_refl _
            · exact absurd hv1 (hno v (by omega))
          · have hca := cnt_lt (us := us) (w := a) (by omega)
            refine b_le (by omega) (by omega) (fun q => hK71 _ ⟨a, by omega, ha1, rfl, fun v hv hv1 => ?_⟩) fun q => ⟨_, h.g9, _, rfl, h.r9 w rfl (by omega) ?_⟩
            · by_cases r : v = w
              · rw [r]; exact q
              · exact ha2 v (by omega) hv1
            · rw [(hO w z).1]
              refine hK71 _ ⟨w, Nat.lt_succ_self _, hpr, rfl, fun v hv hv1 => ?_⟩
              by_cases r : v = w
              · rw [r]; exact Nat.le_refl _
              · have := ha2 v (by omega) hv1
                omega
      · have hpr : ¬ lcp (kk us w) (t.take g) = (t.take g).length := fun q => one ((tk_pre hg).mpr q)
        rw [if_neg hpr] at eB
        have hlt := tk_lt (u := kk us w) hg (by omega)
        have hL2 : (x2 = nI us.length ∧ x3 = -1 ∧ (∀ v, v < w + 1 → lcp (kk us v) (t.take g) ≠ (t.take g).length)) ∨ ((∃ a, a < w + 1 ∧ lcp (kk us a) (t.take g) = (t.take g).length ∧ x2 = nI (cnt (kk us a) us) ∧ ∀ v, v < w + 1 → lcp (kk us v) (t.take g) = (t.take g).length → cnt (kk us a) us ≤ cnt (kk us v) us) ∧ (∃ b, b < w + 1 ∧ lcp (kk us b) (t.take g) = (t.take g).length ∧ x3 = nI (cnt (kk us b) us) ∧ ∀ v, v < w + 1 → lcp (kk us v) (t.take g) = (t.take g).length → cnt (kk us v) us ≤ cnt (kk us b) us)) := by
          have nw : ∀ v, v < w + 1 → lcp (kk us v) (t.take g) = (t.take g).length → v < w := fun v hv hv1 => by
            by_cases q : v = w
            · rw [q] at hv1
              exact absurd hv1 hpr
            · omega
          rcases hL with ⟨h1, h2, hno⟩ | ⟨⟨a, ha, ha1, ha3, ha2⟩, ⟨b, hb, hb1, hb3, hb2⟩⟩
          · exact Or.inl ⟨h1, h2, fun v hv hv1 => hno v (nw v hv hv1) hv1⟩
          · exact Or.inr ⟨⟨a, by omega, ha1, ha3, fun v hv hv1 => ha2 v (nw v hv hv1) hv1⟩, ⟨b, by omega, hb1, hb3, fun v hv hv1 => hb2 v (nw v hv hv1) hv1⟩⟩
        have go : ∀ x, x = nI (cnt (t.take g) (us.take (w + 1))) → K x2 x3 (nI (nB (t.take g) (us.take w))) x (nI w + nI 1) := fun x hx => hK _ _ _ _ _ _ ⟨w + 1, nI_add w 1, z, by rw [eB]; rfl, hx, hL2, rfl⟩ (by omega)
        show _ ∧ _
        refine b_tv (fun q => absurd q one) fun _ => ⟨h.is, ct_mlike h hR z (Nat.zero_le _) ⟨rfl, _, h.g5, _, rfl, h.r5 w rfl (by omega) ?_⟩⟩
        rw [e5, List.drop_zero]
        by_cases lt : kk us w < t.take g
        · refine g_jn0_i (go _ (by rw [eC, if_pos lt, nI_add])) fun K46 hK46 => b_eq (by omega) (by omega) (fun _ => hK46) fun q => ⟨h.is, ct_mlike h hR z (Nat.zero_le _) ⟨rfl, ?_⟩⟩
          rw [List.drop_zero]
          rcases hlt.mp lt with w1 | ⟨w1, w2⟩
          · exact absurd w1 q
          · refine b_le (by omega) (by omega) (fun r => by omega) fun r => ⟨_, h.g2, h.is, ct_mlike h hR z (Nat.zero_le _) ⟨rfl, _, rfl, ?_⟩⟩
            rw [List.drop_zero]
            refine h.r2 (10 * w + lcp (kk us w) t) (by rw [nI_mul, nI_add]) (by omega) ⟨_, h.g1, h.is, ct_mlike h hR z (Nat.zero_le _) ⟨rfl, _, rfl, ?_⟩⟩
            rw [List.drop_zero]
            refine h.r1 (lcp (kk us w) t) rfl (by omega) ?_
            rw [e2 _ (by omega), hR.2.2.2.1 _ (by omega)]
            have b1 := kw.2.2.1.lt (lcp (kk us w) t)
            have b2 := hT.2.lt (lcp (kk us w) t)
            exact b_le (by omega) (by omega) (fun v => by omega) fun _ => hK46
        · rw [if_neg lt] at eC
          show _ ∧ _
          refine b_eq (by omega) (by omega) (fun q => absurd (hlt.mpr (Or.inl q)) lt) fun q => ⟨h.is, ct_mlike h hR z (Nat.zero_le _) ⟨rfl, ?_⟩⟩
          rw [List.drop_zero]
          refine b_le (by omega) (by omega) (fun r => by omega) fun r => ⟨_, h.g2, h.is, ct_mlike h hR z (Nat.zero_le _) ⟨rfl, _, rfl, ?_⟩⟩
          rw [List.drop_zero]
          refine h.r2 (10 * w + lcp (kk us w) t) (by rw [nI_mul, nI_add]) (by omega) ⟨_, h.g1, h.is, ct_mlike h hR z (Nat.zero_le _) ⟨rfl, _, rfl, ?_⟩⟩
          rw [List.drop_zero]
          refine h.r1 (lcp (kk us w) t) rfl (by omega) ?_
          rw [e2 _ (by omega), hR.2.2.2.1 _ (by omega)]
          have b1 := kw.2.2.1.lt (lcp (kk us w) t)
          have b2 := hT.2.lt (lcp (kk us w) t)
          exact b_le (by omega) (by omega) (fun _ => go _ (by rw [eC]; rfl)) fun v => absurd (hlt.mpr (Or.inr ⟨q, v⟩)) lt
    · by_cases one : g ≤ lcp (kk us w) t
      · show _ ∧ _
        refine b_lt (by omega) (by omega) (fun q => by omega) fun q => ⟨h.is, ct_mlike h hR z (Nat.zero_le _) ⟨rfl, ?_⟩⟩
        rw [List.drop_zero]
        exact b_lt (by omega) (by omega) (fun q => by omega) fun q => hK31 _ (tv_1 one).symm
      · refine g_jn0_i (hK31 _ (tv_0 one).symm) fun K92 hK92 => b_lt (by omega) (by omega) (fun _ => hK92) fun q => ⟨h.is, ct_mlike h hR z (Nat.zero_le _) ⟨rfl, ?_⟩⟩
        rw [List.drop_zero]
        exact b_lt (by omega) (by omega) (fun _ => hK92) fun q => absurd q one
end GMD15
