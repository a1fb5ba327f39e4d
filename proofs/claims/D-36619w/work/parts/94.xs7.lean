/-! STEMSPAN 7: piece; codes: orderly, written, write, code -/
section GXS7
variable {l : Launch} {E : g_E} {st st' : g_St} {a sb v N tm n ca b cb sb' : Nat} {nd ka va : Nat → Nat} {mc : Int32} {x : tX} {fc : Nat → Option Nat} {t u s : List Nat} {ws : wL} {cs : Nat → List Nat} {Q : Int32 → g_St → Prop} {X : String → g_St → Prop}
theorem ct_xpiece {p0 : Int32} (hl : l.stackTraces = false) (h : SP E st a t ws cs) (hcb : 1400 ≤ cb) (hsb : 19000 ≤ sb') (hq : xq E st a Q X [nNS] (sp_piece p0 t ws cs)) : wpx_X1_piece l E cb sb' [va_rf (some a), .int p0] st Q X := by
  refine g_WPX.wf fun hw => ?_
  obtain ⟨sb, v, N, tm, n, nd, ka, va, mc, x, ca, fc, h⟩ := h
  have hT := h.T
  have hT1 := hT.1
  have hW := h.W
  have lt := fun z hz => h.lt hw (z := z) hz
  have c25 := gS_le (us := ws) (t := t) hW.le 25
  unfold sp_piece at hq
  refine wkx_X1_piece hl ⟨fun z => ?_, fun z => ?_⟩
  · obtain ⟨j, hj, rfl⟩ := nI_of (x := p0) (Int32.not_lt.mpr z)
    refine g_lp5_m (fun mm y1 y2 s c s' => ∃ i, (gS ws t i).2 = i ∧ i ≤ j ∧ y1 = nI (gS ws t i).1 ∧ y2 = nI (j - i) ∧ Sb st.2.2 st s ∧ 1400 ≤ c + 50 * i ∧ 19000 ≤ s' + 700 * i ∧ mm = 100 - i) ?_ ⟨0, rfl, Nat.zero_le _, rfl, rfl, Sb.rf, by omega, by omega, rfl⟩
    rintro mm y1 y2 s c s' K ⟨i, hi, hij, rfl, rfl, hb, hc, hs', rfl⟩ hK
    have g := gS_le (us := ws) (t := t) hW.le i
    have g2 := lgX_drop hW.le g.1
    have hS := h.fb lt hb
    refine ⟨_, hS.sbt, _, rfl, hS.sbi, hS.len ⟨rfl, ?_⟩⟩
    refine g_jn4_i (fun y s1 c1 s1' => y = nI (lgX (t.drop (gS ws t i).1) ws) ∧ Sb st.2.2 st s1 ∧ 1400 ≤ c1 + 50 * (i + 1) ∧ 19000 ≤ s1' + 700 * (i + 1)) (fun y s1 c1 s1' ⟨ey, hb1, hc1, hs1⟩ => ?_) fun K17 hK17 => b_le (by omega) (by omega) (fun w => ?_) fun w => ⟨_, hS.tmt, _, hS.sbt, _, rfl, 2, 28, by omega, by omega, hS.sbi, g_WPa.wf fun hws => ?_⟩
    · have h1 := h.fb lt hb1
      rw [ey]
      show (¬ nI _ = nI 0 → _) ∧ (nI _ = nI 0 → _)
      refine b_ne (by omega) (by omega) (fun e0 => ?_) fun e0 => ?_
      · have e := gS_25 e0 (by omega)
        rw [if_pos (Or.inr (by rw [e, hi]; exact nI_le hij hj))] at hq
        exact ⟨by omega, by omega, hq s1 h1.sp hb1.sy⟩
      · show (¬ nI _ = nI 0 → _) ∧ (nI _ = nI 0 → _)
        refine b_ne (by omega) (by omega) (fun e1 => ?_) fun e1 => ?_
        · have ei : i = j := by omega
          subst ei
          have ok : ¬ (nI i < nI 0 ∨ nI (gS ws t 25).2 ≤ nI i) := by
            have := gS_mn (us := ws) (t := t) (i := i + 1) (25 - (i + 1))
            rw [show i + 1 + (25 - (i + 1)) = 25 by omega, gS_go hi e0] at this
            rw [nI_ltI (by omega) (by omega), nI_leI (by omega) (by omega)]
            have this : i + 1 ≤ (gS ws t 25).2 := this
            omega
          rw [if_neg ok, nI_clamp (by omega)] at hq
          exact hq s1 h1.sp hb1.sy
        · refine hK _ _ _ _ _ _ ⟨i + 1, by rw [gS_go hi e0], by omega, by rw [gS_go hi e0, nI_add], ?_, hb1, hc1, hs1, rfl⟩ (by omega)
          rw [show j - i = j - (i + 1) + 1 by omega, im1]
    · have e0 : lgX (t.drop (gS ws t i).1) ws = 0 := by rw [List.drop_eq_nil_of_le w, lgX_nil]
      exact hK17 _ _ _ _ ⟨by rw [e0], hb, by omega, by omega⟩
    · have key : ∀ s3, Sb s.2.2 s s3 → (fun (x20 : Int32) (st21 : g_St) => K17 x20 st21 (c - 2 - 48) (s' - 28 - 672)) (nI (lgX (t.drop (gS ws t i).1) ws)) s3 := fun s3 hb3 => hK17 _ _ _ _ ⟨rfl, hb.tr (hb3.le hb.z), by omega, by omega⟩
      obtain ⟨_, _, e1, e2, _, hst⟩ := ct_step (l := l) (G := fun (x20 : Int32) (st21 : g_St) => K17 x20 st21 (c - 2 - 48) (s' - 28 - 672)) hS hws g.1 key
      subst e1
      subst e2
      refine g_WPa.mono hst fun o s1 hx hQ hx2 => ?_
      obtain ⟨_, _, e1, e2, hst2⟩ := hQ hx2
      subst e1
      subst e2
      exact ⟨48, 672, by omega, by omega, hst2⟩
  · have zn : p0 < nI 0 := Int32.not_le.mp z
    rw [if_pos (Or.inl zn)] at hq
    exact ⟨by omega, by omega, hq st h.sp Sy.rf⟩
theorem AH.lt {y z : List Nat} (h : AH y z) : y < z := (lcp_lt y z).mpr (Or.inr h)
theorem AH_iff {y z : List Nat} : AH y z ↔ y < z ∧ lcp y z ≠ y.length := by
  have l1 := lcp_le1 y z
  rw [lcp_lt]
  constructor
  · intro h
    exact ⟨Or.inr h, by have := h.1; omega⟩
  · rintro ⟨h | h, h2⟩
    · omega
    · exact h
theorem AH.tr {x y z : List Nat} (h1 : AH x y) (h2 : AH y z) : AH x z := by
  have n1 : ¬ y < x := ll_as h1.lt
  have n2 : ¬ z < y := ll_as h2.lt
  have k := lcp_m1 n1 n2
  have := h1.1
  exact AH_iff.mpr ⟨ll_tr h1.lt h2.lt, by omega⟩
/-- neighbours are enough -/
theorem OR_nb : OR cs ↔ ∀ k, 1 ≤ k → k < 6 → AH (cs (k - 1)) (cs k) := by
  constructor
  · intro h k h1 h2
    exact h k h2 (k - 1) (by omega)
  · intro h b hb
    induction b with
    | zero => intro a ha; omega
    | succ b ih =>
      intro a ha
      have h1 := h (b + 1) (by omega) hb
      rw [Nat.add_sub_cancel] at h1
      by_cases e : a = b
      · rw [e]; exact h1
      · exact (ih (by omega) a (by omega)).tr h1
theorem okC.c (h : okC cs) {j : Nat} (hj : j < 6) : (cs j).length < 128 ∧ sgs (cs j) ∧ 1 ≤ (cs j).length ∧ (cs j).length ≤ 3 := by
  have := h j hj
  exact ⟨by omega, this.2.2, this.1, this.2.1⟩
theorem SPx.rc (h : SPx E st a sb v N tm n nd ka va mc x ca fc t ws cs) {j : Nat} (hj : j < 6) {y : Int32} (hy : y = nI j) {G : Option Nat → Prop} (hG : ∀ q, Str st.1 q (cs j) → G (some q)) : ∃ o6 : Option Nat, g_gr st a 15 2 o6 ∧ ∃ a7 : Nat, o6 = some a7 ∧ ∃ (n8 : Nat) (f9 : Nat → Option Nat) (j10 : Nat), g_ar st a7 4 n8 f9 ∧ y = nI j10 ∧ j10 < n8 ∧ j10 < 2 ^ 31 ∧ ∀ o11 : Option Nat, o11 = f9 j10 → G o11 := by
  obtain ⟨q, e1, e2⟩ := h.fcS hj
  refine ⟨_, h.cat, _, rfl, 6, fc, j, Or.inl h.caS, hy, hj, by omega, fun o e => ?_⟩
  rw [e, e1]
  exact hG q e2
theorem ct_J2_compareTo_2 {q q' : Nat} (h : Str st.1 q t) (h' : Str st.1 q' u) (hu : ∃ a : Nat, E.2.2.2.2.1 5 = some a) (hnt : t.length < 128) (hnu : u.length < 128)
    (hq : ∀ x, cmpv t u x → Q x st) : wp_J2_compareTo_2 l E 0 0 [va_rf (some q), va_rf (some q')] st Q := by
  obtain ⟨v, hx, hz, h1, hb⟩ := h.byt
  obtain ⟨v', hx', hz', h1', hb'⟩ := h'.byt
  refine wk_J2_compareTo_2 ?_
  refine ⟨some v, ⟨_, Or.inr h1, rfl⟩, q', rfl, some v', ⟨_, Or.inr h1', rfl⟩, h.is, ct_J2_coder h ⟨rfl, h'.is, ct_J2_coder h' ⟨rfl, fun q => absurd rfl q, fun _ => ⟨fun q => absurd rfl q, fun _ => ?_⟩⟩⟩⟩
  refine wk_J7_compareTo ?_
  obtain ⟨g, k2, -⟩ := id hb
  obtain ⟨g', k2', -⟩ := id hb'
  exact ⟨v, rfl, 1, _, Or.inr k2, v', rfl, 1, _, Or.inr k2', ct_J7_compareTo_2 hb hb' hu hnt hnu fun x hx => ⟨rfl, rfl, hq x hx⟩⟩
theorem ct_xorderly (h : SPx E st a sb v N tm n nd ka va mc x ca fc t ws cs) (hq : Q (tv (OR cs)) st) : wp_X1_isOrderly l E 0 0 [va_rf (some a)] st Q := by
  have hC := h.C
  refine wk_X1_isOrderly ?_
  refine g_lp1_m (fun mm y => ∃ k, y = nI k ∧ 1 ≤ k ∧ k ≤ 6 ∧ (∀ i, 1 ≤ i → i < k → AH (cs (i - 1)) (cs i)) ∧ mm = 100 - k) ?_ ⟨1, rfl, Nat.le_refl _, by omega, fun i h1 h2 => by omega, rfl⟩
  rintro mm y K ⟨k, rfl, hk1, hk, hI, rfl⟩ hK
  refine b_le (by omega) (by omega) (fun z => ?_) fun z => ?_
  · rw [tv_1 (p := OR cs) (OR_nb.mpr fun i h1 h2 => hI i h1 (by omega))] at hq
    exact hq
  · have e0 : nI k - nI 1 = nI (k - 1) := by rw [su_sub (by omega)]
    have c1 := hC.c (j := k - 1) (by omega)
    have c2 := hC.c (j := k) z
    have l1 := lcp_le1 (cs (k - 1)) (cs k)
    have bad : ¬ AH (cs (k - 1)) (cs k) → Q (nI 0) st := fun w => by
      rw [tv_0 (p := OR cs) fun v => w (OR_nb.mp v k hk1 z)] at hq
      exact hq
    refine h.rc (j := k - 1) (by omega) e0 fun q1 hq1 => h.rc (j := k) z rfl fun q2 hq2 => ⟨_, rfl, hq1.is, ?_⟩
    refine ct_J2_compareTo_2 hq1 hq2 h.cE.1 c1.1 c2.1 fun y hy => ⟨rfl, ?_⟩
    by_cases w : AH (cs (k - 1)) (cs k)
    · have hneg : y < 0 := hy.1.mpr w.lt
      show _ ∧ _
      refine ⟨fun q => absurd hneg (Int32.not_lt.mpr q), fun _ => ?_⟩
      refine h.rc (j := k - 1) (by omega) e0 fun q1 hq1 => h.rc (j := k) z rfl fun q2 hq2 => ct_commonS hq1 hq2 c1.1 c2.1 c1.2.1 c2.2.1 ⟨rfl, ?_⟩
      refine h.rc (j := k - 1) (by omega) e0 fun q1 hq1 => ⟨_, rfl, hq1.is, ct_J2_length hq1 ⟨rfl, b_ne (by omega) (by omega) (fun q => absurd q (AH_iff.mp w).2) fun _ => hK _ _ ⟨k + 1, nI_add k 1, by omega, by omega, fun i h1 h2 => ?_, rfl⟩ (by omega)⟩⟩
      by_cases e : i = k
      · rw [e]; exact w
      · exact hI i h1 (by omega)
    · refine g_jn0_i (bad w) fun K20 hK20 => ⟨fun _ => hK20, fun q => ?_⟩
      have hneg : y < 0 := Int32.not_le.mp q
      have hlt := hy.1.mp hneg
      refine h.rc (j := k - 1) (by omega) e0 fun q1 hq1 => h.rc (j := k) z rfl fun q2 hq2 => ct_commonS hq1 hq2 c1.1 c2.1 c1.2.1 c2.2.1 ⟨rfl, ?_⟩
      refine h.rc (j := k - 1) (by omega) e0 fun q1 hq1 => ⟨_, rfl, hq1.is, ct_J2_length hq1 ⟨rfl, b_ne (by omega) (by omega) (fun _ => hK20) fun q => absurd (AH_iff.mpr ⟨hlt, q⟩) w⟩⟩
end GXS7
