/-! STEMSPAN 12: checksum -/
section GXS12
variable {l : Launch} {E : g_E} {st st' : g_St} {a sb v N tm n ca b cb sb' : Nat} {nd ka va : Nat → Nat} {mc : Int32} {x : tX} {fc : Nat → Option Nat} {t u s : List Nat} {ws : wL} {cs : Nat → List Nat} {X : String → g_St → Prop}
theorem ct_xchecksum {Q : Int64 → g_St → Prop} (h : SP E st a t ws cs) (hcb : 100 ≤ cb) (hsb : 1000 ≤ sb') (hq : ∀ st', SP E st' a t ws cs → Sy st.2.2 st st' → Q (sp_checksum t ws cs) st') : wp_X1_checksum l E cb sb' [va_rf (some a)] st Q := by
  refine g_WP.wf fun hw => ?_
  obtain ⟨sb, v, N, tm, n, nd, ka, va, mc, x, ca, fc, h⟩ := h
  have hT1 := h.T.1
  have hW := h.W
  have hW1 := hW.1
  have hC := h.C
  have hn := h.tmS.len
  refine wk_X1_checksum ?_
  refine g_lp2_m (fun mm y z => ∃ k, z = nI k ∧ k ≤ t.length ∧ y = ckL 7 (t.take k) ∧ mm = 100 - k) ?_ ⟨0, rfl, Nat.zero_le _, rfl, rfl⟩
  rintro mm y z K ⟨k, rfl, hk, rfl, rfl⟩ hK
  refine ⟨_, h.sbt, _, rfl, h.sbi, h.len ⟨rfl, b_le (by omega) (by omega) (fun z => ?_) fun z => ⟨_, h.sbt, _, rfl, h.sbi, ct_sbCharAt h.sbS z ⟨rfl, hK _ _ _ ⟨k + 1, nI_add k 1, z, (ckL_1 z).symm, rfl⟩ (by omega)⟩⟩⟩⟩
  rw [List.take_of_length_le z]
  refine ⟨_, h.tmt, _, rfl, 1, 1, by omega, by omega, h.tmS.is, ct_entrySet h.tmS (Nat.le_refl _) (Nat.le_refl _) fun q1 s1 x1 hM hv1 _ hse _ _ => ?_⟩
  obtain ⟨h1, hY1⟩ := h.mp hw (Nat.le_refl _) hM hW (hse.wk fun z _ e => Or.inl (Or.inl e))
  refine ⟨_, rfl, 1, 4, by omega, by omega, ⟨_, Or.inl hv1⟩, g_WPa.wf fun hw1 => ct_entryIter h1.tmS hv1 (Nat.le_refl _) (Nat.le_refl _) fun s2 hI2 hs2 _ _ _ => ?_⟩
  have lt1 := fun z hz => h1.lt hw1 (z := z) hz
  have hb2 := hs2.bl (Nat.le_refl s1.2.2)
  refine g_lp2_m (fun mm y s => ∃ k, y = ckW (ckL 7 t) (ws.take k) ∧ k ≤ n ∧ Sb s1.2.2 s1 s ∧ IT s 9 s1.2.2 tm n nd mc k ∧ mm = 100 - k) ?_ ⟨0, rfl, Nat.zero_le _, hb2, hI2, rfl⟩
  rintro mm y s K ⟨k, rfl, hk, hb, hI, rfl⟩ hK
  have hS := h1.fb lt1 hb
  refine ⟨_, rfl, by obtain ⟨la, e⟩ := hI; exact ⟨_, Or.inl e⟩, ct_hasNextE hI ⟨rfl, ?_⟩⟩
  by_cases kn : k < n
  · rw [if_pos kn]
    refine ⟨fun e => absurd e (by decide), fun _ => ⟨by obtain ⟨la, e⟩ := hI; exact ⟨_, Or.inl e⟩, ct_nextE hS.tmS hI kn fun s4 hI4 hs4 _ => ?_⟩⟩
    have hb4 := hb.tr (hs4.se.bl hb.z fun z e => Nat.le_of_eq e.symm)
    have h4 := h1.fb lt1 hb4
    have hky := h4.tmS.key kn
    have kw := hW.kk (w := k) (by omega)
    have hv := (h4.tmS.val kn).1
    refine ⟨fun w e => (by cases e; exact h4.tmS.isN kn), _, rfl, h4.tmS.isN kn, ct_eKey h4.tmS kn ⟨rfl, hky.1.isN, ?_⟩⟩
    refine g_lp2_m (fun mm y z => ∃ i, z = nI i ∧ i ≤ (kk ws k).length ∧ y = ckL (ckW (ckL 7 t) (ws.take k)) ((kk ws k).take i) ∧ mm = 100 - i) ?_ ⟨0, rfl, Nat.zero_le _, rfl, rfl⟩
    rintro mm y z K65 ⟨i, rfl, hi, rfl, rfl⟩ hK65
    refine ⟨_, rfl, hky.1.is, ct_J2_length hky.1 ⟨rfl, b_le (by omega) (by omega) (fun r => ⟨h4.tmS.isN kn, ct_eVal h4.tmS kn ⟨rfl, fun w e => (by cases e; exact ⟨_, Or.inr hv⟩), _, rfl, ⟨_, Or.inr hv⟩, ct_J14_intValue hv ⟨rfl, hK _ _ _ ⟨k + 1, ?_, kn, hb4, hI4, rfl⟩ (by omega)⟩⟩⟩) fun r => ⟨hky.1.is, ct_J2_charAt hky.1 r ⟨rfl, hK65 _ _ _ ⟨i + 1, nI_add i 1, r, (ckL_1 r).symm, rfl⟩ (by omega)⟩⟩⟩⟩
    rw [List.take_of_length_le r, ckW_1 (by omega)]
  · rw [if_neg kn]
    refine ⟨fun _ => ?_, fun e => absurd rfl e⟩
    rw [tkn (by omega)]
    refine ⟨_, hS.cat, _, rfl, 4, _, Or.inl hS.caS, ?_⟩
    refine g_lp2_m (fun mm y z => ∃ j, z = nI j ∧ j ≤ 6 ∧ y = ckC (ckW (ckL 7 t) ws) cs j ∧ mm = 100 - j) ?_ ⟨0, rfl, Nat.zero_le _, rfl, rfl⟩
    rintro mm y z K35 ⟨j, rfl, hj, rfl, rfl⟩ hK35
    show (nI 6 ≤ _ → _) ∧ (¬ nI 6 ≤ _ → _)
    refine b_le (by omega) (by omega) (fun q => ?_) fun q => ?_
    · rw [show j = 6 by omega]
      exact hq s hS.sp (hY1.tr (hb.le hY1.1.1).sy)
    · obtain ⟨q2, f1, f2⟩ := hS.fcS q
      have hc := hC.c q
      refine ⟨6, fc, j, Or.inl hS.caS, rfl, q, by omega, fun o e => ?_⟩
      rw [e, f1]
      refine ⟨_, rfl, f2.is, ct_J2_length f2 ⟨rfl, ?_⟩⟩
      refine g_lp2_m (fun mm y z => ∃ i, z = nI i ∧ i ≤ (cs j).length ∧ y = ckL (31 * ckC (ckW (ckL 7 t) ws) cs j + (nI (cs j).length).toInt64) ((cs j).take i) ∧ mm = 100 - i) ?_ ⟨0, rfl, Nat.zero_le _, rfl, rfl⟩
      rintro mm y z K47 ⟨i, rfl, hi, rfl, rfl⟩ hK47
      refine ⟨f2.is, ct_J2_length f2 ⟨rfl, b_le (by omega) (by omega) (fun r => hK35 _ _ _ ⟨j + 1, nI_add j 1, q, ?_, rfl⟩ (by omega)) fun r => ⟨f2.is, ct_J2_charAt f2 r ⟨rfl, hK47 _ _ _ ⟨i + 1, nI_add i 1, r, (ckL_1 r).symm, rfl⟩ (by omega)⟩⟩⟩⟩
      rw [List.take_of_length_le r]
      rfl
end GXS12
