/-! TREE 16: putAll into an empty map -/
section GT16
variable {l : Launch} {E : g_E} {st0 st : g_St} {tm n : Nat} {nd ka va : Nat → Nat} {mc : Int32} {x : tX} {ws : wL}
theorem TMx.emp (h : TMx st tm 0 nd ka va mc x []) : st.2.1 tm = some (.inr (3, [x.1, x.2.1, va_rf none, va_rf none, .int (nI 0), .int mc, va_rf x.2.2.1, va_rf x.2.2.2.1, x.2.2.2.2])) := by
  obtain ⟨L, R, P, co, rt, lo, hi, hT, hS, -⟩ := h
  have hr : rt = none := by
    cases e : rt with
    | none => rfl
    | some r =>
      have := (hS.2.2.2.2.2.2.2.2 r e).1
      omega
  rw [hT.2.1, hr]
  rfl
theorem TMx.vws (h : TMx st tm n nd ka va mc x ws) : (∀ a, x.2.2.1 = some a → st.2.1 a = some (.inr (14, [va_rf (some tm)]))) ∧ ∀ a, x.2.2.2.1 = some a → st.2.1 a = some (.inr (8, [va_rf (some tm)])) := by
  obtain ⟨L, R, P, co, rt, lo, hi, hT, hS, hB, hn, hn2, hK, hV, hsd, hv1, hv2⟩ := h
  exact ⟨hv1, hv2⟩
theorem TMx.nlt (h : TMx st tm n nd ka va mc x ws) : n < 2 ^ 20 := by
  obtain ⟨L, R, P, co, rt, lo, hi, hT, hS, hB, hn, hn2, hK, hV, hsd, hv1, hv2⟩ := h
  exact hn2
theorem ct_putAll0 {tms n2 cb sb : Nat} {nd2 ka2 va2 : Nat → Nat} {mc2 : Int32} {x2 : tX} {ws2 : wL} {Q : g_St → Prop} (h : TMx st tm 0 nd ka va mc x []) (h2 : TMx st tms n2 nd2 ka2 va2 mc2 x2 ws2) (hd : ∀ z, CX tm 0 nd x z → ¬ CX tms n2 nd2 x2 z) (hn : n2 = 0) (hcb : 2 ≤ cb) (hsb : 5 ≤ sb)
    (hq : ∀ st' : g_St, TMx st' tm 0 nd ka va mc x [] → Se (fun z => z = tms) st st' → st'.1 = st.1 → Q st') : wp_J4_putAll l E cb sb [va_rf (some tm), va_rf (some tms)] st Q := by
  refine g_WPv.wf fun hw => ?_
  refine wk_J4_putAll ⟨tms, rfl, 1, 1, by omega, by omega, h2.is, ct_entrySet h2 (Nat.le_refl _) (Nat.le_refl _) fun q s1 x1 hT1 hv1 hf1 hse1 _ hx1 => ⟨q, rfl, 1, 4, by omega, by omega, ⟨_, Or.inl hv1⟩, ct_entryIter hT1 hv1 (Nat.le_refl _) (Nat.le_refl _) fun s2 hI hm hf2 hz2 hx2 => ⟨_, rfl, ?_, ct_hasNextE hI ⟨rfl, fun _ => ?_, fun z => absurd (by rw [if_neg (by omega)]; rfl) z⟩⟩⟩⟩
  · obtain ⟨last, hI⟩ := hI
    exact ⟨_, Or.inl hI⟩
  · have hz1 := hse1.1.1
    have ho : ∀ z, z < st.2.2 → z ≠ tms → s2.2.1 z = st.2.1 z := fun z hz hne => (hm.2 z (by omega)).trans (hse1.2 z hz hne)
    refine hq s2 (h.fr (fun q o hq => by rw [hf2, hf1]; exact hq) fun z hz => ho z (h.lt hw hz) (fun e => hd z hz (by rw [e]; exact Or.inl (Or.inl rfl)))) ⟨hse1.1.tr hm.1, ho⟩ (by rw [hf2, hf1])
theorem ct_putAll {tms n2 cb sb : Nat} {nd2 ka2 va2 : Nat → Nat} {mc2 : Int32} {x2 : tX} {ws2 : wL} {Q : g_St → Prop} (h : TMx st tm 0 nd ka va mc x []) (h2 : TMx st tms n2 nd2 ka2 va2 mc2 x2 ws2) (hd : ∀ z, CX tm 0 nd x z → ¬ CX tms n2 nd2 x2 z) (hn : n2 < 100) (hcb : n2 + 2 ≤ cb) (hsb : 6 * n2 + 5 ≤ sb)
    (hq : ∀ (st' : g_St) (nd' ka' va' : Nat → Nat) (mc' : Int32), TMx st' tm n2 nd' ka' va' mc' x ws2 → Se (fun z => z = tm ∨ z = tms) st st' → st'.1 = st.1 → (∀ z, CX tm n2 nd' x z → CX tm 0 nd x z ∨ st.2.2 ≤ z) → Q st') : wp_J5_putAll l E cb sb [va_rf (some tm), va_rf (some tms)] st Q := by
  refine g_WPW.wf fun hw => ?_
  have htm := h.emp
  have hlen := h2.len
  have htl := (hw.2 _ _ htm).2
  have hnt : ¬ CX tms n2 nd2 x2 tm := hd tm (Or.inl (Or.inl rfl))
  have htms : tm ≠ tms := fun e => hnt (by rw [e]; exact Or.inl (Or.inl rfl))
  refine wk_J5_putAll ⟨tms, rfl, h2.is, ct_mapSize h2 ⟨rfl, nI 0, ⟨_, Or.inl htm, rfl⟩, ?_⟩⟩
  by_cases hn0 : n2 = 0
  · have hws : ws2 = [] := List.length_eq_zero_iff.mp (by omega)
    have hJ : ∃ mc7 ms8 : Nat, mc7 ≤ cb ∧ ms8 ≤ sb ∧ g_is st tm 3 ∧ wp_J4_putAll l E mc7 ms8 [va_rf (some tm), va_rf (some tms)] st (fun st6 => g_Ext st st6 → Q st6) := ⟨cb, sb, Nat.le_refl _, Nat.le_refl _, h.is, ct_putAll0 h h2 hd hn0 (by omega) (by omega) fun s hs hse hf _ => hq s nd ka va mc (by rw [hn0, hws]; exact hs) (hse.wk fun z _ hz => Or.inr hz) hf (fun z hz => Or.inl (by rw [hn0] at hz; exact hz))⟩
    exact g_jn0_i hJ fun K4 hK4 => ⟨fun _ => hK4, fun _ => ⟨fun _ => hK4, fun z => absurd (by rw [hn0]; rfl) z⟩⟩
  · show _ ∧ _
    refine ⟨fun z => absurd rfl z, fun _ => ⟨fun z => absurd z (nI_ne0 (by omega) (by omega)), fun _ => ⟨h2.is, none, ⟨_, Or.inl htm, rfl⟩, fun a e => by cases e; exact h2.is, h2.is, ?_⟩⟩⟩
    have hcmp : g_gr st tms 3 2 none := by
      obtain ⟨L, R, P, co, rt, lo, hi, hT, -⟩ := h2
      exact hT.gM
    refine wk_J5_comparator ⟨_, hcmp, rfl, wk_J24_equals ?_⟩
    show _ ∧ _
    refine ⟨fun _ => ⟨rfl, rfl, fun z => absurd z (by decide), fun _ => ⟨mc, ⟨_, Or.inl htm, rfl⟩, pu htm fun s17 h17 => ?_⟩⟩, fun z => absurd rfl z⟩
    have hT17 : TMx s17 tms n2 nd2 ka2 va2 mc2 x2 ws2 := h2.fr (fun q o hq => by rw [h17.1]; exact hq) fun z hz => h17.2.2.2.1 z (fun e => hnt (by rw [← e]; exact hz))
    refine ⟨1, 1, by omega, by omega, hT17.is, ct_entrySet hT17 (Nat.le_refl _) (Nat.le_refl _) fun q s1 x1 hT1 hv1 hf1 hse1 hcx1 hx1 => ⟨q, rfl, 1, 4, by omega, by omega, ⟨_, Or.inl hv1⟩, g_WPa.wf fun hw1 => ct_entryIter hT1 hv1 (Nat.le_refl _) (Nat.le_refl _) fun s2 hI hm hf2 hz2 hx2 => ?_⟩⟩
    have hz17 : s17.2.2 = st.2.2 := h17.2.1
    have hz1 := hse1.1.1
    have htm2 : s2.2.1 tm = s17.2.1 tm := (hm.2 tm (by omega)).trans (hse1.2 tm (by omega) htms)
    have hT2 : TMx s2 tms n2 nd2 ka2 va2 mc2 x1 ws2 := hT1.fr (fun q o hq => by rw [hf2]; exact hq) fun z hz => hm.2 z (hT1.lt hw1 hz)
    have hnt1 : ¬ CX tms n2 nd2 x1 tm := fun z => by
      rcases hcx1 tm z with w | w
      · exact hnt w
      · omega
    have hf0 : s2.1 = st.1 := by rw [hf2, hf1, h17.1]
    refine ⟨n2, 6 * n2, by omega, by omega, ⟨_, Or.inl (htm2.trans h17.nx)⟩, wk_J5_buildFromSorted (pu (htm2.trans h17.nx) fun s3 h3 => wk_J5_computeRedLevel (ct_nlz fun y => ⟨rfl, rfl, n2, 6 * n2, Nat.le_refl _, Nat.le_refl _, ⟨_, Or.inl h3.nx⟩, ?_⟩))⟩
    have hT3 : TMx s3 tms n2 nd2 ka2 va2 mc2 x1 ws2 := hT2.fr (fun q o hq => by rw [h3.1]; exact hq) fun z hz => h3.2.2.2.1 z (fun e => hnt1 (by rw [← e]; exact hz))
    have hit : s1.2.2 < s3.2.2 := by rw [h3.2.1, hz2]; omega
    have hI3 : IT s3 9 s1.2.2 tms n2 nd2 mc2 0 := by
      obtain ⟨last, k⟩ := hI
      exact ⟨last, (h3.2.2.2.1 _ (by omega)).trans k⟩
    have key := ct_buildF (n := n2) (l := l) (E := E) (ka := ka2) (va := va2) (ws := ws2) (tms := tms) (it := s1.2.2) (a0 := tm) (nds := nd2) (mcs := mc2) (xs := x1) (nI 31 - y) 7 0 n2 (nI 0) s3 n2 (6 * n2)
    have k1 : ∀ z, CX tms n2 nd2 x1 z → z < s3.2.2 := fun z hz => by have := hT1.lt hw1 hz; omega
    have k2 : tm < s3.2.2 := by rw [h3.2.1, hz2]; omega
    have k3 : tm ≠ s1.2.2 := by omega
    have k4 : n2 - 0 < 2 ^ 7 := by omega
    refine key _ hT3 ⟨_, Or.inl h3.nx⟩ k1 hI3 hit k2 k3 (by omega) (Nat.le_refl _) hn k4 (Nat.le_refl _) (Nat.le_refl _) fun o s4 hB hx4 => ?_
    obtain ⟨nd', r, L, R, P, co, lo, hi, rfl, hS, hN, hBc, hj, ha, hI4, hse4, hf4⟩ := hB
    have htm4 := (hse4.2 tm (by rw [h3.2.1, hz2]; omega) (by omega)).trans h3.nx
    refine pu htm4 fun s5 h5 hx5 => ?_
    have hz3 : s3.2.2 = s1.2.2 + 1 := by rw [h3.2.1, hz2]
    have hz4 := hse4.1.1
    have hff : s5.1 = st.1 := by rw [h5.1, hf4, h3.1, hf0]
    have ho : ∀ z, z < st.2.2 → z ≠ tm → z ≠ tms → s5.2.1 z = st.2.1 z := fun z hz g1 g2 => by
      rw [h5.2.2.2.1 z g1, hse4.2 z (by omega) (by omega), h3.2.2.2.1 z g1, hm.2 z (by omega), hse1.2 z (by omega) g2, h17.2.2.2.1 z g1]
    have hvw := h.vws
    have hvwl : ∀ a fs c, st.2.1 a = some (.inr (c, fs)) → (c = 14 ∨ c = 8) → CX tm 0 nd x a → s5.2.1 a = some (.inr (c, fs)) := fun a fs c e hc hcx => by
      rw [ho a (hw.2 _ _ e).2 (fun z => by rw [z, htm] at e; simp only [Option.some.injEq, Sum.inr.injEq, Prod.mk.injEq] at e; omega) (fun z => hd a hcx (by rw [z]; exact Or.inl (Or.inl rfl)))]
      exact e
    obtain ⟨g1, g2, g3', g4, g5, g6, g7, g8, g9⟩ := hS
    obtain ⟨L2, R2, P2, co2, rt2, lo2, hi2, hTs, hSs, hBs, hns, hns2, hKs, hVs, hsds, -⟩ := h2
    refine hq s5 nd' ka2 va2 (mc + nI 1) ⟨L, R, P, co, r, lo, hi, ⟨Sx.rf, h5.nx, fun i hi => ?_, fun i j hi hj' e => hj i j (Nat.zero_le _) hi (Nat.zero_le _) hj' e⟩, ?_, hBc, hns, hns2, by rw [hff]; exact hKs, by rw [hff]; exact hVs, hsds, fun a e => hvwl a _ _ (hvw.1 a e) (Or.inl rfl) (Or.inr (Or.inl e)), fun a e => hvwl a _ _ (hvw.2 a e) (Or.inr rfl) (Or.inr (Or.inr e))⟩ ⟨h17.2.2.2.2.tr (hse1.1.tr (hm.1.tr (h3.2.2.2.2.tr (hse4.1.tr h5.2.2.2.2)))), fun z hz hne => ho z hz (fun e => hne (Or.inl e)) (fun e => hne (Or.inr e))⟩ hff ?_
    · have := ha i (Nat.zero_le _) hi
      rw [h5.2.2.2.1 _ (by omega)]
      exact hN i (Nat.zero_le _) hi
    · refine ⟨fun i hi => ?_, fun i hi => g4 i (Nat.zero_le _) hi, fun i j hi e => ?_, fun i hi => g6 i (Nat.zero_le _) hi, fun i j hi e => ?_, fun i hi => g8 i (Nat.zero_le _) hi, fun i j hi e => ?_, fun e => (g1 e).symm, fun j e => ?_⟩
      · have := g3' i (Nat.zero_le _) hi
        omega
      · exact (g5 i j (Nat.zero_le _) hi e).2
      · exact (g7 i j (Nat.zero_le _) hi e).2
      · exact (g9 i j (Nat.zero_le _) hi e).2
      · exact (g2 j e).2
    · rintro z ((rfl | ⟨i, hi, rfl⟩) | hz | hz)
      · exact Or.inl (Or.inl (Or.inl rfl))
      · have := ha i (Nat.zero_le _) hi
        exact Or.inr (by omega)
      · exact Or.inl (Or.inr (Or.inl hz))
      · exact Or.inl (Or.inr (Or.inr hz))
end GT16
