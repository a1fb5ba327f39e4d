/-! TREE 14: clearing a submap -/
section GT14
variable {l : Launch} {E : g_E} {st0 st : g_St} {tm n : Nat} {nd ka va : Nat → Nat} {mc : Int32} {x : tX} {ws : wL} {t u : List Nat} {s c1 c2 : Nat} {slo shi e8 e11 : Option Nat} {sfs : Int32}
theorem er_td {ws : wL} {c j : Nat} (hc : c ≤ j) (hj : j < ws.length) : (ws.take c ++ ws.drop j).eraseIdx c = ws.take c ++ ws.drop (j + 1) := by
  have hl : (ws.take c).length = c := by rw [List.length_take]; omega
  rw [List.eraseIdx_append_of_length_le (by omega), hl, Nat.sub_self, List.eraseIdx_zero, List.tail_drop]
theorem ct_subClear {cb sb : Nat} {Q : g_St → Prop} (h : TMx st tm n nd ka va mc x ws) (hE : Cst E st.1) (hU : Unb E st) (hs : SUB st.2.1 s tm slo shi sfs none e11) (hr : RNG st.1 ws slo shi sfs c1 c2) (hcb : 2 ≤ cb) (hsb : 9 ≤ sb)
    (hq : ∀ (st' : g_St) (n' : Nat) (nd' ka' va' : Nat → Nat) (mc' : Int32), TMx st' tm n' nd' ka' va' mc' x (ws.take c1 ++ ws.drop c2) → Se (fun z => z = s ∨ CX tm n nd x z) st st' → st'.1 = st.1 → (∀ z, CX tm n' nd' x z → CX tm n nd x z) → Q st') : wp_J4_clear l E cb sb [va_rf (some s)] st Q := by
  refine g_WPv.wf fun hw => ?_
  have hsl := (hw.2 _ _ hs).2
  have hns : ¬ CX tm n nd x s := h.nc hs (by decide)
  have hlen := h.len
  have hc12 := hr.2.2
  have hc2 : c2 ≤ n := by
    obtain ⟨-, ⟨b, u, r2, r3, r4, r5⟩, -⟩ := hr
    rw [r5, h.len]; exact cL_le h.sd
  refine wk_J4_clear ⟨1, 4, by omega, by omega, ⟨_, Or.inl hs⟩, ct_subEntrySet hs (Nat.le_refl _) (Nat.le_refl _) fun s1 hv hs1 hse hf hz hx => ⟨_, rfl, cb - 1, sb - 4, Nat.le_refl _, Nat.le_refl _, ⟨_, Or.inl hv⟩, ?_⟩⟩
  have hT1 : TMx s1 tm n nd ka va mc x ws := h.fr (fun q o hq => by rw [hf]; exact hq) fun a ha => hse.2 a (h.lt hw ha) (fun e => hns (by rw [← e]; exact ha))
  refine wk_J30_clear ⟨cb - 1, sb - 4, Nat.le_refl _, Nat.le_refl _, ⟨_, Or.inl hv⟩, ct_subIter hT1 (by rw [hf]; exact hE) hs1 (by rw [hf]; exact hr) hv rfl (by omega) (by omega) fun s2 hI hm hf2 hz2 hx2 => ?_⟩
  have hx02 : g_Ext st s2 := hse.1.tr hm.1
  have hT2 : TMx s2 tm n nd ka va mc x ws := hT1.fr (fun q o hq => by rw [hf2]; exact hq) fun a ha => hm.2 a (by have := h.lt hw ha; omega)
  have hs2 : SUB s2.2.1 s tm slo shi sfs (some st.2.2) e11 := (hm.2 s (by omega)).trans hs1
  refine g_lp1_m (fun m s' => ∃ (n' : Nat) (nd' ka' va' : Nat → Nat) (mc' : Int32) (c' : Nat), c1 ≤ c' ∧ c' ≤ c2 ∧ TMx s' tm n' nd' ka' va' mc' x (ws.take c1 ++ ws.drop (c1 + (c2 - c'))) ∧ SIt E s' s1.2.2 s n' nd' ka' mc' c1 c' ∧ SUB s'.2.1 s tm slo shi sfs (some st.2.2) e11 ∧ (∀ a, a < st.2.2 → a ≠ s → ¬ CX tm n nd x a → s'.2.1 a = st.2.1 a) ∧ s'.1 = st.1 ∧ g_Ext st s' ∧ (∀ z, CX tm n' nd' x z → CX tm n nd x z) ∧ m = c' - c1) ?_ ⟨n, nd, ka, va, mc, c2, hc12, Nat.le_refl _, by rw [Nat.sub_self, Nat.add_zero, List.take_append_drop]; exact hT2, hI, hs2, fun a ha hne hc => ?_, by rw [hf2, hf], hx02, fun z hz => hz, rfl⟩
  rotate_left
  · rw [hm.2 a (by omega), hse.2 a ha hne]
  rintro m s' K ⟨n', nd', ka', va', mc', c', k1, k2, hT', hI', hs', ho', hf', hx', hsub, rfl⟩ hK
  have hI0 := hI'
  obtain ⟨last, nx, ei, j1, j2, -⟩ := hI0
  refine ⟨_, rfl, ⟨_, Or.inl ei⟩, ct_sHasNext hT' (hU.ext hx') hI' ⟨rfl, fun z => ?_, fun z => ?_⟩⟩
  · have hic : ¬ c1 < c' := fun w => by rw [if_pos w] at z; exact absurd z (by decide)
    have e : c' = c1 := by omega
    rw [e, show c1 + (c2 - c1) = c2 by omega] at hT'
    intro _
    exact hq s' n' nd' ka' va' mc' hT' ⟨hx', fun a ha hne => ho' a ha (fun e => hne (Or.inl e)) (fun e => hne (Or.inr e))⟩ hf' hsub
  · have hic : c1 < c' := by
      by_cases w : c1 < c'
      · exact w
      · rw [if_neg w] at z; exact absurd rfl z
    refine ⟨⟨_, Or.inl ei⟩, ct_sNext hT' (hU.ext hx') hI' hs' rfl hic fun s3 h3 hI3 hx3 hx3' => ?_⟩
    have hnit : ∀ a, CX tm n' nd' x a → a ≠ s1.2.2 := fun a ha e => hT'.nc ei (by decide) (by rw [← e]; exact ha)
    have hT3 := hT'.fr (st' := s3) (fun q o hq => by rw [hx3.1]; exact hq) fun a ha => hx3.2.2.2 a (hnit a ha)
    have hsit : s ≠ s1.2.2 := by omega
    have hs3 := (hx3.2.2.2 s hsit).trans hs'
    refine ⟨⟨_, Or.inl h3⟩, ct_sRemove hT3 h3 hs3 rfl hic j2 fun s4 nd4 ka4 va4 hT4 hI4 hx4 hsub4 hx4' => hK _ _ ⟨n' - 1, nd4, ka4, va4, mc' + nI 1, c' - 1, by omega, by omega, ?_, hI4, ?_, fun a ha hne hc => ?_, by rw [hx4.1, hx3.1, hf'], (hx'.tr hx3').tr hx4', fun z hz => hsub z (hsub4 z hz), rfl⟩ (by omega)⟩
    · rw [er_td (by omega) (by omega)] at hT4
      rw [show c1 + (c2 - (c' - 1)) = c1 + (c2 - c') + 1 by omega]
      exact hT4
    · unfold SUB
      rw [hx4.2.2.2 s (fun z => z.elim hsit (fun z => hns (hsub s z)))]
      exact hs3
    · rw [hx4.2.2.2 a (fun z => z.elim (by omega) (fun z => hc (hsub a z))), hx3.2.2.2 a (by omega)]
      exact ho' a ha hne hc
end GT14
