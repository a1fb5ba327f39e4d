/-! MISMATCH 2: ArraysSupport.vectorizedMismatch, mismatch -/
section GM2
variable {l : Launch} {E : g_E} {st : g_St}
theorem mi_by {g : Nat → Int32} {t : List Nat} (h3 : ∀ j : Nat, j < t.length → g j = nI (t.getD j 0)) (h4 : ∀ c ∈ t, c < 128) {j : Nat} (hj : j < t.length) : by8 g j = t.getD j 0 := by
  have h5 := g_mem (j := j) h4
  unfold by8
  rw [h3 j hj]
  show (UInt32.ofNat _).toNat % 256 = _ 
  rw [UInt32.toNat_ofNat', Nat.mod_eq_of_lt (a := t.getD j 0) (by omega), Nat.mod_eq_of_lt (by omega)]
theorem mi_first {n : Nat} {A B : Nat → Nat} (h : ∃ k, k < n ∧ A k ≠ B k) : ∃ k, k < n ∧ (∀ z, z < k → A z = B z) ∧ A k ≠ B k := by
  obtain ⟨k, h1, h2⟩ := h
  induction k using Nat.strongRecOn with
  | _ k ih =>
    by_cases hz : ∃ z, z < k ∧ A z ≠ B z
    · obtain ⟨z, z1, z2⟩ := hz
      exact ih z z1 (by omega) z2
    · exact ⟨k, h1, fun z hz' => Classical.byContradiction fun q => hz ⟨z, hz', q⟩, h2⟩
theorem ct_J15_vec {v w n : Nat} {t u : List Nat} {Q : Int32 → g_St → Prop} (h : Byt st.1 v t) (h' : Byt st.1 w u) (hu : ∃ a : Nat, E.2.2.2.2.1 5 = some a) (hn8 : 8 ≤ n) (hnt : n ≤ t.length) (hnu : n ≤ u.length) (hn : n < 128)
    (hq1 : ∀ k, k < n → (∀ i, i < k → t.getD i 0 = u.getD i 0) → t.getD k 0 ≠ u.getD k 0 → Q (nI k) st)
    (hq2 : ∀ tl, tl ≤ n → (∀ i, i < n - tl → t.getD i 0 = u.getD i 0) → Q (nI tl ^^^ (-1)) st) : wp_J15_vectorizedMismatch l E 0 0 [va_rf (some v), .long ((nI 16).toInt64), va_rf (some w), .long ((nI 16).toInt64), .int (nI n), .int (nI 0)] st Q := by
  obtain ⟨g, h2, h3, h4, h5⟩ := h
  obtain ⟨g', h2', h3', h4', h5'⟩ := h'
  obtain ⟨a, ha⟩ := hu
  refine wk_J15_vectorizedMismatch ?_
  refine g_lp1_i (fun x => ∃ j : Nat, x = nI j ∧ j ≤ n / 8 ∧ ∀ i, i < 8 * j → t.getD i 0 = u.getD i 0) (fun x => n / 8 - x.toNatClampNeg) ?_ _ ⟨0, rfl, Nat.zero_le _, fun i hi => absurd hi (Nat.not_lt_zero _)⟩
  rintro x K ⟨j, rfl, hj, hi⟩ hK
  have hj16 : j < 16 := by omega
  have e1 := mi_div n hn
  have e2 := mi_mul j hj16
  have e3 := mi_off j hj16
  refine ⟨fun hle => ?_, fun hlt => ?_⟩
  · rw [e1] at hle
    have hjn : n / 8 ≤ j := (nI_leI (by omega) (by omega)).mp hle
    refine ⟨fun q => absurd q (by decide), fun _ => ?_⟩
    rw [e2, mi_4]
    have e4 : nI n - nI (8 * j) = nI (n - 8 * j) := by
      have := nI_add (n - 8 * j) (8 * j)
      rw [Nat.sub_add_cancel (by omega)] at this
      rw [← this]
      exact Int32.add_sub_cancel _ _
    rw [e4]
    refine g_jn1_i (fun x => ∃ tl : Nat, x = nI tl ∧ tl ≤ n ∧ ∀ i, i < n - tl → t.getD i 0 = u.getD i 0) (fun x hx => ?_) (fun K' hK' => ⟨fun _ => ?_, fun h8 => ?_⟩)
    · obtain ⟨tl, rfl, g1, g2⟩ := hx
      exact hq2 tl g1 g2
    · exact hK' _ ⟨n - 8 * j, rfl, by omega, fun i hi' => hi i (by omega)⟩
    · have h44 : 4 ≤ n - 8 * j := Nat.le_of_not_lt fun q => h8 (nI_lt q (by omega))
      intro o ho
      refine ⟨a, ho.trans ha, ha.symm, ?_⟩
      rw [e3]
      refine ct_J25_getInt ha.symm (Or.inr h2) hj16 ⟨by omega, by omega, by omega⟩ ⟨rfl, fun o' ho' => ⟨a, ho'.trans ha, ha.symm, ct_J25_getInt ha.symm (Or.inr h2') hj16 ⟨by omega, by omega, by omega⟩ ⟨rfl, fun he => ?_, fun hne => ?_⟩⟩⟩
      · have e5 : nI (n - 8 * j) - nI 4 = nI (n - 8 * j - 4) := by
          have := nI_add (n - 8 * j - 4) 4
          rw [Nat.sub_add_cancel (by omega)] at this
          rw [← this]
          exact Int32.add_sub_cancel _ _
        refine hK' _ ⟨n - 8 * j - 4, e5, by omega, fun i hi' => ?_⟩
        rcases Nat.lt_or_ge i (8 * j) with h9 | h9
        · exact hi i h9
        · refine Classical.byContradiction fun hne => ?_
          have hm := mi_Ieq.mp he
          have hk : ∃ k, k < 4 ∧ (∀ z, z < k → by8 g (8 * j + z) = by8 g' (8 * j + z)) ∧ by8 g (8 * j + k) ≠ by8 g' (8 * j + k) := by
            have hex : ∃ k, k < 4 ∧ by8 g (8 * j + k) ≠ by8 g' (8 * j + k) := ⟨i - 8 * j, by omega, by
              rw [show 8 * j + (i - 8 * j) = i by omega, mi_by h3 h4 (by omega), mi_by h3' h4' (by omega)]
              exact hne⟩
            exact mi_first (A := fun k => by8 g (8 * j + k)) (B := fun k => by8 g' (8 * j + k)) hex
          obtain ⟨k, k1, k2, k3⟩ := hk
          obtain ⟨r, q, g1, g2, g3⟩ := gpk_diff k1 k2 k3
          rw [hm, Nat.xor_self] at g1
          have := Nat.mul_pos (Nat.two_pow_pos r) (show 0 < 2 * q + 1 by omega)
          omega
      · have hex : ∃ k, k < 4 ∧ by8 g (8 * j + k) ≠ by8 g' (8 * j + k) := Classical.byContradiction fun q => hne (mi_Ieq.mpr (gpk_eq fun k hk => Classical.byContradiction fun q2 => q ⟨k, hk, q2⟩))
        obtain ⟨k, k1, k2, k3⟩ := mi_first (A := fun k => by8 g (8 * j + k)) (B := fun k => by8 g' (8 * j + k)) hex
        obtain ⟨r, q, g1, g2, g3⟩ := gpk_diff k1 k2 k3
        refine g_jn1_i (fun x => x = nI k) (fun x hx => ?_) (fun K9 hK9 => ct_J14_ntz (r := r) (q := q) (by rw [mi_Ix]; exact g1) (by omega) ⟨rfl, by rw [mi_r8 r (by omega), g3]; exact hK9 _ rfl⟩)
        subst hx
        rw [nI_add]
        refine hq1 _ (by omega) (fun i hi' => ?_) ?_
        · rcases Nat.lt_or_ge i (8 * j) with h9 | h9
          · exact hi i h9
          · have h10 := k2 (i - 8 * j) (by omega)
            rw [show 8 * j + (i - 8 * j) = i by omega, mi_by h3 h4 (by omega), mi_by h3' h4' (by omega)] at h10
            exact h10
        · have k3' : by8 g (8 * j + k) ≠ by8 g' (8 * j + k) := k3
          rw [mi_by h3 h4 (by omega), mi_by h3' h4' (by omega)] at k3'
          exact k3'
  · rw [e1] at hlt
    have hjn : j < n / 8 := Nat.lt_of_not_le fun q => hlt (nI_le q (by omega))
    intro o ho
    refine ⟨a, ho.trans ha, ha.symm, ?_⟩
    rw [e3]
    refine ct_J25_getLong ha.symm (Or.inr h2) hj16 ⟨by omega, by omega⟩ ⟨rfl, fun o' ho' => ⟨a, ho'.trans ha, ha.symm, ct_J25_getLong ha.symm (Or.inr h2') hj16 ⟨by omega, by omega⟩ ⟨rfl, fun he => ?_, fun hne => ?_⟩⟩⟩
    · have hm := mi_Leq.mp (mi_cmp he)
      refine hK _ ⟨j + 1, nI_1 j, by omega, fun i hi' => ?_⟩ ?_
      · rcases Nat.lt_or_ge i (8 * j) with h9 | h9
        · exact hi i h9
        · refine Classical.byContradiction fun hne => ?_
          have hex : ∃ k, k < 8 ∧ by8 g (8 * j + k) ≠ by8 g' (8 * j + k) := ⟨i - 8 * j, by omega, by
            rw [show 8 * j + (i - 8 * j) = i by omega, mi_by h3 h4 (by omega), mi_by h3' h4' (by omega)]
            exact hne⟩
          obtain ⟨k, k1, k2, k3⟩ := mi_first (A := fun k => by8 g (8 * j + k)) (B := fun k => by8 g' (8 * j + k)) hex
          obtain ⟨r, q, g1, g2, g3⟩ := gpk_diff k1 k2 k3
          rw [hm, Nat.xor_self] at g1
          have := Nat.mul_pos (Nat.two_pow_pos r) (show 0 < 2 * q + 1 by omega)
          omega
      · show n / 8 - (nI j + nI 1).toNatClampNeg < n / 8 - (nI j).toNatClampNeg
        rw [nI_add, nI_clamp (by omega), nI_clamp (by omega)]
        omega
    · have hex : ∃ k, k < 8 ∧ by8 g (8 * j + k) ≠ by8 g' (8 * j + k) := Classical.byContradiction fun q => hne (by
        rw [mi_Leq.mpr (gpk_eq fun k hk => Classical.byContradiction fun q2 => q ⟨k, hk, q2⟩)]
        unfold lg_cmp
        rw [if_neg (by simp), if_pos rfl])
      obtain ⟨k, k1, k2, k3⟩ := mi_first (A := fun k => by8 g (8 * j + k)) (B := fun k => by8 g' (8 * j + k)) hex
      obtain ⟨r, q, g1, g2, g3⟩ := gpk_diff k1 k2 k3
      refine g_jn1_i (fun x => x = nI k) (fun x hx => ?_) (fun K9 hK9 => ct_J26_ntz (r := r) (q := q) (by rw [mi_Lx]; exact g1) (by omega) ⟨rfl, by rw [mi_r8 r (by omega), g3]; exact hK9 _ rfl⟩)
      subst hx
      rw [e2, nI_add]
      refine hq1 _ (by omega) (fun i hi' => ?_) ?_
      · rcases Nat.lt_or_ge i (8 * j) with h9 | h9
        · exact hi i h9
        · have h10 := k2 (i - 8 * j) (by omega)
          rw [show 8 * j + (i - 8 * j) = i by omega, mi_by h3 h4 (by omega), mi_by h3' h4' (by omega)] at h10
          exact h10
      · have k3' : by8 g (8 * j + k) ≠ by8 g' (8 * j + k) := k3
        rw [mi_by h3 h4 (by omega), mi_by h3' h4' (by omega)] at k3'
        exact k3'
end GM2
