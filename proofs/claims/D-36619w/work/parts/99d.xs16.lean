/-! STEMSPAN 16: greedy pieces are the fewest -/
section GXS16
variable {us ws vs : wL} {s t : List Nat} {g : Nat → Nat}
theorem lgX_at : lgX s ws = 0 ∨ ∃ u ∈ ws, lcp u.1 s = u.1.length ∧ lgX s ws = u.1.length := by
  induction ws with
  | nil => exact Or.inl rfl
  | cons v vs ih =>
    show max (if lcp v.1 s = v.1.length then v.1.length else 0) (lgX s vs) = 0 ∨ ∃ u ∈ v :: vs, lcp u.1 s = u.1.length ∧ max (if lcp v.1 s = v.1.length then v.1.length else 0) (lgX s vs) = u.1.length
    rcases Nat.le_total (if lcp v.1 s = v.1.length then v.1.length else 0) (lgX s vs) with q | q
    · rw [Nat.max_eq_right q]
      rcases ih with h | ⟨u, h1, h2⟩
      · exact Or.inl h
      · exact Or.inr ⟨u, List.mem_cons_of_mem _ h1, h2⟩
    · rw [Nat.max_eq_left q]
      by_cases z : lcp v.1 s = v.1.length
      · rw [if_pos z]
        exact Or.inr ⟨v, List.mem_cons_self, z, rfl⟩
      · rw [if_neg z]
        exact Or.inl rfl
theorem fw_step (hu : ∀ u ∈ ws, 1 ≤ u.1.length) (hs : s.length ≤ 24) {u : List Nat × Nat} (h : u ∈ ws) (hp : lcp u.1 s = u.1.length) : fw ws s ≤ fw ws (s.drop u.1.length) + 1 := by
  have := lcp_le2 u.1 s
  have := hu u h
  rw [fw_eq hu hs, if_neg (by omega)]
  exact rW_ml (g := fun n => fw ws (s.drop n) + 1) h hp
theorem fw_first (hu : ∀ u ∈ ws, 1 ≤ u.1.length) (hs : s.length ≤ 24) (h0 : s.length ≠ 0) (h9 : fw ws s ≠ 99) : ∃ u ∈ ws, lcp u.1 s = u.1.length ∧ fw ws s = fw ws (s.drop u.1.length) + 1 := by
  rw [fw_eq hu hs, if_neg h0] at h9 ⊢
  rcases rW_mn (g := fun n => fw ws (s.drop n) + 1) (s := s) ws with q | ⟨u, h3, h4, h5⟩
  · exact absurd q h9
  · exact ⟨u, h3, h4, h5⟩
theorem fw_nil (hu : ∀ u ∈ ws, 1 ≤ u.1.length) (hs : s.length = 0) : fw ws s = 0 := by rw [fw_eq hu (by omega), if_pos hs]
theorem gS_fw (hW : okW ws) (hT : t.length ≤ 24) {N : Nat} (hN : (gS ws t N).2 = N) (he : (gS ws t N).1 = t.length) : fw ws t ≤ N := by
  have hu : ∀ u ∈ ws, 1 ≤ u.1.length := fun u hu => (hW.2 u hu).1
  have key : ∀ j, j ≤ N → (gS ws t (N - j)).2 = N - j ∧ fw ws (t.drop (gS ws t (N - j)).1) ≤ j := by
    intro j
    induction j with
    | zero =>
      intro _
      rw [Nat.sub_zero]
      refine ⟨hN, ?_⟩
      rw [he, fw_nil hu (by rw [List.length_drop]; omega)]
      exact Nat.le_refl _
    | succ j ih =>
      intro hj
      obtain ⟨i1, i2⟩ := ih (by omega)
      have e1 : N - j = N - (j + 1) + 1 := by omega
      have b := gS_le (us := ws) (t := t) hW.le (N - (j + 1))
      have s1 := gS_s (us := ws) (t := t) (N - (j + 1))
      rw [← e1] at s1
      by_cases z : lgX (t.drop (gS ws t (N - (j + 1))).1) ws = 0
      · rw [if_pos z] at s1
        rw [s1] at i1
        omega
      · rw [if_neg z] at s1
        rw [s1] at i1 i2
        have i1 : (gS ws t (N - (j + 1))).2 + 1 = N - j := i1
        refine ⟨by omega, ?_⟩
        rcases lgX_at (s := t.drop (gS ws t (N - (j + 1))).1) (ws := ws) with q | ⟨u, h3, h4, h5⟩
        · exact absurd q z
        · have h6 := fw_step hu (s := t.drop (gS ws t (N - (j + 1))).1) (by rw [List.length_drop]; omega) h3 h4
          rw [List.drop_drop] at h6
          have i2 : fw ws (t.drop ((gS ws t (N - (j + 1))).1 + lgX (t.drop (gS ws t (N - (j + 1))).1) ws)) ≤ j := i2
          rw [h5] at i2
          omega
  have := (key N (Nat.le_refl _)).2
  rw [Nat.sub_self] at this
  exact this
/-- all ends of words are words -/
def sfx (ws : wL) : Prop := ∀ u ∈ ws, ∀ k, 1 ≤ k → k < u.1.length → ∃ w ∈ ws, w.1 = u.1.drop k
theorem fw_drop0 (hW : okW ws) (hx : sfx ws) (n : Nat) : ∀ (s : List Nat) (k : Nat), s.length ≤ n → n ≤ 24 → k ≤ s.length → fw ws (s.drop k) ≤ fw ws s := by
  have hu : ∀ u ∈ ws, 1 ≤ u.1.length := fun u hu => (hW.2 u hu).1
  induction n with
  | zero =>
    intro s k h1 h2 h3
    rw [show k = 0 by omega, List.drop_zero]
    exact Nat.le_refl _
  | succ n ih =>
    intro s k h1 h2 h3
    have hd : (s.drop k).length = s.length - k := List.length_drop
    by_cases z : s.length = 0
    · rw [show k = 0 by omega, List.drop_zero]
      exact Nat.le_refl _
    by_cases h9 : fw ws s = 99
    · rw [h9]
      exact fw_le hu (by omega)
    · obtain ⟨u, g1, g2, g3⟩ := fw_first hu (by omega) z h9
      have hu1 := hu u g1
      have l2 := lcp_le2 u.1 s
      have hdu : (s.drop u.1.length).length = s.length - u.1.length := List.length_drop
      rcases Nat.lt_or_ge k u.1.length with q | q
      · by_cases k0 : k = 0
        · rw [k0, List.drop_zero]
          exact Nat.le_refl _
        · obtain ⟨w, w1, w2⟩ := hx u g1 k (by omega) q
          have e1 : u.1 = s.take u.1.length := (pre_tk.mp g2).2
          have wl : w.1.length = u.1.length - k := by rw [w2, List.length_drop]
          have hp : lcp w.1 (s.drop k) = w.1.length := by
            refine pre_tk.mpr ⟨by omega, ?_⟩
            have : u.1.drop k = (s.drop k).take (u.1.length - k) := by
              have h5 := congrArg (List.drop k) e1
              rw [List.drop_take] at h5
              exact h5
            rw [wl, w2, this]
          have := fw_step hu (s := s.drop k) (by omega) w1 hp
          rw [List.drop_drop, wl, show k + (u.1.length - k) = u.1.length by omega] at this
          omega
      · have := ih (s.drop u.1.length) (k - u.1.length) (by omega) (by omega) (by omega)
        rw [List.drop_drop, show u.1.length + (k - u.1.length) = k by omega] at this
        omega
theorem gS_opt (hW : okW ws) (hx : sfx ws) (hT : t.length ≤ 24) (h9 : fw ws t ≠ 99) : gS ws t 25 = (t.length, fw ws t) := by
  have hu : ∀ u ∈ ws, 1 ≤ u.1.length := fun u hu => (hW.2 u hu).1
  have hm : fw ws t ≤ 24 := by
    rcases fw_cs hu hT with q | q
    · exact absurd q h9
    · omega
  have key : ∀ i, i ≤ fw ws t → (gS ws t i).2 = i ∧ fw ws (t.drop (gS ws t i).1) = fw ws t - i := by
    intro i
    induction i with
    | zero => intro _; exact ⟨rfl, rfl⟩
    | succ i ih =>
      intro hi
      obtain ⟨i1, i2⟩ := ih (by omega)
      have b := gS_le (us := ws) (t := t) hW.le i
      have hdl : (t.drop (gS ws t i).1).length = t.length - (gS ws t i).1 := List.length_drop
      have hne : (t.drop (gS ws t i).1).length ≠ 0 := fun w => by
        rw [fw_nil hu w] at i2
        omega
      obtain ⟨u, g1, g2, g3⟩ := fw_first hu (s := t.drop (gS ws t i).1) (by omega) hne (by omega)
      have hu1 := hu u g1
      have hg := lgX_mem g1 g2
      have hl := lgX_drop (us := ws) (t := t) hW.le b.1
      rcases lgX_at (s := t.drop (gS ws t i).1) (ws := ws) with q | ⟨v, h3, h4, h5⟩
      · omega
      · have k1 := fw_step hu (s := t.drop (gS ws t i).1) (by omega) h3 h4
        have hdu : ((t.drop (gS ws t i).1).drop u.1.length).length = (t.drop (gS ws t i).1).length - u.1.length := List.length_drop
        have k2 := fw_drop0 hW hx 24 ((t.drop (gS ws t i).1).drop u.1.length) (v.1.length - u.1.length) (by omega) (Nat.le_refl _) (by omega)
        rw [List.drop_drop, show u.1.length + (v.1.length - u.1.length) = v.1.length by omega] at k2
        rw [gS_go i1 (by omega)]
        refine ⟨rfl, ?_⟩
        show fw ws (t.drop ((gS ws t i).1 + lgX (t.drop (gS ws t i).1) ws)) = _
        rw [h5, ← List.drop_drop]
        omega
  obtain ⟨k1, k2⟩ := key _ (Nat.le_refl _)
  rw [Nat.sub_self] at k2
  have b := gS_le (us := ws) (t := t) hW.le (fw ws t)
  have hdl : (t.drop (gS ws t (fw ws t)).1).length = t.length - (gS ws t (fw ws t)).1 := List.length_drop
  have hz : (t.drop (gS ws t (fw ws t)).1).length = 0 := by
    by_cases w : (t.drop (gS ws t (fw ws t)).1).length = 0
    · exact w
    · obtain ⟨u, _, _, g3⟩ := fw_first hu (s := t.drop (gS ws t (fw ws t)).1) (by omega) w (by omega)
      omega
  have e0 : lgX (t.drop (gS ws t (fw ws t)).1) ws = 0 := by rw [List.eq_nil_of_length_eq_zero hz, lgX_nil]
  rw [gS_25 e0 (by omega)]
  refine Prod.ext ?_ k1
  show (gS ws t (fw ws t)).1 = t.length
  omega
end GXS16
