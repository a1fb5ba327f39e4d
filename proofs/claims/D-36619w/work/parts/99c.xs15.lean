/-! STEMSPAN 15: fewest pieces and greedy pieces -/
section GXS15
variable {us ws vs : wL} {s t : List Nat} {g : Nat → Nat}
theorem rW_a0 : rW (· + ·) 0 g s vs = 0 ↔ ∀ u ∈ vs, lcp u.1 s = u.1.length → g u.1.length = 0 := by
  induction vs with
  | nil => exact ⟨fun _ u hu => absurd hu List.not_mem_nil, fun _ => rfl⟩
  | cons v vs ih =>
    show rW (· + ·) 0 g s vs + (if lcp v.1 s = v.1.length then g v.1.length else 0) = 0 ↔ _
    constructor
    · intro h u hu hp
      rcases List.mem_cons.mp hu with q | q
      · rw [q] at hp ⊢
        rw [if_pos hp] at h
        omega
      · exact ih.mp (by omega) u q hp
    · intro h
      have h1 := ih.mpr fun u hu => h u (List.mem_cons_of_mem _ hu)
      rw [h1]
      split
      · rename_i hp
        rw [h v List.mem_cons_self hp]
      · rfl
theorem rW_ml {u : List Nat × Nat} (hu : u ∈ vs) (hp : lcp u.1 s = u.1.length) : rW Nat.min 99 g s vs ≤ g u.1.length := by
  induction vs with
  | nil => exact absurd hu List.not_mem_nil
  | cons v vs ih =>
    show min (rW Nat.min 99 g s vs) (if lcp v.1 s = v.1.length then g v.1.length else 99) ≤ _
    rcases List.mem_cons.mp hu with q | q
    · rw [← q, if_pos hp]
      omega
    · have := ih q
      omega
theorem fw_wy0 (hu : ∀ u ∈ us, 1 ≤ u.1.length) (n : Nat) : ∀ s : List Nat, s.length ≤ n → n ≤ 24 → (fw us s = 99 ↔ wy us s = 0) := by
  induction n with
  | zero =>
    intro s h1 h2
    rw [fw_eq hu (by omega), wy_eq hu (by omega), if_pos (by omega), if_pos (by omega)]
    omega
  | succ n ih =>
    intro s h1 h2
    rw [fw_eq hu (by omega), wy_eq hu (by omega)]
    by_cases z : s.length = 0
    · rw [if_pos z, if_pos z]
      omega
    · rw [if_neg z, if_neg z]
      have key : ∀ u ∈ us, lcp u.1 s = u.1.length → (fw us (s.drop u.1.length) = 99 ↔ wy us (s.drop u.1.length) = 0) ∧ (fw us (s.drop u.1.length) = 99 ∨ fw us (s.drop u.1.length) ≤ 24) := fun u h3 h4 => by
        have := hu u h3
        have h6 := lcp_le2 u.1 s
        have h7 : (s.drop u.1.length).length = s.length - u.1.length := List.length_drop
        refine ⟨ih _ (by omega) (by omega), ?_⟩
        rcases fw_cs hu (s := s.drop u.1.length) (by omega) with q | q
        · exact Or.inl q
        · exact Or.inr (by omega)
      unfold wyX fwX
      rw [rW_a0]
      constructor
      · intro h u h3 h4
        have := rW_ml (g := fun n => fw us (s.drop n) + 1) h3 h4
        have k := key u h3 h4
        rw [h] at this
        have this : 99 ≤ fw us (s.drop u.1.length) + 1 := this
        exact k.1.mp (by omega)
      · intro h
        rcases rW_mn (g := fun n => fw us (s.drop n) + 1) (s := s) us with q | ⟨u, h3, h4, h5⟩
        · exact q
        · have k := (key u h3 h4).1.mpr (h u h3 h4)
          have h5 : rW Nat.min 99 (fun n => fw us (s.drop n) + 1) s us = fw us (s.drop u.1.length) + 1 := h5
          have h9 := fwX_le (us := us) (s := s) (ws := us)
          unfold fwX at h9
          omega
theorem fw_wy (hu : ∀ u ∈ us, 1 ≤ u.1.length) (hs : s.length ≤ 24) : fw us s = 99 ↔ wy us s = 0 := fw_wy0 hu 24 s hs (Nat.le_refl _)
end GXS15
