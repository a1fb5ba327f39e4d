/-! STEMSPAN 9: cuts by lengths -/
section GXS9
variable {us ws : wL} {s t : List Nat} {op : Nat → Nat → Nat} {e : Nat} {g : Nat → Nat}
/-- what the first k lengths give, joined -/
def rK (op : Nat → Nat → Nat) (e : Nat) (g : Nat → Nat) (s : List Nat) (us : wL) : Nat → Nat
  | 0 => e
  | k + 1 => op (rK op e g s us k) (if k + 1 ≤ s.length ∧ ∃ u, u ∈ us ∧ u.1 = s.take (k + 1) then g (k + 1) else e)
theorem rK_s (k : Nat) : rK op e g s us (k + 1) = op (rK op e g s us k) (if k + 1 ≤ s.length ∧ ∃ u, u ∈ us ∧ u.1 = s.take (k + 1) then g (k + 1) else e) := rfl
theorem pre_tk {u : List Nat} : lcp u s = u.length ↔ u.length ≤ s.length ∧ u = s.take u.length := by
  have l2 := lcp_le2 u s
  constructor
  · intro h
    refine ⟨by omega, lcp_id.mpr ⟨?_, ?_⟩⟩
    · rw [lcp_take]
      omega
    · rw [lcp_take, List.length_take]
      omega
  · rintro ⟨h1, h2⟩
    have := (lcp_id.mp h2).1
    rw [lcp_take] at this
    have := lcp_le1 u s
    omega
theorem rK_nil (Pv : Nat → Prop) (pe : Pv e) (un : ∀ a, Pv a → op a e = a) (k : Nat) : rK op e g s [] k = e := by
  induction k with
  | zero => rfl
  | succ k ih =>
    rw [rK_s, ih, if_neg (fun w => by obtain ⟨_, u, hu, _⟩ := w; exact absurd hu List.not_mem_nil), un e pe]
theorem rK_pv (Pv : Nat → Prop) (pe : Pv e) (po : ∀ a b, Pv a → Pv (op a b)) (k : Nat) : Pv (rK op e g s us k) := by
  induction k with
  | zero => exact pe
  | succ k ih => exact po _ _ ih
theorem rK_c (ho : ∀ a b c, op (op a b) c = op (op a c) b) (Pv : Nat → Prop) (pe : Pv e) (po : ∀ a b, Pv a → Pv (op a b)) (un : ∀ a, Pv a → op a e = a) {u : List Nat × Nat} (hu : ∀ w ∈ us, w.1 ≠ u.1) (h1 : 1 ≤ u.1.length) (k : Nat) : rK op e g s (u :: us) k = if lcp u.1 s = u.1.length ∧ u.1.length ≤ k then op (rK op e g s us k) (g u.1.length) else rK op e g s us k := by
  induction k with
  | zero => rw [if_neg (fun w => by omega)]; rfl
  | succ k ih =>
    rw [rK_s, ih, rK_s]
    have hp := pre_tk (u := u.1) (s := s)
    have hpv := rK_pv (g := g) (s := s) (us := us) Pv pe po k
    by_cases z : lcp u.1 s = u.1.length
    · obtain ⟨z1, z2⟩ := hp.mp z
      by_cases y : u.1.length = k + 1
      · have c1 : k + 1 ≤ s.length ∧ ∃ v, v ∈ u :: us ∧ v.1 = s.take (k + 1) := ⟨by omega, u, List.mem_cons_self, by rw [← y]; exact z2⟩
        have c2 : ¬ (k + 1 ≤ s.length ∧ ∃ v, v ∈ us ∧ v.1 = s.take (k + 1)) := fun ⟨_, v, hv, hv1⟩ => hu v hv (by rw [hv1, ← y]; exact z2.symm)
        rw [if_neg (by omega), if_pos c1, if_neg c2, if_pos ⟨z, by omega⟩, un _ hpv, y]
      · have c1 : (k + 1 ≤ s.length ∧ ∃ v, v ∈ u :: us ∧ v.1 = s.take (k + 1)) ↔ (k + 1 ≤ s.length ∧ ∃ v, v ∈ us ∧ v.1 = s.take (k + 1)) := by
          constructor
          · rintro ⟨q, v, hv, hv1⟩
            refine ⟨q, v, ?_, hv1⟩
            rcases List.mem_cons.mp hv with r | r
            · exfalso
              rw [r] at hv1
              have := congrArg List.length hv1
              rw [List.length_take] at this
              omega
            · exact r
          · rintro ⟨q, v, hv, hv1⟩
            exact ⟨q, v, List.mem_cons_of_mem _ hv, hv1⟩
        rw [show (if k + 1 ≤ s.length ∧ ∃ v, v ∈ u :: us ∧ v.1 = s.take (k + 1) then g (k + 1) else e) = (if k + 1 ≤ s.length ∧ ∃ v, v ∈ us ∧ v.1 = s.take (k + 1) then g (k + 1) else e) from ite_congr (propext c1) (fun _ => rfl) fun _ => rfl]
        generalize (if k + 1 ≤ s.length ∧ ∃ v, v ∈ us ∧ v.1 = s.take (k + 1) then g (k + 1) else e) = r
        by_cases q : u.1.length ≤ k
        · rw [if_pos ⟨z, q⟩, if_pos ⟨z, by omega⟩, ho]
        · rw [if_neg (fun w => q w.2), if_neg (fun w => by omega)]
    · have c1 : (k + 1 ≤ s.length ∧ ∃ v, v ∈ u :: us ∧ v.1 = s.take (k + 1)) ↔ (k + 1 ≤ s.length ∧ ∃ v, v ∈ us ∧ v.1 = s.take (k + 1)) := by
        constructor
        · rintro ⟨q, v, hv, hv1⟩
          refine ⟨q, v, ?_, hv1⟩
          rcases List.mem_cons.mp hv with r | r
          · exfalso
            rw [r] at hv1
            have hl := congrArg List.length hv1
            rw [List.length_take] at hl
            exact z (hp.mpr ⟨by omega, by rw [show u.1.length = k + 1 by omega]; exact hv1⟩)
          · exact r
        · rintro ⟨q, v, hv, hv1⟩
          exact ⟨q, v, List.mem_cons_of_mem _ hv, hv1⟩
      rw [show (if k + 1 ≤ s.length ∧ ∃ v, v ∈ u :: us ∧ v.1 = s.take (k + 1) then g (k + 1) else e) = (if k + 1 ≤ s.length ∧ ∃ v, v ∈ us ∧ v.1 = s.take (k + 1) then g (k + 1) else e) from ite_congr (propext c1) (fun _ => rfl) fun _ => rfl]
      generalize (if k + 1 ≤ s.length ∧ ∃ v, v ∈ us ∧ v.1 = s.take (k + 1) then g (k + 1) else e) = r
      rw [if_neg (fun w => z w.1), if_neg (fun w => z w.1)]
theorem rW_rK (ho : ∀ a b c, op (op a b) c = op (op a c) b) (Pv : Nat → Prop) (pe : Pv e) (po : ∀ a b, Pv a → Pv (op a b)) (un : ∀ a, Pv a → op a e = a) (hs : Sd us) (hl : ∀ u ∈ us, 1 ≤ u.1.length ∧ u.1.length ≤ 10) : rW op e g s us = rK op e g s us 10 := by
  induction us with
  | nil => exact (rK_nil Pv pe un 10).symm
  | cons u us ih =>
    obtain ⟨h1, h2⟩ := List.pairwise_cons.mp hs
    have hu := hl u List.mem_cons_self
    rw [rK_c ho Pv pe po un (fun w hw e => by have := h1 w hw; rw [e] at this; exact ll_irr _ this) hu.1 10]
    show op (rW op e g s us) _ = _
    rw [ih h2 fun v hv => hl v (List.mem_cons_of_mem _ hv)]
    by_cases z : lcp u.1 s = u.1.length
    · rw [if_pos z, if_pos ⟨z, hu.2⟩]
    · rw [if_neg z, if_neg (fun w => z w.1), un _ (rK_pv Pv pe po 10)]
theorem okW.l10 (h : okW ws) : ∀ u ∈ ws, 1 ≤ u.1.length ∧ u.1.length ≤ 10 := fun u hu => ⟨(h.2 u hu).1, (h.2 u hu).2.1⟩
def wyK (ws : wL) (s : List Nat) (k : Nat) : Nat := rK (· + ·) 0 (fun n => wy ws (s.drop n)) s ws k
def fwK (ws : wL) (s : List Nat) (k : Nat) : Nat := rK Nat.min 99 (fun n => fw ws (s.drop n) + 1) s ws k
theorem wyX_K (hs : Sd ws) (hW : okW ws) : wyX ws s ws = wyK ws s 10 := rW_rK ho_add (fun _ => True) trivial (fun _ _ _ => trivial) (fun _ _ => rfl) hs hW.l10
theorem fwX_K (hs : Sd ws) (hW : okW ws) : fwX ws s ws = fwK ws s 10 := rW_rK ho_min (· ≤ 99) (Nat.le_refl _) (fun _ _ h => Nat.le_trans (Nat.min_le_left _ _) h) (fun _ h => Nat.min_eq_left h) hs hW.l10
/-- lengths beyond the row give nothing -/
theorem wyK_end {k j : Nat} (h : s.length ≤ k) : wyK ws s (k + j) = wyK ws s k := by
  induction j with
  | zero => rfl
  | succ j ih =>
    rw [← ih]
    unfold wyK
    rw [← Nat.add_assoc, rK_s, if_neg (fun w => by omega)]
    rfl
theorem fwK_le (k : Nat) : fwK ws s k ≤ 99 := rK_pv (· ≤ 99) (Nat.le_refl _) (fun _ _ h => Nat.le_trans (Nat.min_le_left _ _) h) k
theorem fwK_end {k j : Nat} (h : s.length ≤ k) : fwK ws s (k + j) = fwK ws s k := by
  induction j with
  | zero => rfl
  | succ j ih =>
    rw [← ih]
    have := fwK_le (ws := ws) (s := s) (k + j)
    unfold fwK at *
    rw [← Nat.add_assoc, rK_s, if_neg (fun w => by omega)]
    exact Nat.min_eq_left this
/-- the ways are less than 2 to the length -/
theorem wy_b0 (hs : Sd ws) (hW : okW ws) (n : Nat) : ∀ s : List Nat, s.length ≤ n → n ≤ 24 → wy ws s ≤ 2 ^ s.length := by
  have hu : ∀ u ∈ ws, 1 ≤ u.1.length := fun u h => (hW.l10 u h).1
  induction n with
  | zero =>
    intro s h1 h2
    rw [wy_eq hu (by omega), if_pos (by omega)]
    exact Nat.one_le_two_pow
  | succ n ih =>
    intro s h1 h2
    rw [wy_eq hu (by omega)]
    split
    · exact Nat.one_le_two_pow
    · rename_i z
      rw [wyX_K hs hW]
      have key : ∀ k, wyK ws s k + 2 ^ (s.length - k) ≤ 2 ^ s.length := by
        intro k
        induction k with
        | zero =>
          show 0 + 2 ^ (s.length - 0) ≤ _
          rw [Nat.sub_zero]
          omega
        | succ k ihk =>
          have e1 : wyK ws s (k + 1) = wyK ws s k + (if k + 1 ≤ s.length ∧ ∃ u, u ∈ ws ∧ u.1 = s.take (k + 1) then wy ws (s.drop (k + 1)) else 0) := rfl
          rw [e1]
          by_cases q : k + 1 ≤ s.length
          · have e2 : 2 ^ (s.length - k) = 2 ^ (s.length - (k + 1)) + 2 ^ (s.length - (k + 1)) := by
              rw [show s.length - k = s.length - (k + 1) + 1 by omega, Nat.pow_succ]
              omega
            have hd : (s.drop (k + 1)).length = s.length - (k + 1) := List.length_drop
            have := ih (s.drop (k + 1)) (by omega) (by omega)
            rw [hd] at this
            split <;> omega
          · rw [if_neg (fun w => q w.1)]
            have e2 : s.length - (k + 1) = s.length - k := by omega
            rw [e2]
            omega
      exact Nat.le_trans (Nat.le_add_right _ _) (key 10)
theorem wy_bd (hs : Sd ws) (hW : okW ws) (h : s.length ≤ 24) : wy ws s ≤ 16777216 := by
  have h1 := wy_b0 hs hW 24 s h (Nat.le_refl _)
  have h2 : 2 ^ s.length ≤ 2 ^ 24 := Nat.pow_le_pow_right (by omega) h
  exact Nat.le_trans h1 h2
theorem has_iff (hs : Sd ws) : (∃ u, u ∈ ws ∧ u.1 = t) ↔ cL ws t < dL ws t := by
  rw [fnd hs]
  constructor
  · rintro ⟨u, hu, e⟩
    obtain ⟨i, hi, e1, _⟩ := mem_kv hu
    exact ⟨i, hi, e1.trans e⟩
  · rintro ⟨i, hi, e⟩
    exact ⟨_, kv_mem hi, e⟩
end GXS9
