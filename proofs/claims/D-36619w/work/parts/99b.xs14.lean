/-! STEMSPAN 14: what codes keep -/
section GXS14
variable {us ws : wL} {s t u v : List Nat} {cs : Nat → List Nat}
theorem lcp_app (c a b : List Nat) : lcp (c ++ a) (c ++ b) = c.length + lcp a b := by
  induction c with
  | nil => show lcp a b = 0 + lcp a b; omega
  | cons x c ih =>
    show (if x = x then lcp (c ++ a) (c ++ b) + 1 else 0) = c.length + 1 + lcp a b
    rw [if_pos rfl, ih]
    omega
theorem app_lt (c a b : List Nat) : c ++ a < c ++ b ↔ a < b := by
  induction c with
  | nil => exact Iff.rfl
  | cons x c ih =>
    rw [List.cons_append, List.cons_append, List.cons_lt_cons_iff, ih]
    constructor
    · rintro (h | ⟨_, h⟩)
      · omega
      · exact h
    · intro h
      exact Or.inr ⟨rfl, h⟩
/-- rows that differ ahead of both ends, whatever follows -/
theorem AH.app {x y : List Nat} (h : AH x y) (a b : List Nat) : lcp (x ++ a) (y ++ b) = lcp x y ∧ x ++ a < y ++ b := by
  induction x generalizing y with
  | nil => exact absurd h.1 (Nat.not_lt_zero _)
  | cons p x ih =>
    cases y with
    | nil => exact absurd h.2.1 (Nat.not_lt_zero _)
    | cons q y =>
      have e : lcp (p :: x) (q :: y) = if p = q then lcp x y + 1 else 0 := rfl
      obtain ⟨h1, h2, h3⟩ := h
      by_cases z : p = q
      · rw [e, if_pos z] at h1 h2 h3
        have := ih (y := y) ⟨by rw [List.length_cons] at h1; omega, by rw [List.length_cons] at h2; omega, h3⟩
        refine ⟨?_, ?_⟩
        · show (if p = q then lcp (x ++ a) (y ++ b) + 1 else 0) = (if p = q then lcp x y + 1 else 0)
          rw [if_pos z, if_pos z, this.1]
        · rw [List.cons_append, List.cons_append, List.cons_lt_cons_iff]
          exact Or.inr ⟨z, this.2⟩
      · rw [e, if_neg z] at h3
        refine ⟨?_, ?_⟩
        · show (if p = q then lcp (x ++ a) (y ++ b) + 1 else 0) = (if p = q then lcp x y + 1 else 0)
          rw [if_neg z, if_neg z]
        · rw [List.cons_append, List.cons_append, List.cons_lt_cons_iff]
          exact Or.inl h3
theorem wr_keep (hC : okC cs) (hO : OR cs) (hu : sgs u) (hv : sgs v) (h : u < v) : wr cs u < wr cs v ∧ (lcp (wr cs v) (wr cs u) = (wr cs u).length ↔ lcp v u = u.length) ∧ ¬ lcp (wr cs u) (wr cs v) = (wr cs v).length := by
  induction u generalizing v with
  | nil =>
    cases v with
    | nil => exact absurd h (ll_irr _)
    | cons y bs =>
      have hl := (wr_len hC hv).2
      rw [List.length_cons] at hl
      have e0 : wr cs [] = [] := rfl
      rw [e0]
      refine ⟨?_, by rw [lcp_nil, lcp_nil], fun w => ?_⟩
      · cases e : wr cs (y :: bs) with
        | nil => rw [e] at hl; exact absurd hl (Nat.not_succ_le_zero _)
        | cons p q => exact List.nil_lt_cons _ _
      · have w : 0 = (wr cs (y :: bs)).length := w
        omega
  | cons x as ih =>
    cases v with
    | nil => exact absurd h (List.not_lt_nil _)
    | cons y bs =>
      have hx := hu x List.mem_cons_self
      have hy := hv y List.mem_cons_self
      rw [wr_c, wr_c]
      rw [List.cons_lt_cons_iff] at h
      rcases h with h | ⟨rfl, h⟩
      · have hA := hO (y - 97) (by omega) (x - 97) (by omega)
        obtain ⟨k1, k2⟩ := hA.app (wr cs as) (wr cs bs)
        have e : lcp (y :: bs) (x :: as) = 0 := if_neg (by omega)
        refine ⟨k2, ?_, ?_⟩
        · rw [lcp_sym, k1, e, List.length_append, List.length_cons]
          have := hA.1
          omega
        · rw [k1, List.length_append]
          have := hA.2.1
          omega
      · obtain ⟨i1, i2, i3⟩ := ih (fun c hc => hu c (List.mem_cons_of_mem _ hc)) (fun c hc => hv c (List.mem_cons_of_mem _ hc)) h
        have e : lcp (x :: bs) (x :: as) = lcp bs as + 1 := if_pos rfl
        refine ⟨(app_lt _ _ _).mpr i1, ?_, ?_⟩
        · rw [lcp_app, List.length_append, e, List.length_cons]
          omega
        · rw [lcp_app, List.length_append]
          omega
theorem wp_sd (hC : okC cs) (hO : OR cs) (hs : Sd ws) (hW : ∀ u ∈ ws, sgs u.1) : Sd (ws.map (wp cs)) := by
  unfold Sd
  rw [List.pairwise_map]
  exact List.Pairwise.imp_of_mem (fun {a b} ha hb h => (wr_keep hC hO (hW a ha) (hW b hb) h).1) hs
end GXS14
