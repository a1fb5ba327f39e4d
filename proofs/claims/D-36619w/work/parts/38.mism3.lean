/-! MISMATCH 3: ArraysSupport.mismatch, String.compareTo -/
section GM3
variable {l : Launch} {E : g_E} {st : g_St}
theorem mi_neg : ∀ tl : Nat, tl < 128 → (nI tl ^^^ (-1)) < 0 ∧ ((nI tl ^^^ (-1)) ^^^ (-1)) = nI tl := by decide +kernel
theorem ct_J15_mismatch {v w n : Nat} {t u : List Nat} {Q : Int32 → g_St → Prop} (h : Byt st.1 v t) (h' : Byt st.1 w u) (hu : ∃ a : Nat, E.2.2.2.2.1 5 = some a) (hnt : n ≤ t.length) (hnu : n ≤ u.length) (hn : n < 128)
    (hq : ∀ k, k ≤ n → (∀ i, i < k → t.getD i 0 = u.getD i 0) → (k < n → t.getD k 0 ≠ u.getD k 0) → Q (if k < n then nI k else -1) st) : wp_J15_mismatch l E 0 0 [va_rf (some v), va_rf (some w), .int (nI n)] st Q := by
  have hb := h
  have hb' := h'
  obtain ⟨g, h2, h3, h4, h5⟩ := h
  obtain ⟨g', h2', h3', h4', h5'⟩ := h'
  have key : ∀ j, j < n → (g j = g' j ↔ t.getD j 0 = u.getD j 0) := fun j hj => by
    rw [h3 j (by omega), h3' j (by omega), nI_eq (by have := g_mem (j := j) h4; omega) (by have := g_mem (j := j) h4'; omega)]
  refine wk_J15_mismatch ?_
  refine g_jn1_i (fun x => ∃ j : Nat, x = nI j ∧ j ≤ n ∧ ∀ i, i < j → t.getD i 0 = u.getD i 0) (fun x hx => ?_) (fun K hK => ⟨fun _ => hK _ ⟨0, rfl, Nat.zero_le _, fun i hi => absurd hi (Nat.not_lt_zero _)⟩, fun h7 => ?_⟩)
  · refine g_lp1_i (fun x => ∃ j : Nat, x = nI j ∧ j ≤ n ∧ ∀ i, i < j → t.getD i 0 = u.getD i 0) (fun x => n - x.toNatClampNeg) ?_ _ hx
    rintro y K ⟨j, rfl, hj, hi⟩ hK
    refine ⟨fun hle => ?_, fun hle => ?_⟩
    · have hge : n ≤ j := (nI_leI (by omega) (by omega)).mp hle
      have := hq j hj hi (fun q => by omega)
      rw [if_neg (by omega)] at this
      exact this
    · have hlt : j < n := Nat.lt_of_not_le fun q => hle (nI_le q (by omega))
      refine ⟨v, rfl, t.length, g, j, Or.inr h2, rfl, by omega, by omega, w, rfl, u.length, g', j, Or.inr h2', rfl, by omega, by omega, fun e => ?_, fun e => ?_⟩
      · refine hK _ ⟨j + 1, nI_1 j, by omega, fun i h => ?_⟩ ?_
        · rcases Nat.lt_succ_iff_lt_or_eq.mp h with h | h
          · exact hi i h
          · rw [h]; exact (key j hlt).mp e
        · show n - (nI j + nI 1).toNatClampNeg < n - (nI j).toNatClampNeg
          rw [nI_add, nI_clamp (by omega), nI_clamp (by omega)]
          omega
      · have := hq j hj hi (fun _ q => e ((key j hlt).mpr q))
        rw [if_pos hlt] at this
        exact this
  · have h8 : 8 ≤ n := Nat.lt_of_not_le fun q => h7 (nI_le q (by decide))
    refine ⟨v, rfl, t.length, g, 0, Or.inr h2, rfl, by omega, by omega, w, rfl, u.length, g', 0, Or.inr h2', rfl, by omega, by omega, fun e => ?_, fun e => ?_⟩
    · refine ct_J15_vec hb hb' hu h8 hnt hnu hn (fun k k1 k2 k3 => ⟨rfl, fun q => absurd q (nI_pos (by omega)), fun _ => ?_⟩) (fun tl g1 g2 => ⟨rfl, fun _ => ?_, fun q => absurd (mi_neg tl (by omega)).1 q⟩)
      · have := hq k (by omega) k2 (fun _ => k3)
        rw [if_pos k1] at this
        exact this
      · rw [(mi_neg tl (by omega)).2]
        have e5 : nI n - nI tl = nI (n - tl) := by
          have := nI_add (n - tl) tl
          rw [Nat.sub_add_cancel g1] at this
          rw [← this]
          exact Int32.add_sub_cancel _ _
        exact hK _ ⟨n - tl, e5, by omega, g2⟩
    · have := hq 0 (by omega) (fun i hi => absurd hi (Nat.not_lt_zero _)) (fun _ q => e ((key 0 (by omega)).mpr q))
      rw [if_pos (by omega)] at this
      exact this
/-- what compareTo answers -/
def cmpv (t u : List Nat) (x : Int32) : Prop := (x < 0 ↔ t < u) ∧ (x = 0 ↔ t = u)
theorem lx_first {t u : List Nat} {k : Nat} (ht : k < t.length) (hu : k < u.length) (h : ∀ i, i < k → t.getD i 0 = u.getD i 0) (hne : t.getD k 0 ≠ u.getD k 0) : (t < u ↔ t.getD k 0 < u.getD k 0) ∧ t ≠ u := by
  refine ⟨?_, fun e => hne (by rw [e])⟩
  induction k generalizing t u with
  | zero =>
    cases t with
    | nil => exact absurd ht (Nat.not_lt_zero _)
    | cons a t =>
      cases u with
      | nil => exact absurd hu (Nat.not_lt_zero _)
      | cons b u =>
        have hab : a ≠ b := hne
        rw [List.cons_lt_cons_iff]
        constructor
        · rintro (h | ⟨h, -⟩)
          · exact h
          · exact absurd h hab
        · exact fun h => Or.inl h
  | succ k ih =>
    cases t with
    | nil => exact absurd ht (Nat.not_lt_zero _)
    | cons a t =>
      cases u with
      | nil => exact absurd hu (Nat.not_lt_zero _)
      | cons b u =>
        have hab : a = b := h 0 (by omega)
        subst hab
        rw [List.cons_lt_cons_iff]
        have := ih (t := t) (u := u) (by simpa using ht) (by simpa using hu) (fun i hi => h (i + 1) (by omega)) hne
        constructor
        · rintro (q | ⟨-, q⟩)
          · exact absurd q (Nat.lt_irrefl _)
          · exact this.mp q
        · exact fun q => Or.inr ⟨rfl, this.mpr q⟩
theorem lx_pre : ∀ {t u : List Nat}, (∀ i, i < t.length → i < u.length → t.getD i 0 = u.getD i 0) → (t < u ↔ t.length < u.length) ∧ (t = u ↔ t.length = u.length)
  | [], [], _ => by simp
  | [], b :: u, _ => by simp
  | a :: t, [], _ => by simp
  | a :: t, b :: u, h => by
    have hab : a = b := h 0 (by simp) (by simp)
    subst hab
    have := lx_pre (t := t) (u := u) (fun i h1 h2 => h (i + 1) (by simpa using h1) (by simpa using h2))
    rw [List.cons_lt_cons_iff]
    simp [this.1, this.2]
theorem mi_dd : ∀ a : Nat, a < 128 → ∀ b : Nat, b < 128 → ((nI a - nI b < 0) ↔ a < b) ∧ ((nI a - nI b = 0) ↔ a = b) := by decide +kernel
theorem ct_J7_compareTo_2 {v w : Nat} {t u : List Nat} {Q : Int32 → g_St → Prop} (h : Byt st.1 v t) (h' : Byt st.1 w u) (hu : ∃ a : Nat, E.2.2.2.2.1 5 = some a) (hnt : t.length < 128) (hnu : u.length < 128)
    (hq : ∀ x, cmpv t u x → Q x st) : wp_J7_compareTo_2 l E 0 0 [va_rf (some v), va_rf (some w), .int (nI t.length), .int (nI u.length)] st Q := by
  obtain ⟨-, -, -, h4, -⟩ := id h
  obtain ⟨-, -, -, h4', -⟩ := id h'
  refine wk_J7_compareTo_2 ?_
  intro x hx
  have ex : x = nI (min t.length u.length) := by
    rw [hx]
    by_cases q : nI u.length < nI t.length
    · rw [if_pos q, Nat.min_eq_right (Nat.le_of_lt ((nI_ltI (by omega) (by omega)).mp q))]
    · rw [if_neg q, Nat.min_eq_left (Nat.le_of_not_lt fun z => q (nI_lt z (by omega)))]
  rw [ex]
  refine ct_J15_mismatch h h' hu (by omega) (by omega) (by omega) fun k k1 k2 k3 => ⟨rfl, ?_⟩
  refine g_jn1_i (fun y => cmpv t u y) (fun y hy => hq y hy) (fun K hK => ⟨fun h0 => ?_, fun h0 => ?_⟩)
  · by_cases hk : k < min t.length u.length
    · rw [if_pos hk]
      refine ct_J7_getChar h (by omega) ⟨rfl, ct_J7_getChar h' (by omega) ⟨rfl, hK _ ?_⟩⟩
      have hd := mi_dd _ (g_mem (j := k) h4) _ (g_mem (j := k) h4')
      have hf := lx_first (by omega) (by omega) k2 (k3 hk)
      exact ⟨hd.1.trans hf.1.symm, hd.2.trans ⟨fun q => absurd q (k3 hk), fun q => absurd q hf.2⟩⟩
    · rw [if_neg hk] at h0
      exact absurd h0 (by decide)
  · by_cases hk : k < min t.length u.length
    · rw [if_pos hk] at h0
      exact absurd (nI_pos' (by omega)) h0
    · refine hK _ ?_
      have hp := lx_pre (t := t) (u := u) (fun i h1 h2 => k2 i (by omega))
      have hd := mi_dd _ hnt _ hnu
      exact ⟨hd.1.trans hp.1.symm, hd.2.trans hp.2.symm⟩
theorem ct_J2_compareTo {a b : Nat} {t u : List Nat} {Q : Int32 → g_St → Prop} (h : Str st.1 a t) (h' : Str st.1 b u) (hu : ∃ a : Nat, E.2.2.2.2.1 5 = some a) (hnt : t.length < 128) (hnu : u.length < 128)
    (hq : ∀ x, cmpv t u x → Q x st) : wp_J2_compareTo l E 0 0 [va_rf (some a), va_rf (some b)] st Q := by
  obtain ⟨v, hx, hz, h1, hb⟩ := h.byt
  obtain ⟨v', hx', hz', h1', hb'⟩ := h'.byt
  refine wk_J2_compareTo ?_
  refine ⟨h'.isN, h.is, wk_J2_compareTo_2 ?_⟩
  refine ⟨some v, ⟨_, Or.inr h1, rfl⟩, b, rfl, some v', ⟨_, Or.inr h1', rfl⟩, h.is, ct_J2_coder h ⟨rfl, h'.is, ct_J2_coder h' ⟨rfl, fun q => absurd rfl q, fun _ => ⟨fun q => absurd rfl q, fun _ => ?_⟩⟩⟩⟩
  refine wk_J7_compareTo ?_
  obtain ⟨g, k2, -⟩ := id hb
  obtain ⟨g', k2', -⟩ := id hb'
  exact ⟨v, rfl, 1, _, Or.inr k2, v', rfl, 1, _, Or.inr k2', ct_J7_compareTo_2 hb hb' hu hnt hnu fun x hx => ⟨rfl, rfl, rfl, hq x hx⟩⟩
end GM3
