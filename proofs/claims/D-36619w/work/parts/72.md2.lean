/-! MODEL 2: common beginnings; looking at words -/
section GMD2
def lcp : List Nat → List Nat → Nat
  | a :: as, b :: bs => if a = b then lcp as bs + 1 else 0
  | _, _ => 0
theorem lcp_nil (a : List Nat) : lcp a [] = 0 := by cases a <;> rfl
theorem lcp_le1 (a b : List Nat) : lcp a b ≤ a.length := by
  induction a generalizing b with
  | nil => exact Nat.le_refl _
  | cons x as ih =>
    cases b with
    | nil => exact Nat.zero_le _
    | cons y bs =>
      show (if x = y then lcp as bs + 1 else 0) ≤ as.length + 1
      split
      · have := ih bs
        omega
      · omega
theorem lcp_le2 (a b : List Nat) : lcp a b ≤ b.length := by
  induction a generalizing b with
  | nil => exact Nat.zero_le _
  | cons x as ih =>
    cases b with
    | nil => exact Nat.zero_le _
    | cons y bs =>
      show (if x = y then lcp as bs + 1 else 0) ≤ bs.length + 1
      split
      · have := ih bs
        omega
      · omega
theorem lcp_eq {a b : List Nat} {j : Nat} (h : j < lcp a b) : a.getD j 0 = b.getD j 0 := by
  induction a generalizing b j with
  | nil => exact absurd h (Nat.not_lt_zero _)
  | cons x as ih =>
    cases b with
    | nil => exact absurd h (Nat.not_lt_zero _)
    | cons y bs =>
      have h : j < (if x = y then lcp as bs + 1 else 0) := h
      split at h
      · rename_i e
        cases j with
        | zero => exact e
        | succ j => exact ih (by omega)
      · omega
theorem lcp_ne {a b : List Nat} (h1 : lcp a b < a.length) (h2 : lcp a b < b.length) : a.getD (lcp a b) 0 ≠ b.getD (lcp a b) 0 := by
  induction a generalizing b with
  | nil => exact absurd h1 (Nat.not_lt_zero _)
  | cons x as ih =>
    cases b with
    | nil => exact absurd h2 (Nat.not_lt_zero _)
    | cons y bs =>
      have e : lcp (x :: as) (y :: bs) = if x = y then lcp as bs + 1 else 0 := rfl
      rw [e] at h1 h2 ⊢
      split at h1
      · rename_i z
        rw [if_pos z] at h2 ⊢
        exact ih (by rw [List.length_cons] at h1; omega) (by rw [List.length_cons] at h2; omega)
      · rename_i z
        rw [if_neg z]
        exact z
theorem lcp_sym (a b : List Nat) : lcp a b = lcp b a := by
  induction a generalizing b with
  | nil => exact (lcp_nil b).symm
  | cons x as ih =>
    cases b with
    | nil => rfl
    | cons y bs =>
      show (if x = y then lcp as bs + 1 else 0) = (if y = x then lcp bs as + 1 else 0)
      by_cases e : x = y
      · rw [if_pos e, if_pos e.symm, ih]
      · rw [if_neg e, if_neg (Ne.symm e)]
theorem lcp_lt (a b : List Nat) : a < b ↔ (lcp a b = a.length ∧ lcp a b < b.length) ∨ (lcp a b < a.length ∧ lcp a b < b.length ∧ a.getD (lcp a b) 0 < b.getD (lcp a b) 0) := by
  induction a generalizing b with
  | nil =>
    cases b with
    | nil =>
      constructor
      · intro h
        exact absurd h (ll_irr _)
      · rintro (⟨_, h⟩ | ⟨h, _⟩)
        · exact absurd h (Nat.lt_irrefl _)
        · exact absurd h (Nat.lt_irrefl _)
    | cons y bs =>
      constructor
      · intro _
        exact Or.inl ⟨rfl, Nat.succ_pos _⟩
      · intro _
        exact List.nil_lt_cons _ _
  | cons x as ih =>
    cases b with
    | nil =>
      constructor
      · intro h
        exact absurd h (List.not_lt_nil _)
      · rintro (⟨_, h⟩ | ⟨_, h, _⟩)
        · exact absurd h (Nat.not_lt_zero _)
        · exact absurd h (Nat.not_lt_zero _)
    | cons y bs =>
      have e : lcp (x :: as) (y :: bs) = if x = y then lcp as bs + 1 else 0 := rfl
      rw [List.cons_lt_cons_iff, e]
      by_cases z : x = y
      · rw [if_pos z, ih bs, List.length_cons, List.length_cons]
        subst z
        constructor
        · rintro (h | ⟨_, ⟨h1, h2⟩ | ⟨h1, h2, h3⟩⟩)
          · omega
          · exact Or.inl ⟨by omega, by omega⟩
          · exact Or.inr ⟨by omega, by omega, h3⟩
        · rintro (⟨h1, h2⟩ | ⟨h1, h2, h3⟩)
          · exact Or.inr ⟨rfl, Or.inl ⟨by omega, by omega⟩⟩
          · exact Or.inr ⟨rfl, Or.inr ⟨by omega, by omega, h3⟩⟩
      · rw [if_neg z, List.length_cons, List.length_cons]
        constructor
        · rintro (h | ⟨h, _⟩)
          · exact Or.inr ⟨by omega, by omega, h⟩
          · exact absurd h z
        · rintro (⟨h1, _⟩ | ⟨_, _, h⟩)
          · omega
          · exact Or.inl h
theorem lcp_id {a b : List Nat} : a = b ↔ lcp a b = a.length ∧ lcp a b = b.length := by
  constructor
  · rintro rfl
    have : lcp a a = a.length := by
      induction a with
      | nil => rfl
      | cons x as ih =>
        show (if x = x then lcp as as + 1 else 0) = as.length + 1
        rw [if_pos rfl, ih]
    exact ⟨this, this⟩
  · rintro ⟨h1, h2⟩
    refine List.ext_getElem (by omega) fun i i1 i2 => ?_
    have := lcp_eq (a := a) (b := b) (j := i) (by omega)
    rw [List.getD_eq_getElem?_getD, List.getD_eq_getElem?_getD, List.getElem?_eq_getElem i1, List.getElem?_eq_getElem i2] at this
    exact this
theorem drop_get {t : List Nat} {i j : Nat} : (t.drop i).getD j 0 = t.getD (i + j) 0 := by
  rw [List.getD_eq_getElem?_getD, List.getD_eq_getElem?_getD, List.getElem?_drop]
/-- signs, words, codes as they may be -/
def sgs (t : List Nat) : Prop := ∀ c ∈ t, 97 ≤ c ∧ c ≤ 102
def okT (t : List Nat) : Prop := t.length ≤ 24 ∧ sgs t
def okW (us : wL) : Prop := us.length ≤ 24 ∧ ∀ u ∈ us, 1 ≤ u.1.length ∧ u.1.length ≤ 10 ∧ sgs u.1 ∧ u.2 ≤ 999
def okC (cs : Nat → List Nat) : Prop := ∀ j, j < 6 → 1 ≤ (cs j).length ∧ (cs j).length ≤ 3 ∧ sgs (cs j)
theorem sgs.lt {t : List Nat} (h : sgs t) (j : Nat) : t.getD j 0 ≤ 102 := by
  rw [List.getD_eq_getElem?_getD]
  cases e : t[j]? with
  | none => exact Nat.zero_le _
  | some x => exact (h x (List.mem_of_getElem? e)).2
theorem sgs.ge {t : List Nat} (h : sgs t) {j : Nat} (hj : j < t.length) : 97 ≤ t.getD j 0 := by
  rw [List.getD_eq_getElem?_getD, List.getElem?_eq_getElem hj]
  exact (h _ (List.getElem_mem hj)).1
theorem okW.kk {us : wL} (h : okW us) {w : Nat} (hw : w < us.length) : 1 ≤ (kk us w).length ∧ (kk us w).length ≤ 10 ∧ sgs (kk us w) ∧ vv us w ≤ 999 := by
  obtain ⟨u, hu, e1, e2⟩ := kk_mem hw
  have := h.2 u hu
  rw [e1, e2] at this
  exact this
/-- the arrays hold text, words, codes -/
def MR (t : List Nat) (us : wL) (cs : Nat → List Nat) (A : Nat → Nat → Int32) : Prop :=
  okT t ∧ okW us ∧ okC cs ∧ (∀ j, j < t.length → A 1 j = nI (t.getD j 0)) ∧ (∀ w, w < us.length → A 5 w = nI (kk us w).length ∧ A 6 w = nI (vv us w) ∧ ∀ k, k < (kk us w).length → A 2 (10 * w + k) = nI ((kk us w).getD k 0)) ∧ ∀ j, j < 6 → A 7 j = nI (cs j).length ∧ ∀ k, k < (cs j).length → A 3 (3 * j + k) = nI ((cs j).getD k 0)
variable {l : Launch} {E : g_E} {st0 st : g_St} {m : Nat} {c ln mn : Int32} {A : Nat → Nat → Int32} {W : Nat → Int64} {t : List Nat} {us : wL} {cs : Nat → List Nat}
theorem MR.cg {A' : Nat → Nat → Int32} (h : MR t us cs A) (h1 : A' 1 = A 1) (h2 : A' 2 = A 2) (h3 : A' 3 = A 3) (h5 : A' 5 = A 5) (h6 : A' 6 = A 6) (h7 : A' 7 = A 7) : MR t us cs A' := by
  unfold MR at *
  rw [h1, h2, h3, h5, h6, h7]
  exact h
theorem ct_mlike {w f : Nat} {Q : Int32 → g_St → Prop} (h : MS st0 st m c (nI t.length) mn A W) (hR : MR t us cs A) (hw : w < us.length) (hf : f ≤ t.length) (hq : Q (nI (lcp (kk us w) (t.drop f))) st) : wp_X2_like l E 0 0 [va_rf (some m), .int (nI w), .int (nI f)] st Q := by
  obtain ⟨hT, hW, hC, r1, r2, r3⟩ := hR
  have kw := hW.kk hw
  obtain ⟨e5, e6, e2⟩ := r2 w hw
  have l1 := lcp_le1 (kk us w) (t.drop f)
  have l2 := lcp_le2 (kk us w) (t.drop f)
  rw [List.length_drop] at l2
  have hwn := hW.1
  have htn := hT.1
  refine wk_X2_like ?_
  refine g_lp1_m (fun mm x => ∃ k, x = nI k ∧ k ≤ lcp (kk us w) (t.drop f) ∧ mm = 100 - k) ?_ ⟨0, rfl, Nat.zero_le _, rfl⟩
  rintro mm x K ⟨k, rfl, hk, rfl⟩ hK
  refine ⟨_, h.g5, _, rfl, h.r5 w rfl (by omega) ?_⟩
  rw [e5]
  have fin : k = lcp (kk us w) (t.drop f) → Q (nI k) st := fun e => by rw [e]; exact hq
  by_cases z : k = lcp (kk us w) (t.drop f)
  · refine g_jn0_i (fin z) fun K10 hK10 => b_le (by omega) (by omega) (fun _ => hK10) fun z2 => ⟨_, h.gL, ?_⟩
    rw [nI_add]
    refine b_le (by omega) (by omega) (fun _ => hK10) fun z3 => ⟨_, h.g2, _, rfl, h.r2 (10 * w + k) (by rw [nI_mul, nI_add]) (by omega) ⟨_, h.g1, _, rfl, h.r1 (f + k) rfl (by omega) ?_⟩⟩
    rw [e2 k z2, r1 _ z3]
    have ne := lcp_ne (a := kk us w) (b := t.drop f) (by omega) (by rw [List.length_drop]; omega)
    rw [← z, drop_get] at ne
    have b1 := kw.2.2.1.lt k
    have b2 := hT.2.lt (f + k)
    exact b_ne (by omega) (by omega) (fun e => absurd e ne) fun _ => hK10
  · have hlt : k < lcp (kk us w) (t.drop f) := by omega
    show _ ∧ _
    refine b_le (by omega) (by omega) (fun _ => by omega) fun z2 => ⟨_, h.gL, ?_⟩
    rw [nI_add]
    refine b_le (by omega) (by omega) (fun _ => by omega) fun z3 => ⟨_, h.g2, _, rfl, h.r2 (10 * w + k) (by rw [nI_mul, nI_add]) (by omega) ⟨_, h.g1, _, rfl, h.r1 (f + k) rfl (by omega) ?_⟩⟩
    rw [e2 k z2, r1 _ z3]
    have eq := lcp_eq hlt
    rw [drop_get] at eq
    rw [eq]
    exact ⟨fun y => absurd rfl y, fun _ => hK _ _ ⟨k + 1, nI_add k 1, hlt, rfl⟩ (by omega)⟩
theorem ct_mlikeW {a b : Nat} {Q : Int32 → g_St → Prop} (h : MS st0 st m c ln mn A W) (hR : MR t us cs A) (ha : a < us.length) (hb : b < us.length) (hq : Q (nI (lcp (kk us a) (kk us b))) st) : wp_X2_likeWords l E 0 0 [va_rf (some m), .int (nI a), .int (nI b)] st Q := by
  obtain ⟨hT, hW, hC, r1, r2, r3⟩ := hR
  have ka := hW.kk ha
  have kb := hW.kk hb
  obtain ⟨e5, e6, e2⟩ := r2 a ha
  obtain ⟨e5', e6', e2'⟩ := r2 b hb
  have l1 := lcp_le1 (kk us a) (kk us b)
  have l2 := lcp_le2 (kk us a) (kk us b)
  have hwn := hW.1
  refine wk_X2_likeWords ?_
  refine g_lp1_m (fun mm x => ∃ k, x = nI k ∧ k ≤ lcp (kk us a) (kk us b) ∧ mm = 100 - k) ?_ ⟨0, rfl, Nat.zero_le _, rfl⟩
  rintro mm x K ⟨k, rfl, hk, rfl⟩ hK
  refine ⟨_, h.g5, _, rfl, h.r5 a rfl (by omega) ?_⟩
  rw [e5]
  have fin : k = lcp (kk us a) (kk us b) → Q (nI k) st := fun e => by rw [e]; exact hq
  by_cases z : k = lcp (kk us a) (kk us b)
  · refine g_jn0_i (fin z) fun K10 hK10 => b_le (by omega) (by omega) (fun _ => hK10) fun z2 => ⟨_, h.g5, _, rfl, h.r5 b rfl (by omega) ?_⟩
    rw [e5']
    refine b_le (by omega) (by omega) (fun _ => hK10) fun z3 => ⟨_, h.g2, _, rfl, h.r2 (10 * a + k) (by rw [nI_mul, nI_add]) (by omega) ⟨_, h.g2, _, rfl, h.r2 (10 * b + k) (by rw [nI_mul, nI_add]) (by omega) ?_⟩⟩
    rw [e2 k z2, e2' k z3]
    have ne := lcp_ne (a := kk us a) (b := kk us b) (by omega) (by omega)
    rw [← z] at ne
    have b1 := ka.2.2.1.lt k
    have b2 := kb.2.2.1.lt k
    exact b_ne (by omega) (by omega) (fun e => absurd e ne) fun _ => hK10
  · have hlt : k < lcp (kk us a) (kk us b) := by omega
    show _ ∧ _
    refine b_le (by omega) (by omega) (fun _ => by omega) fun z2 => ⟨_, h.g5, _, rfl, h.r5 b rfl (by omega) ?_⟩
    rw [e5']
    refine b_le (by omega) (by omega) (fun _ => by omega) fun z3 => ⟨_, h.g2, _, rfl, h.r2 (10 * a + k) (by rw [nI_mul, nI_add]) (by omega) ⟨_, h.g2, _, rfl, h.r2 (10 * b + k) (by rw [nI_mul, nI_add]) (by omega) ?_⟩⟩
    rw [e2 k z2, e2' k z3, lcp_eq hlt]
    exact ⟨fun y => absurd rfl y, fun _ => hK _ _ ⟨k + 1, nI_add k 1, hlt, rfl⟩ (by omega)⟩
theorem nI_sub_cmp0 : ∀ a : Nat, a < 128 → ∀ b : Nat, b < 128 → (nI a - nI b < 0 ↔ a < b) ∧ (nI a - nI b = 0 ↔ a = b) := by decide +kernel
theorem nI_sub_cmp (a b : Nat) (ha : a < 128) (hb : b < 128) : (nI a - nI b < 0 ↔ a < b) ∧ (nI a - nI b = 0 ↔ a = b) := nI_sub_cmp0 a ha b hb
/-- below 0, 0, above 0 as the word is less than, is, is greater than the text -/
theorem ct_mbeside {w : Nat} {Q : Int32 → g_St → Prop} (h : MS st0 st m c (nI t.length) mn A W) (hR : MR t us cs A) (hw : w < us.length) (hq : ∀ x, cmpv (kk us w) t x → Q x st) : wp_X2_beside l E 0 0 [va_rf (some m), .int (nI w)] st Q := by
  have hR0 := hR
  obtain ⟨hT, hW, hC, r1, r2, r3⟩ := hR
  have kw := hW.kk hw
  obtain ⟨e5, e6, e2⟩ := r2 w hw
  have l1 := lcp_le1 (kk us w) t
  have l2 := lcp_le2 (kk us w) t
  have hwn := hW.1
  have htn := hT.1
  have hlt := lcp_lt (kk us w) t
  have hid := lcp_id (a := kk us w) (b := t)
  refine wk_X2_beside ⟨h.is, ct_mlike h hR0 hw (Nat.zero_le _) ⟨rfl, _, h.g5, _, rfl, h.r5 w rfl (by omega) ?_⟩⟩
  rw [e5, List.drop_zero]
  refine b_ne (by omega) (by omega) (fun z => ⟨_, h.gL, ?_⟩) fun z => ⟨_, h.gL, ?_⟩
  · show _ ∧ _
    refine b_ne (by omega) (by omega) (fun y => hq _ ⟨⟨fun w => absurd w (by decide), fun w => ?_⟩, ⟨fun _ => hid.mpr ⟨z, y⟩, fun _ => rfl⟩⟩) fun y => hq _ ⟨⟨fun _ => hlt.mpr (Or.inl ⟨z, by omega⟩), fun _ => by decide⟩, ⟨fun w => absurd w (by decide), fun w => absurd (hid.mp w).2 y⟩⟩
    rw [hid.mpr ⟨z, y⟩] at w
    exact absurd w (ll_irr _)
  · show _ ∧ _
    refine b_ne (by omega) (by omega) (fun y => hq _ ⟨⟨fun w => absurd w (by decide), fun w => ?_⟩, ⟨fun w => absurd w (by decide), fun w => absurd (hid.mp w).1 z⟩⟩) fun y => ⟨_, h.g2, _, rfl, h.r2 (10 * w + lcp (kk us w) t) (by rw [nI_mul, nI_add]) (by omega) ⟨_, h.g1, _, rfl, h.r1 (lcp (kk us w) t) rfl (by omega) ?_⟩⟩
    · rcases hlt.mp w with ⟨w1, w2⟩ | ⟨w1, w2, w3⟩ <;> omega
    · rw [e2 _ (by omega), r1 _ (by omega)]
      have b1 := kw.2.2.1.lt (lcp (kk us w) t)
      have b2 := hT.2.lt (lcp (kk us w) t)
      have hc := nI_sub_cmp ((kk us w).getD (lcp (kk us w) t) 0) (t.getD (lcp (kk us w) t) 0) (by omega) (by omega)
      have ne := lcp_ne (a := kk us w) (b := t) (by omega) (by omega)
      refine hq _ ⟨?_, ?_⟩
      · rw [hc.1, hlt]
        constructor
        · intro w
          exact Or.inr ⟨by omega, by omega, w⟩
        · rintro (⟨w1, w2⟩ | ⟨w1, w2, w3⟩)
          · omega
          · exact w3
      · rw [hc.2]
        exact ⟨fun w => absurd w ne, fun w => absurd (hid.mp w).1 z⟩
theorem ct_misLess {a b : Nat} {Q : Int32 → g_St → Prop} (h : MS st0 st m c ln mn A W) (hR : MR t us cs A) (ha : a < us.length) (hb : b < us.length) (hq : Q (tv (kk us a < kk us b)) st) : wp_X2_isLess l E 0 0 [va_rf (some m), .int (nI a), .int (nI b)] st Q := by
  have hR0 := hR
  obtain ⟨hT, hW, hC, r1, r2, r3⟩ := hR
  have ka := hW.kk ha
  have kb := hW.kk hb
  obtain ⟨e5, e6, e2⟩ := r2 a ha
  obtain ⟨e5', e6', e2'⟩ := r2 b hb
  have l1 := lcp_le1 (kk us a) (kk us b)
  have l2 := lcp_le2 (kk us a) (kk us b)
  have hwn := hW.1
  have hlt := lcp_lt (kk us a) (kk us b)
  refine wk_X2_isLess ⟨h.is, ct_mlikeW h hR0 ha hb ⟨rfl, _, h.g5, _, rfl, h.r5 b rfl (by omega) ?_⟩⟩
  rw [e5']
  refine b_ne (by omega) (by omega) (fun z => ?_) fun z => ⟨_, h.g5, _, rfl, h.r5 a rfl (by omega) ?_⟩
  · rw [tv_0] at hq
    · exact hq
    · intro w
      rcases hlt.mp w with ⟨w1, w2⟩ | ⟨w1, w2, w3⟩ <;> omega
  · rw [e5]
    refine g_jn1_i (fun y => y = tv (kk us a < kk us b)) (fun y e => by rw [e]; exact ⟨tv_nar, hq⟩) fun K hK => ?_
    by_cases y : kk us a < kk us b
    · refine g_jn0_i (hK _ (tv_1 y).symm) fun K16 hK16 => b_eq (by omega) (by omega) (fun _ => hK16) fun w => ⟨_, h.g2, _, rfl, h.r2 (10 * a + lcp (kk us a) (kk us b)) (by rw [nI_mul, nI_add]) (by omega) ⟨_, h.g2, _, rfl, h.r2 (10 * b + lcp (kk us a) (kk us b)) (by rw [nI_mul, nI_add]) (by omega) ?_⟩⟩
      rw [e2 _ (by omega), e2' _ (by omega)]
      have b1 := ka.2.2.1.lt (lcp (kk us a) (kk us b))
      have b2 := kb.2.2.1.lt (lcp (kk us a) (kk us b))
      refine b_le (by omega) (by omega) (fun v => ?_) fun _ => hK16
      rcases hlt.mp y with ⟨w1, w2⟩ | ⟨w1, w2, w3⟩ <;> omega
    · show _ ∧ _
      refine b_eq (by omega) (by omega) (fun w => absurd (hlt.mpr (Or.inl ⟨w, by omega⟩)) y) fun w => ⟨_, h.g2, _, rfl, h.r2 (10 * a + lcp (kk us a) (kk us b)) (by rw [nI_mul, nI_add]) (by omega) ⟨_, h.g2, _, rfl, h.r2 (10 * b + lcp (kk us a) (kk us b)) (by rw [nI_mul, nI_add]) (by omega) ?_⟩⟩
      rw [e2 _ (by omega), e2' _ (by omega)]
      have b1 := ka.2.2.1.lt (lcp (kk us a) (kk us b))
      have b2 := kb.2.2.1.lt (lcp (kk us a) (kk us b))
      exact b_le (by omega) (by omega) (fun v => hK _ (tv_0 y).symm) fun v => absurd (hlt.mpr (Or.inr ⟨by omega, by omega, v⟩)) y
/-- the word begins with the text -/
def pre (t u : List Nat) : Prop := lcp u t = t.length
theorem ct_misBegun {w : Nat} {Q : Int32 → g_St → Prop} (h : MS st0 st m c (nI t.length) mn A W) (hR : MR t us cs A) (hw : w < us.length) (hq : Q (tv (lcp (kk us w) t = t.length)) st) : wp_X2_isBegun l E 0 0 [va_rf (some m), .int (nI w)] st Q := by
  have l2 := lcp_le2 (kk us w) t
  have htn := hR.1.1
  refine wk_X2_isBegun ⟨h.is, ct_mlike h hR hw (Nat.zero_le _) ⟨rfl, _, h.gL, ?_⟩⟩
  rw [List.drop_zero]
  refine g_jn1_i (fun y => y = tv (lcp (kk us w) t = t.length)) (fun y e => by rw [e]; exact ⟨tv_nar, hq⟩) fun K hK => ?_
  exact b_ne (by omega) (by omega) (fun z => hK _ (tv_1 z).symm) fun z => hK _ (tv_0 z).symm
end GMD2
