/-! STRINGS 2: charAt, equals -/
section GS2
variable {l : Launch} {E : g_E} {st : g_St}
/-- the byte array of a String -/
def Byt (f : g_H) (v : Nat) (t : List Nat) : Prop := ∃ g : Nat → Int32, f v = some (.inl (1, t.length, .inl g)) ∧ (∀ j : Nat, j < t.length → g j = nI (t.getD j 0)) ∧ (∀ c ∈ t, c < 128) ∧ t.length < 2 ^ 20
theorem Str.byt {f : g_H} {a : Nat} {t : List Nat} (h : Str f a t) : ∃ (v : Nat) (hx hz : Value), f a = some (.inr (1, [va_rf (some v), .int 0, hx, hz])) ∧ Byt f v t := by
  obtain ⟨v, g, hx, hz, h1, h2⟩ := h
  exact ⟨v, hx, hz, h1, g, h2⟩
theorem Byt.str {f : g_H} {a v : Nat} {hx hz : Value} {t : List Nat} (h1 : f a = some (.inr (1, [va_rf (some v), .int 0, hx, hz]))) (h : Byt f v t) : Str f a t := by
  obtain ⟨g, h2⟩ := h
  exact ⟨v, g, hx, hz, h1, h2⟩
theorem ct_J7_getChar {v j : Nat} {t : List Nat} {Q : Int32 → g_St → Prop} (h : Byt st.1 v t) (hj : j < t.length) (hq : Q (nI (t.getD j 0)) st) : wp_J7_getChar l E 0 0 [va_rf (some v), .int (nI j)] st Q := by
  obtain ⟨g, h2, h3, h4, h5⟩ := h
  refine wk_J7_getChar ?_
  refine ⟨v, rfl, t.length, g, j, Or.inr h2, rfl, hj, by omega, ?_⟩
  rw [h3 j hj, g_ch _ (g_mem h4)]
  exact ⟨g_chn _ (g_mem h4), hq⟩
theorem ct_J6_checkIndex {j n : Nat} {o : Option Nat} {Q : Int32 → g_St → Prop} (hj : j < n) (hn : n < 2 ^ 31) (hq : Q (nI j) st) : wp_J6_checkIndex l E 0 0 [.int (nI j), .int (nI n), va_rf o] st Q := by
  refine wk_J6_checkIndex ?_
  show _ ∧ _
  exact ⟨fun h => absurd h (nI_pos (by omega)), fun _ => ⟨fun _ => hq, fun h => absurd (nI_lt hj hn) h⟩⟩
theorem ct_J2_checkIndex {j n : Nat} {Q : g_St → Prop} (hj : j < n) (hn : n < 2 ^ 31) (hq : Q st) : wp_J2_checkIndex l E 0 0 [.int (nI j), .int (nI n)] st Q := by
  refine wk_J2_checkIndex ?_
  intro o ho
  exact ct_J6_checkIndex hj hn ⟨rfl, hq⟩
theorem ct_J7_charAt {v j : Nat} {t : List Nat} {Q : Int32 → g_St → Prop} (h : Byt st.1 v t) (hj : j < t.length) (hq : Q (nI (t.getD j 0)) st) : wp_J7_charAt l E 0 0 [va_rf (some v), .int (nI j)] st Q := by
  obtain ⟨g, h2, h3, h4, h5⟩ := h
  refine wk_J7_charAt ?_
  refine ⟨v, rfl, 1, _, Or.inr h2, ct_J2_checkIndex hj (by omega) ⟨rfl, t.length, g, j, Or.inr h2, rfl, hj, by omega, ?_⟩⟩
  rw [h3 j hj, g_ch _ (g_mem h4)]
  exact ⟨g_chn _ (g_mem h4), hq⟩
theorem ct_J2_charAt {a j : Nat} {t : List Nat} {Q : Int32 → g_St → Prop} (h : Str st.1 a t) (hj : j < t.length) (hq : Q (nI (t.getD j 0)) st) : wp_J2_charAt l E 0 0 [va_rf (some a), .int (nI j)] st Q := by
  obtain ⟨v, hx, hz, h1, hb⟩ := h.byt
  obtain ⟨-, -, -, h4, -⟩ := id hb
  refine wk_J2_charAt ?_
  refine ⟨h.is, ct_J2_isLatin1 h ⟨rfl, fun e => absurd e (by decide), fun _ => ⟨some v, ⟨_, Or.inr h1, rfl⟩, ct_J7_charAt hb hj ⟨rfl, g_chn _ (g_mem h4), hq⟩⟩⟩⟩
theorem ct_J7_equals {v w : Nat} {t u : List Nat} {Q : Int32 → g_St → Prop} (h : Byt st.1 v t) (h' : Byt st.1 w u) (hq : Q (if t = u then nI 1 else nI 0) st) : wp_J7_equals l E 0 0 [va_rf (some v), va_rf (some w)] st Q := by
  obtain ⟨g, h2, h3, h4, h5⟩ := h
  obtain ⟨g', h2', h3', h4', h5'⟩ := h'
  refine wk_J7_equals ?_
  refine ⟨v, rfl, 1, _, Or.inr h2, w, rfl, 1, _, Or.inr h2', fun hne => ?_, fun he => ?_⟩
  · rw [if_neg (fun e => hne (by rw [e]))] at hq
    exact hq
  · have hl : t.length = u.length := (nI_eq (by omega) (by omega)).mp he
    refine g_lp1_i (fun x => ∃ j : Nat, x = nI j ∧ j ≤ t.length ∧ ∀ i, i < j → t.getD i 0 = u.getD i 0) (fun x => t.length - x.toNatClampNeg) ?_ _ ⟨0, rfl, Nat.zero_le _, fun i hi => absurd hi (Nat.not_lt_zero _)⟩
    rintro x K ⟨j, rfl, hj, hi⟩ hK
    refine ⟨1, _, Or.inr h2, fun hle => ?_, fun hle => ?_⟩
    · have hge : t.length ≤ j := (nI_leI (by omega) (by omega)).mp hle
      have e : t = u := by
        refine List.ext_getElem hl fun i h1 h2 => ?_
        have := hi i (by omega)
        rw [List.getD_eq_getElem?_getD, List.getD_eq_getElem?_getD, List.getElem?_eq_getElem h1, List.getElem?_eq_getElem h2] at this
        exact this
      rw [if_pos e] at hq
      exact hq
    · have hlt : j < t.length := Nat.lt_of_not_le fun q => hle (nI_le q (by omega))
      refine ⟨t.length, g, j, Or.inr h2, rfl, hlt, by omega, u.length, g', j, Or.inr h2', rfl, by omega, by omega, fun e => ?_, fun e => ?_⟩
      · rw [h3 j hlt, h3' j (by omega), nI_eq (by have := g_mem (j := j) h4; omega) (by have := g_mem (j := j) h4'; omega)] at e
        refine hK _ ⟨j + 1, nI_1 j, by omega, fun i h => ?_⟩ ?_
        · rcases Nat.lt_succ_iff_lt_or_eq.mp h with h | h
          · exact hi i h
          · rw [h]; exact e
        · show t.length - (nI j + nI 1).toNatClampNeg < t.length - (nI j).toNatClampNeg
          rw [nI_add, nI_clamp (by omega), nI_clamp (by omega)]
          omega
      · have e' : t ≠ u := fun q => e (by rw [h3 j hlt, h3' j (by omega), q])
        rw [if_neg e'] at hq
        exact hq
theorem ct_J2_equals {a b : Nat} {t u : List Nat} {Q : Int32 → g_St → Prop} (h : Str st.1 a t) (h' : Str st.1 b u) (hq : Q (if t = u then nI 1 else nI 0) st) : wp_J2_equals l E 0 0 [va_rf (some a), va_rf (some b)] st Q := by
  obtain ⟨v, hx, hz, h1, hb⟩ := h.byt
  obtain ⟨v', hx', hz', h1', hb'⟩ := h'.byt
  refine wk_J2_equals ?_
  refine ⟨fun hne => ⟨b, rfl, h'.is, ?_⟩, fun he => ?_⟩
  · refine g_jn1_i (fun x => x = if t = u then nI 1 else nI 0) (fun x hx => ?_) (fun K hK => ?_)
    · subst hx
      refine ⟨?_, hq⟩
      by_cases e : t = u
      · rw [if_pos e]; rfl
      · rw [if_neg e]; rfl
    · show _ ∧ _
      refine ⟨h'.isN, ?_⟩
      show ∃ x14 : Int32, _
      refine ⟨0, ⟨_, Or.inr h1, rfl⟩, 0, ⟨_, Or.inr h1', rfl⟩, fun e => absurd rfl e, fun _ => ?_⟩
      refine ⟨some v, ⟨_, Or.inr h1, rfl⟩, some v', ⟨_, Or.inr h1', rfl⟩, ct_J7_equals hb hb' ⟨rfl, fun e => ?_, fun e => ?_⟩⟩
      · refine hK _ ?_
        by_cases q : t = u
        · rw [if_pos q] at e; exact absurd e (by decide)
        · rw [if_neg q]
      · refine hK _ ?_
        by_cases q : t = u
        · rw [if_pos q]
        · rw [if_neg q] at e; exact absurd rfl e
  · have e : a = b := Option.some.inj he
    subst e
    have e2 : t = u := by
      obtain ⟨v, g, _, _, k1, k2, k3, k4, -⟩ := h
      obtain ⟨v', g', _, _, k1', k2', k3', k4', -⟩ := h'
      have e1 := k1.symm.trans k1'
      simp [va_rf] at e1
      obtain ⟨rfl, -⟩ := e1
      have e2 := k2.symm.trans k2'
      simp at e2
      obtain ⟨hl, rfl⟩ := e2
      refine List.ext_getElem hl fun i q1 q2 => ?_
      have q3 := (k3 i q1).symm.trans (k3' i q2)
      have q4 := g_mem (j := i) k4
      have q5 := g_mem (j := i) k4'
      rw [nI_eq (by omega) (by omega), List.getD_eq_getElem?_getD, List.getD_eq_getElem?_getD, List.getElem?_eq_getElem q1, List.getElem?_eq_getElem q2] at q3
      exact q3
    rw [if_pos e2] at hq
    exact hq
end GS2
