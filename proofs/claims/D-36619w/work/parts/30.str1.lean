/-! STRINGS 1: what a String is; its small methods -/
section GS1
variable {l : Launch} {E : g_E} {st : g_St}
/-- the frozen object a is a String with the signs t -/
def Str (f : g_H) (a : Nat) (t : List Nat) : Prop := ∃ (v : Nat) (g : Nat → Int32) (hx hz : Value), f a = some (.inr (1, [va_rf (some v), .int 0, hx, hz])) ∧ f v = some (.inl (1, t.length, .inl g)) ∧ (∀ j : Nat, j < t.length → g j = nI (t.getD j 0)) ∧ (∀ c ∈ t, c < 128) ∧ t.length < 2 ^ 20
theorem Str.mono {f f' : g_H} {a : Nat} {t : List Nat} (h : Str f a t) (hf : ∀ (q : Nat) (o : g_Ob), f q = some o → f' q = some o) : Str f' a t := by
  obtain ⟨v, g, hx, hz, h1, h2, h3⟩ := h
  exact ⟨v, g, hx, hz, hf _ _ h1, hf _ _ h2, h3⟩
theorem Str.ext {st st' : g_St} {a : Nat} {t : List Nat} (h : Str st.1 a t) (hx : g_Ext st st') : Str st'.1 a t := h.mono hx.2.1
theorem Str.len {f : g_H} {a : Nat} {t : List Nat} (h : Str f a t) : t.length < 2 ^ 20 := by
  obtain ⟨v, g, hx, hz, h1, h2, h3, h4, h5⟩ := h
  exact h5
theorem Str.is {a : Nat} {t : List Nat} (h : Str st.1 a t) : g_is st a 1 := by
  obtain ⟨v, g, hx, hz, h1, h2⟩ := h
  exact ⟨_, Or.inr h1⟩
theorem Str.isN {a : Nat} {t : List Nat} (h : Str st.1 a t) : g_isN st (some a) 1 := by
  intro b hb
  cases hb
  exact h.is
theorem g_shr0 (x : Int32) : x >>> ((0 : Int32) &&& 31) = x := by
  rw [show ((0 : Int32) &&& 31) = 0 by decide]
  simp
theorem g_ch : ∀ c : Nat, c < 128 → (((nI c &&& nI 255).toUInt32 % 65536).toInt32) = nI c := by decide +kernel
theorem g_chn : ∀ c : Nat, c < 128 → narrow .char (.int (nI c)) = .int (nI c) := by decide +kernel
theorem g_mem {t : List Nat} {j : Nat} (h : ∀ c ∈ t, c < 128) : t.getD j 0 < 128 := by
  rw [List.getD_eq_getElem?_getD]
  cases he : t[j]? with
  | none => decide
  | some x => exact h x (List.mem_of_getElem? he)
theorem ct_J2_coder {a : Nat} {t : List Nat} {Q : Int32 → g_St → Prop} (h : Str st.1 a t) (hq : Q 0 st) : wp_J2_coder l E 0 0 [va_rf (some a)] st Q := by
  obtain ⟨v, g, hx, hz, h1, h2⟩ := h
  refine wk_J2_coder ?_
  unfold vc_J2_coder
  refine g_jn1_i (fun x => x = 0) (fun x hx => ?_) (fun K hK => ?_)
  · subst hx
    exact ⟨rfl, hq⟩
  · exact ⟨0, ⟨_, Or.inr h1, rfl⟩, hK 0 rfl⟩
theorem ct_J2_length {a : Nat} {t : List Nat} {Q : Int32 → g_St → Prop} (h : Str st.1 a t) (hq : Q (nI t.length) st) : wp_J2_length l E 0 0 [va_rf (some a)] st Q := by
  have h' := h
  obtain ⟨v, g, hx, hz, h1, h2, -⟩ := h
  refine wk_J2_length ?_
  refine ⟨some v, ⟨_, Or.inr h1, rfl⟩, v, rfl, 1, _, Or.inr h2, h'.is, ct_J2_coder h' ⟨rfl, ?_⟩⟩
  rw [g_shr0]
  exact hq
theorem ct_J2_isLatin1 {a : Nat} {t : List Nat} {Q : Int32 → g_St → Prop} (h : Str st.1 a t) (hq : Q (nI 1) st) : wp_J2_isLatin1 l E 0 0 [va_rf (some a)] st Q := by
  obtain ⟨v, g, hx, hz, h1, h2⟩ := h
  refine wk_J2_isLatin1 ?_
  refine g_jn1_i (fun x => x = nI 1) (fun x hx => ?_) (fun K hK => ?_)
  · subst hx
    exact ⟨rfl, hq⟩
  · show ∃ x6 : Int32, _
    exact ⟨0, ⟨_, Or.inr h1, rfl⟩, fun h => absurd rfl h, fun _ => hK _ rfl⟩
theorem ct_J2_isEmpty {a : Nat} {t : List Nat} {Q : Int32 → g_St → Prop} (h : Str st.1 a t) (hq : Q (if t = [] then nI 1 else nI 0) st) : wp_J2_isEmpty l E 0 0 [va_rf (some a)] st Q := by
  have hl := h.len
  obtain ⟨v, g, hx, hz, h1, h2, -⟩ := h
  refine wk_J2_isEmpty ?_
  refine ⟨some v, ⟨_, Or.inr h1, rfl⟩, v, rfl, 1, _, Or.inr h2, ?_⟩
  refine g_jn1_i (fun x => x = if t = [] then nI 1 else nI 0) (fun x hx => ?_) (fun K hK => ⟨fun h => hK _ ?_, fun h => hK _ ?_⟩)
  · subst hx
    refine ⟨?_, hq⟩
    by_cases e : t = []
    · rw [if_pos e]; rfl
    · rw [if_neg e]; rfl
  · rw [if_neg]
    intro e
    subst e
    exact h rfl
  · rw [if_pos]
    have h0 : nI t.length = nI 0 := h
    rw [nI_eq (by omega) (by decide)] at h0
    exact List.length_eq_zero_iff.mp h0
end GS1
