/-! SUBSTRING 1: bounds, copyOfRange -/
section GSU1
variable {l : Launch} {E : g_E} {st : g_St}
theorem su_sub {a b : Nat} (h : b ≤ a) : nI a - nI b = nI (a - b) := by
  have := nI_add (a - b) b
  rw [Nat.sub_add_cancel h] at this
  rw [← this]
  exact Int32.add_sub_cancel _ _
theorem su_fit : ∀ c : Nat, c < 128 → fits .byte (.int (nI c)) = true := by decide +kernel
theorem ct_J6_checkFromTo {i e n : Nat} {o : Option Nat} {Q : Int32 → g_St → Prop} (h1 : i ≤ e) (h2 : e ≤ n) (hn : n < 2 ^ 31) (hq : Q (nI i) st) : wp_J6_checkFromToIndex l E 0 0 [.int (nI i), .int (nI e), .int (nI n), va_rf o] st Q := by
  refine wk_J6_checkFromToIndex ?_
  show _ ∧ _
  exact ⟨fun h => absurd h (nI_pos (by omega)), fun _ => ⟨fun h => absurd h (nI_nlt h1 (by omega)), fun _ => ⟨fun _ => hq, fun h => absurd (nI_le h2 hn) h⟩⟩⟩
theorem ct_J2_checkBounds {i e n : Nat} {Q : g_St → Prop} (h1 : i ≤ e) (h2 : e ≤ n) (hn : n < 2 ^ 31) (hq : Q st) : wp_J2_checkBoundsBeginEnd l E 0 0 [.int (nI i), .int (nI e), .int (nI n)] st Q :=
  wk_J2_checkBoundsBeginEnd fun _ _ => ct_J6_checkFromTo h1 h2 hn ⟨rfl, hq⟩
theorem ct_J8_checkLength {i e : Nat} {Q : g_St → Prop} (h1 : i ≤ e) (he : e < 2 ^ 31) (hq : Q st) : wp_J8_checkLength l E 0 0 [.int (nI i), .int (nI e)] st Q :=
  wk_J8_checkLength ⟨fun _ => hq, fun h => absurd (nI_le h1 he) h⟩
theorem ct_J8_copyOfRangeByte {v n i e mc ms : Nat} {f : Nat → Int32} {Q : Option Nat → g_St → Prop} (hr : g_Rd st v (.inl (1, n, .inl f))) (hw : v < st.2.2) (h1 : i ≤ e) (h2 : e ≤ n) (hn : n < 2 ^ 20) (hmc : 1 ≤ mc) (hms : e - i ≤ ms) (hf : ∀ z, z < e - i → fits .byte (.int (f (i + z))) = true)
    (hq : ∀ (st' : g_St) (g : Nat → Int32), Sm st st' → st'.2.2 = st.2.2 + 1 → st'.2.1 st.2.2 = some (.inl (1, e - i, .inl g)) → (∀ z, z < e - i → g z = f (i + z)) → Q (some st.2.2) st') : wp_J8_copyOfRangeByte l E mc ms [va_rf (some v), .int (nI i), .int (nI e)] st Q := by
  refine wk_J8_copyOfRangeByte ?_
  refine ct_J8_checkLength h1 (by omega) ⟨rfl, e - i, su_sub h1, by omega, hmc, hms, fun q st3 hq2 h3 => ?_⟩
  subst hq2; subst h3
  have hr' : g_Rd (g_new st (.inl (1, e - i, .inl fun _ => 0))) v (.inl (1, n, .inl f)) := by
    rcases hr with hr | hr
    · exact Or.inl (by show g_upd st.2.1 st.2.2 _ v = _; rw [g_upd_n (Nat.ne_of_lt hw)]; exact hr)
    · exact Or.inr hr
  refine ⟨v, rfl, 1, _, hr', fun x hx => ?_⟩
  have ex : x = nI (e - i) := by
    rw [hx, su_sub h1, su_sub (show i ≤ n by omega)]
    by_cases h : nI (e - i) < nI (n - i)
    · rw [if_pos h]
    · rw [if_neg h]
      have := Nat.le_of_not_lt fun z => h (nI_lt z (by omega))
      rw [show n - i = e - i by omega]
  refine ⟨n, f, e - i, fun _ => 0, i, 0, e - i, hr', g_upd_s, rfl, rfl, ex, by omega, by omega, by omega, by omega, by omega, hf, fun st15 h15 => ?_⟩
  subst h15
  refine hq _ (va_cpy f (fun _ => 0) i 0 (e - i)) ⟨g_Ext.put (g_Ext.new g_Ext.rf) g_upd_s, fun q hq => ?_⟩ rfl g_upd_s fun z hz => ?_
  · show g_upd (g_upd st.2.1 st.2.2 _) st.2.2 _ q = _
    rw [g_upd_n (Nat.ne_of_lt hq), g_upd_n (Nat.ne_of_lt hq)]
  · unfold va_cpy
    simp [hz]
end GSU1
