/-! SUBSTRING 3: String.substring -/
section GSU3
variable {l : Launch} {E : g_E} {st : g_St}
theorem cut_all {t : List Nat} : cut t 0 t.length = t := by
  unfold cut
  rw [List.drop_zero, List.take_length]
theorem ct_J2_substring {a i e mc ms : Nat} {t : List Nat} {Q : Option Nat → g_St → Prop} (hE : Cst E st.1) (h : Str st.1 a t) (h1 : i ≤ e) (h2 : e ≤ t.length) (hmc : 2 ≤ mc) (hms : 4 + (e - i) ≤ ms)
    (hq : ∀ (q : Nat) (st' : g_St), Str st'.1 q (cut t i (e - i)) → Sm st st' → Q (some q) st') : wp_J2_substring l E mc ms [va_rf (some a), .int (nI i), .int (nI e)] st Q := by
  refine g_WPa.wf fun hw => ?_
  have hl := h.len
  obtain ⟨v, g, hx, hz, k1, k2, k3, k4, k5⟩ := id h
  refine wk_J2_substring ⟨h.is, ct_J2_length h ⟨rfl, ct_J2_checkBounds h1 h2 (by omega) ⟨rfl, ?_⟩⟩⟩
  have alt : ¬ (i = 0 ∧ e = t.length) → g_is st a 1 ∧ wp_J2_isLatin1 l E 0 0 [va_rf (some a)] st (fun x4 stx => stx = st ∧ (x4 = 0 → ∃ o6 : Option Nat, g_gr st a 1 0 o6 ∧ False) ∧ (¬ x4 = 0 → ∃ o7 : Option Nat, g_gr st a 1 0 o7 ∧ ∃ mc10 ms11 : Nat, mc10 ≤ mc ∧ ms11 ≤ ms ∧ wp_J7_newString l E mc10 ms11 [va_rf o7, .int (nI i), .int (nI e - nI i)] st (fun o8 st9 => g_Ext st st9 → Q o8 st9))) := by
    intro hn
    refine ⟨h.is, ct_J2_isLatin1 h ⟨rfl, fun q => absurd q (by decide), fun _ => ⟨some v, ⟨_, Or.inr k1, rfl⟩, mc, ms, Nat.le_refl _, Nat.le_refl _, ?_⟩⟩⟩
    rw [su_sub h1]
    exact ct_J7_newString hE (Or.inr k2) (hw.1 _ _ k2).2 k3 k4 (Nat.le_refl _) k5 (by omega) hmc hms (fun q1 q2 => absurd ⟨q1, by omega⟩ hn) fun q st' q1 q2 _ => hq q st' q1 q2
  show _ ∧ _
  refine ⟨fun q => alt fun ⟨z, _⟩ => q (by rw [z]; rfl), fun q => ⟨fun q2 => alt fun ⟨_, z⟩ => q2 (by rw [z]), fun q2 => ?_⟩⟩
  have hi0 : i = 0 := (nI_eq (by omega) (by decide)).mp q
  have hen : e = t.length := (nI_eq (by omega) (by omega)).mp q2
  subst hi0; subst hen
  exact hq a st (by rw [Nat.sub_zero, cut_all]; exact h) Sm.rf
end GSU3
