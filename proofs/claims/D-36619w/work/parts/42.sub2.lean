/-! SUBSTRING 2: newString -/
section GSU2
variable {l : Launch} {E : g_E} {st : g_St}
theorem ct_J2_init3 {a v : Nat} {fs : List Value} {Q : g_St → Prop} (h : st.2.1 a = some (.inr (1, fs))) (hq : ∀ st' : g_St, st' = g_put (g_put st a (.inr (1, fs.set 0 (va_rf (some v))))) a (.inr (1, (fs.set 0 (va_rf (some v))).set 1 (.int (nI 0)))) → Q st') : wp_J2_init_3 l E 0 0 [va_rf (some a), va_rf (some v), .int (nI 0)] st Q := by
  refine wk_J2_init_3 ⟨fs, h, fun st2 h2 => ⟨⟨rfl, rfl⟩, fs.set 0 (va_rf (some v)), ?_, fun st4 h4 => ?_⟩⟩
  · subst h2
    exact g_upd_s
  · subst h2
    exact hq _ h4
/-- the n signs from i on -/
def cut (t : List Nat) (i n : Nat) : List Nat := (t.drop i).take n
theorem cut_len {t : List Nat} {i n : Nat} (h : i + n ≤ t.length) : (cut t i n).length = n := by
  unfold cut
  rw [List.length_take, List.length_drop]
  omega
theorem cut_get {t : List Nat} {i n j : Nat} (h : j < n) : (cut t i n).getD j 0 = t.getD (i + j) 0 := by
  unfold cut
  rw [List.getD_eq_getElem?_getD, List.getD_eq_getElem?_getD, List.getElem?_take, if_pos h, List.getElem?_drop]
theorem cut_mem {t : List Nat} {i n : Nat} (h : ∀ c ∈ t, c < 128) : ∀ c ∈ cut t i n, c < 128 := fun c hc => h c (List.mem_of_mem_drop (List.mem_of_mem_take hc))
theorem ct_J8_copyOfRange {v n i e mc ms : Nat} {f : Nat → Int32} {Q : Option Nat → g_St → Prop} (hr : g_Rd st v (.inl (1, n, .inl f))) (hw : v < st.2.2) (h1 : i ≤ e) (h2 : e ≤ n) (hn : n < 2 ^ 20) (hmc : 1 ≤ mc) (hms : e - i ≤ ms) (hf : ∀ z, z < e - i → fits .byte (.int (f (i + z))) = true) (hcl : i = 0 → e = n → st.2.1 v = some (.inl (1, n, .inl f)))
    (hq : ∀ (st' : g_St) (g : Nat → Int32), Sm st st' → st'.2.2 = st.2.2 + 1 → st'.2.1 st.2.2 = some (.inl (1, e - i, .inl g)) → (∀ z, z < e - i → g z = f (i + z)) → Q (some st.2.2) st') : wp_J8_copyOfRange l E mc ms [va_rf (some v), .int (nI i), .int (nI e)] st Q := by
  refine wk_J8_copyOfRange ?_
  have alt : ∃ mc5 ms6 : Nat, mc5 ≤ mc ∧ ms6 ≤ ms ∧ wp_J8_copyOfRangeByte l E mc5 ms6 [va_rf (some v), .int (nI i), .int (nI e)] st (fun o3 st4 => g_Ext st st4 → Q o3 st4) := ⟨mc, ms, Nat.le_refl _, Nat.le_refl _, ct_J8_copyOfRangeByte hr hw h1 h2 hn hmc hms hf fun st' g a b c d _ => hq st' g a b c d⟩
  show _ ∧ _
  refine ⟨fun _ => alt, fun h0 => ⟨v, rfl, 1, _, hr, fun he => ?_, fun _ => alt⟩⟩
  have hi0 : i = 0 := (nI_eq (by omega) (by decide)).mp h0
  have hen : e = n := (nI_eq (by omega) (by omega)).mp he
  subst hi0; subst hen
  refine ⟨e, f, hcl rfl rfl, fun z hz => by have := hf z (by omega); rw [Nat.zero_add] at this; exact this, hmc, by omega, fun q st' e1 e2 => ?_⟩
  subst e1; subst e2
  exact ⟨_, Or.inl g_upd_s, hq _ f Sm.new rfl g_upd_s fun z hz => by rw [Nat.zero_add]⟩
/-- newString over an array whose first signs are t: a new frozen String (or the constant "") -/
theorem ct_J7_newString {v N i n mc ms : Nat} {f : Nat → Int32} {t : List Nat} {Q : Option Nat → g_St → Prop} (hE : Cst E st.1) (hr : g_Rd st v (.inl (1, N, .inl f))) (hv : v < st.2.2) (hft : ∀ j, j < t.length → f j = nI (t.getD j 0)) (h4 : ∀ c ∈ t, c < 128) (htN : t.length ≤ N) (hN : N < 2 ^ 20) (hin : i + n ≤ t.length) (hmc : 2 ≤ mc) (hms : 4 + n ≤ ms) (hcl : i = 0 → n = N → st.2.1 v = some (.inl (1, N, .inl f)))
    (hq : ∀ (q : Nat) (st' : g_St), Str st'.1 q (cut t i n) → Sm st st' → Q (some q) st') : wp_J7_newString l E mc ms [va_rf (some v), .int (nI i), .int (nI n)] st Q := by
  refine g_WPa.post (Q' := fun r st' => (st' = st ∧ ∃ q, r = some q ∧ Str st.1 q (cut t i n)) ∨ (r = some st.2.2 ∧ Sm st st' ∧ ∃ g : Nat → Int32, st'.2.1 st.2.2 = some (.inr (1, [va_rf (some (st.2.2 + 1)), .int 0, .int 0, .int 0])) ∧ st'.2.1 (st.2.2 + 1) = some (.inl (1, n, .inl g)) ∧ ∀ z, z < n → g z = f (i + z))) (wk_J7_newString ⟨fun h0 => ?_, fun h0 => ?_⟩) ?_
  · refine ⟨by omega, by omega, fun q st3 hq2 h3 => ⟨1, n, by omega, by omega, ?_⟩⟩
    subst hq2; subst h3
    rw [nI_add]
    have hr' : g_Rd (g_new st (.inr (1, [va_rf none, .int 0, .int 0, .int 0]))) v (.inl (1, N, .inl f)) := by
      rcases hr with hr | hr
      · exact Or.inl (by show g_upd st.2.1 st.2.2 _ v = _; rw [g_upd_n (Nat.ne_of_lt hv)]; exact hr)
      · exact Or.inr hr
    have he : i + n - i = n := by omega
    have hfit : ∀ z, z < n → fits .byte (.int (f (i + z))) = true := fun z hz => by rw [hft _ (by omega)]; exact su_fit _ (g_mem h4)
    have fin : ∀ (st' : g_St) (g : Nat → Int32), Sm (g_new st (.inr (1, [va_rf none, .int 0, .int 0, .int 0]))) st' → st'.2.2 = st.2.2 + 1 + 1 → st'.2.1 (st.2.2 + 1) = some (.inl (1, n, .inl g)) → (∀ z, z < n → g z = f (i + z)) → wp_J2_init_3 l E 0 0 [va_rf (some st.2.2), va_rf (some (st.2.2 + 1)), .int (nI 0)] st' (fun st8 => g_Ext st' st8 → (st8 = st ∧ ∃ q, some st.2.2 = some q ∧ Str st.1 q (cut t i n)) ∨ (some st.2.2 = some st.2.2 ∧ Sm st st8 ∧ ∃ g : Nat → Int32, st8.2.1 st.2.2 = some (.inr (1, [va_rf (some (st.2.2 + 1)), .int 0, .int 0, .int 0])) ∧ st8.2.1 (st.2.2 + 1) = some (.inl (1, n, .inl g)) ∧ ∀ z, z < n → g z = f (i + z))) := by
      intro st' g k1 k2 k3 k4
      have k5 : st'.2.1 st.2.2 = some (.inr (1, [va_rf none, .int 0, .int 0, .int 0])) := (k1.2 _ (Nat.lt_succ_self _)).trans g_upd_s
      refine ct_J2_init3 k5 fun st8 e8 hx8 => Or.inr ⟨rfl, ⟨Sm.new.1.tr (k1.1.tr hx8), fun q hq => ?_⟩, g, ?_, ?_, k4⟩
      · rw [e8]
        show g_upd (g_upd st'.2.1 st.2.2 _) st.2.2 _ q = _
        rw [g_upd_n (Nat.ne_of_lt hq), g_upd_n (Nat.ne_of_lt hq), k1.2 q (Nat.lt_succ_of_lt hq)]
        exact g_upd_n (Nat.ne_of_lt hq)
      · rw [e8]
        exact g_upd_s
      · rw [e8]
        show g_upd (g_upd st'.2.1 st.2.2 _) st.2.2 _ (st.2.2 + 1) = _
        rw [g_upd_n (by omega), g_upd_n (by omega)]
        exact k3
    refine ct_J8_copyOfRange hr' (Nat.lt_succ_of_lt hv) (by omega) (by omega) hN (Nat.le_refl _) (by omega) (fun z hz => hfit z (by omega)) (fun q1 q2 => ?_) fun st' g a1 a2 a3 a4 _ => fin st' g a1 a2 (by rw [he] at a3; exact a3) (fun z hz => a4 z (by omega))
    show g_upd st.2.1 st.2.2 _ v = _
    rw [g_upd_n (Nat.ne_of_lt hv)]
    exact hcl q1 (by omega)
  · have hn0 : n = 0 := (nI_eq (by omega) (by decide)).mp h0
    obtain ⟨-, -, -, -, a, e1, e2⟩ := hE
    intro o ho
    refine Or.inl ⟨rfl, a, ho.trans e1, ?_⟩
    rw [show cut t i n = [] by rw [hn0]; rfl]
    exact e2
  · rintro r st' hx hw (⟨rfl, q, rfl, hi⟩ | ⟨rfl, hs, g, k1, k2, k3⟩)
    · exact ⟨st', g_Fz.rf hw, hq q st' hi Sm.rf⟩
    · refine ⟨g_frz [st.2.2, st.2.2 + 1] st', g_frz_fz _ hw, hq _ _ ?_ (hs.frz hw (fun q hq => ?_))⟩
      · refine ⟨st.2.2 + 1, g, _, _, g_frz_f List.mem_cons_self k1, ?_, fun j hj => ?_, cut_mem h4, ?_⟩
        · rw [cut_len hin]
          exact g_frz_f (List.mem_cons_of_mem _ List.mem_cons_self) k2
        · rw [cut_len hin] at hj
          rw [k3 j hj, hft _ (by omega), cut_get hj]
        · rw [cut_len hin]
          omega
      · rcases List.mem_cons.mp hq with h | h
        · omega
        · rw [List.mem_singleton.mp h]
          omega
end GSU2
