/-! STRINGBUILDER 1: what a builder is; init, length, ensureCapacity -/
section GSB1
variable {l : Launch} {E : g_E} {st : g_St}
/-- the builder a holds the signs t in the array v of N places -/
def SB (h : g_H) (a : Nat) (t : List Nat) (v N : Nat) : Prop := ∃ (m : Value) (g : Nat → Int32), h a = some (.inr (0, [va_rf (some v), .int 0, m, .int (nI t.length)])) ∧ h v = some (.inl (1, N, .inl g)) ∧ (∀ j : Nat, j < t.length → g j = nI (t.getD j 0)) ∧ (∀ z : Nat, z < N → fits .byte (.int (g z)) = true) ∧ (∀ c ∈ t, c < 128) ∧ t.length ≤ N ∧ N < 2 ^ 15
theorem SB.ne {h : g_H} {a v N : Nat} {t : List Nat} (hs : SB h a t v N) : a ≠ v := by
  obtain ⟨m, g, h1, h2, -⟩ := hs
  intro e
  rw [e, h2] at h1
  cases h1
theorem SB.is {a v N : Nat} {t : List Nat} (hs : SB st.2.1 a t v N) : g_is st a 0 := by
  obtain ⟨m, g, h1, -⟩ := hs
  exact ⟨_, Or.inl h1⟩
/-- outside D the old mutable cells are as they were -/
def Se (D : Nat → Prop) (st st' : g_St) : Prop := g_Ext st st' ∧ ∀ q : Nat, q < st.2.2 → ¬ D q → st'.2.1 q = st.2.1 q
theorem Se.rf {D : Nat → Prop} : Se D st st := ⟨g_Ext.rf, fun _ _ _ => rfl⟩
theorem Sm.se {D : Nat → Prop} {st' : g_St} (h : Sm st st') : Se D st st' := ⟨h.1, fun q hq _ => h.2 q hq⟩
theorem Se.tr {D : Nat → Prop} {a b c : g_St} (h1 : Se D a b) (h2 : Se (fun q => D q ∨ a.2.2 ≤ q) b c) : Se D a c :=
  ⟨h1.1.tr h2.1, fun q hq hd => (h2.2 q (Nat.lt_of_lt_of_le hq h1.1.1) (fun z => z.elim hd (fun z => by omega))).trans (h1.2 q hq hd)⟩
theorem Se.wk {D D' : Nat → Prop} {st' : g_St} (h : Se D st st') (hd : ∀ q, q < st.2.2 → D q → D' q) : Se D' st st' := ⟨h.1, fun q hq hn => h.2 q hq fun z => hn (hd q hq z)⟩
theorem Se.put {D : Nat → Prop} {a : Nat} {o o0 : g_Ob} (ha : st.2.1 a = some o0) (hd : D a) : Se D st (g_put st a o) :=
  ⟨g_Ext.put g_Ext.rf ha, fun q hq hn => g_upd_n (fun e => hn (by rw [e]; exact hd))⟩
theorem ct_J0_length {a v N : Nat} {t : List Nat} {Q : Int32 → g_St → Prop} (hs : SB st.2.1 a t v N) (hq : Q (nI t.length) st) : wp_J0_length l E 0 0 [va_rf (some a)] st Q := by
  obtain ⟨m, g, h1, -⟩ := hs
  exact wk_J0_length ⟨_, ⟨_, Or.inl h1, rfl⟩, hq⟩
theorem ct_J1_length {a v N : Nat} {t : List Nat} {Q : Int32 → g_St → Prop} (hs : SB st.2.1 a t v N) (hq : Q (nI t.length) st) : wp_J1_length l E 0 0 [va_rf (some a)] st Q :=
  wk_J1_length ⟨hs.is, ct_J0_length hs ⟨rfl, hq⟩⟩
theorem ct_J0_isLatin1 {a v N : Nat} {t : List Nat} {Q : Int32 → g_St → Prop} (hs : SB st.2.1 a t v N) (hq : Q (nI 1) st) : wp_J0_isLatin1 l E 0 0 [va_rf (some a)] st Q := by
  obtain ⟨m, g, h1, -⟩ := hs
  refine wk_J0_isLatin1 ?_
  refine g_jn1_i (fun x => x = nI 1) (fun x hx => ?_) (fun K hK => ?_)
  · subst hx
    exact ⟨rfl, hq⟩
  · show ∃ x6 : Int32, _
    exact ⟨0, ⟨_, Or.inl h1, rfl⟩, fun h => absurd rfl h, fun _ => hK _ rfl⟩
/-- new StringBuilder() on a fresh object -/
theorem ct_J1_init {a mc ms : Nat} {m : Value} {Q : g_St → Prop} (ha : st.2.1 a = some (.inr (0, [va_rf none, .int 0, m, .int 0]))) (hal : a < st.2.2) (hmc : 1 ≤ mc) (hms : 16 ≤ ms)
    (hq : ∀ st' : g_St, SB st'.2.1 a [] st.2.2 16 → Se (fun q => q = a) st st' → Q st') : wp_J1_init l E mc ms [va_rf (some a)] st Q := by
  refine wk_J1_init ⟨mc, ms, Nat.le_refl _, Nat.le_refl _, wk_J0_init ⟨16, rfl, by omega, hmc, hms, fun q2 st3 e1 e2 => ?_⟩⟩
  subst e1; subst e2
  have hne : a ≠ st.2.2 := Nat.ne_of_lt hal
  refine ⟨[va_rf none, .int 0, m, .int 0], by show g_upd st.2.1 st.2.2 _ a = _; rw [g_upd_n hne]; exact ha, fun st5 e5 => ⟨_, by subst e5; exact g_upd_s, fun st7 e7 hx => hq st7 ?_ ?_⟩⟩
  · subst e5; subst e7
    refine ⟨m, fun _ => 0, g_upd_s, ?_, fun j hj => absurd hj (Nat.not_lt_zero _), fun _ _ => rfl, fun c hc => absurd hc List.not_mem_nil, Nat.zero_le _, by omega⟩
    show g_upd (g_upd (g_upd st.2.1 st.2.2 _) a _) a _ st.2.2 = _
    rw [g_upd_n (Ne.symm hne), g_upd_n (Ne.symm hne)]
    exact g_upd_s
  · refine ⟨hx, fun q hq' hn => ?_⟩
    subst e5; subst e7
    show g_upd (g_upd (g_upd st.2.1 st.2.2 _) a _) a _ q = _
    rw [g_upd_n hn, g_upd_n hn, g_upd_n (Nat.ne_of_lt hq')]
end GSB1
