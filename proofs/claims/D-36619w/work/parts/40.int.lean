/-! INTEGERS: valueOf, intValue -/
section GI1
variable {l : Launch} {E : g_E} {st : g_St}
theorem IntO.is {q : Nat} {v : Int32} (h : IntO st.1 q v) : g_is st q 2 := ⟨_, Or.inr h⟩
theorem ct_J14_intValue {q : Nat} {v : Int32} {Q : Int32 → g_St → Prop} (h : IntO st.1 q v) (hq : Q v st) : wp_J14_intValue l E 0 0 [va_rf (some q)] st Q :=
  wk_J14_intValue ⟨v, ⟨_, Or.inr h, rfl⟩, hq⟩
theorem in_small : ∀ n : Nat, n < 128 → ¬ nI n < (-128) ∧ ¬ nI 127 < nI n ∧ nI n + nI 128 = nI (n + 128) ∧ nI (n + 128) - nI 128 = nI n := by decide +kernel
theorem ct_J14_valueOf {n mc ms : Nat} {Q : Option Nat → g_St → Prop} (hE : Cst E st.1) (hn : n < 2 ^ 31) (hmc : 1 ≤ mc) (hms : 1 ≤ ms) (hq : ∀ (q : Nat) (st' : g_St), IntO st'.1 q (nI n) → Sm st st' → Q (some q) st') : wp_J14_valueOf l E mc ms [.int (nI n)] st Q := by
  refine g_WPa.post (Q' := fun r st' => (st' = st ∧ ∃ q, r = some q ∧ IntO st.1 q (nI n)) ∨ (r = some st.2.2 ∧ Sm st st' ∧ st'.2.1 st.2.2 = some (.inr (2, [.int (nI n)])))) (wk_J14_valueOf ?_) ?_
  · show _ ∧ _
    obtain ⟨-, ⟨a, e1, e2, e3⟩, -⟩ := hE
    have alloc : 1 ≤ mc ∧ 1 ≤ ms ∧ ∀ (q3 : Nat) (st4 : g_St), q3 = st.2.2 → st4 = g_new st (.inr (2, [.int 0])) → wp_J14_init l E 0 0 [va_rf (some q3), .int (nI n)] st4 (fun st5 => g_Ext st4 st5 → (st5 = st ∧ ∃ q, some q3 = some q ∧ IntO st.1 q (nI n)) ∨ (some q3 = some st.2.2 ∧ Sm st st5 ∧ st5.2.1 st.2.2 = some (.inr (2, [.int (nI n)])))) := by
      refine ⟨hmc, hms, fun q3 st4 h3 h4 => ?_⟩
      subst h3; subst h4
      refine wk_J14_init (wk_J13_init ⟨rfl, _, g_upd_s, fun st2 h2 hx => Or.inr ⟨rfl, ?_, ?_⟩⟩)
      · subst h2
        refine ⟨g_Ext.put (g_Ext.new g_Ext.rf) g_upd_s, fun q hq => ?_⟩
        show g_upd (g_upd st.2.1 st.2.2 _) st.2.2 _ q = _
        rw [g_upd_n (Nat.ne_of_lt hq), g_upd_n (Nat.ne_of_lt hq)]
      · subst h2
        exact g_upd_s
    rcases Nat.lt_or_ge n 128 with h | h
    · obtain ⟨k1, k2, k3, k4⟩ := in_small n h
      refine ⟨fun q => absurd q k1, fun _ => ⟨fun q => absurd q k2, fun _ o ho => ⟨a, ho.trans e1, 256, _, n + 128, Or.inr e2, k3, by omega, by omega, fun o13 h13 => Or.inl ⟨rfl, _, h13, ?_⟩⟩⟩⟩
      have := e3 (n + 128) (by omega)
      rw [k4] at this
      exact this
    · exact ⟨fun _ => alloc, fun _ => ⟨fun _ => alloc, fun q => absurd (nI_lt (show 127 < n by omega) hn) q⟩⟩
  · rintro r st' hx hw (⟨rfl, q, rfl, hi⟩ | ⟨rfl, hs, hh⟩)
    · exact ⟨st', g_Fz.rf hw, hq q st' hi Sm.rf⟩
    · refine ⟨g_frz [st.2.2] st', g_frz_fz _ hw, hq _ _ (g_frz_f List.mem_cons_self hh) (hs.frz hw (fun q hq => ?_))⟩
      rw [List.mem_singleton.mp hq]
      exact Nat.le_refl _
end GI1
