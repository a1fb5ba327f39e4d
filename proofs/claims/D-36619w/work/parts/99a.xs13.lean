/-! STEMSPAN 13: a new one -/
section GXS13
variable {l : Launch} {E : g_E} {st st' : g_St} {a b cb sb' : Nat}
abbrev x00 : tX := (va_rf none, va_rf none, none, none, va_rf none)
theorem cut_abc : ∀ k : Nat, k < 6 → cut [97, 98, 99, 100, 101, 102] k 1 = cs0 k := by decide
theorem sb_new2 {cb sb : Nat} {q1 : Nat} {st2 : g_St} {G : g_St → Prop} (e1 : q1 = st.2.2) (e2 : st2 = g_new st (.inr (0, [va_rf none, .int 0, .int 0, .int 0]))) (hcb : 1 ≤ cb) (hsb : 16 ≤ sb) (k : ∀ (s3 : g_St) (v : Nat), SB s3.2.1 q1 [] v 16 → st.2.2 ≤ v → Sb st.2.2 st s3 → g_Wf s3 → G s3) : wp_J1_init l E cb sb [va_rf (some q1)] st2 (fun st3 => g_Ext st2 st3 → G st3) :=
  g_WPv.post (Q' := fun s3 => g_Ext st2 s3 → ∃ v, SB s3.2.1 q1 [] v 16 ∧ st.2.2 ≤ v ∧ Sb st.2.2 st s3) (sb_new e1 e2 hcb hsb fun s3 v h1 h2 h3 => ⟨v, h1, h2, h3⟩) fun s3 hx hw3 hQ => by
    obtain ⟨v, h1, h2, h3⟩ := hQ hx
    exact ⟨s3, g_Fz.rf hw3, fun _ => k s3 v h1 h2 h3 hw3⟩
theorem ct_xinit {Q : g_St → Prop} (ha : st.2.1 a = some (.inr (15, [va_rf none, va_rf none, va_rf none]))) (hE : Cst E st.1) (hU : Unb E st) (hcb : 100 ≤ cb) (hsb : 500 ≤ sb') (hq : ∀ st', SP E st' a [] [] cs0 → Q st') : wp_X1_init l E cb sb' [va_rf (some a)] st Q := by
  refine g_WPv.wf fun hw => ?_
  have hal := (hw.2 a _ ha).2
  refine wk_X1_init ⟨by omega, by omega, fun q1 s2 e1 e2 => ⟨1, 16, by omega, by omega, sb_new2 e1 e2 (Nat.le_refl _) (Nat.le_refl _) fun s3 v hS3 hv3 hb3 hw3 => ?_⟩⟩
  have h3 : s3.2.1 a = some (.inr (15, [va_rf none, va_rf none, va_rf none])) := (hb3.2 a hal).trans ha
  refine ⟨_, h3, fun s7 e7 => ⟨by omega, by omega, fun q8 s9 e8 e9 => ?_⟩⟩
  have x7 : g_Ext s3 s7 := by rw [e7]; exact g_Ext.put g_Ext.rf h3
  have x9 : g_Ext s7 s9 := by rw [e9]; exact g_Ext.new g_Ext.rf
  have hq1a : q1 ≠ a := by omega
  have hva : v ≠ a := by omega
  have q1l : q1 < s3.2.2 := by
    obtain ⟨m, g, g1, g2, _⟩ := hS3
    exact (hw3.2 q1 _ g1).2
  have vl : v < s3.2.2 := by
    obtain ⟨m, g, g1, g2, _⟩ := hS3
    exact (hw3.2 v _ g2).2
  have al : a < s3.2.2 := (hw3.2 a _ h3).2
  have z7 : s7.2.2 = s3.2.2 := by rw [e7]; rfl
  have z9 : s9.2.2 = s3.2.2 + 1 := by rw [e9, ← z7]; rfl
  have k9 : ∀ z, z ≠ a → z ≠ q8 → s9.2.1 z = s3.2.1 z := fun z h1 h2 => by
    rw [e9]
    refine (g_upd_n (by omega)).trans ?_
    rw [e7]
    exact g_upd_n h1
  have a9 : s9.2.1 a = some (.inr (15, [va_rf (some q1), va_rf none, va_rf none])) := by
    rw [e9]
    refine (g_upd_n (by omega)).trans ?_
    rw [e7]
    exact g_upd_s
  have c9 : s9.2.1 q8 = some (.inr (3, [va_rf none, va_rf none, va_rf none, va_rf none, .int 0, .int 0, va_rf none, va_rf none, va_rf none])) := by rw [e9, e8]; exact g_upd_s
  refine ct_mapNew c9 fun s10 hM hs10 _ => ?_
  have x10 := hs10.2.2.1
  have a10 : s10.2.1 a = some (.inr (15, [va_rf (some q1), va_rf none, va_rf none])) := (hs10.2.2.2 a (by omega)).trans a9
  refine ⟨_, a10, fun s12 e12 => ⟨6, rfl, by omega, by omega, by omega, fun q14 s15 e14 e15 => ?_⟩⟩
  have z10 : s10.2.2 = s3.2.2 + 1 := hs10.2.1.trans z9
  have z12 : s12.2.2 = s3.2.2 + 1 := by rw [e12]; exact z10
  have x12 : g_Ext s10 s12 := by rw [e12]; exact g_Ext.put g_Ext.rf a10
  have x15 : g_Ext s12 s15 := by rw [e15]; exact g_Ext.new g_Ext.rf
  have a15 : s15.2.1 a = some (.inr (15, [va_rf (some q1), va_rf (some q8), va_rf none])) := by
    rw [e15]
    refine (g_upd_n (by omega)).trans ?_
    rw [e12]
    exact g_upd_s
  refine ⟨_, a15, fun s17 e17 => ?_⟩
  have x17 : g_Ext s15 s17 := by rw [e17]; exact g_Ext.put g_Ext.rf a15
  have a17 : s17.2.1 a = some (xO q1 q8 q14) := by rw [e17]; exact g_upd_s
  have k17 : ∀ z, z ≠ a → z ≠ q14 → s17.2.1 z = s10.2.1 z := fun z h1 h2 => by
    rw [e17]
    refine (g_upd_n h1).trans ?_
    rw [e15]
    refine (g_upd_n (by omega)).trans ?_
    rw [e12]
    exact g_upd_n h1
  have c17 : s17.2.1 q14 = some (.inl (4, 6, .inr (.inr (.inr (.inr fun _ => none))))) := by
    rw [e17]
    refine (g_upd_n (by omega)).trans ?_
    rw [e15, e14]
    exact g_upd_s
  have X17 : g_Ext st s17 := hb3.1.tr (x7.tr (x9.tr (x10.tr (x12.tr (x15.tr x17)))))
  have k1017 : ∀ z, z ≠ a → z ≠ q8 → z < s3.2.2 → s17.2.1 z = s3.2.1 z := fun z h1 h2 h3 => (k17 z h1 (by omega)).trans ((hs10.2.2.2 z h2).trans (k9 z h1 h2))
  have S17 : SB s17.2.1 q1 [] v 16 := hS3.fr (k1017 q1 hq1a (by omega) q1l) (k1017 v hva (by omega) vl)
  have onlyq : ∀ z, CX q8 0 (fun _ => 0) x00 z → z = q8 := fun z hz => by
    rcases hz with (h | ⟨i, hi, _⟩) | h | h
    · exact h
    · exact absurd hi (Nat.not_lt_zero _)
    · cases h
    · cases h
  have M17 : TMx s17 q8 0 (fun _ => 0) (fun _ => 0) (fun _ => 0) (nI 0) x00 [] := hM.fr (x12.tr (x15.tr x17)).2.1 fun z hz => by
    rw [onlyq z hz]
    exact k17 q8 (by omega) (by omega)
  obtain ⟨qs, s1, s2'⟩ := hE.2.2.1
  refine g_lp4_m (fun mm y s c s' => ∃ (k : Nat) (f : Nat → Option Nat), y = nI k ∧ k ≤ 6 ∧ s.2.1 a = some (xO q1 q8 q14) ∧ SB s.2.1 q1 [] v 16 ∧ TMx s q8 0 (fun _ => 0) (fun _ => 0) (fun _ => 0) (nI 0) x00 [] ∧ s.2.1 q14 = some (.inl (4, 6, .inr (.inr (.inr (.inr f))))) ∧ (∀ j, j < k → ∃ q, f j = some q ∧ Str s.1 q (cs0 j)) ∧ g_Ext st s ∧ 80 ≤ c + 2 * k ∧ 400 ≤ s' + 10 * k ∧ mm = 100 - k) ?_ ⟨0, _, rfl, Nat.zero_le _, a17, S17, M17, c17, fun j hj => absurd hj (Nat.not_lt_zero _), X17, by omega, by omega, rfl⟩
  rintro mm y s c s' K ⟨k, f, rfl, hk, hA, hS, hM2, hC, hf, hX, hc, hs', rfl⟩ hK
  refine b_le (by omega) (by omega) (fun z => ?_) fun z => ⟨_, ⟨_, Or.inl hA, rfl⟩, fun o eo => ⟨qs, eo.trans s1, 2, 10, by omega, by omega, (s2'.ext hX).is, g_WPa.wf fun hws => ?_⟩⟩
  · exact hq s ⟨q1, v, 16, q8, 0, _, _, _, _, x00, q14, f, hA, hS, Or.inl rfl, hM2, hC, fun j hj => hf j (by omega), ⟨Nat.zero_le _, fun c hc => absurd hc List.not_mem_nil⟩, ⟨Nat.zero_le _, fun c hc => absurd hc List.not_mem_nil⟩, fun i hi => ⟨Nat.le_refl 1, (by decide : (1 : Nat) ≤ 3), sgs.one ⟨by omega, by omega⟩⟩, hE.ext hX, hU.ext hX⟩
  · rw [nI_add]
    refine ct_J2_substring (hE.ext hX) (s2'.ext hX) (Nat.le_succ k) (by show k + 1 ≤ 6; omega) (Nat.le_refl _) (by omega) fun q6 s6 hq6 hs6 _ => ?_
    rw [show k + 1 - k = 1 by omega, cut_abc k z] at hq6
    have fr : ∀ zz o, s.2.1 zz = some o → s6.2.1 zz = some o := fun zz o h => (hs6.2 zz (hws.2 zz o h).2).trans h
    have C6 := fr _ _ hC
    refine ⟨_, rfl, 6, f, k, C6, rfl, z, by omega, hq6.isN, fun s8 e8 => ?_⟩
    have x8 : g_Ext s6 s8 := by rw [e8]; exact g_Ext.put g_Ext.rf C6
    have n8 : ∀ zz, zz ≠ q14 → s8.2.1 zz = s6.2.1 zz := fun zz h => by rw [e8]; exact g_upd_n h
    have ne : ∀ zz o, s.2.1 zz = some o → o ≠ .inl (4, 6, .inr (.inr (.inr (.inr f)))) → s8.2.1 zz = s.2.1 zz := fun zz o h1 h2 => by
      have hne : zz ≠ q14 := fun e => by
        rw [e, hC] at h1
        injection h1 with h1
        exact h2 h1.symm
      rw [n8 zz hne, h1]
      exact fr zz o h1
    refine hK _ _ _ _ _ ⟨k + 1, va_up f k (some q6), rfl, z, ?_, ?_, ?_, by rw [e8]; exact g_upd_s, fun j hj => ?_, hX.tr (hs6.1.tr x8), by omega, by omega, rfl⟩ (by omega)
    · exact (ne a _ hA (fun e => by cases e)).trans hA
    · obtain ⟨m, g, g1, g2, _⟩ := id hS
      refine hS.fr (ne q1 _ g1 (fun e => by cases e)) (ne v _ g2 fun e => ?_)
      injection e with e
      injection e with e
      exact absurd e (by decide)
    · refine hM2.fr (hs6.1.tr x8).2.1 fun zz hz => ?_
      obtain ⟨cc, fs, g1, _⟩ := hM2.no hz
      exact ne zz _ g1 (fun e => by cases e)
    · by_cases e : j = k
      · rw [e, va_up_self]
        exact ⟨q6, rfl, hq6.ext x8⟩
      · rw [va_up_ne _ _ e]
        obtain ⟨q, f1, f2⟩ := hf j (by omega)
        exact ⟨q, f1, f2.ext (hs6.1.tr x8)⟩
end GXS13
