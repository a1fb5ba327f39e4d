/-! STEMSPAN 10: cuts -/
section GXS10
variable {l : Launch} {E : g_E} {st st' : g_St} {a sb v N tm n ca b cb sb' : Nat} {nd ka va : Nat → Nat} {mc : Int32} {x : tX} {fc : Nat → Option Nat} {t u s : List Nat} {ws : wL} {cs : Nat → List Nat} {X : String → g_St → Prop}
theorem lN_cmp (y : Nat) (hy : y < 2 ^ 31) : (lg_cmp (lN y) 0 ≤ 0 ↔ y = 0) ∧ (lg_cmp (lN y) 0 = 0 ↔ y = 0) := by
  have e : (lN y).toInt = (y : Int) := Int64.toInt_ofNat_of_lt (by omega)
  have e0 : (0 : Int64).toInt = 0 := rfl
  unfold lg_cmp
  by_cases z : y = 0
  · subst z
    decide
  · have h : lN y > 0 := Int64.lt_iff_toInt_lt.mpr (by rw [e0, e]; omega)
    rw [if_pos h]
    exact ⟨⟨fun w => absurd w (by decide), fun w => absurd w z⟩, ⟨fun w => absurd w (by decide), fun w => absurd w z⟩⟩
theorem ct_cuts {Q : Int64 → g_St → Prop} (h : SPx E st a sb v N tm n nd ka va mc x ca fc t ws cs) (hcb : 600 ≤ cb) (hsb : 4000 ≤ sb') (hq : ∀ s', Sb st.2.2 st s' → Q (lN (wy ws t)) s') : wp_X1_cuts l E cb sb' [va_rf (some a)] st Q := by
  refine g_WP.wf fun hw => ?_
  have hT := h.T
  have hT1 := hT.1
  have hW := h.W
  have hs := h.tmS.sd
  have hu1 : ∀ u ∈ ws, 1 ≤ u.1.length := fun u hu => (hW.2 u hu).1
  have lt := fun z hz => h.lt hw (z := z) hz
  refine wk_X1_cuts ⟨_, h.sbt, _, rfl, h.sbi, h.len ⟨rfl, t.length + 1, nI_add _ 1, by omega, by omega, by omega, fun q5 s6 e5 e6 => ?_⟩⟩
  have hb6 : Sb st.2.2 st s6 := by rw [e6]; exact Sm.bl Sm.new (Nat.le_refl _)
  have h6 := h.fb lt hb6
  have c6 : s6.2.1 q5 = some (.inl (3, t.length + 1, .inr (.inl fun _ => 0))) := by rw [e6, e5]; exact g_upd_s
  refine ⟨_, h6.sbt, _, rfl, h6.sbi, h6.len ⟨rfl, t.length + 1, _, t.length, c6, rfl, by omega, by omega, fun s13 e13 => ?_⟩⟩
  have put : ∀ {s1 : g_St} {o0 o : g_Ob}, Sb st.2.2 st s1 → s1.2.1 q5 = some o0 → Sb st.2.2 st (g_put s1 q5 o) := fun hb hc => hb.tr ⟨g_Ext.put g_Ext.rf hc, fun z hz => g_upd_n (by omega)⟩
  have hb13 : Sb st.2.2 st s13 := by rw [e13]; exact put hb6 c6
  have h13 := h.fb lt hb13
  refine ⟨_, h13.sbt, _, rfl, h13.sbi, h13.len ⟨rfl, ?_⟩⟩
  refine g_lp4_m (fun mm y s c s' => ∃ (w : Nat) (f : Nat → Int64), y = nI w - nI 1 ∧ w ≤ t.length ∧ s.2.1 q5 = some (.inl (3, t.length + 1, .inr (.inl f))) ∧ (∀ k, w ≤ k → k ≤ t.length → f k = lN (wy ws (t.drop k))) ∧ (∀ k, k < w → f k = 0) ∧ Sb st.2.2 st s ∧ 20 * w + 20 ≤ c ∧ 150 * w + 20 ≤ s' ∧ mm = w) ?_ ⟨t.length, _, rfl, Nat.le_refl _, by rw [e13]; exact g_upd_s, fun k k1 k2 => ?_, fun k k1 => ?_, hb13, by omega, by omega, rfl⟩
  · rintro mm y s c s' K ⟨w, f, rfl, hwl, hc, hf, hf0, hb, hc1, hs1, rfl⟩ hK
    refine ⟨fun z => ?_, fun z => ?_⟩
    · have e := (sb_neg mm (by omega)).mp z
      subst e
      refine ⟨_, f, 0, Or.inl hc, rfl, by omega, by omega, ?_⟩
      rw [hf 0 (Nat.le_refl _) (Nat.zero_le _)]
      exact hq s hb
    · have hm0 : mm ≠ 0 := fun e => z ((sb_neg mm (by omega)).mpr e)
      obtain ⟨w, rfl⟩ := Nat.exists_eq_succ_of_ne_zero hm0
      rw [Nat.succ_eq_add_one] at *
      rw [sb_pr]
      have hdl : (t.drop w).length = t.length - w := List.length_drop
      refine g_lp4_m (fun mm y s c s' => ∃ (k : Nat) (f : Nat → Int64), y = nI (w + 1 + k) ∧ k ≤ 10 ∧ w + k ≤ t.length ∧ s.2.1 q5 = some (.inl (3, t.length + 1, .inr (.inl f))) ∧ f w = lN (wyK ws (t.drop w) k) ∧ (∀ j, w + 1 ≤ j → j ≤ t.length → f j = lN (wy ws (t.drop j))) ∧ (∀ j, j < w → f j = 0) ∧ Sb st.2.2 st s ∧ 20 * w + 40 ≤ c + 2 * k ∧ 150 * w + 170 ≤ s' + 14 * k ∧ mm = 100 - k) ?_ ⟨0, f, nI_add w 1, Nat.zero_le _, by omega, hc, hf0 w (Nat.lt_succ_self _), fun j j1 j2 => hf j j1 j2, fun j hj => hf0 j (by omega), hb, by omega, by omega, rfl⟩
      rintro mm y s2 c2 s2' K32 ⟨k, f, rfl, hk, hkl, hc, hfw, hfj, hf0, hb, hc1, hs1, rfl⟩ hK32
      have hS := h.fb lt hb
      refine ⟨_, hS.sbt, _, rfl, hS.sbi, hS.len ⟨rfl, ?_⟩⟩
      have fin : (10 ≤ k ∨ t.length ≤ w + k) → K (nI w + -1) s2 c2 s2' := by
        intro z
        refine hK w _ _ _ _ ⟨w, f, by rw [← Int32.sub_eq_add_neg]; rfl, by omega, hc, fun j j1 j2 => ?_, hf0, hb, by omega, by omega, rfl⟩ (by omega)
        have e10 : wyK ws (t.drop w) k = wyK ws (t.drop w) 10 := by
          rcases z with z | z
          · rw [show k = 10 by omega]
          · have := wyK_end (ws := ws) (s := t.drop w) (k := k) (j := 10 - k) (by omega)
            rw [← this]
            congr 1
            omega
        by_cases q : j = w
        · rw [q, hfw, e10, wy_eq hu1 (by omega), if_neg (by omega), wyX_K hs hW]
        · exact hfj j (by omega) j2
      by_cases z : 10 ≤ k ∨ t.length ≤ w + k
      · refine g_jn0_i (fin z) fun K38 hK38 => b_lt (by omega) (by omega) (fun _ => hK38) fun z1 => ?_
        rw [nI_add]
        exact b_lt (by omega) (by omega) (fun _ => hK38) fun z2 => by omega
      · show _ ∧ _
        refine b_lt (by omega) (by omega) (fun _ => by omega) fun z1 => ?_
        rw [nI_add]
        refine b_lt (by omega) (by omega) (fun _ => by omega) fun z2 => ⟨_, f, w + 1 + k, Or.inl hc, rfl, by omega, by omega, ?_⟩
        have hfk := hfj (w + 1 + k) (by omega) (by omega)
        have hbd := wy_bd (s := t.drop (w + 1 + k)) hs hW (by rw [List.length_drop]; omega)
        have hdd : (t.drop w).drop (k + 1) = t.drop (w + 1 + k) := by rw [List.drop_drop]; congr 1; omega
        have e1 : wyK ws (t.drop w) (k + 1) = wyK ws (t.drop w) k + (if k + 1 ≤ (t.drop w).length ∧ ∃ u, u ∈ ws ∧ u.1 = (t.drop w).take (k + 1) then wy ws (t.drop (w + 1 + k)) else 0) := by rw [← hdd]; rfl
        refine g_jn3_i (fun s c s' => ∃ f : Nat → Int64, s.2.1 q5 = some (.inl (3, t.length + 1, .inr (.inl f))) ∧ f w = lN (wyK ws (t.drop w) (k + 1)) ∧ (∀ j, w + 1 ≤ j → j ≤ t.length → f j = lN (wy ws (t.drop j))) ∧ (∀ j, j < w → f j = 0) ∧ Sb st.2.2 st s ∧ 20 * w + 40 ≤ c + 2 * (k + 1) ∧ 150 * w + 170 ≤ s' + 14 * (k + 1)) (fun s c s' ⟨f, g1, g2, g3, g4, g5, g6, g7⟩ => hK32 _ _ _ _ _ ⟨k + 1, f, nI_add (w + 1 + k) 1, by omega, by omega, g1, g2, g3, g4, g5, g6, g7, rfl⟩ (by omega)) fun K48 hK48 => ?_
        rw [hfk]
        refine ⟨fun r => ?_, fun r => ?_⟩
        · have r0 := (lN_cmp _ (by omega)).1.mp r
          rw [r0, ite_self, Nat.add_zero] at e1
          exact hK48 _ _ _ ⟨f, hc, by rw [e1]; exact hfw, hfj, hf0, hb, by omega, by omega⟩
        · refine ⟨_, hS.tmt, _, hS.sbt, _, rfl, 2, 14, by omega, by omega, hS.sbi, g_WPa.wf fun hw2 => ct_sbSub2 hS.cE hS.sbS (by omega) (by omega) (Nat.le_refl _) (by omega) fun q6 s6 hq6 hs6 _ => ?_⟩
          have hb7 := hb.tr (hs6.bl hb.z)
          have h7 := h.fb lt hb7
          have hc7 : s6.2.1 q5 = some (.inl (3, t.length + 1, .inr (.inl f))) := (hs6.2 q5 (hw2.2 q5 _ hc).2).trans hc
          have ecut : cut t w (w + 1 + k - w) = (t.drop w).take (k + 1) := by
            unfold cut
            congr 1
            omega
          rw [ecut] at hq6
          have htl : ((t.drop w).take (k + 1)).length ≤ 24 := by rw [List.length_take]; omega
          refine ⟨_, rfl, h7.tmS.is, ct_containsKey h7.tmS hq6 (by omega) h7.cE ⟨rfl, ?_⟩⟩
          by_cases hh : cL ws ((t.drop w).take (k + 1)) < dL ws ((t.drop w).take (k + 1))
          · rw [if_pos hh]
            rw [if_pos ⟨by omega, (has_iff hs).mpr hh⟩] at e1
            refine ⟨fun e => absurd e (by decide), fun _ => ⟨_, f, w, Or.inl hc7, rfl, by omega, by omega, _, f, w + 1 + k, Or.inl hc7, rfl, by omega, by omega, _, f, w, hc7, rfl, by omega, by omega, fun s8 e8 => ?_⟩⟩
            rw [hfw, hfk, lN_add, ← e1] at e8
            have hb8 : Sb st.2.2 st s8 := by rw [e8]; exact put hb7 hc7
            refine hK48 _ _ _ ⟨va_up f w (lN (wyK ws (t.drop w) (k + 1))), by rw [e8]; exact g_upd_s, va_up_self _ _ _, fun j j1 j2 => ?_, fun j hj => ?_, hb8, by omega, by omega⟩
            · rw [va_up_ne _ _ (by omega)]
              exact hfj j j1 j2
            · rw [va_up_ne _ _ (by omega)]
              exact hf0 j hj
          · rw [if_neg hh]
            rw [if_neg (fun q => hh ((has_iff hs).mp q.2)), Nat.add_zero] at e1
            exact ⟨fun _ => hK48 _ _ _ ⟨f, hc7, by rw [e1]; exact hfw, hfj, hf0, hb7, by omega, by omega⟩, fun e => absurd rfl e⟩
  · rw [show k = t.length by omega, va_up_self, List.drop_eq_nil_of_le (Nat.le_refl _), wy_eq hu1 (by decide)]
    rfl
  · rw [va_up_ne _ _ (by omega)]
theorem ct_xcuts {Q : Int64 → g_St → Prop} (h : SP E st a t ws cs) (hcb : 600 ≤ cb) (hsb : 4000 ≤ sb') (hq : ∀ st', SP E st' a t ws cs → Sy st.2.2 st st' → Q (sp_cuts t ws) st') : wp_X1_cuts l E cb sb' [va_rf (some a)] st Q := by
  refine g_WP.wf fun hw => ?_
  obtain ⟨sb, v, N, tm, n, nd, ka, va, mc, x, ca, fc, h⟩ := h
  exact ct_cuts h hcb hsb fun s' hb => hq s' (h.fb (fun z hz => h.lt hw hz) hb).sp hb.sy
end GXS10
