/-! STEMSPAN 11: fewest -/
section GXS11
variable {l : Launch} {E : g_E} {st st' : g_St} {a sb v N tm n ca b cb sb' : Nat} {nd ka va : Nat → Nat} {mc : Int32} {x : tX} {fc : Nat → Option Nat} {t u s : List Nat} {ws : wL} {cs : Nat → List Nat} {X : String → g_St → Prop}
theorem ct_fewest {Q : Int32 → g_St → Prop} (h : SPx E st a sb v N tm n nd ka va mc x ca fc t ws cs) (hcb : 600 ≤ cb) (hsb : 4000 ≤ sb') (hq : ∀ s', Sb st.2.2 st s' → Q (enc (fw ws t)) s') : wp_X1_fewest l E cb sb' [va_rf (some a)] st Q := by
  refine g_WPi.wf fun hw => ?_
  have hT := h.T
  have hT1 := hT.1
  have hW := h.W
  have hs := h.tmS.sd
  have hu1 : ∀ u ∈ ws, 1 ≤ u.1.length := fun u hu => (hW.2 u hu).1
  have lt := fun z hz => h.lt hw (z := z) hz
  refine wk_X1_fewest ⟨_, h.sbt, _, rfl, h.sbi, h.len ⟨rfl, t.length + 1, nI_add _ 1, by omega, by omega, by omega, fun q5 s6 e5 e6 => ?_⟩⟩
  have hb6 : Sb st.2.2 st s6 := by rw [e6]; exact Sm.bl Sm.new (Nat.le_refl _)
  have h6 := h.fb lt hb6
  have c6 : s6.2.1 q5 = some (.inl (0, t.length + 1, .inl fun _ => 0)) := by rw [e6, e5]; exact g_upd_s
  have put : ∀ {s1 : g_St} {o0 o : g_Ob}, Sb st.2.2 st s1 → s1.2.1 q5 = some o0 → Sb st.2.2 st (g_put s1 q5 o) := fun hb hc => hb.tr ⟨g_Ext.put g_Ext.rf hc, fun z hz => g_upd_n (by omega)⟩
  refine ⟨_, h6.sbt, _, rfl, h6.sbi, h6.len ⟨rfl, ?_⟩⟩
  refine g_lp4_m (fun mm y s c s' => ∃ (w : Nat) (f : Nat → Int32), y = nI w - nI 1 ∧ w ≤ t.length ∧ s.2.1 q5 = some (.inl (0, t.length + 1, .inl f)) ∧ (∀ k, w ≤ k → k ≤ t.length → f k = nI (fw ws (t.drop k))) ∧ Sb st.2.2 st s ∧ 20 * w + 20 ≤ c ∧ 150 * w + 20 ≤ s' ∧ mm = w) ?_ ⟨t.length, _, rfl, Nat.le_refl _, c6, fun k k1 k2 => ?_, hb6, by omega, by omega, rfl⟩
  · rintro mm y s c s' K ⟨w, f, rfl, hwl, hc, hf, hb, hc1, hs1, rfl⟩ hK
    refine ⟨fun z => ?_, fun z => ?_⟩
    · have e := (sb_neg mm (by omega)).mp z
      subst e
      have f0 := hf 0 (Nat.le_refl _) (Nat.zero_le _)
      have hle := fw_le (s := t.drop 0) hu1 (by rw [List.drop_zero]; exact hT1)
      refine ⟨_, f, 0, Or.inl hc, rfl, by omega, by omega, ?_⟩
      rw [f0]
      refine g_jn1_i (fun y => y = enc (fw ws t)) (fun y e => by rw [e]; exact hq s hb) fun K22 hK22 => b_ne (by omega) (by omega) (fun q => hK22 _ ?_) fun q => ⟨_, f, 0, Or.inl hc, rfl, by omega, by omega, hK22 _ ?_⟩
      · have q : fw ws t = 99 := q
        rw [q]
        rfl
      · rw [f0]
        exact (if_neg q).symm
    · have hm0 : mm ≠ 0 := fun e => z ((sb_neg mm (by omega)).mpr e)
      obtain ⟨w, rfl⟩ := Nat.exists_eq_succ_of_ne_zero hm0
      rw [Nat.succ_eq_add_one] at *
      rw [sb_pr]
      have hdl : (t.drop w).length = t.length - w := List.length_drop
      refine ⟨_, f, w, hc, rfl, by omega, by omega, fun s7 e7 => ?_⟩
      have hb7 : Sb st.2.2 st s7 := by rw [e7]; exact put hb hc
      refine g_lp4_m (fun mm y s c s' => ∃ (k : Nat) (f : Nat → Int32), y = nI (w + 1 + k) ∧ k ≤ 10 ∧ w + k ≤ t.length ∧ s.2.1 q5 = some (.inl (0, t.length + 1, .inl f)) ∧ f w = nI (fwK ws (t.drop w) k) ∧ (∀ j, w + 1 ≤ j → j ≤ t.length → f j = nI (fw ws (t.drop j))) ∧ Sb st.2.2 st s ∧ 20 * w + 40 ≤ c + 2 * k ∧ 150 * w + 170 ≤ s' + 14 * k ∧ mm = 100 - k) ?_ ⟨0, va_up f w (nI 99), nI_add w 1, Nat.zero_le _, by omega, by rw [e7]; exact g_upd_s, va_up_self _ _ _, fun j j1 j2 => by rw [va_up_ne _ _ (by omega)]; exact hf j j1 j2, hb7, by omega, by omega, rfl⟩
      rintro mm y s2 c2 s2' K32 ⟨k, f, rfl, hk, hkl, hc, hfw, hfj, hb, hc1, hs1, rfl⟩ hK32
      have hS := h.fb lt hb
      refine ⟨_, hS.sbt, _, rfl, hS.sbi, hS.len ⟨rfl, ?_⟩⟩
      have fin : (10 ≤ k ∨ t.length ≤ w + k) → K (nI w + -1) s2 c2 s2' := by
        intro z
        refine hK w _ _ _ _ ⟨w, f, by rw [← Int32.sub_eq_add_neg]; rfl, by omega, hc, fun j j1 j2 => ?_, hb, by omega, by omega, rfl⟩ (by omega)
        have e10 : fwK ws (t.drop w) k = fwK ws (t.drop w) 10 := by
          rcases z with z | z
          · rw [show k = 10 by omega]
          · have := fwK_end (ws := ws) (s := t.drop w) (k := k) (j := 10 - k) (by omega)
            rw [← this]
            congr 1
            omega
        by_cases q : j = w
        · rw [q, hfw, e10, fw_eq hu1 (by omega), if_neg (by omega), fwX_K hs hW]
        · exact hfj j (by omega) j2
      by_cases z : 10 ≤ k ∨ t.length ≤ w + k
      · refine g_jn0_i (fin z) fun K38 hK38 => b_lt (by omega) (by omega) (fun _ => hK38) fun z1 => ?_
        rw [nI_add]
        exact b_lt (by omega) (by omega) (fun _ => hK38) fun z2 => by omega
      · show _ ∧ _
        refine b_lt (by omega) (by omega) (fun _ => by omega) fun z1 => ?_
        rw [nI_add]
        refine b_lt (by omega) (by omega) (fun _ => by omega) fun z2 => ⟨_, f, w + 1 + k, Or.inl hc, rfl, by omega, by omega, _, f, w, Or.inl hc, rfl, by omega, by omega, ?_⟩
        have hfk := hfj (w + 1 + k) (by omega) (by omega)
        have hle := fw_le (s := t.drop (w + 1 + k)) hu1 (by rw [List.length_drop]; omega)
        have hle2 := fwK_le (ws := ws) (s := t.drop w) k
        have hdd : (t.drop w).drop (k + 1) = t.drop (w + 1 + k) := by rw [List.drop_drop]; congr 1; omega
        have e1 : fwK ws (t.drop w) (k + 1) = min (fwK ws (t.drop w) k) (if k + 1 ≤ (t.drop w).length ∧ ∃ u, u ∈ ws ∧ u.1 = (t.drop w).take (k + 1) then fw ws (t.drop (w + 1 + k)) + 1 else 99) := by rw [← hdd]; rfl
        refine g_jn3_i (fun s c s' => ∃ f : Nat → Int32, s.2.1 q5 = some (.inl (0, t.length + 1, .inl f)) ∧ f w = nI (fwK ws (t.drop w) (k + 1)) ∧ (∀ j, w + 1 ≤ j → j ≤ t.length → f j = nI (fw ws (t.drop j))) ∧ Sb st.2.2 st s ∧ 20 * w + 40 ≤ c + 2 * (k + 1) ∧ 150 * w + 170 ≤ s' + 14 * (k + 1)) (fun s c s' ⟨f, g1, g2, g3, g5, g6, g7⟩ => hK32 _ _ _ _ _ ⟨k + 1, f, nI_add (w + 1 + k) 1, by omega, by omega, g1, g2, g3, g5, g6, g7, rfl⟩ (by omega)) fun K48 hK48 => ?_
        rw [hfk, hfw, nI_add]
        refine b_le (by omega) (by omega) (fun r => ?_) fun r => ?_
        · have e2 : fwK ws (t.drop w) (k + 1) = fwK ws (t.drop w) k := by
            rw [e1]
            split <;> omega
          exact hK48 _ _ _ ⟨f, hc, by rw [e2]; exact hfw, hfj, hb, by omega, by omega⟩
        · refine ⟨_, hS.tmt, _, hS.sbt, _, rfl, 2, 14, by omega, by omega, hS.sbi, g_WPa.wf fun hw2 => ct_sbSub2 hS.cE hS.sbS (by omega) (by omega) (Nat.le_refl _) (by omega) fun q6 s6 hq6 hs6 _ => ?_⟩
          have hb7 := hb.tr (hs6.bl hb.z)
          have h7 := h.fb lt hb7
          have hc7 : s6.2.1 q5 = some (.inl (0, t.length + 1, .inl f)) := (hs6.2 q5 (hw2.2 q5 _ hc).2).trans hc
          have ecut : cut t w (w + 1 + k - w) = (t.drop w).take (k + 1) := by
            unfold cut
            congr 1
            omega
          rw [ecut] at hq6
          have htl : ((t.drop w).take (k + 1)).length ≤ 24 := by rw [List.length_take]; omega
          refine ⟨_, rfl, h7.tmS.is, ct_containsKey h7.tmS hq6 (by omega) h7.cE ⟨rfl, ?_⟩⟩
          by_cases hh : cL ws ((t.drop w).take (k + 1)) < dL ws ((t.drop w).take (k + 1))
          · rw [if_pos hh]
            rw [if_pos ⟨by omega, (has_iff hs).mpr hh⟩] at e1
            refine ⟨fun e => absurd e (by decide), fun _ => ⟨_, f, w + 1 + k, Or.inl hc7, rfl, by omega, by omega, _, f, w, hc7, rfl, by omega, by omega, fun s8 e8 => ?_⟩⟩
            rw [hfk, nI_add, show fw ws (t.drop (w + 1 + k)) + 1 = fwK ws (t.drop w) (k + 1) by omega] at e8
            have hb8 : Sb st.2.2 st s8 := by rw [e8]; exact put hb7 hc7
            refine hK48 _ _ _ ⟨va_up f w (nI (fwK ws (t.drop w) (k + 1))), by rw [e8]; exact g_upd_s, va_up_self _ _ _, fun j j1 j2 => ?_, hb8, by omega, by omega⟩
            rw [va_up_ne _ _ (by omega)]
            exact hfj j j1 j2
          · rw [if_neg hh]
            rw [if_neg (fun q => hh ((has_iff hs).mp q.2))] at e1
            exact ⟨fun _ => hK48 _ _ _ ⟨f, hc7, by rw [show fwK ws (t.drop w) (k + 1) = fwK ws (t.drop w) k by omega]; exact hfw, hfj, hb7, by omega, by omega⟩, fun e => absurd rfl e⟩
  · rw [show k = t.length by omega, List.drop_eq_nil_of_le (Nat.le_refl _), fw_eq hu1 (by decide)]
    rfl
theorem ct_xfewest {Q : Int32 → g_St → Prop} (h : SP E st a t ws cs) (hcb : 600 ≤ cb) (hsb : 4000 ≤ sb') (hq : xq E st a Q X [] (sp_fewest t ws cs)) : wp_X1_fewest l E cb sb' [va_rf (some a)] st Q := by
  refine g_WPi.wf fun hw => ?_
  obtain ⟨sb, v, N, tm, n, nd, ka, va, mc, x, ca, fc, h⟩ := h
  exact ct_fewest h hcb hsb fun s' hb => hq s' (h.fb (fun z hz => h.lt hw hz) hb).sp hb.sy
end GXS11
