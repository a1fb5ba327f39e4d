/-! MODEL 10: pieces -/
section GMD10
variable {us ws : wL} {t : List Nat} {cs : Nat → List Nat} {l : Launch} {E : g_E} {st0 st : g_St} {m k0 : Nat} {Q : Int32 → g_St → Prop} {A : Nat → Nat → Int32} {W : Nat → Int64} {c ln mn : Int32}
/-- where the longest words in turn end, how many they are -/
def gS (us : wL) (t : List Nat) : Nat → Nat × Nat
  | 0 => (0, 0)
  | i + 1 => if lgX (t.drop (gS us t i).1) us = 0 then gS us t i else ((gS us t i).1 + lgX (t.drop (gS us t i).1) us, (gS us t i).2 + 1)
theorem gS_s (i : Nat) : gS us t (i + 1) = if lgX (t.drop (gS us t i).1) us = 0 then gS us t i else ((gS us t i).1 + lgX (t.drop (gS us t i).1) us, (gS us t i).2 + 1) := rfl
theorem gS_pm (hp : us.Perm ws) (i : Nat) : gS us t i = gS ws t i := by
  induction i with
  | zero => rfl
  | succ i ih => rw [gS_s, gS_s, ih, lgX_pm hp]
theorem lgX_drop (h : ∀ u ∈ us, u.1.length ≤ 10) {f : Nat} (hf : f ≤ t.length) : f + lgX (t.drop f) us ≤ t.length := by
  have := (lgX_le (s := t.drop f) h).2
  rw [List.length_drop] at this
  omega
theorem gS_le (h : ∀ u ∈ us, u.1.length ≤ 10) (i : Nat) : (gS us t i).1 ≤ t.length ∧ (gS us t i).2 ≤ (gS us t i).1 ∧ (gS us t i).2 ≤ i := by
  induction i with
  | zero => exact ⟨Nat.zero_le _, Nat.le_refl _, Nat.le_refl _⟩
  | succ i ih =>
    obtain ⟨h1, h2, h3⟩ := ih
    have := lgX_drop h h1
    rw [gS_s]
    split
    · exact ⟨h1, h2, by omega⟩
    · refine ⟨this, ?_, ?_⟩
      · show (gS us t i).2 + 1 ≤ (gS us t i).1 + lgX (t.drop (gS us t i).1) us
        omega
      · show (gS us t i).2 + 1 ≤ i + 1
        omega
theorem gS_end {i : Nat} (h : lgX (t.drop (gS us t i).1) us = 0) (k : Nat) : gS us t (i + k) = gS us t i := by
  induction k with
  | zero => rfl
  | succ k ih => rw [← Nat.add_assoc, gS_s, ih, if_pos h]
theorem gS_25 {i : Nat} (h : lgX (t.drop (gS us t i).1) us = 0) (hi : i ≤ 25) : gS us t 25 = gS us t i := by
  have := gS_end h (25 - i)
  rw [show i + (25 - i) = 25 by omega] at this
  exact this
theorem gS_go {i : Nat} (h : (gS us t i).2 = i) (hg : lgX (t.drop (gS us t i).1) us ≠ 0) : gS us t (i + 1) = ((gS us t i).1 + lgX (t.drop (gS us t i).1) us, i + 1) := by
  rw [gS_s, if_neg hg, h]
theorem gS_mn {i : Nat} (k : Nat) : (gS us t i).2 ≤ (gS us t (i + k)).2 := by
  induction k with
  | zero => exact Nat.le_refl _
  | succ k ih =>
    rw [← Nat.add_assoc, gS_s]
    split
    · exact ih
    · exact Nat.le_succ_of_le ih
theorem okW.le (h : okW us) : ∀ u ∈ us, u.1.length ≤ 10 := fun u hu => (h.2 u hu).2.1
def sp_pieces (t : List Nat) (ws : wL) (cs : Nat → List Nat) : sR := (0, if (gS ws t 25).1 = t.length then nI (gS ws t 25).2 else -1 - nI (gS ws t 25).1, t, ws, cs)
theorem ct_mpieces (h : MP st st m k0 t ws cs) (hq : mok st m Q (sp_pieces t ws cs)) : wp_X2_pieces l E 0 0 [va_rf (some m)] st Q := by
  obtain ⟨us, A, W, hp, h, hR⟩ := h
  have hW := hR.2.1
  have hT1 := hR.1.1
  refine wk_X2_pieces (h.pC _ fun s1 h1 => ?_)
  refine g_lp2_m (fun mm x y => ∃ i, (gS us t i).2 = i ∧ x = nI (gS us t i).1 ∧ y = nI i ∧ mm = 100 - i) ?_ ⟨0, rfl, rfl, rfl, rfl⟩
  rintro mm x y K ⟨i, hi, rfl, rfl, rfl⟩ hK
  have b := gS_le (t := t) hW.le i
  have b2 := lgX_drop hW.le b.1
  refine ⟨h1.is, ct_mlongestAt h1 hR b.1 ⟨rfl, ?_⟩⟩
  show (nI _ ≤ nI 0 → _) ∧ (¬ nI _ ≤ nI 0 → _)
  refine b_le (by omega) (by omega) (fun z => ⟨_, h1.gL, ?_⟩) fun z => ⟨h1.is, ct_mlongestAt h1 hR b.1 ⟨rfl, hK _ _ _ ⟨i + 1, ?_, ?_, nI_add i 1, rfl⟩ (by omega)⟩⟩
  · have e : gS ws t 25 = gS us t i := by
      rw [← gS_pm hp]
      exact gS_25 (by omega) (by omega)
    unfold sp_pieces at hq
    rw [e, hi] at hq
    refine g_jn1_i (fun x => x = if (gS us t i).1 = t.length then nI i else -1 - nI (gS us t i).1) (fun x e => by rw [e]; exact hq s1 ⟨us, A, W, hp, h1, hR⟩) fun K12 hK12 => b_ne (by omega) (by omega) (fun w => hK12 _ ?_) fun w => hK12 _ ?_
    · rw [if_pos w]
    · rw [if_neg w]
  · rw [gS_go hi (by omega)]
  · rw [gS_go hi (by omega), nI_add]
def sp_piece (p : Int32) (t : List Nat) (ws : wL) (cs : Nat → List Nat) : sR := if p < nI 0 ∨ nI (gS ws t 25).2 ≤ p then (1, nI 0, t, ws, cs) else (0, nI (lgX (t.drop (gS ws t p.toNatClampNeg).1) ws), t, ws, cs)
theorem ct_mpiece {p : Int32} (h : MP st st m k0 t ws cs) (hq : mok st m Q (sp_piece p t ws cs)) : wp_X2_piece l E 0 0 [va_rf (some m), .int p] st Q := by
  obtain ⟨us, A, W, hp, h, hR⟩ := h
  have hW := hR.2.1
  have hT1 := hR.1.1
  have c25 := gS_le (us := us) (t := t) hW.le 25
  unfold sp_piece at hq
  have epm : gS ws t = gS us t := funext fun i => (gS_pm hp i).symm
  rw [epm] at hq
  refine wk_X2_piece ?_
  refine g_lp2_m (fun mm x y => ∃ i, (gS us t i).2 = i ∧ x = nI (gS us t i).1 ∧ ((p < nI 0 ∧ y = p) ∨ ∃ j, j < 2 ^ 31 ∧ p = nI j ∧ i ≤ j ∧ y = nI (j - i)) ∧ mm = 100 - i) ?_ ⟨0, rfl, rfl, ?_, rfl⟩
  · rintro mm x y K ⟨i, hi, rfl, hy, rfl⟩ hK
    have b := gS_le (us := us) (t := t) hW.le i
    have b2 := lgX_drop hW.le b.1
    have bad : (p < nI 0 ∨ nI (gS us t 25).2 ≤ p) → wp_X2_fails l E 0 0 [va_rf (some m), .int (nI 1)] st (fun x11 st12 => g_Ext st st12 → g_jn1 (fun (K14 : Int32 → Prop) => (x11 = 0 → g_is st12 m 16 ∧ wp_X2_longestAt l E 0 0 [va_rf (some m), .int (nI (gS us t i).1)] st12 (fun x17 stx => stx = st12 ∧ K14 x17)) ∧ (¬ x11 = 0 → K14 (nI 0))) (fun (x13 : Int32) => Q x13 st12)) := fun z => by
      rw [if_pos z] at hq
      refine ct_mfails h (by omega) fun s1 h1 _ => ?_
      show _ ∧ _
      exact b_tv (fun _ => hq s1 ⟨us, A, W, hp, h1, hR⟩) fun w => absurd (by omega) w
    rcases hy with ⟨hn, rfl⟩ | ⟨j, hj, rfl, hij, rfl⟩
    · have hp0 : y ≤ 0 := Int32.le_of_lt hn
      show _ ∧ _
      refine ⟨fun _ => ?_, fun w => absurd hp0 w⟩
      show _ ∧ _
      refine ⟨fun _ => ⟨h.is, bad (Or.inl hn)⟩, fun w => ?_⟩
      rw [w] at hn
      exact absurd hn (by decide)
    · have hlm : lgX (t.drop (gS us t i).1) us = 0 → gS us t 25 = gS us t i := fun e => gS_25 e (by omega)
      by_cases z : j - i = 0 ∨ lgX (t.drop (gS us t i).1) us = 0
      · refine g_jn0_i ?_ fun K6 hK6 => ?_
        · refine g_jn1_i (fun x => x = if j - i = 0 ∧ lgX (t.drop (gS us t i).1) us ≠ 0 then nI 0 else nI 1) (fun x8 e8 => ?_) fun K9 hK9 => ?_
          · rw [e8]
            refine ⟨h.is, ?_⟩
            by_cases v : j - i = 0 ∧ lgX (t.drop (gS us t i).1) us ≠ 0
            · have ei : i = j := by omega
              subst ei
              have ok : ¬ (nI i < nI 0 ∨ nI (gS us t 25).2 ≤ nI i) := by
                have := gS_mn (us := us) (t := t) (i := i + 1) (25 - (i + 1))
                rw [show i + 1 + (25 - (i + 1)) = 25 by omega, gS_go hi v.2] at this
                rw [nI_ltI (by omega) (by omega), nI_leI (by omega) (by omega)]
                have this : i + 1 ≤ (gS us t 25).2 := this
                omega
              rw [if_neg ok, nI_clamp (by omega), ← lgX_pm hp] at hq
              rw [if_pos v]
              refine ct_mfails h (by omega) fun s1 h1 _ => ?_
              show _ ∧ _
              exact b_tv (fun w => absurd w (by omega)) fun _ => ⟨h1.is, ct_mlongestAt h1 hR b.1 ⟨rfl, hq s1 ⟨us, A, W, hp, h1, hR⟩⟩⟩
            · rw [if_neg v]
              refine bad (Or.inr ?_)
              have e0 : lgX (t.drop (gS us t i).1) us = 0 := by
                rcases z with z | z
                · by_cases q : lgX (t.drop (gS us t i).1) us = 0
                  · exact q
                  · exact absurd ⟨z, q⟩ v
                · exact z
              rw [hlm e0, hi]
              exact nI_le hij hj
          · by_cases v : j - i = 0 ∧ lgX (t.drop (gS us t i).1) us ≠ 0
            · rw [if_pos v] at hK9
              show _ ∧ _
              show (¬ nI _ = nI 0 → _) ∧ (nI _ = nI 0 → _)
              refine b_ne (by omega) (by omega) (fun _ => ⟨h.is, ct_mlongestAt h hR b.1 ⟨rfl, ?_⟩⟩) fun w => absurd v.1 w
              show (¬ nI _ = nI 0 → _) ∧ (nI _ = nI 0 → _)
              exact b_ne (by omega) (by omega) (fun w => absurd w v.2) fun _ => hK9 _ rfl
            · rw [if_neg v] at hK9
              refine g_jn0_i (hK9 _ rfl) fun K19 hK19 => ?_
              show (¬ nI _ = nI 0 → _) ∧ (nI _ = nI 0 → _)
              refine b_ne (by omega) (by omega) (fun y => ⟨h.is, ct_mlongestAt h hR b.1 ⟨rfl, ?_⟩⟩) fun _ => hK19
              show (¬ nI _ = nI 0 → _) ∧ (nI _ = nI 0 → _)
              exact b_ne (by omega) (by omega) (fun _ => hK19) fun w => absurd ⟨y, w⟩ v
        · show (nI _ ≤ nI 0 → _) ∧ (¬ nI _ ≤ nI 0 → _)
          refine b_le (by omega) (by omega) (fun _ => hK6) fun y => ⟨h.is, ct_mlongestAt h hR b.1 ⟨rfl, ?_⟩⟩
          show (nI _ ≤ nI 0 → _) ∧ (¬ nI _ ≤ nI 0 → _)
          exact b_le (by omega) (by omega) (fun _ => hK6) fun w => by omega
      · show _ ∧ _
        show (nI _ ≤ nI 0 → _) ∧ (¬ nI _ ≤ nI 0 → _)
        refine b_le (by omega) (by omega) (fun w => by omega) fun y => ⟨h.is, ct_mlongestAt h hR b.1 ⟨rfl, ?_⟩⟩
        show (nI _ ≤ nI 0 → _) ∧ (¬ nI _ ≤ nI 0 → _)
        refine b_le (by omega) (by omega) (fun w => by omega) fun y2 => ⟨h.is, ct_mlongestAt h hR b.1 ⟨rfl, ?_⟩⟩
        refine hK _ _ _ ⟨i + 1, by rw [gS_go hi (by omega)], by rw [gS_go hi (by omega), nI_add], Or.inr ⟨j, hj, rfl, by omega, ?_⟩, rfl⟩ (by omega)
        rw [show j - i = j - (i + 1) + 1 by omega, im1]
  · by_cases z : p < nI 0
    · exact Or.inl ⟨z, rfl⟩
    · obtain ⟨j, hj, rfl⟩ := nI_of z
      exact Or.inr ⟨j, hj, rfl, Nat.zero_le _, rfl⟩
end GMD10
