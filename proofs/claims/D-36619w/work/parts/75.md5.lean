/-! MODEL 5: the other operations on the text -/
section GMD5
variable {us ws : wL} {t : List Nat} {cs : Nat → List Nat} {l : Launch} {E : g_E} {st0 st : g_St} {m k0 : Nat} {Q : Int32 → g_St → Prop}
/-- the model's answer is the specification's -/
def mok (st : g_St) (m : Nat) (Q : Int32 → g_St → Prop) (r : sR) : Prop := ∀ st' : g_St, MP st st' m r.1 r.2.2.1 r.2.2.2.1 r.2.2.2.2 → Q r.2.1 st'
theorem ins_get {t : List Nat} {j c i : Nat} (hj : j ≤ t.length) : (t.take j ++ c :: t.drop j).getD i 0 = if i < j then t.getD i 0 else if i = j then c else t.getD (i - 1) 0 := by
  have htl : (t.take j).length = j := by rw [List.length_take]; omega
  rw [app_get, htl]
  by_cases z : i < j
  · rw [if_pos z, if_pos z, List.getD_eq_getElem?_getD, List.getElem?_take, if_pos z, List.getD_eq_getElem?_getD]
  · rw [if_neg z, if_neg z]
    by_cases y : i = j
    · rw [if_pos y, y, Nat.sub_self]
      rfl
    · rw [if_neg y, show i - j = (i - j - 1) + 1 by omega, List.getD_cons_succ, drop_get, show j + (i - j - 1) = i - 1 by omega]
theorem cut_get2 {t : List Nat} {i j q : Nat} (hi : i ≤ t.length) : (t.take i ++ t.drop j).getD q 0 = if q < i then t.getD q 0 else t.getD (j + (q - i)) 0 := by
  have htl : (t.take i).length = i := by rw [List.length_take]; omega
  rw [app_get, htl]
  by_cases z : q < i
  · rw [if_pos z, if_pos z, List.getD_eq_getElem?_getD, List.getElem?_take, if_pos z, List.getD_eq_getElem?_getD]
  · rw [if_neg z, if_neg z, drop_get]
theorem sgs.tk {t : List Nat} (h : sgs t) (i : Nat) : sgs (t.take i) := fun c hc => h c (List.mem_of_mem_take hc)
theorem sgs.dp {t : List Nat} (h : sgs t) (i : Nat) : sgs (t.drop i) := fun c hc => h c (List.mem_of_mem_drop hc)
theorem MR.txt1 {u : List Nat} {A A' : Nat → Nat → Int32} (h : MR t us cs A) (hu : okT u) (h1 : ∀ j, j < u.length → A' 1 j = nI (u.getD j 0)) (hA : ∀ q, q ≠ 1 → q ≠ 4 → q ≠ 8 → q ≠ 9 → A' q = A q) : MR u us cs A' := by
  obtain ⟨hT, hW, hC, r1, r2, r3⟩ := h
  refine ⟨hu, hW, hC, h1, ?_, ?_⟩
  · rw [hA 5 (by decide) (by decide) (by decide) (by decide), hA 6 (by decide) (by decide) (by decide) (by decide), hA 2 (by decide) (by decide) (by decide) (by decide)]
    exact r2
  · rw [hA 7 (by decide) (by decide) (by decide) (by decide), hA 3 (by decide) (by decide) (by decide) (by decide)]
    exact r3
def sp_typeAt (p : Int32) (c : Nat) (t : List Nat) (ws : wL) (cs : Nat → List Nat) : sR := if p < nI 0 ∨ nI t.length < p then (1, nI 0, t, ws, cs) else if ¬ (97 ≤ c ∧ c ≤ 102) then (2, nI 0, t, ws, cs) else if t.length = 24 then (3, nI 0, t, ws, cs) else (0, nI (t.length + 1), t.take p.toNatClampNeg ++ c :: t.drop p.toNatClampNeg, ws, cs)
theorem ct_mtypeAt {p : Int32} {c : Nat} (h : MP st st m k0 t ws cs) (hc : c < 65536) (hq : mok st m Q (sp_typeAt p c t ws cs)) : wp_X2_typeAt l E 0 0 [va_rf (some m), .int p, .int (nI c)] st Q := by
  obtain ⟨us, A, W, hp, h, hR⟩ := h
  have hT := hR.1
  have hT1 := hT.1
  unfold sp_typeAt at hq
  refine wk_X2_typeAt ⟨_, h.gL, ct_min ⟨rfl, ?_⟩⟩
  refine g_jn1_i (fun y => ∃ k : Nat, y = nI k ∧ k < 10 ∧ (0 < k → mok st m Q (k, nI 0, t, ws, cs)) ∧ (k = 0 → ¬ (p < nI 0 ∨ nI t.length < p) ∧ (97 ≤ c ∧ c ≤ 102) ∧ t.length ≠ 24)) (fun y H => ?_) fun K4 hK4 => ?_
  rotate_left
  · by_cases z : p < nI 0 ∨ nI t.length < p
    · rw [if_pos z] at hq
      rw [tv_0 (fun w => w z)]
      exact ⟨fun w => absurd (by decide) w, fun _ => hK4 _ ⟨1, rfl, by omega, fun _ => hq, fun w => by omega⟩⟩
    · rw [if_neg z] at hq
      rw [tv_1 z]
      refine ⟨fun _ => ct_misSign ⟨rfl, ?_⟩, fun w => absurd w (by decide)⟩
      rw [tv_cg (sgn_tv hc)]
      by_cases z2 : 97 ≤ c ∧ c ≤ 102
      · rw [if_neg (fun w => w z2)] at hq
        rw [tv_1 z2]
        refine ⟨fun _ => ⟨_, h.gL, b_ne (by omega) (by omega) (fun w => ?_) fun w => hK4 _ ⟨0, rfl, by omega, fun w => absurd w (by omega), fun _ => ⟨z, z2, w⟩⟩⟩, fun w => absurd w (by decide)⟩
        rw [if_pos w] at hq
        exact hK4 _ ⟨3, rfl, by omega, fun _ => hq, fun w => by omega⟩
      · rw [if_pos z2] at hq
        rw [tv_0 z2]
        exact ⟨fun w => absurd (by decide) w, fun _ => hK4 _ ⟨2, rfl, by omega, fun _ => hq, fun w => by omega⟩⟩
  obtain ⟨k, rfl, hk, hk1, hk2⟩ := H
  refine ⟨h.is, ct_mfails h (by omega) fun s1 h1 _ => b_tv (fun w => hk1 w s1 ⟨us, A, W, hp, h1, hR⟩) fun w => ?_⟩
  obtain ⟨z1, z2, z3⟩ := hk2 (by omega)
  have hk0 : k = 0 := by omega
  subst hk0
  rw [if_neg z1, if_neg (fun w => w z2), if_neg z3] at hq
  obtain ⟨j, hj, rfl⟩ := i_in (fun w => z1 (Or.inl w)) (fun w => z1 (Or.inr w)) (by omega)
  rw [nI_clamp (by omega)] at hq
  have hlen : (t.take j ++ c :: t.drop j).length = t.length + 1 := by
    rw [List.length_append, List.length_cons, List.length_take, List.length_drop]
    omega
  refine ⟨_, h1.gL, ?_⟩
  refine g_lp2_m (fun mm x s => ∃ k A', x = nI k ∧ j ≤ k ∧ k ≤ t.length ∧ MS st s m (nI 0) (nI t.length) (nI us.length) A' W ∧ (∀ i, i < k → A' 1 i = nI (t.getD i 0)) ∧ (∀ i, k < i → i ≤ t.length → A' 1 i = nI (t.getD (i - 1) 0)) ∧ (∀ q, q ≠ 1 → A' q = A q) ∧ mm = k) ?_ ⟨t.length, A, rfl, hj, Nat.le_refl _, h1, fun i hi => hR.2.2.2.1 i hi, fun i hi hi2 => by omega, fun _ _ => rfl, rfl⟩
  rintro mm x s K ⟨k, A', rfl, hk1, hk2, hS, hA1, hA2, hA, rfl⟩ hK
  refine b_le (by omega) (by omega) (fun w => ?_) fun w => ?_
  · have e : mm = j := by omega
    subst e
    refine ⟨_, hS.g1, _, rfl, hS.w1 mm rfl (by omega) fun s2 h2 => ⟨_, h2.gL, h2.pL _ fun s3 h3 => ⟨_, h3.gL, ?_⟩⟩⟩
    rw [nI_add] at h3 ⊢
    refine hq s3 ⟨us, _, W, hp, by rw [hlen]; exact h3, hR.txt1 ⟨by rw [hlen]; omega, (hT.2.tk _).app fun d hd => ?_⟩ (fun i hi => ?_) fun q h1' _ _ _ => by rw [t_up_n h1']; exact hA q h1'⟩
    · rcases List.mem_cons.mp hd with e | e
      · rw [e]; exact z2
      · exact hT.2.dp _ d e
    · rw [hlen] at hi
      rw [t_up_s, ins_get hj, mch _ (by omega)]
      by_cases y1 : i < mm
      · rw [if_pos y1, va_up_ne _ _ (by omega)]
        exact hA1 i y1
      · rw [if_neg y1]
        by_cases y2 : i = mm
        · rw [if_pos y2, y2, va_up_self]
        · rw [if_neg y2, va_up_ne _ _ y2]
          exact hA2 i (by omega) (by omega)
  · obtain ⟨q, rfl⟩ := Nat.exists_eq_succ_of_ne_zero (show mm ≠ 0 by omega)
    rw [Nat.succ_eq_add_one] at *
    refine ⟨_, hS.g1, _, hS.g1, _, rfl, hS.r1 q (nI_pred q) (by omega) ⟨_, rfl, ?_⟩⟩
    have b1 := hT.2.lt q
    rw [hA1 q (by omega), mch _ (by omega)]
    refine hS.w1 (q + 1) rfl (by omega) fun s2 h2 => hK q _ _ ⟨q, _, im1 q, by omega, by omega, h2, fun i hi => ?_, fun i hi hi2 => ?_, fun z hz => by rw [t_up_n hz]; exact hA z hz, rfl⟩ (by omega)
    · rw [t_up_s, va_up_ne _ _ (by omega)]
      exact hA1 i (by omega)
    · rw [t_up_s]
      by_cases y : i = q + 1
      · rw [y, va_up_self]
        rfl
      · rw [va_up_ne _ _ y]
        exact hA2 i (by omega) hi2
def sp_drop (t : List Nat) (ws : wL) (cs : Nat → List Nat) : sR := if t.length = 0 then (1, nI 0, t, ws, cs) else (0, nI (t.length - 1), t.take (t.length - 1), ws, cs)
theorem ct_mdrop (h : MP st st m k0 t ws cs) (hq : mok st m Q (sp_drop t ws cs)) : wp_X2_drop l E 0 0 [va_rf (some m)] st Q := by
  obtain ⟨us, A, W, hp, h, hR⟩ := h
  have hT := hR.1
  have hT1 := hT.1
  unfold sp_drop at hq
  refine wk_X2_drop ⟨_, h.gL, ?_⟩
  by_cases z : t.length = 0
  · rw [if_pos z] at hq
    show _ ∧ _
    refine b_ne (b := 0) (by omega) (by omega) (fun _ => ⟨h.is, ct_mfails h (by omega) fun s1 h1 _ => b_tv (fun _ => hq s1 ⟨us, A, W, hp, h1, hR⟩) fun w => absurd (by omega) w⟩) fun w => absurd z w
  · rw [if_neg z] at hq
    show _ ∧ _
    refine b_ne (b := 0) (by omega) (by omega) (fun w => absurd w z) fun _ => ⟨h.is, ct_mfails h (by omega) fun s1 h1 _ => b_tv (fun w => absurd w (by omega)) fun _ => ⟨_, h1.gL, h1.pL _ fun s2 h2 => ⟨_, h2.gL, ?_⟩⟩⟩
    rw [su_sub (by omega)] at h2 ⊢
    have hlen : (t.take (t.length - 1)).length = t.length - 1 := by rw [List.length_take]; omega
    refine hq s2 ⟨us, A, W, hp, by rw [hlen]; exact h2, hR.txt1 ⟨by rw [hlen]; omega, hT.2.tk _⟩ (fun j hj => ?_) fun _ _ _ _ _ => rfl⟩
    rw [hlen] at hj
    rw [List.getD_eq_getElem?_getD, List.getElem?_take, if_pos hj, ← List.getD_eq_getElem?_getD]
    exact hR.2.2.2.1 j (by omega)
def sp_clip (a b : Int32) (t : List Nat) (ws : wL) (cs : Nat → List Nat) : sR := if a < nI 0 ∨ b < a ∨ nI t.length < b then (1, nI 0, t, ws, cs) else (0, nI (t.length - (b.toNatClampNeg - a.toNatClampNeg)), t.take a.toNatClampNeg ++ t.drop b.toNatClampNeg, ws, cs)
theorem ct_mclip {a b : Int32} (h : MP st st m k0 t ws cs) (hq : mok st m Q (sp_clip a b t ws cs)) : wp_X2_clip l E 0 0 [va_rf (some m), .int a, .int b] st Q := by
  obtain ⟨us, A, W, hp, h, hR⟩ := h
  have hT := hR.1
  have hT1 := hT.1
  unfold sp_clip at hq
  refine wk_X2_clip ?_
  refine g_jn1_i (fun y => ∃ k : Nat, y = nI k ∧ k < 10 ∧ (0 < k → mok st m Q (k, nI 0, t, ws, cs)) ∧ (k = 0 → ¬ (a < nI 0 ∨ b < a ∨ nI t.length < b))) (fun y H => ?_) fun K4 hK4 => ?_
  rotate_left
  · by_cases z : a < nI 0 ∨ b < a ∨ nI t.length < b
    · rw [if_pos z] at hq
      refine g_jn0_i (hK4 _ ⟨1, rfl, by omega, fun _ => hq, fun w => by omega⟩) fun K32 hK32 => ⟨fun _ => hK32, fun w => ⟨fun _ => hK32, fun w2 => ⟨_, h.gL, fun w3 => ?_, fun _ => hK32⟩⟩⟩
      rcases z with z | z | z
      · exact absurd z w
      · exact absurd z w2
      · rw [Int32.lt_iff_toInt_lt] at z
        rw [Int32.le_iff_toInt_le] at w3
        omega
    · show _ ∧ _
      refine ⟨fun w => absurd (Or.inl w) z, fun _ => ⟨fun w => absurd (Or.inr (Or.inl w)) z, fun _ => ⟨_, h.gL, fun _ => hK4 _ ⟨0, rfl, by omega, fun w => by omega, fun _ => z⟩, fun w => absurd (Or.inr (Or.inr ?_)) z⟩⟩⟩
      rw [Int32.lt_iff_toInt_lt]
      rw [Int32.le_iff_toInt_le] at w
      omega
  obtain ⟨k, rfl, hk, hk1, hk2⟩ := H
  refine ⟨h.is, ct_mfails h (by omega) fun s1 h1 _ => b_tv (fun w => hk1 w s1 ⟨us, A, W, hp, h1, hR⟩) fun w => ?_⟩
  have hk0 : k = 0 := by omega
  subst hk0
  have z := hk2 rfl
  rw [if_neg z] at hq
  obtain ⟨j, hj, rfl⟩ := i_in (x := b) (n := t.length) (fun w => z (by
    by_cases v : a < nI 0
    · exact Or.inl v
    · refine Or.inr (Or.inl ?_)
      rw [Int32.lt_iff_toInt_lt] at *
      omega)) (fun w => z (Or.inr (Or.inr w))) (by omega)
  obtain ⟨i, hi, rfl⟩ := i_in (x := a) (n := j) (fun w => z (Or.inl w)) (fun w => z (Or.inr (Or.inl w))) (by omega)
  rw [nI_clamp (by omega), nI_clamp (by omega)] at hq
  have hlen : (t.take i ++ t.drop j).length = t.length - (j - i) := by
    rw [List.length_append, List.length_take, List.length_drop]
    omega
  refine g_lp2_m (fun mm x s => ∃ k A', x = nI k ∧ j ≤ k ∧ k ≤ t.length ∧ MS st s m (nI 0) (nI t.length) (nI us.length) A' W ∧ (∀ q, q < i → A' 1 q = nI (t.getD q 0)) ∧ (∀ q, i ≤ q → q < i + (k - j) → A' 1 q = nI (t.getD (j + (q - i)) 0)) ∧ (∀ q, i + (k - j) ≤ q → q < t.length → A' 1 q = nI (t.getD q 0)) ∧ (∀ q, q ≠ 1 → A' q = A q) ∧ mm = 100 - k) ?_ ⟨j, A, rfl, Nat.le_refl _, hj, h1, fun q hq => hR.2.2.2.1 q (by omega), fun q hq hq2 => by omega, fun q hq hq2 => hR.2.2.2.1 q hq2, fun _ _ => rfl, rfl⟩
  rintro mm x s K ⟨k, A', rfl, hk1, hk2, hS, hA1, hA2, hA3, hA, rfl⟩ hK
  refine ⟨_, hS.gL, b_le (by omega) (by omega) (fun w => ⟨_, hS.gL, ?_⟩) fun w => ⟨_, hS.g1, _, hS.g1, _, rfl, hS.r1 k rfl (by omega) ⟨_, rfl, ?_⟩⟩⟩
  · have e : k = t.length := by omega
    subst e
    rw [su_sub hi, su_sub (by omega)]
    refine hS.pL _ fun s2 h2 => ⟨_, h2.gL, hq s2 ⟨us, A', W, hp, by rw [hlen]; exact h2, hR.txt1 ⟨by rw [hlen]; omega, (hT.2.tk _).app (hT.2.dp _)⟩ (fun q hq => ?_) fun q h1' _ _ _ => hA q h1'⟩⟩
    rw [hlen] at hq
    rw [cut_get2 (by omega)]
    by_cases y : q < i
    · rw [if_pos y]
      exact hA1 q y
    · rw [if_neg y]
      exact hA2 q (by omega) (by omega)
  · have b1 := hT.2.lt k
    rw [hA3 k (by omega) w, mch _ (by omega)]
    refine hS.w1 (i + (k - j)) (by rw [nI_add, su_sub (by omega)]; congr 1; omega) (by omega) fun s2 h2 => hK _ _ _ ⟨k + 1, _, nI_add k 1, by omega, w, h2, fun q hq => ?_, fun q hq hq2 => ?_, fun q hq hq2 => ?_, fun z hz => by rw [t_up_n hz]; exact hA z hz, rfl⟩ (by omega)
    · rw [t_up_s, va_up_ne _ _ (by omega)]
      exact hA1 q hq
    · rw [t_up_s]
      by_cases y : q = i + (k - j)
      · rw [y, va_up_self]
        congr 2
        omega
      · rw [va_up_ne _ _ y]
        exact hA2 q hq (by omega)
    · rw [t_up_s, va_up_ne _ _ (by omega)]
      exact hA3 q (by omega) hq2
def sp_wipe (t : List Nat) (ws : wL) (cs : Nat → List Nat) : sR := (0, nI t.length, [], ws, cs)
theorem ct_mwipe (h : MP st st m k0 t ws cs) (hq : mok st m Q (sp_wipe t ws cs)) : wp_X2_wipe l E 0 0 [va_rf (some m)] st Q := by
  obtain ⟨us, A, W, hp, h, hR⟩ := h
  refine wk_X2_wipe (h.pC _ fun s1 h1 => ⟨_, h1.gL, h1.pL _ fun s2 h2 => hq s2 ⟨us, A, W, hp, h2, hR.txt1 ⟨Nat.zero_le _, fun c hc => absurd hc List.not_mem_nil⟩ (fun j hj => absurd hj (Nat.not_lt_zero _)) fun _ _ _ _ _ => rfl⟩⟩)
def sp_turn (t : List Nat) (ws : wL) (cs : Nat → List Nat) : sR := (0, tv (t = t.reverse), t.reverse, ws, cs)
theorem tv_and {p q : Prop} [Decidable p] [Decidable q] : tv p &&& tv q = tv (p ∧ q) := by
  unfold tv
  by_cases hp : p <;> by_cases hq : q <;> simp [hp, hq] <;> decide
theorem tv_or {p q : Prop} [Decidable p] [Decidable q] : tv p ||| tv q = tv (p ∨ q) := by
  unfold tv
  by_cases hp : p <;> by_cases hq : q <;> simp [hp, hq] <;> decide
theorem ct_mturn (h : MP st st m k0 t ws cs) (hq : mok st m Q (sp_turn t ws cs)) : wp_X2_turn l E 0 0 [va_rf (some m)] st Q := by
  obtain ⟨us, A, W, hp, h, hR⟩ := h
  have hT := hR.1
  have hT1 := hT.1
  refine wk_X2_turn (h.pC _ fun s1 h1 => ?_)
  have hlen : t.reverse.length = t.length := List.length_reverse
  refine g_lp2_m (fun mm x s => ∃ k A', x = nI k ∧ k ≤ t.length ∧ MS st s m (nI 0) (nI t.length) (nI us.length) A' W ∧ (∀ q, q < k → A' 4 q = nI (t.reverse.getD q 0)) ∧ (∀ q, q ≠ 4 → A' q = A q) ∧ mm = 100 - k) ?_ ⟨0, A, rfl, Nat.zero_le _, h1, fun q hq => by omega, fun _ _ => rfl, rfl⟩
  rintro mm x s K ⟨k, A', rfl, hk, hS, hA4, hA, rfl⟩ hK
  refine ⟨_, hS.gL, b_le (by omega) (by omega) (fun w => ?_) fun w => ⟨_, hS.g4, _, hS.g1, _, hS.gL, _, rfl, hS.r1 (t.length - 1 - k) (by rw [su_sub (by omega), su_sub (by omega)]) (by omega) ⟨_, rfl, ?_⟩⟩⟩
  rotate_left
  · have b1 := hT.2.lt (t.length - 1 - k)
    rw [hA 1 (by decide), hR.2.2.2.1 _ (by omega), mch _ (by omega)]
    refine hS.w4 k rfl (by omega) fun s2 h2 => hK _ _ _ ⟨k + 1, _, nI_add k 1, w, h2, fun q hq => ?_, fun z hz => by rw [t_up_n hz]; exact hA z hz, rfl⟩ (by omega)
    rw [t_up_s]
    by_cases y : q = k
    · rw [y, va_up_self, rev_get w]
    · rw [va_up_ne _ _ y]
      exact hA4 q (by omega)
  · have e : k = t.length := by omega
    subst e
    refine g_lp3_m (fun mm x y s => ∃ k A', y = nI k ∧ k ≤ t.length ∧ x = tv (∀ j, j < k → t.getD j 0 = t.reverse.getD j 0) ∧ MS st s m (nI 0) (nI t.length) (nI us.length) A' W ∧ (∀ q, q < t.length → A' 4 q = nI (t.reverse.getD q 0)) ∧ (∀ q, q < k → A' 1 q = nI (t.reverse.getD q 0)) ∧ (∀ q, k ≤ q → q < t.length → A' 1 q = nI (t.getD q 0)) ∧ (∀ q, q ≠ 1 → q ≠ 4 → A' q = A q) ∧ mm = 100 - k) ?_ ⟨0, A', rfl, Nat.zero_le _, (tv_1 (fun j hj => absurd hj (Nat.not_lt_zero _))).symm, hS, hA4, fun q hq => by omega, fun q _ hq => by rw [hA 1 (by decide)]; exact hR.2.2.2.1 q hq, fun q _ h4 => hA q h4, rfl⟩
    clear hK hS hA4 hA hk
    rintro mm x y s K ⟨k, A', rfl, hk, rfl, hS, hA4, hA1, hA2, hA, rfl⟩ hK
    refine ⟨_, hS.gL, b_le (by omega) (by omega) (fun w => ?_) fun w => ⟨_, hS.g4, _, rfl, hS.r4 k rfl (by omega) ⟨_, hS.g1, _, rfl, hS.r1 k rfl (by omega) ?_⟩⟩⟩
    · have e : k = t.length := by omega
      subst e
      have ee : tv (∀ j, j < t.length → t.getD j 0 = t.reverse.getD j 0) = tv (t = t.reverse) := tv_cg ⟨fun hh => List.ext_getElem hlen.symm fun i i1 i2 => by
        have := hh i i1
        rw [List.getD_eq_getElem?_getD, List.getD_eq_getElem?_getD, List.getElem?_eq_getElem i1, List.getElem?_eq_getElem i2] at this
        exact this, fun hh j _ => by rw [← hh]⟩
      rw [ee]
      exact ⟨tv_nar, hq s ⟨us, A', W, hp, by show MS st s m _ (nI t.reverse.length) _ _ _; rw [hlen]; exact hS, hR.txt1 ⟨by show t.reverse.length ≤ 24; rw [hlen]; exact hT1, fun c hc => hT.2 c (List.mem_reverse.mp hc)⟩ (fun j hj => hA1 j (by rw [← hlen]; exact hj)) fun q h1 h4 _ _ => hA q h1 h4⟩⟩
    · have b1 := hT.2.lt k
      have b2 : t.reverse.getD k 0 ≤ 102 := by rw [rev_get w]; exact hT.2.lt _
      rw [hA4 k w, hA2 k (Nat.le_refl _) w]
      refine g_jn1_i (fun y => y = tv (t.getD k 0 = t.reverse.getD k 0)) (fun y e => ?_) fun K29 hK29 => b_ne (by omega) (by omega) (fun v => hK29 _ (tv_1 v.symm).symm) fun v => hK29 _ (tv_0 (Ne.symm v)).symm
      subst e
      refine ⟨_, hS.g1, _, hS.g4, _, rfl, hS.r4 k rfl (by omega) ⟨_, rfl, ?_⟩⟩
      rw [hA4 k w, mch _ (by omega)]
      refine hS.w1 k rfl (by omega) fun s2 h2 => hK _ _ _ _ ⟨k + 1, _, nI_add k 1, w, ?_, h2, fun q hq => ?_, fun q hq => ?_, fun q hq hq2 => ?_, fun z h1 h4 => by rw [t_up_n h1]; exact hA z h1 h4, rfl⟩ (by omega)
      · rw [tv_and]
        refine tv_cg ⟨fun hh j hj => ?_, fun hh => ⟨fun j hj => hh j (by omega), hh k (by omega)⟩⟩
        rcases Nat.lt_succ_iff_lt_or_eq.mp hj with q | q
        · exact hh.1 j q
        · rw [q]; exact hh.2
      · rw [t_up_n (by decide)]
        exact hA4 q hq
      · rw [t_up_s]
        by_cases y : q = k
        · rw [y, va_up_self]
        · rw [va_up_ne _ _ y]
          exact hA1 q (by omega)
      · rw [t_up_s, va_up_ne _ _ (by omega)]
        exact hA2 q (by omega) hq2
def sp_signAt (p : Int32) (t : List Nat) (ws : wL) (cs : Nat → List Nat) : sR := if p < nI 0 ∨ nI t.length ≤ p then (1, nI 32, t, ws, cs) else (0, nI (t.getD p.toNatClampNeg 0), t, ws, cs)
theorem i_sub1 {n : Nat} (hn : n < 2 ^ 31) : (nI n - nI 1).toInt = (n : Int) - 1 := by
  cases n with
  | zero => decide
  | succ n =>
    rw [show nI (n + 1) - nI 1 = nI n from nI_pred n, nI_toInt (by omega)]
    omega
theorem i_last {p : Int32} {n : Nat} (hn : n < 2 ^ 31) : (p < nI 0 ∨ nI n - nI 1 < p) ↔ (p < nI 0 ∨ nI n ≤ p) := by
  rw [Int32.lt_iff_toInt_lt, Int32.lt_iff_toInt_lt, Int32.le_iff_toInt_le, i_sub1 hn, nI_toInt hn]
  omega
theorem i_in2 {x : Int32} {n : Nat} (h : ¬ (x < nI 0 ∨ nI n ≤ x)) (hn : n < 2 ^ 31) : ∃ j, j < n ∧ x = nI j := by
  obtain ⟨j, hj, e⟩ := nI_of (x := x) (fun w => h (Or.inl w))
  refine ⟨j, Nat.lt_of_not_le fun w => h (Or.inr ?_), e⟩
  rw [e]
  exact nI_le w hj
theorem ct_msignAt {p : Int32} (h : MP st st m k0 t ws cs) (hq : mok st m Q (sp_signAt p t ws cs)) : wp_X2_signAt l E 0 0 [va_rf (some m), .int p] st Q := by
  obtain ⟨us, A, W, hp, h, hR⟩ := h
  have hT := hR.1
  have hT1 := hT.1
  unfold sp_signAt at hq
  refine wk_X2_signAt ⟨_, h.gL, ct_min ⟨rfl, ?_⟩⟩
  rw [tv_cg (not_congr (i_last (p := p) (n := t.length) (by omega)))]
  by_cases z : p < nI 0 ∨ nI t.length ≤ p
  · rw [if_pos z] at hq
    rw [tv_0 (fun w => w z)]
    show _ ∧ _
    refine ⟨fun _ => ⟨h.is, ct_mfails h (by omega) fun s1 h1 _ => ?_⟩, fun w => absurd (by decide) w⟩
    show _ ∧ _
    exact b_tv (fun _ => ⟨rfl, hq s1 ⟨us, A, W, hp, h1, hR⟩⟩) fun w => absurd (by omega) w
  · rw [if_neg z] at hq
    rw [tv_1 z]
    obtain ⟨j, hj, rfl⟩ := i_in2 z (by omega)
    rw [nI_clamp (by omega)] at hq
    show _ ∧ _
    refine ⟨fun w => absurd w (by decide), fun _ => ⟨h.is, ct_mfails h (by omega) fun s1 h1 _ => ?_⟩⟩
    show _ ∧ _
    refine b_tv (fun w => absurd w (by omega)) fun _ => ⟨_, h1.g1, _, rfl, h1.r1 j rfl (by omega) ?_⟩
    rw [hR.2.2.2.1 j hj]
    have b1 := hT.2.lt j
    exact ⟨g_chn _ (by omega), hq s1 ⟨us, A, W, hp, h1, hR⟩⟩
end GMD5
