/-! MODEL 13: orderly codes; reading -/
section GMD13
variable {us ws : wL} {t : List Nat} {cs : Nat → List Nat} {l : Launch} {E : g_E} {st0 st : g_St} {m k0 : Nat} {Q : Int32 → g_St → Prop} {A : Nat → Nat → Int32} {W : Nat → Int64} {c ln mn : Int32}
/-- less, and neither begins with the other -/
abbrev AH (x y : List Nat) : Prop := lcp x y < x.length ∧ lcp x y < y.length ∧ x.getD (lcp x y) 0 < y.getD (lcp x y) 0
theorem ct_misAhead {a b : Nat} (h : MS st0 st m c ln mn A W) (hR : MR t us cs A) (ha : a < 6) (hb : b < 6) (hq : Q (tv (AH (cs a) (cs b))) st) : wp_X2_isAhead l E 0 0 [va_rf (some m), .int (nI a), .int (nI b)] st Q := by
  obtain ⟨-, -, hC, -, -, r3⟩ := hR
  have ka := hC a ha
  have kb := hC b hb
  obtain ⟨e7, e3⟩ := r3 a ha
  obtain ⟨e7', e3'⟩ := r3 b hb
  have l1 := lcp_le1 (cs a) (cs b)
  have l2 := lcp_le2 (cs a) (cs b)
  refine wk_X2_isAhead ?_
  refine g_lp1_m (fun mm x => ∃ k, x = nI k ∧ k ≤ lcp (cs a) (cs b) ∧ mm = 100 - k) ?_ ⟨0, rfl, Nat.zero_le _, rfl⟩
  rintro mm x K ⟨k, rfl, hk, rfl⟩ hK
  refine ⟨_, h.g7, _, rfl, h.r7 a rfl ha ?_⟩
  rw [e7]
  by_cases z : k = lcp (cs a) (cs b)
  · refine g_jn0_i ?_ fun K10 hK10 => b_le (by omega) (by omega) (fun _ => hK10) fun z2 => ⟨_, h.g7, _, rfl, h.r7 b rfl hb ?_⟩
    · refine ⟨_, h.g7, _, rfl, h.r7 a rfl ha ?_⟩
      rw [e7]
      refine g_jn1_i (fun y => y = tv (AH (cs a) (cs b))) (fun y e => by rw [e]; exact ⟨tv_nar, hq⟩) fun K18 hK18 => ?_
      by_cases y : AH (cs a) (cs b)
      · have y0 := y
        obtain ⟨y1, y2, y3⟩ := y
        show _ ∧ _
        refine b_le (by omega) (by omega) (fun _ => by omega) fun z2 => ⟨_, h.g7, _, rfl, h.r7 b rfl hb ?_⟩
        rw [e7']
        refine b_le (by omega) (by omega) (fun _ => by omega) fun z3 => ⟨_, h.g3, _, rfl, h.r3 (3 * a + k) (by rw [nI_mul, nI_add]) (by omega) ⟨_, h.g3, _, rfl, h.r3 (3 * b + k) (by rw [nI_mul, nI_add]) (by omega) ?_⟩⟩
        rw [e3 k z2, e3' k z3]
        have b1 := ka.2.2.lt k
        have b2 := kb.2.2.lt k
        rw [← z] at y3
        exact b_le (by omega) (by omega) (fun w => by omega) fun _ => hK18 _ (tv_1 y0).symm
      · refine g_jn0_i (hK18 _ (tv_0 y).symm) fun K20 hK20 => b_le (by omega) (by omega) (fun _ => hK20) fun z2 => ⟨_, h.g7, _, rfl, h.r7 b rfl hb ?_⟩
        rw [e7']
        refine b_le (by omega) (by omega) (fun _ => hK20) fun z3 => ⟨_, h.g3, _, rfl, h.r3 (3 * a + k) (by rw [nI_mul, nI_add]) (by omega) ⟨_, h.g3, _, rfl, h.r3 (3 * b + k) (by rw [nI_mul, nI_add]) (by omega) ?_⟩⟩
        rw [e3 k z2, e3' k z3]
        have b1 := ka.2.2.lt k
        have b2 := kb.2.2.lt k
        exact b_le (by omega) (by omega) (fun _ => hK20) fun w => absurd ⟨by omega, by omega, by rw [← z]; exact w⟩ y
    · rw [e7']
      refine b_le (by omega) (by omega) (fun _ => hK10) fun z3 => ⟨_, h.g3, _, rfl, h.r3 (3 * a + k) (by rw [nI_mul, nI_add]) (by omega) ⟨_, h.g3, _, rfl, h.r3 (3 * b + k) (by rw [nI_mul, nI_add]) (by omega) ?_⟩⟩
      rw [e3 k z2, e3' k z3]
      have ne := lcp_ne (a := cs a) (b := cs b) (by omega) (by omega)
      rw [← z] at ne
      have b1 := ka.2.2.lt k
      have b2 := kb.2.2.lt k
      exact b_ne (by omega) (by omega) (fun e => absurd e ne) fun _ => hK10
  · have hlt : k < lcp (cs a) (cs b) := by omega
    show _ ∧ _
    refine b_le (by omega) (by omega) (fun _ => by omega) fun z2 => ⟨_, h.g7, _, rfl, h.r7 b rfl hb ?_⟩
    rw [e7']
    refine b_le (by omega) (by omega) (fun _ => by omega) fun z3 => ⟨_, h.g3, _, rfl, h.r3 (3 * a + k) (by rw [nI_mul, nI_add]) (by omega) ⟨_, h.g3, _, rfl, h.r3 (3 * b + k) (by rw [nI_mul, nI_add]) (by omega) ?_⟩⟩
    rw [e3 k z2, e3' k z3, lcp_eq hlt]
    exact ⟨fun y => absurd rfl y, fun _ => hK _ _ ⟨k + 1, nI_add k 1, hlt, rfl⟩ (by omega)⟩
/-- orderly -/
abbrev OR (cs : Nat → List Nat) : Prop := ∀ b, b < 6 → ∀ a, a < b → AH (cs a) (cs b)
theorem ct_mareOrderly (h : MS st0 st m c ln mn A W) (hR : MR t us cs A) (hq : Q (tv (OR cs)) st) : wp_X2_areOrderly l E 0 0 [va_rf (some m)] st Q := by
  refine wk_X2_areOrderly ?_
  refine g_lp1_m (fun mm x => ∃ b, x = nI b ∧ b ≤ 6 ∧ (∀ b', b' < b → ∀ a, a < b' → AH (cs a) (cs b')) ∧ mm = 100 - b) ?_ ⟨0, rfl, Nat.zero_le _, fun b' hb' => absurd hb' (Nat.not_lt_zero _), rfl⟩
  rintro mm x K ⟨b, rfl, hb, hI, rfl⟩ hK
  refine b_le (by omega) (by omega) (fun z => ?_) fun z => ?_
  · rw [tv_1 (p := OR cs) fun b' h1 a h2 => hI b' (by omega) a h2] at hq
    exact hq
  · refine g_lp1_m (fun mm x => ∃ a, x = nI a ∧ a ≤ b ∧ (∀ a', a' < a → AH (cs a') (cs b)) ∧ mm = 100 - a) ?_ ⟨0, rfl, Nat.zero_le _, fun b' hb' => absurd hb' (Nat.not_lt_zero _), rfl⟩
    rintro mm x K2 ⟨a, rfl, ha, hI2, rfl⟩ hK2
    refine b_le (by omega) (by omega) (fun y => hK _ _ ⟨b + 1, nI_add b 1, z, fun b' h1 a' h2 => ?_, rfl⟩ (by omega)) fun y => ⟨h.is, ct_misAhead h hR (by omega) z ⟨rfl, b_vt (fun w => hK2 _ _ ⟨a + 1, nI_add a 1, y, fun a' h1 => ?_, rfl⟩ (by omega)) fun w => ?_⟩⟩
    · by_cases q : b' = b
      · rw [q]
        exact hI2 a' (by omega)
      · exact hI b' (by omega) a' h2
    · by_cases q : a' = a
      · rw [q]
        exact w
      · exact hI2 a' (by omega)
    · rw [tv_0 (p := OR cs) fun v => w (v b z a y)] at hq
      exact hq
/-- the code that stands there -/
theorem ct_mcodeAt {f : Nat} (h : MS st0 st m c (nI t.length) mn A W) (hR : MR t us cs A) (hf : f ≤ t.length) (hq1 : ∀ j, j < 6 → lcp (cs j) (t.drop f) = (cs j).length → (∀ i, i < j → lcp (cs i) (t.drop f) ≠ (cs i).length) → Q (nI j) st) (hq0 : (∀ j, j < 6 → lcp (cs j) (t.drop f) ≠ (cs j).length) → Q (-1) st) : wp_X2_codeAt l E 0 0 [va_rf (some m), .int (nI f)] st Q := by
  obtain ⟨hT, -, hC, r1, -, r3⟩ := hR
  have hT1 := hT.1
  refine wk_X2_codeAt ?_
  refine g_lp1_m (fun mm x => ∃ j, x = nI j ∧ j ≤ 6 ∧ (∀ i, i < j → lcp (cs i) (t.drop f) ≠ (cs i).length) ∧ mm = 100 - j) ?_ ⟨0, rfl, Nat.zero_le _, fun i hi => absurd hi (Nat.not_lt_zero _), rfl⟩
  rintro mm x K ⟨j, rfl, hj, hI, rfl⟩ hK
  refine b_le (by omega) (by omega) (fun z => hq0 fun i hi => hI i (by omega)) fun z => ?_
  have kj := hC j z
  obtain ⟨e7, e3⟩ := r3 j z
  have l1 := lcp_le1 (cs j) (t.drop f)
  have l2 := lcp_le2 (cs j) (t.drop f)
  have hdl : (t.drop f).length = t.length - f := List.length_drop
  refine g_lp1_m (fun mm x => ∃ k, x = nI k ∧ k ≤ lcp (cs j) (t.drop f) ∧ mm = 100 - k) ?_ ⟨0, rfl, Nat.zero_le _, rfl⟩
  rintro mm x K7 ⟨k, rfl, hk, rfl⟩ hK7
  refine ⟨_, h.g7, _, rfl, h.r7 j rfl z ?_⟩
  rw [e7]
  by_cases y : k = lcp (cs j) (t.drop f)
  · refine g_jn0_i ⟨_, h.g7, _, rfl, h.r7 j rfl z ?_⟩ fun K15 hK15 => b_le (by omega) (by omega) (fun _ => hK15) fun z2 => ⟨_, h.gL, ?_⟩
    · rw [e7]
      refine b_ne (by omega) (by omega) (fun w => hq1 j z (by omega) hI) fun w => hK _ _ ⟨j + 1, nI_add j 1, z, fun i hi => ?_, rfl⟩ (by omega)
      by_cases q : i = j
      · rw [q]; omega
      · exact hI i (by omega)
    · rw [nI_add]
      refine b_le (by omega) (by omega) (fun _ => hK15) fun z3 => ⟨_, h.g3, _, rfl, h.r3 (3 * j + k) (by rw [nI_mul, nI_add]) (by omega) ⟨_, h.g1, _, rfl, h.r1 (f + k) rfl (by omega) ?_⟩⟩
      rw [e3 k z2, r1 _ z3]
      have ne := lcp_ne (a := cs j) (b := t.drop f) (by omega) (by omega)
      rw [← y, drop_get] at ne
      have b1 := kj.2.2.lt k
      have b2 := hT.2.lt (f + k)
      exact b_ne (by omega) (by omega) (fun e => absurd e ne) fun _ => hK15
  · have hlt : k < lcp (cs j) (t.drop f) := by omega
    show _ ∧ _
    refine b_le (by omega) (by omega) (fun _ => by omega) fun z2 => ⟨_, h.gL, ?_⟩
    rw [nI_add]
    refine b_le (by omega) (by omega) (fun _ => by omega) fun z3 => ⟨_, h.g3, _, rfl, h.r3 (3 * j + k) (by rw [nI_mul, nI_add]) (by omega) ⟨_, h.g1, _, rfl, h.r1 (f + k) rfl (by omega) ?_⟩⟩
    rw [e3 k z2, r1 _ z3]
    have eq := lcp_eq hlt
    rw [drop_get] at eq
    rw [eq]
    exact ⟨fun y => absurd rfl y, fun _ => hK7 _ _ ⟨k + 1, nI_add k 1, hlt, rfl⟩ (by omega)⟩
/-- the first code that the row begins with (6: none) -/
def cF (cs : Nat → List Nat) (s : List Nat) : Nat → Nat
  | 0 => 6
  | n + 1 => if lcp (cs (5 - n)) s = (cs (5 - n)).length then 5 - n else cF cs s n
theorem cF_1 {s : List Nat} {j : Nat} (hj : j < 6) (h1 : lcp (cs j) s = (cs j).length) (h0 : ∀ i, i < j → lcp (cs i) s ≠ (cs i).length) : cF cs s 6 = j := by
  have key : ∀ n, 6 - n ≤ j → n ≤ 6 → cF cs s n = j := by
    intro n
    induction n with
    | zero => intro h _; omega
    | succ n ih =>
      intro h1' h2
      show (if _ then _ else _) = _
      by_cases q : 5 - n = j
      · rw [q, if_pos h1]
      · rw [if_neg (h0 (5 - n) (by omega)), ih (by omega) (by omega)]
  exact key 6 (by omega) (Nat.le_refl _)
theorem cF_0 {s : List Nat} (h0 : ∀ i, i < 6 → lcp (cs i) s ≠ (cs i).length) : cF cs s 6 = 6 := by
  have key : ∀ n, n ≤ 6 → cF cs s n = 6 := by
    intro n
    induction n with
    | zero => intro _; rfl
    | succ n ih =>
      intro h2
      show (if _ then _ else _) = _
      rw [if_neg (h0 (5 - n) (by omega)), ih (by omega)]
  exact key 6 (Nat.le_refl _)
theorem ct_mcodeF {f : Nat} (h : MS st0 st m c (nI t.length) mn A W) (hR : MR t us cs A) (hf : f ≤ t.length) (hq : cF cs (t.drop f) 6 ≤ 6 → (cF cs (t.drop f) 6 < 6 → lcp (cs (cF cs (t.drop f) 6)) (t.drop f) = (cs (cF cs (t.drop f) 6)).length) → Q (if cF cs (t.drop f) 6 < 6 then nI (cF cs (t.drop f) 6) else -1) st) : wp_X2_codeAt l E 0 0 [va_rf (some m), .int (nI f)] st Q := by
  refine ct_mcodeAt h hR hf (fun j hj h1 h0 => ?_) fun h0 => ?_
  · rw [cF_1 hj h1 h0, if_pos hj] at hq
    exact hq (by omega) fun _ => h1
  · rw [cF_0 h0] at hq
    exact hq (Nat.le_refl _) fun w => absurd w (by decide)
/-- how far it has been read, what was read -/
def rS (cs : Nat → List Nat) (t : List Nat) : Nat → Nat × List Nat
  | 0 => (0, [])
  | i + 1 => if cF cs (t.drop (rS cs t i).1) 6 < 6 then ((rS cs t i).1 + (cs (cF cs (t.drop (rS cs t i).1) 6)).length, (rS cs t i).2 ++ [97 + cF cs (t.drop (rS cs t i).1) 6]) else rS cs t i
theorem rS_s (i : Nat) : rS cs t (i + 1) = if cF cs (t.drop (rS cs t i).1) 6 < 6 then ((rS cs t i).1 + (cs (cF cs (t.drop (rS cs t i).1) 6)).length, (rS cs t i).2 ++ [97 + cF cs (t.drop (rS cs t i).1) 6]) else rS cs t i := rfl
theorem rS_end {i : Nat} (h : ¬ cF cs (t.drop (rS cs t i).1) 6 < 6) (hi : i ≤ 25) : rS cs t 25 = rS cs t i := by
  have key : ∀ k, rS cs t (i + k) = rS cs t i := by
    intro k
    induction k with
    | zero => rfl
    | succ k ih => rw [← Nat.add_assoc, rS_s, ih, if_neg h]
  have := key (25 - i)
  rw [show i + (25 - i) = 25 by omega] at this
  exact this
def sp_read (t : List Nat) (ws : wL) (cs : Nat → List Nat) : sR := if ¬ OR cs then (1, nI 0, t, ws, cs) else if (rS cs t 25).1 < t.length then (2, nI 0, t, ws, cs) else (0, nI (rS cs t 25).2.length, (rS cs t 25).2, ws, cs)
theorem nar_sg : ∀ j : Nat, j < 6 → vp_nar .char ((nI 97 + nI j).toUInt32 % 65536).toInt32 = nI (97 + j) := by decide +kernel
theorem cF_nil (hC : okC cs) : cF cs [] 6 = 6 := cF_0 fun i hi => by
  rw [lcp_nil]
  have := hC i hi
  omega
theorem ct_mread (h : MP st st m k0 t ws cs) (hq : mok st m Q (sp_read t ws cs)) : wp_X2_read l E 0 0 [va_rf (some m)] st Q := by
  obtain ⟨us, A, W, hp, h, hR⟩ := h
  have hT := hR.1
  have hT1 := hT.1
  have hC := hR.2.2.1
  unfold sp_read at hq
  refine wk_X2_read ?_
  refine g_lp3_m (fun mm x y s => ∃ (k : Nat) (A' : Nat → Nat → Int32), x = nI (rS cs t k).1 ∧ y = nI k ∧ (rS cs t k).2.length = k ∧ k ≤ (rS cs t k).1 ∧ (rS cs t k).1 ≤ t.length ∧ sgs (rS cs t k).2 ∧ MS st s m (nI k0) (nI t.length) (nI us.length) A' W ∧ (∀ q, q ≠ 4 → A' q = A q) ∧ MD (rS cs t k).2 A' ∧ mm = 100 - k) ?_ ⟨0, A, rfl, rfl, rfl, Nat.le_refl _, Nat.zero_le _, fun x hx => absurd hx List.not_mem_nil, h, fun _ _ => rfl, fun i hi => absurd hi (Nat.not_lt_zero _), rfl⟩
  rintro mm x y s K ⟨k, A', rfl, rfl, hk, hk2, hkt, hsg, hS, hA, hM, rfl⟩ hK
  have hR2 : MR t us cs A' := hR.cg (hA 1 (by decide)) (hA 2 (by decide)) (hA 3 (by decide)) (hA 5 (by decide)) (hA 6 (by decide)) (hA 7 (by decide))
  refine ⟨_, hS.gL, ?_⟩
  have fin : ¬ cF cs (t.drop (rS cs t k).1) 6 < 6 → wp_X2_areOrderly l E 0 0 [va_rf (some m)] s (fun x10 stx => stx = s ∧ g_jn1 (fun (K12 : Int32 → Prop) => (¬ x10 = 0 → ∃ x41, g_gi s m 16 8 x41 ∧ (x41 ≤ nI (rS cs t k).1 → K12 (nI 0)) ∧ (¬ x41 ≤ nI (rS cs t k).1 → K12 (nI 2))) ∧ (x10 = 0 → K12 (nI 1))) (fun (x11 : Int32) => g_is s m 16 ∧ wp_X2_fails l E 0 0 [va_rf (some m), .int x11] s (fun x14 st15 => g_Ext s st15 → (x14 = 0 → ∃ fs17 : List Value, st15.2.1 m = some (.inr (16, fs17)) ∧ ∀ st18 : g_St, st18 = g_put st15 m (.inr (16, fs17.set 8 (.int (nI k)))) → g_lp2 (fun (K21 : Int32 → g_St → Prop) (x19 : Int32) (st20 : g_St) => (nI k ≤ x19 → ∃ x25, g_gi st20 m 16 8 x25 ∧ Q x25 st20) ∧ (¬ nI k ≤ x19 → ∃ o26, g_gr st20 m 16 1 o26 ∧ ∃ o27, g_gr st20 m 16 4 o27 ∧ ∃ a28 : Nat, o27 = some a28 ∧ ∃ (n29 : Nat) (f30 : Nat → Int32) (j31 : Nat), g_ai st20 a28 2 n29 f30 ∧ x19 = nI j31 ∧ j31 < n29 ∧ j31 < 2 ^ 31 ∧ ∃ a32 : Nat, o26 = some a32 ∧ ∃ (n33 : Nat) (f34 : Nat → Int32) (j35 : Nat), st20.2.1 a32 = some (.inl (2, n33, .inl (f34))) ∧ x19 = nI j35 ∧ j35 < n33 ∧ j35 < 2 ^ 31 ∧ ∀ st36 : g_St, st36 = g_put st20 a32 (.inl (2, n33, .inl (va_up f34 j35 (vp_nar .char (f30 j31))))) → K21 (x19 + (nI 1)) st36)) (nI 0) st18) ∧ (¬ x14 = 0 → Q (nI 0) st15)))) := fun ne => by
    have e25 := rS_end ne (by omega)
    rw [e25] at hq
    refine ct_mareOrderly hS hR2 ⟨rfl, ?_⟩
    refine g_jn1_i (fun x => x = nI (if ¬ OR cs then 1 else if (rS cs t k).1 < t.length then 2 else 0)) (fun x11 e11 => ?_) fun K12 hK12 => b_vt (fun w => ⟨_, hS.gL, b_le (by omega) (by omega) (fun v => hK12 _ ?_) fun v => hK12 _ ?_⟩) fun w => hK12 _ ?_
    · rw [e11]
      by_cases w : OR cs
      · rw [if_neg (fun q => q w)] at hq ⊢
        by_cases v : (rS cs t k).1 < t.length
        · rw [if_pos v] at hq ⊢
          exact ⟨hS.is, ct_mfails hS (by omega) fun s1 h1 _ => b_tv (fun _ => hq s1 ⟨us, A', W, hp, h1, hR2⟩) fun q => absurd (by omega) q⟩
        · rw [if_neg v, hk] at hq
          rw [if_neg v]
          refine ⟨hS.is, ct_mfails hS (by omega) fun s1 h1 _ => b_tv (fun q => absurd q (by omega)) fun _ => h1.pL _ fun s2 h2 => ?_⟩
          refine g_lp2_m (fun mm x s => ∃ (i : Nat) (A2 : Nat → Nat → Int32), x = nI i ∧ i ≤ k ∧ MS st s m (nI 0) (nI k) (nI us.length) A2 W ∧ (∀ q, q ≠ 1 → A2 q = A' q) ∧ (∀ j, j < i → A2 1 j = nI ((rS cs t k).2.getD j 0)) ∧ mm = 100 - i) ?_ ⟨0, A', rfl, Nat.zero_le _, h2, fun _ _ => rfl, fun i hi => absurd hi (Nat.not_lt_zero _), rfl⟩
          rintro mm x s3 K19 ⟨i, A2, rfl, hi, h3, hA2, hA1, rfl⟩ hK19
          refine b_le (by omega) (by omega) (fun v => ⟨_, h3.gL, ?_⟩) fun v => ⟨_, h3.g1, _, h3.g4, _, rfl, h3.r4 i rfl (by omega) ⟨_, rfl, h3.w1 i rfl (by omega) fun s4 h4 => hK19 _ _ _ ⟨i + 1, _, nI_add i 1, v, h4, fun q q1 => by rw [t_up_n q1]; exact hA2 q q1, fun j hj => ?_, rfl⟩ (by omega)⟩⟩
          · have ei : i = k := by omega
            rw [ei] at hA1
            refine hq s3 ⟨us, A2, W, hp, by rw [hk]; exact h3, hR2.txt1 (u := (rS cs t k).2) ⟨by omega, hsg⟩ (fun j hj => hA1 j (by omega)) fun q q1 _ _ _ => hA2 q q1⟩
          · have b1 := hsg.lt i
            rw [t_up_s, hA2 4 (by decide), hM i (by omega), mch _ (by omega)]
            by_cases q : j = i
            · rw [q, va_up_self]
            · rw [va_up_ne _ _ q]
              exact hA1 j (by omega)
      · rw [if_pos w] at hq ⊢
        exact ⟨hS.is, ct_mfails hS (by omega) fun s1 h1 _ => b_tv (fun _ => hq s1 ⟨us, A', W, hp, h1, hR2⟩) fun q => absurd (by omega) q⟩
    · rw [if_neg (fun q => q w), if_neg (by omega)]
    · rw [if_neg (fun q => q w), if_pos v]
    · rw [if_pos w]
  by_cases z : cF cs (t.drop (rS cs t k).1) 6 < 6
  · show _ ∧ _
    have hlt : (rS cs t k).1 < t.length := by
      by_cases q : (rS cs t k).1 < t.length
      · exact q
      · rw [List.drop_eq_nil_of_le (by omega), cF_nil hC] at z
        omega
    refine b_le (by omega) (by omega) (fun w => by omega) fun _ => ⟨hS.is, ct_mcodeF hS hR2 hkt fun z1 z2 => ⟨rfl, ?_⟩⟩
    have z2 := z2 z
    have l2 := lcp_le2 (cs (cF cs (t.drop (rS cs t k).1) 6)) (t.drop (rS cs t k).1)
    rw [List.length_drop] at l2
    have kc := hC _ z
    have e1 : rS cs t (k + 1) = ((rS cs t k).1 + (cs (cF cs (t.drop (rS cs t k).1) 6)).length, (rS cs t k).2 ++ [97 + cF cs (t.drop (rS cs t k).1) 6]) := by rw [rS_s, if_pos z]
    rw [if_pos z]
    refine ⟨fun w => ?_, fun _ => ⟨hS.is, ct_mcodeF hS hR2 hkt fun _ _ => ⟨rfl, _, hS.g4, _, rfl, hS.w4 k rfl (by omega) fun s2 h2 => ⟨_, h2.g7, _, rfl, h2.r7 (cF cs (t.drop (rS cs t k).1) 6) (by rw [if_pos z]) z ?_⟩⟩⟩⟩
    · have := (nI_ltI (b := 0) (by omega) (by omega)).mp w
      omega
    · rw [t_up_n (by decide), (hR2.2.2.2.2.2 _ z).1, nI_add, nI_add]
      rw [if_pos z, nar_sg _ z] at h2
      refine hK _ _ _ _ ⟨k + 1, _, by rw [e1], rfl, ?_, ?_, ?_, ?_, h2, fun q q1 => by rw [t_up_n q1]; exact hA q q1, ?_, rfl⟩ (by omega)
      · rw [e1]
        show ((rS cs t k).2 ++ [_]).length = _
        rw [List.length_append, hk]
        rfl
      · rw [e1]
        show _ ≤ (rS cs t k).1 + _
        omega
      · rw [e1]
        show (rS cs t k).1 + _ ≤ _
        omega
      · rw [e1]
        exact hsg.app (sgs.one ⟨by omega, by omega⟩)
      · rw [e1]
        intro i hi
        show t_up A' 4 (va_up (A' 4) k (nI (97 + cF cs (t.drop (rS cs t k).1) 6))) 4 i = nI (((rS cs t k).2 ++ [97 + cF cs (t.drop (rS cs t k).1) 6]).getD i 0)
        have hi : i < ((rS cs t k).2 ++ [97 + cF cs (t.drop (rS cs t k).1) 6]).length := hi
        rw [List.length_append, hk] at hi
        have hi : i < k + 1 := hi
        rw [t_up_s, app_get, hk]
        by_cases q : i = k
        · rw [q, va_up_self, if_neg (Nat.lt_irrefl _), Nat.sub_self]
          rfl
        · rw [va_up_ne _ _ q, if_pos (by omega)]
          exact hM i (by omega)
  · refine g_jn0_i ⟨hS.is, fin z⟩ fun K8 hK8 => b_le (by omega) (by omega) (fun _ => hK8) fun w => ⟨hS.is, ct_mcodeF hS hR2 hkt fun z1 z2 => ⟨rfl, ?_⟩⟩
    rw [if_neg z]
    exact ⟨fun _ => hK8, fun w => absurd (by decide) w⟩
end GMD13
