/-! MODEL 4: the model against sorted words; the specification of the text's operations -/
section GMD4
variable {us ws : wL} {t : List Nat} {cs : Nat → List Nat}
theorem cnt_cL {ws : wL} (hs : Sd ws) : cnt t ws = cL ws t := by
  induction ws with
  | nil => rfl
  | cons w ws ih =>
    obtain ⟨h1, h2⟩ := List.pairwise_cons.mp hs
    rw [cnt_c, ih h2]
    show _ = (if w.1 < t then cL ws t + 1 else 0)
    by_cases z : w.1 < t
    · rw [if_pos z, if_pos z]
    · rw [if_neg z, if_neg z]
      have : cL ws t = 0 := by
        cases ws with
        | nil => rfl
        | cons v vs =>
          show (if v.1 < t then _ else 0) = 0
          rw [if_neg]
          intro y
          exact z (ll_tr (h1 v List.mem_cons_self) y)
      omega
theorem cnt_pm (hp : us.Perm ws) : cnt t us = cnt t ws := hp.countP_eq _
theorem kv_mem {i : Nat} (h : i < ws.length) : (kk ws i, vv ws i) ∈ ws := by
  obtain ⟨w, hw, e1, e2⟩ := kk_mem h
  rw [← e1, ← e2]
  exact hw
theorem mem_kv {y : List Nat × Nat} (h : y ∈ ws) : ∃ i, i < ws.length ∧ kk ws i = y.1 ∧ vv ws i = y.2 := by
  obtain ⟨i, hi, e⟩ := List.getElem_of_mem h
  refine ⟨i, hi, ?_, ?_⟩
  · rw [kk_q, List.getElem?_eq_getElem hi, ← e]
    rfl
  · rw [vv_q, List.getElem?_eq_getElem hi, ← e]
    rfl
theorem Pos.at (hs : Sd ws) {i : Nat} (hi : i < ws.length) : cL ws (kk ws i) = i ∧ dL ws (kk ws i) = i + 1 := by
  have hp := Pos.of hs (kk ws i)
  have := (hp.2.2.2 i hi).2.mp rfl
  have := hp.2.1
  omega
theorem pm_1 (hp : us.Perm ws) (hs : Sd ws) {w : Nat} (hw : w < us.length) : cL ws (kk us w) < ws.length ∧ cL ws (kk us w) < dL ws (kk us w) ∧ kk ws (cL ws (kk us w)) = kk us w ∧ vv ws (cL ws (kk us w)) = vv us w := by
  obtain ⟨i, hi, e1, e2⟩ := mem_kv (hp.mem_iff.mp (kv_mem hw))
  have e1 : kk ws i = kk us w := e1
  have k := Pos.at hs hi
  rw [e1] at k
  rw [k.1, k.2]
  exact ⟨hi, by omega, e1, e2⟩
theorem pm_2 (hp : us.Perm ws) {i : Nat} (hi : i < ws.length) : ∃ w, w < us.length ∧ kk us w = kk ws i ∧ vv us w = vv ws i := mem_kv (hp.mem_iff.mpr (kv_mem hi))
theorem sd_nd (hs : Sd ws) : (ws.map Prod.fst).Nodup := by
  unfold List.Nodup
  rw [List.pairwise_map]
  exact hs.imp fun h e => by rw [e] at h; exact ll_irr _ h
theorem kk_map {i : Nat} (h : i < ws.length) : (ws.map Prod.fst)[i]'(by rw [List.length_map]; exact h) = kk ws i := by
  rw [List.getElem_map, kk_q, List.getElem?_eq_getElem h]
  rfl
theorem pm_dis (hp : us.Perm ws) (hs : Sd ws) : dis us := by
  have hn : (us.map Prod.fst).Nodup := (hp.map Prod.fst).nodup_iff.mpr (sd_nd hs)
  intro a b ha hb e
  rw [← kk_map ha, ← kk_map hb] at e
  exact (List.getElem_inj hn).mp e
theorem fnd (hs : Sd ws) : cL ws t < dL ws t ↔ ∃ i, i < ws.length ∧ kk ws i = t := by
  have hp := Pos.of hs t
  constructor
  · intro h
    have hi : cL ws t < ws.length := by have := hp.2.2.1; omega
    exact ⟨_, hi, ((hp.2.2.2 _ hi).2.mpr ⟨Nat.le_refl _, h⟩).symm⟩
  · rintro ⟨i, hi, e⟩
    have := (hp.2.2.2 i hi).2.mp e.symm
    omega
variable {l : Launch} {E : g_E} {st0 st : g_St} {m : Nat} {c ln mn : Int32} {A : Nat → Nat → Int32} {W : Nat → Int64}
/-- since st nothing but the model has changed; it stands for t, ws, cs; its code is k -/
def MP (st st' : g_St) (m k : Nat) (t : List Nat) (ws : wL) (cs : Nat → List Nat) : Prop := ∃ (us : wL) (A : Nat → Nat → Int32) (W : Nat → Int64), us.Perm ws ∧ MS st st' m (nI k) (nI t.length) (nI us.length) A W ∧ MR t us cs A
abbrev sR : Type := Nat × Int32 × List Nat × wL × (Nat → List Nat)
def sgn (c : Nat) : Prop := 97 ≤ c ∧ c ≤ 102
theorem sgn_tv {c : Nat} (hc : c < 65536) : ¬ (nI c < nI 97 ∨ nI 102 < nI c) ↔ 97 ≤ c ∧ c ≤ 102 := by
  rw [nI_ltI (by omega) (by omega), nI_ltI (by omega) (by omega)]
  omega
def sp_type (c : Nat) (t : List Nat) (ws : wL) (cs : Nat → List Nat) : sR := if ¬ (97 ≤ c ∧ c ≤ 102) then (1, nI 0, t, ws, cs) else if t.length = 24 then (2, nI 0, t, ws, cs) else (0, nI (t.length + 1), t ++ [c], ws, cs)
theorem app_get {t u : List Nat} {j : Nat} : (t ++ u).getD j 0 = if j < t.length then t.getD j 0 else u.getD (j - t.length) 0 := by
  rw [List.getD_eq_getElem?_getD]
  split
  · rw [List.getElem?_append_left (by assumption), List.getD_eq_getElem?_getD]
  · rw [List.getElem?_append_right (by omega), List.getD_eq_getElem?_getD]
theorem sgs.app {u : List Nat} (h1 : sgs t) (h2 : sgs u) : sgs (t ++ u) := fun c hc => (List.mem_append.mp hc).elim (h1 c) (h2 c)
theorem sgs.one {c : Nat} (h : 97 ≤ c ∧ c ≤ 102) : sgs [c] := fun d hd => by rw [List.mem_singleton.mp hd]; exact h
theorem MR.txt {u : List Nat} {f : Nat → Int32} (h : MR t us cs A) (hu : okT u) (hf : ∀ j, j < u.length → f j = nI (u.getD j 0)) : MR u us cs (t_up A 1 f) := by
  obtain ⟨hT, hW, hC, r1, r2, r3⟩ := h
  refine ⟨hu, hW, hC, by rw [t_up_s]; exact hf, ?_, ?_⟩
  · rw [t_up_n (by decide), t_up_n (by decide), t_up_n (by decide)]
    exact r2
  · rw [t_up_n (by decide), t_up_n (by decide)]
    exact r3
theorem ct_mtype {c k0 : Nat} {Q : Int32 → g_St → Prop} (h : MP st st m k0 t ws cs) (hc : c < 65536) (hq : ∀ st' : g_St, MP st st' m (sp_type c t ws cs).1 (sp_type c t ws cs).2.2.1 (sp_type c t ws cs).2.2.2.1 (sp_type c t ws cs).2.2.2.2 → Q (sp_type c t ws cs).2.1 st') : wp_X2_type l E 0 0 [va_rf (some m), .int (nI c)] st Q := by
  obtain ⟨us, A, W, hp, h, hR⟩ := h
  have hT := hR.1
  have hT1 := hT.1
  unfold sp_type at hq
  refine wk_X2_type (ct_misSign ⟨rfl, ?_⟩)
  rw [tv_cg (sgn_tv hc)]
  by_cases z : 97 ≤ c ∧ c ≤ 102
  · rw [if_neg (fun w => w z)] at hq
    rw [tv_1 z]
    by_cases y : t.length = 24
    · rw [if_pos y] at hq
      show _ ∧ _
      refine ⟨fun _ => ⟨_, h.gL, b_ne (by omega) (by omega) (fun _ => ?_) fun w => absurd y w⟩, fun w => absurd w (by decide)⟩
      exact ⟨h.is, ct_mfails h (by omega) fun s1 h1 _ => b_tv (fun _ => hq s1 ⟨us, A, W, hp, h1, hR⟩) fun w => absurd (by omega) w⟩
    · rw [if_neg y] at hq
      show _ ∧ _
      refine ⟨fun _ => ⟨_, h.gL, b_ne (by omega) (by omega) (fun w => absurd w y) fun _ => ?_⟩, fun w => absurd w (by decide)⟩
      refine ⟨h.is, ct_mfails h (by omega) fun s1 h1 _ => b_tv (fun w => absurd w (by omega)) fun _ => ⟨_, h1.g1, _, h1.gL, _, rfl, h1.w1 t.length rfl (by have := hT.1; omega) fun s2 h2 => ⟨_, h2.gL, h2.pL _ fun s3 h3 => ⟨_, h3.gL, ?_⟩⟩⟩⟩
      rw [nI_add] at h3 ⊢
      have hlen : (t ++ [c]).length = t.length + 1 := by rw [List.length_append]; rfl
      refine hq s3 ⟨us, _, W, hp, by rw [hlen]; exact h3, hR.txt ⟨by rw [hlen]; have := hT.1; omega, hT.2.app (sgs.one z)⟩ fun j hj => ?_⟩
      rw [app_get]
      by_cases w : j < t.length
      · rw [if_pos w, va_up_ne _ _ (by omega)]
        exact hR.2.2.2.1 j w
      · rw [hlen] at hj
        rw [if_neg w, show j = t.length by omega, va_up_self, Nat.sub_self, mch _ (by omega)]
        rfl
  · rw [if_pos z] at hq
    rw [tv_0 z]
    show _ ∧ _
    exact ⟨fun w => absurd (by decide) w, fun _ => ⟨h.is, ct_mfails h (by omega) fun s1 h1 _ => b_tv (fun _ => hq s1 ⟨us, A, W, hp, h1, hR⟩) fun w => absurd (by omega) w⟩⟩
/-- digits in base 6 as signs -/
def dg : Nat → Nat → List Nat
  | 0, _ => []
  | n + 1, r => (97 + r % 6) :: dg n (r / 6)
theorem dg_len (n r : Nat) : (dg n r).length = n := by
  induction n generalizing r with
  | zero => rfl
  | succ n ih =>
    show (dg n (r / 6)).length + 1 = n + 1
    rw [ih]
theorem dg_get {n r j : Nat} (h : j < n) : (dg n r).getD j 0 = 97 + (r / 6 ^ j) % 6 := by
  induction n generalizing r j with
  | zero => omega
  | succ n ih =>
    cases j with
    | zero => show 97 + r % 6 = 97 + r / 6 ^ 0 % 6; rw [Nat.pow_zero, Nat.div_one]
    | succ j =>
      show (dg n (r / 6)).getD j 0 = _
      rw [ih (by omega), Nat.div_div_eq_div_mul, Nat.pow_succ, Nat.mul_comm]
theorem dg_sgs (n r : Nat) : sgs (dg n r) := by
  induction n generalizing r with
  | zero => intro c hc; exact absurd hc List.not_mem_nil
  | succ n ih =>
    intro c hc
    rcases List.mem_cons.mp hc with e | e
    · omega
    · exact ih _ c e
def sp_more (a b : Int32) (t : List Nat) (ws : wL) (cs : Nat → List Nat) : sR := if (a < nI 1 ∨ nI 8 < a) ∨ (b < nI 0 ∨ nI 1679615 < b) then (1, nI 0, t, ws, cs) else if 24 < t.length + a.toNatClampNeg then (2, nI 0, t, ws, cs) else (0, nI (t.length + a.toNatClampNeg), t ++ dg a.toNatClampNeg b.toNatClampNeg, ws, cs)
theorem nI_div6 : ∀ n : Nat, n < 2 ^ 31 → nI n / nI 6 = nI (n / 6) := by
  intro n hn
  have h : (nI n / nI 6).toInt = ((n / 6 : Nat) : Int) := by
    rw [Int32.toInt_div_of_ne_left _ _ (by
      intro e
      have := congrArg Int32.toInt e
      rw [nI_toInt hn, Int32.toInt_minValue] at this
      omega), nI_toInt hn, nI_toInt (by omega)]
    rfl
  have h2 : (nI (n / 6)).toInt = ((n / 6 : Nat) : Int) := nI_toInt (by omega)
  exact Int32.toInt_inj.mp (h.trans h2.symm)
theorem nI_rem6 {n : Nat} (hn : n < 2 ^ 31) : nI n - nI n / nI 6 * nI 6 = nI (n % 6) := by
  rw [nI_div6 n hn, nI_mul, su_sub (by omega)]
  congr 1
  omega
theorem chr_c : ∀ c : Nat, c < 128 → vp_nar .char (((nI c).toUInt32 % 65536).toInt32) = nI c := by decide +kernel
theorem ct_mmore {a b : Int32} {k0 : Nat} {Q : Int32 → g_St → Prop} (h : MP st st m k0 t ws cs) (hq : ∀ st' : g_St, MP st st' m (sp_more a b t ws cs).1 (sp_more a b t ws cs).2.2.1 (sp_more a b t ws cs).2.2.2.1 (sp_more a b t ws cs).2.2.2.2 → Q (sp_more a b t ws cs).2.1 st') : wp_X2_typeMore l E 0 0 [va_rf (some m), .int a, .int b] st Q := by
  obtain ⟨us, A, W, hp, h, hR⟩ := h
  have hT := hR.1
  unfold sp_more at hq
  refine wk_X2_typeMore (ct_min ⟨rfl, ?_⟩)
  have fail : ∀ k : Nat, 0 < k → k < 100 → (∀ s, MP st s m k t ws cs → Q (nI 0) s) → g_is st m 16 ∧ wp_X2_fails l E 0 0 [va_rf (some m), .int (nI k)] st (fun x5 st6 => g_Ext st st6 → (x5 = 0 → g_lp3 (fun (K11 : Int32 → Int32 → g_St → Prop) (x8 : Int32) (x9 : Int32) (st10 : g_St) => (a ≤ x9 → ∃ x15 : Int32, g_gi st10 m 16 8 x15 ∧ Q x15 st10) ∧ (¬ a ≤ x9 → ∃ o16 : Option Nat, g_gr st10 m 16 1 o16 ∧ ∃ x17 : Int32, g_gi st10 m 16 8 x17 ∧ ∃ a18 : Nat, o16 = some a18 ∧ ∃ (n19 : Nat) (f20 : Nat → Int32) (j21 : Nat), st10.2.1 a18 = some (.inl (2, n19, .inl (f20))) ∧ x17 = nI j21 ∧ j21 < n19 ∧ j21 < 2 ^ 31 ∧ ∀ st22 : g_St, st22 = g_put st10 a18 (.inl (2, n19, .inl (va_up f20 j21 (vp_nar .char (((((nI 97) + (x8 - x8 / (nI 6) * (nI 6)))).toUInt32 % 65536).toInt32))))) → ∃ x23 : Int32, g_gi st22 m 16 8 x23 ∧ ∃ fs24 : List Value, st22.2.1 m = some (.inr (16, fs24)) ∧ ∀ st25 : g_St, st25 = g_put st22 m (.inr (16, fs24.set 8 (.int (x23 + (nI 1))))) → K11 (x8 / (nI 6)) (x9 + (nI 1)) st25)) b (nI 0) st6) ∧ (¬ x5 = 0 → Q (nI 0) st6)) := fun k hk hk2 hf => ⟨h.is, ct_mfails h hk2 fun s1 h1 _ => b_tv (fun _ => hf s1 ⟨us, A, W, hp, h1, hR⟩) fun w => absurd hk w⟩
  by_cases z1 : a < nI 1 ∨ nI 8 < a
  · rw [if_pos (Or.inl z1)] at hq
    rw [tv_0 (fun w => w z1)]
    exact g_jn0_i (fail 1 (by omega) (by omega) hq) fun K29 hK29 => ⟨fun _ => hK29, fun w => absurd (by decide) w⟩
  · rw [tv_1 z1]
    by_cases z2 : b < nI 0 ∨ nI 1679615 < b
    · rw [if_pos (Or.inr z2)] at hq
      exact g_jn0_i (fail 1 (by omega) (by omega) hq) fun K29 hK29 => ⟨fun _ => hK29, fun w => ct_min ⟨rfl, by rw [tv_0 (fun w => w z2)]; exact ⟨fun w => absurd (by decide) w, fun _ => hK29⟩⟩⟩
    · rw [if_neg (fun w => w.elim z1 z2)] at hq
      obtain ⟨r, hr, rfl⟩ := i_in (fun w => z2 (Or.inl w)) (fun w => z2 (Or.inr w)) (by omega)
      obtain ⟨n, hn, rfl⟩ := i_in (x := a) (n := 8) (fun w => z1 (Or.inl (by
        rw [Int32.lt_iff_toInt_lt] at w ⊢
        rw [nI_toInt (by omega)] at w ⊢
        omega))) (fun w => z1 (Or.inr w)) (by omega)
      have hn1 : 1 ≤ n := by
        rcases Nat.lt_or_ge n 1 with w | w
        · exact absurd (Or.inl (nI_lt w (by omega))) z1
        · exact w
      rw [nI_clamp (by omega), nI_clamp (by omega)] at hq
      have hT1 := hT.1
      show _ ∧ _
      refine ⟨fun w => absurd w (by decide), fun _ => ct_min ⟨rfl, ?_⟩⟩
      rw [tv_1 z2]
      refine ⟨fun _ => ⟨_, h.gL, ?_⟩, fun w => absurd w (by decide)⟩
      rw [nI_add]
      by_cases z3 : 24 < t.length + n
      · rw [if_pos z3] at hq
        exact b_le (by omega) (by omega) (fun w => by omega) fun _ => fail 2 (by omega) (by omega) hq
      · rw [if_neg z3] at hq
        refine b_le (by omega) (by omega) (fun _ => ⟨h.is, ct_mfails h (by omega) fun s1 h1 _ => b_tv (fun w => absurd w (by omega)) fun _ => ?_⟩) fun w => by omega
        refine g_lp3_m (fun mm x y s => ∃ k A', x = nI (r / 6 ^ k) ∧ y = nI k ∧ k ≤ n ∧ MS st s m (nI 0) (nI (t.length + k)) (nI us.length) A' W ∧ (∀ j, j < t.length + k → A' 1 j = nI ((t ++ dg n r).getD j 0)) ∧ (∀ q, q ≠ 1 → A' q = A q) ∧ mm = 100 - k) ?_ ⟨0, A, by rw [Nat.pow_zero, Nat.div_one], rfl, Nat.zero_le _, h1, fun j hj => ?_, fun _ _ => rfl, rfl⟩
        rotate_left
        · rw [app_get, if_pos (by omega)]
          exact hR.2.2.2.1 j (by omega)
        rintro mm x y s K ⟨k, A', rfl, rfl, hk, hS, hA1, hA, rfl⟩ hK
        have hlen : (t ++ dg n r).length = t.length + n := by rw [List.length_append, dg_len]
        refine b_le (by omega) (by omega) (fun w => ⟨_, hS.gL, ?_⟩) fun w => ⟨_, hS.g1, _, hS.gL, _, rfl, ?_⟩
        · have e : k = n := by omega
          subst e
          refine hq s ⟨us, A', W, hp, by rw [hlen]; exact hS, ⟨by rw [hlen]; omega, hT.2.app (dg_sgs _ _)⟩, hR.2.1, hR.2.2.1, fun j hj => hA1 j (by rw [hlen] at hj; exact hj), ?_, ?_⟩
          · rw [hA 5 (by decide), hA 6 (by decide), hA 2 (by decide)]
            exact hR.2.2.2.2.1
          · rw [hA 7 (by decide), hA 3 (by decide)]
            exact hR.2.2.2.2.2
        · have hd : r / 6 ^ k < 2 ^ 31 := by
            have := Nat.div_le_self r (6 ^ k)
            omega
          rw [nI_rem6 hd, nI_add, chr_c _ (by omega)]
          refine hS.w1 (t.length + k) rfl (by omega) fun s2 h2 => ⟨_, h2.gL, h2.pL _ fun s3 h3 => hK _ _ _ _ ⟨k + 1, _, ?_, nI_add k 1, by omega, by rw [nI_add] at h3; exact h3, fun j hj => ?_, fun q hq => by rw [t_up_n hq]; exact hA q hq, rfl⟩ (by omega)⟩
          · rw [nI_div6 _ hd, Nat.div_div_eq_div_mul, Nat.pow_succ]
          · rw [t_up_s]
            by_cases e : j = t.length + k
            · rw [e, va_up_self, app_get, if_neg (by omega), show t.length + k - t.length = k by omega, dg_get w]
            · rw [va_up_ne _ _ e]
              exact hA1 j (by omega)
end GMD4
