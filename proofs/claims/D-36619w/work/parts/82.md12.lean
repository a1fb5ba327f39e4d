/-! MODEL 12: codes: code, puts, write, isAhead, areOrderly, codeAt, written -/
section GMD12
variable {us ws : wL} {t : List Nat} {cs : Nat → List Nat} {l : Launch} {E : g_E} {st0 st : g_St} {m k0 : Nat} {Q : Int32 → g_St → Prop} {A : Nat → Nat → Int32} {W : Nat → Int64} {c ln mn : Int32}
def sp_code (x : Nat) (t : List Nat) (ws : wL) (cs : Nat → List Nat) : sR := if ¬ (97 ≤ x ∧ x ≤ 102) then (1, nI 0, t, ws, cs) else if t.length < 1 ∨ 3 < t.length then (2, nI 0, t, ws, cs) else (0, nI (cs (x - 97)).length, t, ws, fun j => if j = x - 97 then t else cs j)
theorem i_sub97 {x : Nat} (h : 97 ≤ x) : nI x - nI 97 = nI (x - 97) := by rw [su_sub h]
theorem in_13 {n : Nat} (hn : n < 2 ^ 31) : ¬ (nI n < nI 1 ∨ nI 3 < nI n) ↔ ¬ (n < 1 ∨ 3 < n) := by
  rw [nI_ltI hn (by omega), nI_ltI (by omega) hn]
theorem ct_mcode {x : Nat} (h : MP st st m k0 t ws cs) (hx : x < 65536) (hq : mok st m Q (sp_code x t ws cs)) : wp_X2_code l E 0 0 [va_rf (some m), .int (nI x)] st Q := by
  obtain ⟨us, A, W, hp, h, hR⟩ := h
  have hT := hR.1
  have hT1 := hT.1
  unfold sp_code at hq
  refine wk_X2_code (ct_misSign ⟨rfl, ?_⟩)
  rw [tv_cg (sgn_tv hx)]
  have bad : ∀ k, 0 < k → k < 100 → (∀ s1, MS st s1 m (nI k) (nI t.length) (nI us.length) A W → Q (nI 0) s1) → ∀ {P : g_St → Prop}, wp_X2_fails l E 0 0 [va_rf (some m), .int (nI k)] st (fun x5 st6 => g_Ext st st6 → (x5 = 0 → P st6) ∧ (¬ x5 = 0 → Q (nI 0) st6)) := fun k hk1 hk2 hQ P => ct_mfails h hk2 fun s1 h1 _ => b_tv (fun _ => hQ s1 h1) fun w => absurd hk1 w
  by_cases z : 97 ≤ x ∧ x ≤ 102
  · rw [if_neg (fun w => w z)] at hq
    rw [tv_1 z]
    by_cases y : t.length < 1 ∨ 3 < t.length
    · rw [if_pos y] at hq
      show _ ∧ _
      refine ⟨fun _ => ⟨_, h.gL, ct_min ⟨rfl, ?_⟩⟩, fun w => absurd w (by decide)⟩
      rw [tv_cg (in_13 (by omega)), tv_0 (fun w => w y)]
      exact ⟨fun w => absurd rfl w, fun _ => ⟨h.is, bad 2 (by omega) (by omega) fun s1 h1 => hq s1 ⟨us, A, W, hp, h1, hR⟩⟩⟩
    · rw [if_neg y] at hq
      show _ ∧ _
      refine ⟨fun _ => ⟨_, h.gL, ct_min ⟨rfl, ?_⟩⟩, fun w => absurd w (by decide)⟩
      rw [tv_cg (in_13 (by omega)), tv_1 y]
      refine ⟨fun _ => ⟨h.is, ct_mfails h (by omega) fun s1 h1 _ => ?_⟩, fun w => absurd w (by decide)⟩
      refine b_tv (fun w => absurd w (by omega)) fun _ => ?_
      have hj : x - 97 < 6 := by omega
      refine ⟨_, h1.g7, _, rfl, h1.r7 (x - 97) (i_sub97 z.1) hj ⟨_, h1.g7, _, h1.gL, _, rfl, h1.w7 (x - 97) (i_sub97 z.1) hj fun s2 h2 => ?_⟩⟩
      rw [(hR.2.2.2.2.2 _ hj).1]
      refine g_lp2_m (fun mm x20 s => ∃ (k : Nat) (A' : Nat → Nat → Int32), x20 = nI k ∧ k ≤ t.length ∧ MS st s m (nI 0) (nI t.length) (nI us.length) A' W ∧ (∀ q, q ≠ 3 → q ≠ 7 → A' q = A q) ∧ A' 7 = va_up (A 7) (x - 97) (nI t.length) ∧ (∀ i, A' 3 i = if 3 * (x - 97) ≤ i ∧ i < 3 * (x - 97) + k then nI (t.getD (i - 3 * (x - 97)) 0) else A 3 i) ∧ mm = 100 - k) ?_ ⟨0, _, rfl, Nat.zero_le _, h2, fun q q1 q2 => t_up_n q2, t_up_s, fun i => ?_, rfl⟩
      · rintro mm x20 s K ⟨k, A', rfl, hk, hS, hA, hA7, hA3, rfl⟩ hK
        refine ⟨_, hS.gL, b_le (by omega) (by omega) (fun w => ?_) fun w => ⟨_, hS.g3, _, hS.g1, _, rfl, hS.r1 k rfl (by omega) ⟨_, rfl, hS.w3 (3 * (x - 97) + k) (by rw [i_sub97 z.1, nI_mul, nI_add]) (by omega) fun s3 h3 => ?_⟩⟩⟩
        · have ek : k = t.length := by omega
          subst ek
          refine hq s ⟨us, A', W, hp, hS, ?_⟩
          obtain ⟨r0, r1, r2, r3, r4, r5⟩ := hR
          refine ⟨r0, r1, fun j hj => ?_, ?_, ?_, fun j hj => ?_⟩
          · show 1 ≤ (if j = x - 97 then t else cs j).length ∧ (if j = x - 97 then t else cs j).length ≤ 3 ∧ sgs (if j = x - 97 then t else cs j)
            split
            · exact ⟨by omega, by omega, hT.2⟩
            · exact r2 j hj
          · rw [hA 1 (by decide) (by decide)]
            exact r3
          · rw [hA 5 (by decide) (by decide), hA 6 (by decide) (by decide), hA 2 (by decide) (by decide)]
            exact r4
          · rw [hA7]
            obtain ⟨e1, e2⟩ := r5 j hj
            by_cases q : j = x - 97
            · subst q
              rw [va_up_self]
              dsimp only
              rw [if_pos rfl]
              refine ⟨rfl, fun i hi => ?_⟩
              rw [hA3, if_pos ⟨by omega, by omega⟩, show 3 * (x - 97) + i - 3 * (x - 97) = i by omega]
            · dsimp only
              rw [va_up_ne _ _ q, if_neg q]
              refine ⟨e1, fun i hi => ?_⟩
              have := r2 j hj
              rw [hA3, if_neg (by omega)]
              exact e2 i hi
        · refine hK _ _ _ ⟨k + 1, _, nI_add k 1, w, h3, fun q q1 q2 => by rw [t_up_n q1]; exact hA q q1 q2, ?_, fun i => ?_, rfl⟩ (by omega)
          · rw [t_up_n (by decide)]
            exact hA7
          · have b1 := hT.2.lt k
            rw [t_up_s, hA 1 (by decide) (by decide), hR.2.2.2.1 k w, mch _ (by omega)]
            by_cases q : i = 3 * (x - 97) + k
            · rw [q, va_up_self, if_pos ⟨by omega, by omega⟩, show 3 * (x - 97) + k - 3 * (x - 97) = k by omega]
            · rw [va_up_ne _ _ q, hA3]
              by_cases r : 3 * (x - 97) ≤ i ∧ i < 3 * (x - 97) + k
              · rw [if_pos r, if_pos ⟨r.1, by omega⟩]
              · rw [if_neg r, if_neg (by omega)]
      · rw [t_up_n (by decide), if_neg (by omega)]
  · rw [if_pos z] at hq
    rw [tv_0 z]
    show _ ∧ _
    exact ⟨fun w => absurd (by decide) w, fun _ => ⟨h.is, bad 1 (by omega) (by omega) fun s1 h1 => hq s1 ⟨us, A, W, hp, h1, hR⟩⟩⟩
/-- what is made -/
def MD (r : List Nat) (A : Nat → Nat → Int32) : Prop := ∀ j, j < r.length → A 4 j = nI (r.getD j 0)
/-- written in codes -/
def wr (cs : Nat → List Nat) (t : List Nat) : List Nat := t.flatMap (fun x => cs (x - 97))
theorem wr_app {a b : List Nat} : wr cs (a ++ b) = wr cs a ++ wr cs b := List.flatMap_append
theorem wr_1 {x : Nat} : wr cs [x] = cs (x - 97) := by
  show [x].flatMap _ = _
  rw [List.flatMap_cons, List.flatMap_nil, List.append_nil]
theorem wr_c {x : Nat} : wr cs (x :: t) = cs (x - 97) ++ wr cs t := List.flatMap_cons
theorem wr_tk {k : Nat} (h : k < t.length) : wr cs (t.take (k + 1)) = wr cs (t.take k) ++ cs (t.getD k 0 - 97) := by
  rw [List.take_succ_eq_append_getElem h, wr_app, wr_1, List.getD_eq_getElem?_getD, List.getElem?_eq_getElem h]
  rfl
theorem wr_len (hC : okC cs) (ht : sgs t) : (wr cs t).length ≤ 3 * t.length ∧ t.length ≤ (wr cs t).length := by
  induction t with
  | nil => exact ⟨Nat.le_refl _, Nat.le_refl _⟩
  | cons x t ih =>
    have hx := ht x List.mem_cons_self
    have := hC (x - 97) (by omega)
    have := ih fun c hc => ht c (List.mem_cons_of_mem _ hc)
    rw [wr_c, List.length_append, List.length_cons]
    omega
theorem wr_sgs (hC : okC cs) (ht : sgs t) : sgs (wr cs t) := by
  induction t with
  | nil => exact fun c hc => absurd hc List.not_mem_nil
  | cons x t ih =>
    have hx := ht x List.mem_cons_self
    rw [wr_c]
    exact (hC (x - 97) (by omega)).2.2.app (ih fun c hc => ht c (List.mem_cons_of_mem _ hc))
theorem ct_mputs {r : List Nat} {j : Nat} (h : MS st0 st m c ln mn A W) (hR : MR t us cs A) (hM : MD r A) (hj : j < 6) (hr : r.length + (cs j).length ≤ 72) (hq : ∀ (st' : g_St) (A' : Nat → Nat → Int32), MS st0 st' m c ln mn A' W → MR t us cs A' → MD (r ++ cs j) A' → (∀ q, q ≠ 4 → A' q = A q) → Q (nI (r.length + (cs j).length)) st') : wp_X2_puts l E 0 0 [va_rf (some m), .int (nI r.length), .int (nI (97 + j))] st Q := by
  have hC := hR.2.2.1 j hj
  have e97 : nI (97 + j) - nI 97 = nI j := by rw [i_sub97 (by omega)]; congr 1; omega
  refine wk_X2_puts ?_
  refine g_lp2_m (fun mm x s => ∃ (k : Nat) (A' : Nat → Nat → Int32), x = nI k ∧ k ≤ (cs j).length ∧ MS st0 s m c ln mn A' W ∧ (∀ q, q ≠ 4 → A' q = A q) ∧ (∀ i, A' 4 i = if r.length ≤ i ∧ i < r.length + k then nI ((cs j).getD (i - r.length) 0) else A 4 i) ∧ mm = 100 - k) ?_ ⟨0, A, rfl, Nat.zero_le _, h, fun _ _ => rfl, fun i => by rw [if_neg (by omega)], rfl⟩
  rintro mm x s K ⟨k, A', rfl, hk, hS, hA, hA4, rfl⟩ hK
  refine ⟨_, hS.g7, _, rfl, hS.r7 j e97 hj ?_⟩
  rw [hA 7 (by decide), (hR.2.2.2.2.2 j hj).1]
  refine b_le (by omega) (by omega) (fun z => ⟨_, hS.g7, _, rfl, hS.r7 j e97 hj ?_⟩) fun z => ⟨_, hS.g4, _, hS.g3, _, rfl, hS.r3 (3 * j + k) (by rw [e97, nI_mul, nI_add]) (by omega) ⟨_, rfl, hS.w4 (r.length + k) (nI_add _ _) (by omega) fun s2 h2 => ?_⟩⟩
  · rw [hA 7 (by decide), (hR.2.2.2.2.2 j hj).1, nI_add]
    have ek : k = (cs j).length := by omega
    refine hq s A' hS (hR.cg (hA 1 (by decide)) (hA 2 (by decide)) (hA 3 (by decide)) (hA 5 (by decide)) (hA 6 (by decide)) (hA 7 (by decide))) (fun i hi => ?_) hA
    rw [List.length_append] at hi
    rw [hA4, app_get]
    by_cases q : i < r.length
    · rw [if_neg (by omega), if_pos q]
      exact hM i q
    · rw [if_pos (by omega), if_neg q]
  · have b1 := hC.2.2.lt k
    refine hK _ _ _ ⟨k + 1, _, nI_add k 1, z, h2, fun q q1 => by rw [t_up_n q1]; exact hA q q1, fun i => ?_, rfl⟩ (by omega)
    rw [t_up_s, hA 3 (by decide), (hR.2.2.2.2.2 j hj).2 k z, mch _ (by omega)]
    by_cases q : i = r.length + k
    · rw [q, va_up_self, if_pos ⟨by omega, by omega⟩, show r.length + k - r.length = k by omega]
    · rw [va_up_ne _ _ q, hA4]
      by_cases y : r.length ≤ i ∧ i < r.length + k
      · rw [if_pos y, if_pos ⟨y.1, by omega⟩]
      · rw [if_neg y, if_neg (by omega)]
def sp_write (t : List Nat) (ws : wL) (cs : Nat → List Nat) : sR := if 24 < (wr cs t).length then (1, nI 0, t, ws, cs) else (0, nI (wr cs t).length, wr cs t, ws, cs)
theorem sg97 (ht : sgs t) {k : Nat} (hk : k < t.length) : t.getD k 0 = 97 + (t.getD k 0 - 97) ∧ t.getD k 0 - 97 < 6 := by
  have := ht.lt k
  have := ht.ge hk
  omega
theorem ct_mwrite (h : MP st st m k0 t ws cs) (hq : mok st m Q (sp_write t ws cs)) : wp_X2_write l E 0 0 [va_rf (some m)] st Q := by
  obtain ⟨us, A, W, hp, h, hR⟩ := h
  have hT := hR.1
  have hT1 := hT.1
  have hC := hR.2.2.1
  unfold sp_write at hq
  refine wk_X2_write ?_
  refine g_lp3_m (fun mm x y s => ∃ (k : Nat) (A' : Nat → Nat → Int32), x = nI (wr cs (t.take k)).length ∧ y = nI k ∧ k ≤ t.length ∧ MS st s m (nI k0) (nI t.length) (nI us.length) A' W ∧ MR t us cs A' ∧ MD (wr cs (t.take k)) A' ∧ mm = 100 - k) ?_ ⟨0, A, rfl, rfl, Nat.zero_le _, h, hR, fun i hi => absurd hi (Nat.not_lt_zero _), rfl⟩
  rintro mm x y s K ⟨k, A', rfl, rfl, hk, hS, hR2, hM, rfl⟩ hK
  refine ⟨_, hS.gL, b_le (by omega) (by omega) (fun z => ?_) fun z => ?_⟩
  · have ek : k = t.length := by omega
    rw [ek, List.take_length] at hM ⊢
    have hb := wr_len hC hT.2
    have hs := wr_sgs hC hT.2
    refine g_jn1_i (fun x => x = nI (if 24 < (wr cs t).length then 1 else 0)) (fun x9 e9 => ?_) fun K10 hK10 => b_le (by omega) (by omega) (fun w => hK10 _ (by rw [if_neg (by omega)])) fun w => hK10 _ (by rw [if_pos w])
    rw [e9]
    by_cases w : 24 < (wr cs t).length
    · rw [if_pos w] at hq ⊢
      refine ⟨hS.is, ct_mfails hS (by omega) fun s1 h1 _ => b_tv (fun _ => hq s1 ⟨us, A', W, hp, h1, hR2⟩) fun w => absurd (by omega) w⟩
    · rw [if_neg w] at hq ⊢
      refine ⟨hS.is, ct_mfails hS (by omega) fun s1 h1 _ => b_tv (fun w => absurd w (by omega)) fun _ => h1.pL _ fun s2 h2 => ?_⟩
      refine g_lp2_m (fun mm x s => ∃ (k : Nat) (A2 : Nat → Nat → Int32), x = nI k ∧ k ≤ (wr cs t).length ∧ MS st s m (nI 0) (nI (wr cs t).length) (nI us.length) A2 W ∧ (∀ q, q ≠ 1 → A2 q = A' q) ∧ (∀ i, i < k → A2 1 i = nI ((wr cs t).getD i 0)) ∧ mm = 100 - k) ?_ ⟨0, A', rfl, Nat.zero_le _, h2, fun _ _ => rfl, fun i hi => absurd hi (Nat.not_lt_zero _), rfl⟩
      rintro mm x s3 K19 ⟨k, A2, rfl, hk, h3, hA2, hA1, rfl⟩ hK19
      refine b_le (by omega) (by omega) (fun v => ⟨_, h3.gL, ?_⟩) fun v => ⟨_, h3.g1, _, h3.g4, _, rfl, h3.r4 k rfl (by omega) ⟨_, rfl, h3.w1 k rfl (by omega) fun s4 h4 => hK19 _ _ _ ⟨k + 1, _, nI_add k 1, v, h4, fun q q1 => by rw [t_up_n q1]; exact hA2 q q1, fun i hi => ?_, rfl⟩ (by omega)⟩⟩
      · have ek2 : k = (wr cs t).length := by omega
        rw [ek2] at hA1
        refine hq s3 ⟨us, A2, W, hp, h3, hR2.txt1 (u := wr cs t) ⟨Nat.le_of_not_lt w, hs⟩ hA1 fun q q1 _ _ _ => hA2 q q1⟩
      · have b1 := hs.lt k
        rw [t_up_s, hA2 4 (by decide), hM k v, mch _ (by omega)]
        by_cases q : i = k
        · rw [q, va_up_self]
        · rw [va_up_ne _ _ q]
          exact hA1 i (by omega)
  · obtain ⟨e1, e2⟩ := sg97 hT.2 z
    have hb := wr_len hC (hT.2.tk k)
    have hc := hC _ e2
    rw [List.length_take] at hb
    refine ⟨_, hS.g1, _, rfl, hS.r1 k rfl (by omega) ⟨hS.is, ?_⟩⟩
    rw [hR2.2.2.2.1 k z, e1]
    refine ct_mputs hS hR2 hM e2 (by omega) fun s2 A2 h2 hR3 hM2 _ _ => hK _ _ _ _ ⟨k + 1, A2, ?_, nI_add k 1, z, h2, hR3, ?_, rfl⟩ (by omega)
    · rw [wr_tk z, List.length_append]
    · rw [wr_tk z]
      exact hM2
end GMD12
