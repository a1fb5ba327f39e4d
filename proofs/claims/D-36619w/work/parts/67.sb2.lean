/-! STRINGBUILDER 2: capacity, appending -/
section GSB2
variable {l : Launch} {E : g_E} {st : g_St}
theorem g_shl0 (x : Int32) : x <<< ((0 : Int32) &&& 31) = x := by
  rw [show ((0 : Int32) &&& 31) = 0 by decide]
  simp
def nwN (N m : Nat) : Nat := N + (if m - N < N + 2 then N + 2 else m - N)
theorem ct_newLength {n g p : Nat} {Q : Int32 → g_St → Prop} (h1 : n < 2 ^ 20) (h2 : g < 2 ^ 20) (h3 : p < 2 ^ 20) (h4 : 0 < n + (if g < p then p else g)) (hq : Q (nI (n + (if g < p then p else g))) st) : wp_J15_newLength l E 0 0 [.int (nI n), .int (nI g), .int (nI p)] st Q := by
  refine wk_J15_newLength fun x1 e => ?_
  have e2 : x1 = nI (if g < p then p else g) := by
    rw [e]
    by_cases z : g < p
    · rw [if_pos z, if_pos (nI_lt z (by omega))]
    · rw [if_neg z, if_neg (nI_nlt (by omega) (by omega))]
  subst e2
  have hb : (if g < p then p else g) < 2 ^ 20 := by split <;> assumption
  rw [nI_add]
  show _ ∧ _
  refine ⟨fun z => ?_, fun _ => ⟨fun z => ?_, fun _ => hq⟩⟩
  · have := (nI_leI (a := n + (if g < p then p else g)) (b := 0) (by omega) (by omega)).mp z
    omega
  · have := (nI_ltI (a := 2147483639) (b := n + (if g < p then p else g)) (by omega) (by omega)).mp z
    omega
theorem SB.co {a v N : Nat} {t : List Nat} (hs : SB st.2.1 a t v N) : g_gi st a 0 1 0 := by
  obtain ⟨m, g, h1, -⟩ := hs
  exact ⟨_, Or.inl h1, rfl⟩
theorem SB.vl {a v N : Nat} {t : List Nat} (hs : SB st.2.1 a t v N) : g_gr st a 0 0 (some v) := by
  obtain ⟨m, g, h1, -⟩ := hs
  exact ⟨_, Or.inl h1, rfl⟩
theorem SB.ln {a v N : Nat} {t : List Nat} (hs : SB st.2.1 a t v N) : g_gi st a 0 3 (nI t.length) := by
  obtain ⟨m, g, h1, -⟩ := hs
  exact ⟨_, Or.inl h1, rfl⟩
theorem SB.fr {h h' : g_H} {a v N : Nat} {t : List Nat} (hs : SB h a t v N) (ha : h' a = h a) (hv : h' v = h v) : SB h' a t v N := by
  obtain ⟨m, g, h1, h2, h3⟩ := hs
  exact ⟨m, g, ha.trans h1, hv.trans h2, h3⟩
theorem ct_newCapacity {a v N m : Nat} {t : List Nat} {Q : Int32 → g_St → Prop} (hs : SB st.2.1 a t v N) (hN : N < 2 ^ 13) (hm : N < m) (hm2 : m < 2 ^ 14) (hq : Q (nI (nwN N m)) st) : wp_J0_newCapacity l E 0 0 [va_rf (some a), .int (nI m)] st Q := by
  have hs0 := hs
  obtain ⟨mm, g, h1, h2, -⟩ := hs
  refine wk_J0_newCapacity ⟨_, hs0.vl, v, rfl, 1, _, Or.inl h2, 0, hs0.co, 0, hs0.co, ?_⟩
  rw [g_shl0, g_shl0]
  show wp_J15_newLength l E 0 0 [.int (nI N), .int (nI m - nI N), .int (nI N + nI 2)] st _
  rw [su_sub (by omega), nI_add]
  have hb : nwN N m < 2 ^ 16 := by unfold nwN; split <;> omega
  refine ct_newLength (by omega) (by omega) (by omega) (by split <;> omega) ⟨rfl, fun _ => ⟨0, hs0.co, ?_⟩, fun z => ?_⟩
  · rw [g_shr0]
    exact hq
  · exfalso
    have := (nI_eq (a := nwN N m) (b := 2147483647) (by omega) (by omega)).mp z
    omega
theorem ct_copyOf {v N m cb sb : Nat} {g : Nat → Int32} {Q : Option Nat → g_St → Prop} (hv : st.2.1 v = some (.inl (1, N, .inl g))) (hvl : v < st.2.2) (hg : ∀ z : Nat, z < N → fits .byte (.int (g z)) = true) (hm : N < m) (hm2 : m < 2 ^ 16) (hcb : 1 ≤ cb) (hsb : m ≤ sb)
    (hq : ∀ (st' : g_St) (g' : Nat → Int32), st'.2.1 st.2.2 = some (.inl (1, m, .inl g')) → (∀ z, z < N → g' z = g z) → (∀ z : Nat, z < m → fits .byte (.int (g' z)) = true) → Sm st st' → st'.1 = st.1 → st'.2.2 = st.2.2 + 1 → Q (some st.2.2) st') : wp_J8_copyOf l E cb sb [va_rf (some v), .int (nI m)] st Q := by
  refine wk_J8_copyOf ⟨v, rfl, 1, (N, .inl g), Or.inl hv, fun _ => ⟨m, rfl, by omega, hcb, hsb, fun q6 st7 e1 e2 => ?_⟩, fun z => ?_⟩
  · subst e1
    have hv7 : st7.2.1 v = some (.inl (1, N, .inl g)) := by rw [e2]; exact (g_upd_n (by omega)).trans hv
    have hq7 : st7.2.1 st.2.2 = some (.inl (1, m, .inl fun _ => 0)) := by rw [e2]; exact g_upd_s
    refine ⟨1, (N, .inl g), Or.inl hv7, fun x10 e10 => ?_⟩
    have ex : x10 = nI N := by
      rw [e10]
      exact if_neg (nI_nlt (by omega) (by omega))
    subst ex
    refine ⟨N, g, m, _, 0, 0, N, Or.inl hv7, hq7, rfl, rfl, rfl, by omega, by omega, by omega, by omega, by omega, fun z hz => by rw [Nat.zero_add]; exact hg z hz, fun st18 e18 => hq st18 (va_cpy g (fun _ => 0) 0 0 N) (by rw [e18]; exact g_upd_s) (fun z hz => ?_) (fun z hz => ?_) ⟨?_, fun q hq => ?_⟩ (by rw [e18, e2]; rfl) (by rw [e18, e2]; rfl)⟩
    · unfold va_cpy
      rw [if_pos (by omega), Nat.sub_zero, Nat.zero_add]
    · unfold va_cpy
      split
      · rename_i w
        have := hg (0 + (z - 0)) (by omega)
        exact this
      · rfl
    · rw [e18, e2]
      exact g_Ext.put (g_Ext.new g_Ext.rf) g_upd_s
    · rw [e18, e2]
      show g_upd (g_upd st.2.1 st.2.2 _) st.2.2 _ q = _
      rw [g_upd_n (by omega), g_upd_n (by omega)]
  · exfalso
    have : m = N := (nI_eq (by omega) (by omega)).mp z
    omega
/-- room for m signs -/
theorem ct_ensure {a v N m cb sb : Nat} {t : List Nat} {Q : g_St → Prop} (hs : SB st.2.1 a t v N) (hN : N < 2 ^ 13) (hm : m < 2 ^ 14) (hcb : N < m → 1 ≤ cb) (hsb : N < m → nwN N m ≤ sb)
    (hq : ∀ (st' : g_St) (v' N' : Nat), SB st'.2.1 a t v' N' → m ≤ N' → (N' = if N < m then nwN N m else N) → (v' = v ∧ st'.2.2 = st.2.2 ∨ v' = st.2.2 ∧ st'.2.2 = st.2.2 + 1 ∧ N < m) → Se (fun z => z = a) st st' → st'.1 = st.1 → Q st') : wp_J0_ensureCapacityInternal l E cb sb [va_rf (some a), .int (nI m)] st Q := by
  refine g_WPv.wf fun hw => ?_
  have hs0 := hs
  have hne := hs.ne
  obtain ⟨mm, g, h1, h2, h3, h4, h5, h6, h7⟩ := hs
  have hvl := (hw.2 _ _ h2).2
  have hal := (hw.2 _ _ h1).2
  have hle : ((nI m - (nI N >>> ((0 : Int32) &&& 31))) ≤ 0) ↔ m ≤ N := by
    rw [g_shr0]
    rcases Nat.le_total m N with z | z
    · refine ⟨fun _ => z, fun _ => ?_⟩
      obtain ⟨d, rfl⟩ := Nat.exists_eq_add_of_le z
      rw [← nI_add]
      have : nI m - (nI m + nI d) = - nI d := by
        rw [Int32.sub_eq_add_neg, Int32.neg_add, Int32.sub_eq_add_neg, ← Int32.add_assoc, Int32.add_right_neg, Int32.zero_add]
      rw [this, Int32.le_iff_toInt_le, Int32.toInt_neg, nI_toInt (by omega), Int32.toInt_zero, Int.bmod_def]
      split <;> omega
    · rw [su_sub z]
      have := nI_leI (a := m - N) (b := 0) (by omega) (by omega)
      rw [show (0 : Int32) = nI 0 by decide, this]
      omega
  refine wk_J0_ensureCapacityInternal ⟨_, hs0.vl, v, rfl, 1, (N, .inl g), Or.inl h2, 0, hs0.co, ?_⟩
  refine g_jn3_i (fun s _ _ => Q s) (fun s _ _ H => H) fun K9 hK9 => ⟨fun z => ?_, fun z => ?_⟩
  · have z2 := hle.mp z
    exact hK9 _ _ _ (hq st v N hs0 z2 (by rw [if_neg (by omega)]) (Or.inl ⟨rfl, rfl⟩) Se.rf rfl)
  · have z2 : N < m := by
      rcases Nat.lt_or_ge N m with w | w
      · exact w
      · exact absurd (hle.mpr w) z
    have hb : nwN N m < 2 ^ 15 := by unfold nwN; split <;> omega
    have hb2 : m ≤ nwN N m ∧ N < nwN N m := by unfold nwN; split <;> omega
    refine ⟨_, hs0.vl, hs0.is, ct_newCapacity hs0 hN z2 hm ⟨rfl, 0, hs0.co, 1, nwN N m, hcb z2, hsb z2, ?_⟩⟩
    rw [g_shl0]
    refine ct_copyOf h2 hvl h4 hb2.2 (by omega) (Nat.le_refl _) (Nat.le_refl _) fun s1 g' k1 k2 k3 k4 k5 k6 _ => ?_
    refine pu ((k4.2 a hal).trans h1) fun s2 h8 => hK9 _ _ _ (hq s2 st.2.2 (nwN N m) ⟨mm, g', h8.nx, ?_, fun j hj => ?_, k3, h5, by omega, by omega⟩ hb2.1 (by rw [if_pos z2]) (Or.inr ⟨rfl, by rw [h8.2.1, k6], z2⟩) ⟨k4.1.tr h8.2.2.2.2, fun q hq hn => ?_⟩ (by rw [h8.1, k5]))
    · rw [h8.2.2.2.1 _ (by omega)]
      exact k1
    · rw [k2 j (by omega)]
      exact h3 j hj
    · rw [h8.2.2.2.1 q hn]
      exact k4.2 q hq
theorem sb_nar : ∀ c : Nat, c < 128 → vp_nar .byte ((nI c).toInt8.toInt32) = nI c ∧ vp_nar .byte (nI c) = nI c ∧ ¬ nI 255 < nI c := by decide +kernel
theorem ct_canEncode {c : Nat} {Q : Int32 → g_St → Prop} (hc : c < 128) (hq : Q (nI 1) st) : wp_J7_canEncode l E 0 0 [.int (nI c)] st Q := by
  refine wk_J7_canEncode ?_
  show _ ∧ _
  exact ⟨fun z => absurd z (sb_nar c hc).2.2, fun _ => ⟨rfl, hq⟩⟩
theorem SB.lt {h : g_H} {a v N : Nat} {t : List Nat} (hs : SB h a t v N) : (∀ c ∈ t, c < 128) ∧ t.length ≤ N := by
  obtain ⟨m, g, h1, h2, h3, h4, h5, h6, h7⟩ := hs
  exact ⟨h5, h6⟩
/-- append(char) -/
theorem ct_appendC {a v N c cb sb : Nat} {t : List Nat} {Q : Option Nat → g_St → Prop} (hs : SB st.2.1 a t v N) (hN : N < 2 ^ 13) (hc : c < 128) (hcb : N < t.length + 1 → 1 ≤ cb) (hsb : N < t.length + 1 → nwN N (t.length + 1) ≤ sb)
    (hq : ∀ (st' : g_St) (v' N' : Nat), SB st'.2.1 a (t ++ [c]) v' N' → (N' = if N < t.length + 1 then nwN N (t.length + 1) else N) → (v' = v ∨ st.2.2 ≤ v') → Se (fun z => z = a ∨ z = v) st st' → st'.1 = st.1 → Q (some a) st') : wp_J1_append_3 l E cb sb [va_rf (some a), .int (nI c)] st Q := by
  have hl := hs.lt
  refine wk_J1_append_3 ⟨cb, sb, Nat.le_refl _, Nat.le_refl _, hs.is, wk_J0_append_3 ⟨_, hs.ln, cb, sb, Nat.le_refl _, Nat.le_refl _, hs.is, ?_⟩⟩
  rw [nI_add]
  refine ct_ensure hs hN (by omega) hcb hsb fun s1 v' N' hs1 k1 k2 k3 k4 k5 _ => ⟨hs1.is, ct_J0_isLatin1 hs1 ⟨rfl, ?_⟩⟩
  show _ ∧ _
  refine ⟨fun z => absurd z (by decide), fun _ => ct_canEncode hc ⟨rfl, fun z => absurd z (by decide), fun _ => ⟨_, hs1.vl, _, hs1.ln, ?_⟩⟩⟩
  have hne := hs1.ne
  obtain ⟨mm, g, h1, h2, h3, h4, h5, h6, h7⟩ := hs1
  refine pu h1 fun s2 h8 => ⟨v', rfl, N', g, t.length, (h8.2.2.2.1 _ (Ne.symm hne)).trans h2, rfl, by omega, by omega, fun s3 e3 _ => ?_⟩
  have hp3 : Pt s2 v' s3 (.inl (1, N', .inl (va_up g t.length (vp_nar .byte ((nI c).toInt8.toInt32))))) := by
    rw [e3]
    exact Pt.put ((h8.2.2.2.1 _ (Ne.symm hne)).trans h2)
  refine hq s3 v' N' ⟨mm, _, ?_, hp3.nx, fun j hj => ?_, fun z hz => ?_, fun y hy => ?_, ?_, h7⟩ k2 ?_ ⟨k4.1.tr (h8.2.2.2.2.tr hp3.2.2.2.2), fun q hq' hn => ?_⟩ (by rw [hp3.1, h8.1, k5])
  · rw [hp3.2.2.2.1 _ hne, h8.nx, List.length_append, List.length_singleton, ← nI_add]
    rfl
  · rw [List.length_append, List.length_singleton] at hj
    by_cases e : j = t.length
    · subst e
      rw [va_up_self, (sb_nar c hc).1, List.getD_eq_getElem?_getD, List.getElem?_append_right (Nat.le_refl _), Nat.sub_self]
      rfl
    · rw [va_up_ne _ _ e, h3 j (by omega), List.getD_eq_getElem?_getD, List.getD_eq_getElem?_getD, List.getElem?_append_left (by omega)]
  · by_cases e : z = t.length
    · rw [e, va_up_self, (sb_nar c hc).1]
      exact su_fit c hc
    · rw [va_up_ne _ _ e]
      exact h4 z hz
  · rcases List.mem_append.mp hy with y1 | y1
    · exact h5 y y1
    · rw [List.mem_singleton.mp y1]
      exact hc
  · rw [List.length_append, List.length_singleton]
    exact k1
  · rcases k3 with ⟨w, _⟩ | ⟨w, _⟩
    · exact Or.inl w
    · exact Or.inr (by omega)
  · have hqv : q ≠ v' := fun e => by
      rcases k3 with ⟨w, _⟩ | ⟨w, _⟩
      · exact hn (Or.inr (e.trans w))
      · omega
    rw [hp3.2.2.2.1 q hqv, h8.2.2.2.1 q (fun e => hn (Or.inl e))]
    exact k4.2 q hq' (fun e => hn (Or.inl e))
/-- append(String) -/
theorem ct_appendS {a v N b cb sb : Nat} {t u : List Nat} {Q : Option Nat → g_St → Prop} (hs : SB st.2.1 a t v N) (hN : N < 2 ^ 13) (hb : Str st.1 b u) (hul : u.length < 2 ^ 12) (hcb : N < t.length + u.length → 1 ≤ cb) (hsb : N < t.length + u.length → nwN N (t.length + u.length) ≤ sb)
    (hq : ∀ (st' : g_St) (v' N' : Nat), SB st'.2.1 a (t ++ u) v' N' → (N' = if N < t.length + u.length then nwN N (t.length + u.length) else N) → (v' = v ∨ st.2.2 ≤ v') → Se (fun z => z = a ∨ z = v) st st' → st'.1 = st.1 → Q (some a) st') : wp_J1_append_2 l E cb sb [va_rf (some a), va_rf (some b)] st Q := by
  have hl := hs.lt
  refine wk_J1_append_2 ⟨cb, sb, Nat.le_refl _, Nat.le_refl _, hs.is, wk_J0_append_2 ⟨fun e => (by cases e), fun a2 e => ?_⟩⟩
  cases e
  refine ⟨hb.is, ct_J2_length hb ⟨rfl, _, hs.ln, cb, sb, Nat.le_refl _, Nat.le_refl _, hs.is, ?_⟩⟩
  rw [nI_add]
  refine ct_ensure hs hN (by omega) hcb hsb fun s1 v' N' hs1 k1 k2 k3 k4 k5 _ => ⟨_, hs1.ln, hs1.is, ?_⟩
  have hb1 : Str s1.1 b u := by rw [k5]; exact hb
  have hne := hs1.ne
  have hs10 := hs1
  obtain ⟨mm, g, h1, h2, h3, h4, h5, h6, h7⟩ := hs1
  obtain ⟨w, gw, hx, hz, j1, j2, j3, j4, j5⟩ := id hb1
  refine wk_J0_putStringAt ⟨hs10.is, wk_J0_inflateIfNeededFor ?_⟩
  refine ⟨0, hs10.co, b, rfl, hb1.is, ct_J2_coder hb1 ⟨rfl, fun _ => ⟨rfl, _, hs10.vl, 0, hs10.co, b, rfl, hb1.is, ?_⟩, fun z => absurd rfl z⟩⟩
  have gw0 : g_gr s1 b 1 0 (some w) := ⟨_, Or.inr j1, rfl⟩
  refine wk_J2_getBytes ⟨hb1.is, ct_J2_coder hb1 ⟨rfl, fun z => absurd rfl z, fun _ => ⟨_, gw0, _, gw0, w, rfl, 1, (u.length, .inl gw), Or.inr j2, v', rfl, w, rfl, u.length, gw, N', g, 0, t.length, u.length, Or.inr j2, h2, rfl, by rw [g_shl0], rfl, by omega, by omega, by omega, by omega, by omega, fun z hz => by rw [Nat.zero_add, j3 z hz]; exact su_fit _ (g_mem j4), fun s2 e2 _ _ => ?_⟩⟩⟩
  have hp2 : Pt s1 v' s2 (.inl (1, N', .inl (va_cpy gw g 0 t.length u.length))) := by
    rw [e2]
    exact Pt.put h2
  refine ⟨nI t.length, ⟨_, Or.inl ((hp2.2.2.2.1 _ hne).trans h1), rfl⟩, pu ((hp2.2.2.2.1 _ hne).trans h1) fun s3 h8 _ => ?_⟩
  refine hq s3 v' N' ⟨mm, _, ?_, (h8.2.2.2.1 _ (Ne.symm hne)).trans hp2.nx, fun j hj => ?_, fun z hz => ?_, fun y hy => ?_, ?_, h7⟩ k2 ?_ ⟨k4.1.tr (hp2.2.2.2.2.tr h8.2.2.2.2), fun q hq' hn => ?_⟩ (by rw [h8.1, hp2.1, k5])
  · rw [h8.nx, List.length_append, ← nI_add]
    rfl
  · rw [List.length_append] at hj
    unfold va_cpy
    by_cases e : t.length ≤ j
    · rw [if_pos (by omega), Nat.zero_add, j3 _ (by omega), List.getD_eq_getElem?_getD, List.getD_eq_getElem?_getD, List.getElem?_append_right e]
    · rw [if_neg (by omega), h3 j (by omega), List.getD_eq_getElem?_getD, List.getD_eq_getElem?_getD, List.getElem?_append_left (by omega)]
  · unfold va_cpy
    split
    · rw [j3 _ (by omega)]
      exact su_fit _ (g_mem j4)
    · exact h4 z hz
  · rcases List.mem_append.mp hy with y1 | y1
    · exact h5 y y1
    · exact j4 y y1
  · rw [List.length_append]
    exact k1
  · rcases k3 with ⟨w, _⟩ | ⟨w, _⟩
    · exact Or.inl w
    · exact Or.inr (by omega)
  · have hqv : q ≠ v' := fun e => by
      rcases k3 with ⟨w, _⟩ | ⟨w, _⟩
      · exact hn (Or.inr (e.trans w))
      · omega
    rw [h8.2.2.2.1 q (fun e => hn (Or.inl e)), hp2.2.2.2.1 q hqv]
    exact k4.2 q hq' (fun e => hn (Or.inl e))
end GSB2
