/-! STRINGBUILDER 3: setLength(0), toString, reverse, insert, delete, substring -/
section GSB3
variable {l : Launch} {E : g_E} {st : g_St}
theorem ct_ensure0 {a v N m cb sb : Nat} {t : List Nat} {Q : g_St → Prop} (hs : SB st.2.1 a t v N) (hN : N < 2 ^ 13) (hm : m ≤ N) (hq : Q st) : wp_J0_ensureCapacityInternal l E cb sb [va_rf (some a), .int (nI m)] st Q := by
  have hs0 := hs
  obtain ⟨mm, g, h1, h2, h3, h4, h5, h6, h7⟩ := hs
  refine wk_J0_ensureCapacityInternal ⟨_, hs0.vl, v, rfl, 1, (N, .inl g), Or.inl h2, 0, hs0.co, ?_⟩
  refine g_jn3_i (fun s _ _ => s = st) (fun s _ _ H => by rw [H]; exact hq) fun K9 hK9 => ⟨fun z => hK9 _ _ _ rfl, fun z => absurd ?_ z⟩
  rw [g_shr0]
  obtain ⟨d, rfl⟩ := Nat.exists_eq_add_of_le hm
  show nI m - nI (m + d) ≤ 0
  rw [← nI_add]
  have : nI m - (nI m + nI d) = - nI d := by
    rw [Int32.sub_eq_add_neg, Int32.neg_add, Int32.sub_eq_add_neg, ← Int32.add_assoc, Int32.add_right_neg, Int32.zero_add]
  rw [this, Int32.le_iff_toInt_le, Int32.toInt_neg, nI_toInt (by omega), Int32.toInt_zero, Int.bmod_def]
  split <;> omega
theorem ct_setLen0 {a v N cb sb : Nat} {t : List Nat} {Q : g_St → Prop} (hs : SB st.2.1 a t v N) (hN : N < 2 ^ 13) (hq : ∀ st' : g_St, SB st'.2.1 a [] v N → Sx (fun z => z = a) st st' → Q st') : wp_J1_setLength l E cb sb [va_rf (some a), .int (nI 0)] st Q := by
  have hs0 := hs
  have hne := hs.ne
  refine wk_J1_setLength ⟨cb, sb, Nat.le_refl _, Nat.le_refl _, hs.is, wk_J0_setLength ⟨fun _ => ⟨cb, sb, Nat.le_refl _, Nat.le_refl _, hs.is, ct_ensure0 hs hN (Nat.zero_le _) fun _ => ⟨_, hs0.ln, ?_⟩⟩, fun z => absurd (nI_pos' (by decide)) z⟩⟩
  obtain ⟨mm, g, h1, h2, h3, h4, h5, h6, h7⟩ := hs
  refine g_jn1_i (fun s => ∃ m : Value, s.2.1 a = some (.inr (0, [va_rf (some v), .int 0, m, .int (nI t.length)])) ∧ Sx (fun z => z = a) st s) (fun s ⟨m, g1, g2⟩ => ?_) fun K7 hK7 => ⟨fun _ => ⟨_, hs0.ln, fun _ => hK7 _ ⟨_, h1, Sx.rf⟩, fun _ => pu h1 fun s1 k1 => hK7 _ ⟨_, k1.nx, k1.sx⟩⟩, fun z => absurd (nI_le (Nat.zero_le _) (by omega)) z⟩
  refine pu g1 fun s1 k1 _ => hq s1 ⟨m, g, k1.nx, ?_, fun j hj => absurd hj (Nat.not_lt_zero _), h4, fun c hc => absurd hc List.not_mem_nil, Nat.zero_le _, h7⟩ (g2.tr k1.sx)
  rw [k1.2.2.2.1 _ (Ne.symm hne), g2.2.2.2 _ (Ne.symm hne)]
  exact h2
theorem ct_toString {a v N cb sb : Nat} {t : List Nat} {Q : Option Nat → g_St → Prop} (hs : SB st.2.1 a t v N) (hcb : 2 ≤ cb) (hsb : 4 + t.length ≤ sb) (hq : ∀ (q : Nat) (st' : g_St), Str st'.1 q t → Sm st st' → Q (some q) st') : wp_J1_toString l E cb sb [va_rf (some a)] st Q := by
  refine g_WPa.wf fun hw => ?_
  have hs0 := hs
  have hl := hs.lt
  obtain ⟨mm, g, h1, h2, h3, h4, h5, h6, h7⟩ := hs
  have hal := (hw.2 _ _ h1).2
  have hvl := (hw.2 _ _ h2).2
  refine g_WPa.post (Q' := fun r s => r = some st.2.2 ∧ Sm st s ∧ ∃ g' : Nat → Int32, s.2.1 st.2.2 = some (.inr (1, [va_rf (some (st.2.2 + 1)), .int 0, .int 0, .int 0])) ∧ s.2.1 (st.2.2 + 1) = some (.inl (1, t.length, .inl g')) ∧ ∀ z, z < t.length → g' z = g z) (wk_J1_toString ⟨by omega, by omega, fun q1 st2 e1 e2 => ⟨cb - 1, sb - 4, Nat.le_refl _, Nat.le_refl _, wk_J2_init ⟨cb - 1, sb - 4, Nat.le_refl _, Nat.le_refl _, ?_⟩⟩⟩) ?_
  · subst e1
    have hold : ∀ z, z < st.2.2 → st2.2.1 z = st.2.1 z := fun z hz => by rw [e2]; exact g_upd_n (by omega)
    have hs2 : SB st2.2.1 a t v N := hs0.fr (hold a hal) (hold v hvl)
    have hq2 : st2.2.1 st.2.2 = some (.inr (1, [va_rf none, .int 0, .int 0, .int 0])) := by rw [e2]; exact g_upd_s
    have hz2 : st2.2.2 = st.2.2 + 1 := by rw [e2]; rfl
    refine wk_J2_init_2 ⟨a, rfl, hs2.is, wk_J0_getValue ⟨_, hs2.vl, rfl, hs2.is, ct_J1_length hs2 ⟨rfl, hs2.is, ct_J0_isLatin1 hs2 ⟨rfl, ?_⟩⟩⟩⟩
    refine g_jn3_i (fun s _ _ => Sm st s ∧ ∃ g' : Nat → Int32, s.2.1 st.2.2 = some (.inr (1, [va_rf (some (st.2.2 + 1)), .int 0, .int 0, .int 0])) ∧ s.2.1 (st.2.2 + 1) = some (.inl (1, t.length, .inl g')) ∧ ∀ z, z < t.length → g' z = g z) (fun s _ _ H => ?_) fun K8 hK8 => ⟨fun z => absurd z (by decide), fun _ => pu hq2 fun s3 k3 => ⟨1, t.length, by omega, by omega, ?_⟩⟩
    · exact fun _ _ => ⟨rfl, H⟩
    have hz3 : s3.2.2 = st.2.2 + 1 := by rw [k3.2.1, hz2]
    have hv3 : s3.2.1 v = some (.inl (1, N, .inl g)) := by
      rw [k3.2.2.2.1 v (by omega), hold v hvl]
      exact h2
    refine ct_J8_copyOfRange (i := 0) (e := t.length) (Or.inl hv3) (by omega) (Nat.zero_le _) hl.2 (by omega) (Nat.le_refl _) (Nat.le_refl _) (fun z hz => by rw [Nat.zero_add]; exact h4 z (by omega)) (fun _ _ => hv3) fun s4 g' j1 j2 j3 j4 _ => ?_
    rw [hz3] at j2 j3 ⊢
    refine pu ((j1.2 _ (by omega)).trans k3.nx) fun s5 k5 => hK8 _ _ _ ⟨⟨(by rw [e2] at k3; exact (g_Ext.new g_Ext.rf).tr (k3.2.2.2.2.tr (j1.1.tr k5.2.2.2.2))), fun z hz => ?_⟩, g', k5.nx, ?_, fun z hz => ?_⟩
    · rw [k5.2.2.2.1 z (by omega), j1.2 z (by omega), k3.2.2.2.1 z (by omega), hold z hz]
    · rw [k5.2.2.2.1 _ (by omega)]
      exact j3
    · rw [j4 z hz, Nat.zero_add]
  · rintro r s hx hws ⟨rfl, hsm, g', k1, k2, k3⟩
    refine ⟨g_frz [st.2.2, st.2.2 + 1] s, g_frz_fz _ hws, hq _ _ ⟨st.2.2 + 1, g', _, _, g_frz_f List.mem_cons_self k1, g_frz_f (List.mem_cons_of_mem _ List.mem_cons_self) k2, fun j hj => ?_, h5, by omega⟩ (hsm.frz hws (fun q hq => ?_))⟩
    · rw [k3 j hj]
      exact h3 j hj
    · rcases List.mem_cons.mp hq with h | h
      · omega
      · rw [List.mem_singleton.mp h]
        omega
theorem sb_rev0 : ∀ n : Nat, n < 128 → ((nI n - nI 1) - nI 1) >>> (nI 1 &&& 31) = nI (n / 2) - nI 1 := by decide +kernel
theorem sb_neg : ∀ n : Nat, n < 128 → ((nI n - nI 1 < 0) ↔ n = 0) := by decide +kernel
theorem sb_pr (n : Nat) : nI (n + 1) - nI 1 = nI n := by
  rw [su_sub (by omega)]
  rfl
theorem rev_get {t : List Nat} {i : Nat} (h : i < t.length) : t.reverse.getD i 0 = t.getD (t.length - 1 - i) 0 := by
  rw [List.getD_eq_getElem?_getD, List.getD_eq_getElem?_getD, List.getElem?_reverse h]
theorem ct_reverse {a v N : Nat} {t : List Nat} {Q : Option Nat → g_St → Prop} (hs : SB st.2.1 a t v N) (hl : t.length < 128) (hq : ∀ st' : g_St, SB st'.2.1 a t.reverse v N → Sx (fun z => z = v) st st' → Q (some a) st') : wp_J1_reverse l E 0 0 [va_rf (some a)] st Q := by
  have hs0 := hs
  have hne := hs.ne
  obtain ⟨mm, g, h1, h2, h3, h4, h5, h6, h7⟩ := hs
  refine wk_J1_reverse ⟨hs0.is, wk_J0_reverse ⟨_, hs0.vl, _, hs0.ln, hs0.is, ct_J0_isLatin1 hs0 ⟨rfl, fun z => absurd z (by decide), fun _ => ?_⟩⟩⟩
  rw [sb_rev0 _ hl]
  refine g_lp2_m (fun m x5 s => ∃ J g', x5 = nI J - nI 1 ∧ J ≤ t.length / 2 ∧ s.2.1 v = some (.inl (1, N, .inl g')) ∧ (∀ z, z < N → fits .byte (.int (g' z)) = true) ∧ (∀ i, i < t.length → g' i = if i < J ∨ t.length - J ≤ i then nI (t.getD i 0) else nI (t.getD (t.length - 1 - i) 0)) ∧ Sx (fun z => z = v) st s ∧ m = J) ?_ ⟨t.length / 2, g, rfl, Nat.le_refl _, h2, h4, fun i hi => ?_, Sx.rf, rfl⟩
  rotate_left
  · rw [h3 i hi]
    split
    · rfl
    · rw [show t.length - 1 - i = i by omega]
  rintro m x5 s K ⟨J, g', rfl, hJ, hv, hf, hg, hx, rfl⟩ hK
  have hJ2 : m < 128 := by omega
  refine ⟨fun z => ?_, fun z => ?_⟩
  · have e := (sb_neg m hJ2).mp z
    subst e
    intro _
    refine hq s ⟨mm, g', ?_, hv, fun j hj => ?_, hf, fun c hc => h5 c (List.mem_reverse.mp hc), by rw [List.length_reverse]; exact h6, h7⟩ hx
    · rw [hx.2.2.2 a hne, List.length_reverse]
      exact h1
    · rw [List.length_reverse] at hj
      rw [hg j hj, rev_get hj]
      split
      · omega
      · rfl
  · have hm0 : m ≠ 0 := fun e => z ((sb_neg m hJ2).mpr e)
    obtain ⟨j, rfl⟩ := Nat.exists_eq_succ_of_ne_zero hm0
    rw [Nat.succ_eq_add_one] at *
    rw [sb_pr]
    have ek : (nI t.length - nI 1) - nI j = nI (t.length - 1 - j) := by
      rw [su_sub (by omega), su_sub (by omega)]
    have hp1 : ∀ s', s' = g_put s v (.inl (1, N, .inl (va_up g' j (vp_nar .byte (g' (t.length - 1 - j)))))) → Pt s v s' (.inl (1, N, .inl (va_up g' j (vp_nar .byte (g' (t.length - 1 - j)))))) := fun s' e => by rw [e]; exact Pt.put hv
    refine ⟨v, rfl, N, g', j, Or.inl hv, rfl, by omega, by omega, N, g', t.length - 1 - j, Or.inl hv, ek, by omega, by omega, N, g', j, hv, rfl, by omega, by omega, fun s1 e1 => ?_⟩
    have k1 := hp1 s1 e1
    refine ⟨N, _, t.length - 1 - j, k1.nx, ek, by omega, by omega, fun s2 e2 => ?_⟩
    have k2 : Pt s1 v s2 (.inl (1, N, .inl (va_up (va_up g' j (vp_nar .byte (g' (t.length - 1 - j)))) (t.length - 1 - j) (vp_nar .byte (g' j))))) := by rw [e2]; exact Pt.put k1.nx
    have c1 : ∀ i, i < t.length → ∃ c, c < 128 ∧ g' i = nI c := fun i hi => by
      rw [hg i hi]
      split
      · exact ⟨_, g_mem h5, rfl⟩
      · exact ⟨_, g_mem h5, rfl⟩
    obtain ⟨ca, hca, ea⟩ := c1 j (by omega)
    obtain ⟨cb, hcb, eb⟩ := c1 (t.length - 1 - j) (by omega)
    refine hK j _ _ ⟨j, _, ?_, by omega, k2.nx, fun w hw => ?_, fun i hi => ?_, hx.tr ((k1.sx).tr k2.sx), rfl⟩ (by omega)
    · rw [show ((-1 : Int32)) = - nI 1 by decide, ← Int32.sub_eq_add_neg]
    · unfold va_up
      split
      · rw [ea, (sb_nar ca hca).2.1]
        exact su_fit ca hca
      · split
        · rw [eb, (sb_nar cb hcb).2.1]
          exact su_fit cb hcb
        · exact hf w hw
    · unfold va_up
      by_cases w1 : i = t.length - 1 - j
      · rw [if_pos w1, ea, (sb_nar ca hca).2.1, ← ea, hg j (by omega), if_pos (by omega), if_neg (by omega), w1, show t.length - 1 - (t.length - 1 - j) = j by omega]
      · rw [if_neg w1]
        by_cases w2 : i = j
        · rw [if_pos w2, eb, (sb_nar cb hcb).2.1, ← eb, hg _ (by omega), if_pos (by omega), if_neg (by omega), w2]
        · rw [if_neg w2, hg i hi]
          by_cases w3 : i < j + 1 ∨ t.length - (j + 1) ≤ i
          · rw [if_pos w3, if_pos (by omega)]
          · rw [if_neg w3, if_neg (by omega)]
theorem ct_shift {a v N i j len : Nat} {d : Int32} {m : Value} {g : Nat → Int32} {Q : g_St → Prop} (h1 : st.2.1 a = some (.inr (0, [va_rf (some v), .int 0, m, .int (nI len)]))) (h2 : st.2.1 v = some (.inl (1, N, .inl g))) (h4 : ∀ z : Nat, z < N → fits .byte (.int (g z)) = true) (hN : N < 2 ^ 15) (hi : i ≤ len) (hl : len ≤ N) (hd : nI i + d = nI j) (hj : j + (len - i) ≤ N)
    (hq : ∀ st' : g_St, Pt st v st' (.inl (1, N, .inl (va_cpy g g i j (len - i)))) → Q st') : wp_J0_shift l E 0 0 [va_rf (some a), .int (nI i), .int d] st Q := by
  have gv : g_gr st a 0 0 (some v) := ⟨_, Or.inl h1, rfl⟩
  have gc : g_gi st a 0 1 0 := ⟨_, Or.inl h1, rfl⟩
  have gl : g_gi st a 0 3 (nI len) := ⟨_, Or.inl h1, rfl⟩
  refine wk_J0_shift ⟨_, gv, 0, gc, _, gv, 0, gc, _, gl, 0, gc, v, rfl, v, rfl, N, g, N, g, i, j, len - i, Or.inl h2, h2, by rw [g_shl0], by rw [g_shl0, hd], by rw [g_shl0, su_sub hi], by omega, by omega, by omega, by omega, by omega, fun z hz => h4 _ (by omega), fun s e => hq s ?_⟩
  rw [e]
  exact Pt.put h2
theorem ct_insertC {a v N i c cb sb : Nat} {t : List Nat} {Q : Option Nat → g_St → Prop} (hs : SB st.2.1 a t v N) (hN : N < 2 ^ 13) (hi : i ≤ t.length) (hc : c < 128) (hcb : N < t.length + 1 → 1 ≤ cb) (hsb : N < t.length + 1 → nwN N (t.length + 1) ≤ sb)
    (hq : ∀ (st' : g_St) (v' N' : Nat), SB st'.2.1 a (t.take i ++ c :: t.drop i) v' N' → (N' = if N < t.length + 1 then nwN N (t.length + 1) else N) → (v' = v ∨ st.2.2 ≤ v') → Se (fun z => z = a ∨ z = v) st st' → st'.1 = st.1 → Q (some a) st') : wp_J1_insert l E cb sb [va_rf (some a), .int (nI i), .int (nI c)] st Q := by
  have hl := hs.lt
  refine wk_J1_insert ⟨cb, sb, Nat.le_refl _, Nat.le_refl _, hs.is, wk_J0_insert ⟨_, hs.ln, wk_J2_checkOffset fun o1 _ => ct_J6_checkFromTo hi (Nat.le_refl _) (by omega) ⟨rfl, rfl, _, hs.ln, cb, sb, Nat.le_refl _, Nat.le_refl _, hs.is, ?_⟩⟩⟩
  rw [nI_add]
  refine ct_ensure hs hN (by omega) hcb hsb fun s1 v' N' hs1 k1 k2 k3 k4 k5 _ => ⟨hs1.is, ?_⟩
  have hne := hs1.ne
  have hs10 := hs1
  obtain ⟨mm, g, h1, h2, h3, h4, h5, h6, h7⟩ := hs1
  refine ct_shift (j := i + 1) h1 h2 h4 h7 hi h6 (nI_add i 1) (by omega) fun s2 p2 _ => ⟨nI t.length, ⟨_, Or.inl ((p2.2.2.2.1 _ hne).trans h1), rfl⟩, pu ((p2.2.2.2.1 _ hne).trans h1) fun s3 p3 => ?_⟩
  have h13 := p3.nx
  have h23 := (p3.2.2.2.1 _ (Ne.symm hne)).trans p2.nx
  have hc0 : g_gi s3 a 0 1 0 := ⟨_, Or.inl h13, rfl⟩
  have hL : ∀ {Q : Int32 → g_St → Prop}, Q (nI 1) s3 → wp_J0_isLatin1 l E 0 0 [va_rf (some a)] s3 Q := fun {Q} hq => by
    refine wk_J0_isLatin1 ?_
    refine g_jn1_i (fun x => x = nI 1) (fun x hx => by subst hx; exact ⟨rfl, hq⟩) fun K hK => ?_
    show ∃ x6 : Int32, _
    exact ⟨0, hc0, fun h => absurd rfl h, fun _ => hK _ rfl⟩
  refine ⟨⟨_, Or.inl h13⟩, hL ⟨rfl, ?_⟩⟩
  show _ ∧ _
  refine ⟨fun z => absurd z (by decide), fun _ => ct_canEncode hc ⟨rfl, fun z => absurd z (by decide), fun _ => ⟨some v', ⟨_, Or.inl h13, rfl⟩, v', rfl, N', _, i, h23, rfl, by omega, by omega, fun s4 e4 _ => ?_⟩⟩⟩
  have p4 : Pt s3 v' s4 (.inl (1, N', .inl (va_up (va_cpy g g i (i + 1) (t.length - i)) i (vp_nar .byte ((nI c).toInt8.toInt32))))) := by rw [e4]; exact Pt.put h23
  have hlen : (t.take i ++ c :: t.drop i).length = t.length + 1 := by
    rw [List.length_append, List.length_cons, List.length_take, List.length_drop]
    omega
  refine hq s4 v' N' ⟨mm, _, ?_, p4.nx, fun j hj => ?_, fun z hz => ?_, fun y hy => ?_, by rw [hlen]; exact k1, h7⟩ k2 ?_ ⟨k4.1.tr (p2.2.2.2.2.tr (p3.2.2.2.2.tr p4.2.2.2.2)), fun q hq' hn => ?_⟩ (by rw [p4.1, p3.1, p2.1, k5])
  · rw [p4.2.2.2.1 _ hne, h13, hlen, ← nI_add]
    rfl
  · rw [hlen] at hj
    rw [List.getD_eq_getElem?_getD]
    have htl : (t.take i).length = i := by rw [List.length_take]; omega
    by_cases w1 : j = i
    · rw [w1, va_up_self, (sb_nar c hc).1, List.getElem?_append_right (by omega), htl, Nat.sub_self]
      rfl
    · rw [va_up_ne _ _ w1]
      unfold va_cpy
      by_cases w2 : j < i
      · rw [if_neg (by omega), h3 j (by omega), List.getElem?_append_left (by omega), List.getElem?_take, if_pos w2, List.getD_eq_getElem?_getD]
      · rw [if_pos (by omega), h3 _ (by omega), List.getElem?_append_right (by omega), htl, List.getD_eq_getElem?_getD, show j - i = (j - (i + 1)) + 1 by omega, List.getElem?_cons_succ, List.getElem?_drop]
  · by_cases w1 : z = i
    · rw [w1, va_up_self, (sb_nar c hc).1]
      exact su_fit c hc
    · rw [va_up_ne _ _ w1]
      unfold va_cpy
      split
      · exact h4 _ (by omega)
      · exact h4 z hz
  · rcases List.mem_append.mp hy with y1 | y1
    · exact h5 y (List.mem_of_mem_take y1)
    · rcases List.mem_cons.mp y1 with y2 | y2
      · rw [y2]; exact hc
      · exact h5 y (List.mem_of_mem_drop y2)
  · rcases k3 with ⟨w, _⟩ | ⟨w, _⟩
    · exact Or.inl w
    · exact Or.inr (by omega)
  · have hqv : q ≠ v' := fun e => by
      rcases k3 with ⟨w, _⟩ | ⟨w, _⟩
      · exact hn (Or.inr (e.trans w))
      · omega
    rw [p4.2.2.2.1 q hqv, p3.2.2.2.1 q (fun e => hn (Or.inl e)), p2.2.2.2.1 q hqv]
    exact k4.2 q hq' (fun e => hn (Or.inl e))
theorem ct_delAt {a v N i : Nat} {t : List Nat} {Q : Option Nat → g_St → Prop} (hs : SB st.2.1 a t v N) (hi : i < t.length)
    (hq : ∀ st' : g_St, SB st'.2.1 a (t.take i ++ t.drop (i + 1)) v N → Sx (fun z => z = a ∨ z = v) st st' → Q (some a) st') : wp_J1_deleteCharAt l E 0 0 [va_rf (some a), .int (nI i)] st Q := by
  have hne := hs.ne
  have hs10 := hs
  obtain ⟨mm, g, h1, h2, h3, h4, h5, h6, h7⟩ := hs
  refine wk_J1_deleteCharAt ⟨hs10.is, wk_J0_deleteCharAt ⟨_, hs10.ln, ct_J2_checkIndex hi (by omega) ⟨rfl, hs10.is, ?_⟩⟩⟩
  rw [nI_add]
  refine ct_shift (i := i + 1) (j := i) h1 h2 h4 h7 (by omega) h6 ?_ (by omega) fun s2 p2 _ => ⟨nI t.length, ⟨_, Or.inl ((p2.2.2.2.1 _ hne).trans h1), rfl⟩, pu ((p2.2.2.2.1 _ hne).trans h1) fun s3 p3 => pu p3.nx fun s4 p4 _ => ?_⟩
  · rw [show ((-1 : Int32)) = - nI 1 by decide, ← Int32.sub_eq_add_neg, su_sub (by omega)]
    rfl
  have hlen : (t.take i ++ t.drop (i + 1)).length = t.length - 1 := by
    rw [List.length_append, List.length_take, List.length_drop]
    omega
  refine hq s4 ⟨.int (nI 1), va_cpy g g (i + 1) i (t.length - (i + 1)), ?_, ?_, fun j hj => ?_, fun z hz => ?_, fun y hy => ?_, by rw [hlen]; omega, h7⟩ ((p2.sx.wk fun z hz => Or.inr hz).tr ((p3.tr p4).sx.wk fun z hz => Or.inl hz))
  · rw [p4.nx, hlen, ← su_sub (by omega)]
    rfl
  · rw [p4.2.2.2.1 _ (Ne.symm hne), p3.2.2.2.1 _ (Ne.symm hne)]
    exact p2.nx
  · rw [hlen] at hj
    have htl : (t.take i).length = i := by rw [List.length_take]; omega
    rw [List.getD_eq_getElem?_getD]
    unfold va_cpy
    by_cases w2 : j < i
    · rw [if_neg (by omega), h3 j (by omega), List.getElem?_append_left (by omega), List.getElem?_take, if_pos w2, List.getD_eq_getElem?_getD]
    · rw [if_pos (by omega), h3 _ (by omega), List.getElem?_append_right (by omega), htl, List.getD_eq_getElem?_getD, List.getElem?_drop]
  · unfold va_cpy
    split
    · exact h4 _ (by omega)
    · exact h4 z hz
  · rcases List.mem_append.mp hy with y1 | y1
    · exact h5 y (List.mem_of_mem_take y1)
    · exact h5 y (List.mem_of_mem_drop y1)
theorem ct_delete {a v N i j : Nat} {t : List Nat} {Q : Option Nat → g_St → Prop} (hs : SB st.2.1 a t v N) (hij : i ≤ j) (hj : j ≤ t.length)
    (hq : ∀ st' : g_St, SB st'.2.1 a (t.take i ++ t.drop j) v N → Sx (fun z => z = a ∨ z = v) st st' → Q (some a) st') : wp_J1_delete l E 0 0 [va_rf (some a), .int (nI i), .int (nI j)] st Q := by
  have hne := hs.ne
  have hs10 := hs
  obtain ⟨mm, g, h1, h2, h3, h4, h5, h6, h7⟩ := hs
  refine wk_J1_delete ⟨hs10.is, wk_J0_delete ⟨_, hs10.ln, ?_⟩⟩
  refine g_jn1_i (fun y => y = nI j) (fun y e => ?_) fun K3 hK3 => ⟨fun _ => hK3 _ rfl, fun z => absurd (nI_le hj (by omega)) z⟩
  subst e
  intro o5 _
  refine ct_J6_checkFromTo hij hj (by omega) ⟨rfl, ?_⟩
  rw [su_sub hij]
  refine g_jn1_i (fun s => SB s.2.1 a (t.take i ++ t.drop j) v N ∧ Sx (fun z => z = a ∨ z = v) st s) (fun s ⟨k1, k2⟩ _ => hq s k1 k2) fun K8 hK8 => ⟨fun z => ?_, fun z => ?_⟩
  · have e : i = j := by
      have := (nI_leI (a := j - i) (b := 0) (by omega) (by omega)).mp z
      omega
    subst e
    refine hK8 _ ⟨?_, Sx.rf⟩
    rw [List.take_append_drop]
    exact hs10
  · have hlt : i < j := by
      rcases Nat.lt_or_ge i j with w | w
      · exact w
      · exact absurd (by rw [show j - i = 0 by omega]; decide) z
    have hlen : (t.take i ++ t.drop j).length = t.length - (j - i) := by
      rw [List.length_append, List.length_take, List.length_drop]
      omega
    refine ⟨hs10.is, ct_shift (i := j) (j := i) h1 h2 h4 h7 hj h6 ?_ (by omega) fun s2 p2 _ => pu ((p2.2.2.2.1 _ hne).trans h1) fun s3 p3 => pu p3.nx fun s4 p4 => hK8 _ ⟨⟨.int (nI 1), va_cpy g g j i (t.length - j), ?_, ?_, fun k hk => ?_, fun z hz => ?_, fun y hy => ?_, by rw [hlen]; omega, h7⟩, (p2.sx.wk fun z hz => Or.inr hz).tr ((p3.tr p4).sx.wk fun z hz => Or.inl hz)⟩⟩
    · rw [← Int32.sub_eq_add_neg, su_sub (by omega), show j - (j - i) = i by omega]
    · rw [p4.nx, hlen, ← su_sub (show j - i ≤ t.length by omega)]
      rfl
    · rw [p4.2.2.2.1 _ (Ne.symm hne), p3.2.2.2.1 _ (Ne.symm hne)]
      exact p2.nx
    · rw [hlen] at hk
      have htl : (t.take i).length = i := by rw [List.length_take]; omega
      rw [List.getD_eq_getElem?_getD]
      unfold va_cpy
      by_cases w2 : k < i
      · rw [if_neg (by omega), h3 k (by omega), List.getElem?_append_left (by omega), List.getElem?_take, if_pos w2, List.getD_eq_getElem?_getD]
      · rw [if_pos (by omega), h3 _ (by omega), List.getElem?_append_right (by omega), htl, List.getD_eq_getElem?_getD, List.getElem?_drop]
    · unfold va_cpy
      split
      · exact h4 _ (by omega)
      · exact h4 z hz
    · rcases List.mem_append.mp hy with y1 | y1
      · exact h5 y (List.mem_of_mem_take y1)
      · exact h5 y (List.mem_of_mem_drop y1)
theorem ct_sbCharAt {a v N i : Nat} {t : List Nat} {Q : Int32 → g_St → Prop} (hs : SB st.2.1 a t v N) (hi : i < t.length) (hq : Q (nI (t.getD i 0)) st) : wp_J1_charAt l E 0 0 [va_rf (some a), .int (nI i)] st Q := by
  have hs10 := hs
  obtain ⟨mm, g, h1, h2, h3, h4, h5, h6, h7⟩ := hs
  refine wk_J1_charAt ⟨hs10.is, wk_J0_charAt ⟨0, hs10.co, _, hs10.vl, _, hs10.ln, v, rfl, 1, (N, .inl g), Or.inl h2, fun x7 e7 => ?_⟩⟩
  have ex : x7 = nI t.length := by
    rw [e7, g_shr0]
    show (if nI N < nI t.length then nI N else nI t.length) = _
    rw [if_neg (nI_nlt h6 (by omega))]
  subst ex
  refine ct_J2_checkIndex hi (by omega) ⟨rfl, fun z => absurd rfl z, fun _ => ⟨N, g, i, Or.inl h2, rfl, by omega, by omega, ?_⟩⟩
  rw [h3 i hi, g_ch _ (g_mem h5)]
  exact ⟨g_chn _ (g_mem h5), rfl, g_chn _ (g_mem h5), hq⟩
theorem ct_sbSub2 {a v N i j cb sb : Nat} {t : List Nat} {Q : Option Nat → g_St → Prop} (hE : Cst E st.1) (hs : SB st.2.1 a t v N) (hij : i ≤ j) (hj : j ≤ t.length) (hcb : 2 ≤ cb) (hsb : 4 + (j - i) ≤ sb) (hq : ∀ (q : Nat) (st' : g_St), Str st'.1 q (cut t i (j - i)) → Sm st st' → Q (some q) st') : wp_J1_substring_2 l E cb sb [va_rf (some a), .int (nI i), .int (nI j)] st Q := by
  refine g_WPa.wf fun hw => ?_
  have hs10 := hs
  obtain ⟨mm, g, h1, h2, h3, h4, h5, h6, h7⟩ := hs
  have hvl := (hw.2 _ _ h2).2
  refine wk_J1_substring_2 ⟨cb, sb, Nat.le_refl _, Nat.le_refl _, hs10.is, wk_J0_substring_2 ⟨_, hs10.ln, fun o2 _ => ct_J6_checkFromTo hij hj (by omega) ⟨rfl, hs10.is, ct_J0_isLatin1 hs10 ⟨rfl, fun z => absurd z (by decide), fun _ => ⟨_, hs10.vl, cb, sb, Nat.le_refl _, Nat.le_refl _, ?_⟩⟩⟩⟩⟩
  rw [su_sub hij]
  exact ct_J7_newString hE (Or.inl h2) hvl h3 h5 h6 (by omega) (by omega) hcb hsb (fun _ _ => h2) fun q st' k1 k2 _ _ => hq q st' k1 k2
theorem ct_sbSub {a v N i cb sb : Nat} {t : List Nat} {Q : Option Nat → g_St → Prop} (hE : Cst E st.1) (hs : SB st.2.1 a t v N) (hi : i ≤ t.length) (hcb : 2 ≤ cb) (hsb : 4 + (t.length - i) ≤ sb) (hq : ∀ (q : Nat) (st' : g_St), Str st'.1 q (t.drop i) → Sm st st' → Q (some q) st') : wp_J1_substring l E cb sb [va_rf (some a), .int (nI i)] st Q := by
  have ec : cut t i (t.length - i) = t.drop i := by
    unfold cut
    rw [List.take_of_length_le (by rw [List.length_drop]; omega)]
  refine wk_J1_substring ⟨cb, sb, Nat.le_refl _, Nat.le_refl _, hs.is, wk_J0_substring ⟨_, hs.ln, cb, sb, Nat.le_refl _, Nat.le_refl _, hs.is, ct_sbSub2 hE hs hi (Nat.le_refl _) hcb hsb fun q st' k1 k2 _ _ => hq q st' (by rw [← ec]; exact k1) k2⟩⟩
theorem ct_J2_sub2 {a i mc ms : Nat} {t : List Nat} {Q : Option Nat → g_St → Prop} (hE : Cst E st.1) (h : Str st.1 a t) (hi : i ≤ t.length) (hmc : 2 ≤ mc) (hms : 4 + (t.length - i) ≤ ms)
    (hq : ∀ (q : Nat) (st' : g_St), Str st'.1 q (t.drop i) → Sm st st' → Q (some q) st') : wp_J2_substring_2 l E mc ms [va_rf (some a), .int (nI i)] st Q := by
  have ec : cut t i (t.length - i) = t.drop i := by
    unfold cut
    rw [List.take_of_length_le (by rw [List.length_drop]; omega)]
  refine wk_J2_substring_2 ⟨h.is, ct_J2_length h ⟨rfl, mc, ms, Nat.le_refl _, Nat.le_refl _, h.is, ct_J2_substring hE h hi (Nat.le_refl _) hmc hms fun q st' k1 k2 _ => hq q st' (by rw [← ec]; exact k1) k2⟩⟩
end GSB3
