/-! STEMSPAN 2: the text's operations -/
section GXS2
variable {l : Launch} {E : g_E} {st st' : g_St} {a sb v N tm n ca b cb sb' : Nat} {nd ka va : Nat → Nat} {mc : Int32} {x : tX} {fc : Nat → Option Nat} {t : List Nat} {ws : wL} {cs : Nat → List Nat} {Q : Int32 → g_St → Prop} {X : String → g_St → Prop}
theorem Sy.le {b' : Nat} (h : Sy b st st') (hb : b' ≤ b) : Sy b' st st' := ⟨h.1, fun q hq => h.2 q (by omega)⟩
/-- the text has changed: both -/
theorem SPx.tx {t' : List Nat} {v' N' : Nat} (h : SPx E st a sb v N tm n nd ka va mc x ca fc t ws cs) (hw : g_Wf st) (hb : b ≤ st.2.2) (hS : SB st'.2.1 sb t' v' N') (hN : N' = 16 ∨ N' = 34) (hT : okT t') (hs : Se (fun z => z = sb ∨ z = v) st st') : SPx E st' a sb v' N' tm n nd ka va mc x ca fc t' ws cs ∧ Sy b st st' := ⟨h.txt hw hS hN hT hs, h.sy hs hb fun z hz => hz.elim (fun e => Or.inr (Or.inl e)) fun e => Or.inr (Or.inr (Or.inl e))⟩
theorem okT.tk (h : okT t) (i j : Nat) (hij : i ≤ j) : okT (t.take i ++ t.drop j) := by
  have h1 := h.1
  refine ⟨?_, (h.2.tk i).app (h.2.dp j)⟩
  rw [List.length_append, List.length_take, List.length_drop]
  omega
theorem chr_a : ∀ c : Nat, c < 128 → ((nI c).toUInt32 % 65536).toInt32 = nI c := by decide +kernel
theorem ct_xmore {p0 p1 : Int32} (hl : l.stackTraces = false) (h : SP E st a t ws cs) (hcb : 100 ≤ cb) (hsb : 1000 ≤ sb') (hq : xq E st a Q X [nIA, nIS] (sp_more p0 p1 t ws cs)) : wpx_X1_typeMore l E cb sb' [va_rf (some a), .int p0, .int p1] st Q X := by
  refine g_WPX.wf fun hw => ?_
  obtain ⟨sb, v, N, tm, n, nd, ka, va, mc, x0, ca, fc, h⟩ := h
  have hT := h.T
  have hT1 := hT.1
  unfold sp_more at hq
  refine wkx_X1_typeMore hl ?_
  have bad : ((p0 < nI 1 ∨ nI 8 < p0) ∨ (p1 < nI 0 ∨ nI 1679615 < p1)) → (1 ≤ cb ∧ 6 ≤ sb' ∧ X "java/lang/IllegalArgumentException" st) := fun z => by
    rw [if_pos z] at hq
    exact ⟨by omega, by omega, hq st h.sp Sy.rf⟩
  by_cases z : (p0 < nI 1 ∨ nI 8 < p0) ∨ (p1 < nI 0 ∨ nI 1679615 < p1)
  · refine g_jn0_i (bad z) fun K hK => ⟨fun _ => hK, fun w1 => ⟨fun _ => hK, fun w2 => ⟨fun _ => hK, fun w3 => ⟨fun w4 => ?_, fun _ => hK⟩⟩⟩⟩
    exfalso
    rcases z with (z | z) | (z | z)
    · exact w1 z
    · exact w2 z
    · exact w3 z
    · exact absurd z (Int32.not_lt.mpr w4)
  · rw [if_neg z] at hq
    obtain ⟨r, hr, rfl⟩ := i_in (x := p1) (n := 1679615) (fun w => z (Or.inr (Or.inl w))) (fun w => z (Or.inr (Or.inr w))) (by omega)
    obtain ⟨k8, hk8, rfl⟩ := i_in (x := p0) (n := 8) (fun w => z (Or.inl (Or.inl (by
      rw [Int32.lt_iff_toInt_lt] at w ⊢
      rw [nI_toInt (by omega)] at w ⊢
      omega)))) (fun w => z (Or.inl (Or.inr w))) (by omega)
    have hn1 : 1 ≤ k8 := by
      rcases Nat.lt_or_ge k8 1 with w | w
      · exact absurd (Or.inl (Or.inl (nI_lt w (by omega)))) z
      · exact w
    rw [nI_clamp (by omega), nI_clamp (by omega)] at hq
    show _ ∧ _
    refine ⟨fun w => absurd (Or.inl (Or.inl w)) z, fun _ => ⟨fun w => absurd (Or.inl (Or.inr w)) z, fun _ => ⟨fun w => absurd (Or.inr (Or.inl w)) z, fun _ => b_le (by omega) (by omega) (fun _ => ⟨_, h.sbt, _, rfl, h.sbi, h.len ⟨rfl, ?_⟩⟩) fun w => by omega⟩⟩⟩
    rw [nI_add]
    by_cases y : 24 < t.length + k8
    · rw [if_pos y] at hq
      exact b_le (by omega) (by omega) (fun w => by omega) fun _ => ⟨by omega, by omega, hq st h.sp Sy.rf⟩
    · rw [if_neg y] at hq
      refine b_le (by omega) (by omega) (fun _ => ?_) fun w => by omega
      have hdl := dg_len k8 r
      refine g_lp5_m (fun mm x y s c s' => ∃ (k v' N' : Nat), x = nI (r / 6 ^ k) ∧ y = nI k ∧ k ≤ k8 ∧ SPx E s a sb v' N' tm n nd ka va mc x0 ca fc (t ++ (dg k8 r).take k) ws cs ∧ Sy st.2.2 st s ∧ cb ≤ c + k ∧ sb' ≤ s' + 34 * k ∧ mm = 100 - k) ?_ ⟨0, v, N, by rw [Nat.pow_zero, Nat.div_one], rfl, Nat.zero_le _, by rw [List.take_zero, List.append_nil]; exact h, Sy.rf, by omega, by omega, rfl⟩
      rintro mm x1 y1 s c s' K ⟨k, v', N', rfl, rfl, hk, hS, hY, hc, hs', rfl⟩ hK
      have hlen : (t ++ (dg k8 r).take k).length = t.length + k := by rw [List.length_append, List.length_take, hdl]; omega
      refine b_le (by omega) (by omega) (fun w => ⟨_, hS.sbt, _, rfl, hS.sbi, hS.len ⟨rfl, ?_⟩⟩) fun w => ⟨_, hS.sbt, _, rfl, 1, 34, by omega, by omega, hS.sbi, g_WPa.wf fun hw1 => ?_⟩
      · have e : k = k8 := by omega
        subst e
        rw [hlen]
        rw [List.take_of_length_le (by omega)] at hS
        exact hq s hS.sp hY
      · have hd : r / 6 ^ k < 2 ^ 31 := by
          have := Nat.div_le_self r (6 ^ k)
          omega
        have cN : nI 97 + (nI (r / 6 ^ k) - nI (r / 6 ^ k) / nI 6 * nI 6) = nI (97 + r / 6 ^ k % 6) := by rw [nI_rem6 hd, nI_add]
        rw [cN, chr_a _ (by omega)]
        refine ct_appendC hS.sbS (by have := hS.N34; omega) (by omega) (fun _ => Nat.le_refl _) (fun w => grow_sb hS.N34 (by omega) w) fun s1 v1 N1 hB e1 _ hs _ _ => ?_
        have e2 : (t ++ (dg k8 r).take k) ++ [97 + r / 6 ^ k % 6] = t ++ (dg k8 r).take (k + 1) := by
          rw [List.append_assoc, List.take_succ_eq_append_getElem (by omega), ← dg_get w, List.getD_eq_getElem?_getD, List.getElem?_eq_getElem (by omega)]
          rfl
        rw [e2] at hB
        have hl2 : (t ++ (dg k8 r).take (k + 1)).length = t.length + (k + 1) := by rw [List.length_append, List.length_take, hdl]; omega
        obtain ⟨h1, h2⟩ := hS.tx hw1 hY.1.1 hB (grow_ok hS.N34 (by omega) e1) ⟨by omega, hT.2.app ((dg_sgs _ _).tk _)⟩ hs
        exact hK _ _ _ _ _ _ ⟨k + 1, v1, N1, by rw [nI_div6 _ hd, Nat.div_div_eq_div_mul, Nat.pow_succ], nI_add k 1, by omega, h1, hY.tr h2, by omega, by omega, rfl⟩ (by omega)
theorem ct_xtypeAt {p0 : Int32} {c : Nat} (hl : l.stackTraces = false) (h : SP E st a t ws cs) (hc : c < 65536) (hcb : 100 ≤ cb) (hsb : 1000 ≤ sb') (hq : xq E st a Q X [nIO, nIA, nIS] (sp_typeAt p0 c t ws cs)) : wpx_X1_typeAt l E cb sb' [va_rf (some a), .int p0, .int (nI c)] st Q X := by
  refine g_WPX.wf fun hw => ?_
  obtain ⟨sb, v, N, tm, n, nd, ka, va, mc, x, ca, fc, h⟩ := h
  have hT := h.T
  have hT1 := hT.1
  have hN := h.N34
  unfold sp_typeAt at hq
  refine wkx_X1_typeAt hl ?_
  by_cases z : p0 < nI 0 ∨ nI t.length < p0
  · rw [if_pos z] at hq
    refine g_jn0_i ⟨by omega, by omega, hq st h.sp Sy.rf⟩ fun K hK => ⟨fun _ => hK, fun w1 => ⟨_, h.sbt, _, rfl, h.sbi, h.len ⟨rfl, fun w2 => ?_, fun _ => hK⟩⟩⟩
    exfalso
    rcases z with z | z
    · exact w1 z
    · exact absurd z (Int32.not_lt.mpr w2)
  · rw [if_neg z] at hq
    obtain ⟨j, hj, rfl⟩ := i_in (x := p0) (n := t.length) (fun w => z (Or.inl w)) (fun w => z (Or.inr w)) (by omega)
    rw [nI_clamp (by omega)] at hq
    show _ ∧ _
    refine ⟨fun w => absurd (Or.inl w) z, fun _ => ⟨_, h.sbt, _, rfl, h.sbi, h.len ⟨rfl, b_le (by omega) (by omega) (fun _ => ct_xisSign hc ⟨rfl, ?_⟩) fun w => by omega⟩⟩⟩
    refine b_vt (fun z2 => ⟨_, h.sbt, _, rfl, h.sbi, h.len ⟨rfl, ?_⟩⟩) fun z2 => ?_
    · rw [if_neg (fun w => w z2)] at hq
      refine b_ne (by omega) (by omega) (fun y => ?_) fun y => ?_
      · rw [if_pos y] at hq
        exact ⟨by omega, by omega, hq st h.sp Sy.rf⟩
      · rw [if_neg y] at hq
        refine ⟨_, h.sbt, _, rfl, 1, 34, by omega, by omega, h.sbi, ct_insertC h.sbS (by omega) hj (by omega) (fun _ => Nat.le_refl _) (fun w => grow_sb hN (by omega) w) fun s1 v1 N1 hS e1 _ hs _ _ => ?_⟩
        have hlen : (t.take j ++ c :: t.drop j).length = t.length + 1 := by
          rw [List.length_append, List.length_cons, List.length_take, List.length_drop]
          omega
        have hsg : sgs (t.take j ++ c :: t.drop j) := (hT.2.tk j).app fun d hd => (List.mem_cons.mp hd).elim (fun e => by rw [e]; exact z2) (hT.2.dp j d)
        obtain ⟨h1, h2⟩ := h.tx hw (Nat.le_refl _) hS (grow_ok hN (by omega) e1) ⟨by rw [hlen]; omega, hsg⟩ hs
        refine ⟨_, h1.sbt, _, rfl, h1.sbi, h1.len ⟨rfl, ?_⟩⟩
        rw [hlen]
        exact hq s1 h1.sp h2
    · rw [if_pos z2] at hq
      exact ⟨by omega, by omega, hq st h.sp Sy.rf⟩
theorem ct_xdrop (hl : l.stackTraces = false) (h : SP E st a t ws cs) (hcb : 100 ≤ cb) (hsb : 1000 ≤ sb') (hq : xq E st a Q X [nNS] (sp_drop t ws cs)) : wpx_X1_drop l E cb sb' [va_rf (some a)] st Q X := by
  refine g_WPX.wf fun hw => ?_
  obtain ⟨sb, v, N, tm, n, nd, ka, va, mc, x, ca, fc, h⟩ := h
  have hT := h.T
  have hT1 := hT.1
  have hN := h.N34
  unfold sp_drop at hq
  refine wkx_X1_drop hl ⟨_, h.sbt, _, rfl, h.sbi, h.len ⟨rfl, ?_⟩⟩
  show (¬ nI _ = nI 0 → _) ∧ (nI _ = nI 0 → _)
  refine b_ne (by omega) (by omega) (fun y => ?_) fun y => ⟨_, h.sbt, _, h.sbt, _, rfl, h.sbi, h.len ⟨rfl, _, rfl, h.sbi, ?_⟩⟩
  · rw [if_pos y] at hq
    exact ⟨by omega, by omega, hq st h.sp Sy.rf⟩
  · rw [if_neg y] at hq
    have e0 : nI t.length - nI 1 = nI (t.length - 1) := by rw [su_sub (by omega)]
    rw [e0]
    refine ct_delAt h.sbS (by omega) fun s1 hS hs _ => ?_
    have e1 : t.take (t.length - 1) ++ t.drop (t.length - 1 + 1) = t.take (t.length - 1) := by rw [List.drop_eq_nil_of_le (by omega), List.append_nil]
    have hl2 : (t.take (t.length - 1)).length = t.length - 1 := by rw [List.length_take]; omega
    rw [e1] at hS
    obtain ⟨h1, h2⟩ := h.tx hw (Nat.le_refl _) hS hN ⟨by omega, hT.2.tk _⟩ hs.se
    refine ⟨_, h1.sbt, _, rfl, h1.sbi, h1.len ⟨rfl, ?_⟩⟩
    rw [hl2]
    exact hq s1 h1.sp h2
theorem ct_xclip {p0 p1 : Int32} (hl : l.stackTraces = false) (h : SP E st a t ws cs) (hcb : 100 ≤ cb) (hsb : 1000 ≤ sb') (hq : xq E st a Q X [nIO] (sp_clip p0 p1 t ws cs)) : wpx_X1_clip l E cb sb' [va_rf (some a), .int p0, .int p1] st Q X := by
  refine g_WPX.wf fun hw => ?_
  obtain ⟨sb, v, N, tm, n, nd, ka, va, mc, x, ca, fc, h⟩ := h
  have hT := h.T
  have hT1 := hT.1
  have hN := h.N34
  unfold sp_clip at hq
  refine wkx_X1_clip hl ?_
  by_cases z : p0 < nI 0 ∨ p1 < p0 ∨ nI t.length < p1
  · rw [if_pos z] at hq
    refine g_jn0_i ⟨by omega, by omega, hq st h.sp Sy.rf⟩ fun K hK => ⟨fun _ => hK, fun w1 => ⟨fun _ => hK, fun w2 => ⟨_, h.sbt, _, rfl, h.sbi, h.len ⟨rfl, fun w3 => ?_, fun _ => hK⟩⟩⟩⟩
    exfalso
    rcases z with z | z | z
    · exact w1 z
    · exact w2 z
    · exact absurd z (Int32.not_lt.mpr w3)
  · rw [if_neg z] at hq
    have p1n : ¬ p1 < nI 0 := fun w => z (Or.inr (Or.inl (Int32.lt_of_lt_of_le w (Int32.not_lt.mp fun q => z (Or.inl q)))))
    obtain ⟨j, hj, rfl⟩ := i_in (x := p1) (n := t.length) p1n (fun w => z (Or.inr (Or.inr w))) (by omega)
    obtain ⟨i, hi, rfl⟩ := i_in (x := p0) (n := j) (fun w => z (Or.inl w)) (fun w => z (Or.inr (Or.inl w))) (by omega)
    rw [nI_clamp (by omega), nI_clamp (by omega)] at hq
    show _ ∧ _
    refine ⟨fun w => absurd (Or.inl w) z, fun _ => ⟨fun w => absurd (Or.inr (Or.inl w)) z, fun _ => ⟨_, h.sbt, _, rfl, h.sbi, h.len ⟨rfl, b_le (by omega) (by omega) (fun _ => ⟨_, h.sbt, _, rfl, h.sbi, ct_delete h.sbS hi hj fun s1 hS hs _ => ?_⟩) fun w => by omega⟩⟩⟩⟩
    have hl2 : (t.take i ++ t.drop j).length = t.length - (j - i) := by
      rw [List.length_append, List.length_take, List.length_drop]
      omega
    obtain ⟨h1, h2⟩ := h.tx hw (Nat.le_refl _) hS hN (hT.tk i j hi) hs.se
    refine ⟨_, h1.sbt, _, rfl, h1.sbi, h1.len ⟨rfl, ?_⟩⟩
    rw [hl2]
    exact hq s1 h1.sp h2
theorem ct_xsignAt {p0 : Int32} (hl : l.stackTraces = false) (h : SP E st a t ws cs) (hcb : 100 ≤ cb) (hsb : 1000 ≤ sb') (hq : xq E st a Q X [nIO] (sp_signAt p0 t ws cs)) : wpx_X1_signAt l E cb sb' [va_rf (some a), .int p0] st Q X := by
  obtain ⟨sb, v, N, tm, n, nd, ka, va, mc, x, ca, fc, h⟩ := h
  have hT := h.T
  have hT1 := hT.1
  unfold sp_signAt at hq
  refine wkx_X1_signAt hl ?_
  by_cases z : p0 < nI 0 ∨ nI t.length ≤ p0
  · rw [if_pos z] at hq
    refine g_jn0_i ⟨by omega, by omega, hq st h.sp Sy.rf⟩ fun K hK => ⟨fun _ => hK, fun w1 => ⟨_, h.sbt, _, rfl, h.sbi, h.len ⟨rfl, fun w2 => ?_, fun _ => hK⟩⟩⟩
    exfalso
    rcases z with z | z
    · exact w1 z
    · exact absurd w2 (Int32.not_lt.mpr z)
  · rw [if_neg z] at hq
    obtain ⟨j, hj, rfl⟩ := i_in2 z (by omega)
    rw [nI_clamp (by omega)] at hq
    have b1 := hT.2.lt j
    show _ ∧ _
    exact ⟨fun w => absurd (Or.inl w) z, fun _ => ⟨_, h.sbt, _, rfl, h.sbi, h.len ⟨rfl, b_lt (by omega) (by omega) (fun _ => ⟨_, h.sbt, _, rfl, h.sbi, ct_sbCharAt h.sbS hj ⟨rfl, g_chn _ (by omega), hq st h.sp Sy.rf⟩⟩) fun w => by omega⟩⟩⟩
theorem ct_xwipe (h : SP E st a t ws cs) (hcb : 100 ≤ cb) (hsb : 1000 ≤ sb') (hq : xq E st a Q X [] (sp_wipe t ws cs)) : wp_X1_wipe l E cb sb' [va_rf (some a)] st Q := by
  refine g_WPi.wf fun hw => ?_
  obtain ⟨sb, v, N, tm, n, nd, ka, va, mc, x, ca, fc, h⟩ := h
  have hN := h.N34
  refine wk_X1_wipe ⟨_, h.sbt, _, rfl, h.sbi, h.len ⟨rfl, _, h.sbt, _, rfl, 0, 0, by omega, by omega, h.sbi, ct_setLen0 h.sbS (by omega) fun s1 hS hs _ => ?_⟩⟩
  obtain ⟨h1, h2⟩ := h.tx (t' := []) hw (Nat.le_refl _) hS hN ⟨Nat.zero_le _, fun c hc => absurd hc List.not_mem_nil⟩ (hs.wk fun z hz => Or.inl hz).se
  exact hq s1 h1.sp h2
theorem ct_xturn (h : SP E st a t ws cs) (hcb : 100 ≤ cb) (hsb : 1000 ≤ sb') (hq : xq E st a Q X [] (sp_turn t ws cs)) : wp_X1_turn l E cb sb' [va_rf (some a)] st Q := by
  refine g_WPi.wf fun hw => ?_
  obtain ⟨sb, v, N, tm, n, nd, ka, va, mc, x, ca, fc, h⟩ := h
  have hN := h.N34
  have hT := h.T
  have hT1 := hT.1
  have lt := fun z hz => h.lt hw (z := z) hz
  refine wk_X1_turn ⟨_, h.sbt, _, rfl, 2, 28, by omega, by omega, h.sbi, ct_toString h.sbS (by omega) (by omega) fun q1 s1 hq1 hs1 _ => ?_⟩
  have h1 := h.sm lt hs1 (Nat.le_refl _)
  refine ⟨_, h1.sbt, _, rfl, h1.sbi, g_WPa.wf fun hw1 => ct_reverse h1.sbS (by omega) fun s2 hS hs2 _ => ?_⟩
  have hrl : t.reverse.length = t.length := List.length_reverse
  obtain ⟨h2, hY2⟩ := h1.tx hw1 hs1.1.1 hS hN ⟨by omega, fun c hc => hT.2 c (List.mem_reverse.mp hc)⟩ (hs2.wk fun z hz => Or.inr hz).se
  refine ⟨_, h2.sbt, _, rfl, 2, 28, by omega, by omega, h2.sbi, g_WPa.wf fun hw2 => ct_toString h2.sbS (by omega) (by omega) fun q3 s3 hq3 hs3 _ => ?_⟩
  have lt2 := fun z hz => h2.lt hw2 (z := z) hz
  have h3 := h2.sm lt2 hs3 (Nat.le_refl _)
  have hq1' := (hq1.ext hs2.2.2.1).ext hs3.1
  refine ⟨_, rfl, hq1'.is, ct_J2_equals hq1' hq3 ⟨rfl, tv_nar (p := t = t.reverse), ?_⟩⟩
  exact hq s3 h3.sp (((hs1.sy (Nat.le_refl _)).tr hY2).tr (hs3.sy (Nat.le_trans hs1.1.1 hs2.2.2.1.1)))
theorem ct_become {q : Nat} {u : List Nat} {Q : g_St → Prop} (h : SPx E st a sb v N tm n nd ka va mc x ca fc t ws cs) (hu : Str st.1 q u) (hT : okT u) (hcb : 1 ≤ cb) (hsb : 34 ≤ sb') (hq : ∀ (st' : g_St) (v' N' : Nat), SPx E st' a sb v' N' tm n nd ka va mc x ca fc u ws cs → Sy st.2.2 st st' → Q st') : wp_X1_become l E cb sb' [va_rf (some a), va_rf (some q)] st Q := by
  refine g_WPv.wf fun hw => ?_
  have hN := h.N34
  have hT1 := hT.1
  refine wk_X1_become ⟨_, h.sbt, _, rfl, 0, 0, by omega, by omega, h.sbi, ct_setLen0 h.sbS (by omega) fun s1 hS hs _ => ?_⟩
  obtain ⟨h1, h2⟩ := h.tx (t' := []) hw (Nat.le_refl _) hS hN ⟨Nat.zero_le _, fun c hc => absurd hc List.not_mem_nil⟩ (hs.wk fun z hz => Or.inl hz).se
  refine ⟨_, h1.sbt, _, rfl, 1, 34, by omega, by omega, h1.sbi, g_WPa.wf fun hw1 => ct_appendS h1.sbS (by omega) (hu.ext h2.1) (by omega) (fun _ => Nat.le_refl _) (fun w => grow_sb hN (by rw [List.length_nil]; omega) w) fun s2 v2 N2 hS2 e2 _ hs2 _ _ => ?_⟩
  rw [List.nil_append] at hS2
  rw [List.length_nil, Nat.zero_add] at e2
  obtain ⟨h3, h4⟩ := h1.tx hw1 h2.1.1 hS2 (grow_ok hN hT1 e2) hT hs2
  exact hq s2 v2 N2 h3 (h2.tr h4)
theorem ct_xwords (h : SP E st a t ws cs) (hq : xq E st a Q X [] (sp_words t ws cs)) : wp_X1_words l E 0 0 [va_rf (some a)] st Q := by
  obtain ⟨sb, v, N, tm, n, nd, ka, va, mc, x, ca, fc, h⟩ := h
  refine wk_X1_words ⟨_, h.tmt, _, rfl, h.tmS.is, ct_mapSize h.tmS ⟨rfl, ?_⟩⟩
  rw [h.tmS.len]
  exact hq st h.sp Sy.rf
end GXS2
