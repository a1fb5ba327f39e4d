/-! STEMSPAN 8: written, write, code -/
section GXS8
variable {l : Launch} {E : g_E} {st st' : g_St} {a sb v N tm n ca b cb sb' : Nat} {nd ka va : Nat → Nat} {mc : Int32} {x : tX} {fc : Nat → Option Nat} {t u s : List Nat} {ws : wL} {cs : Nat → List Nat} {Q : Int32 → g_St → Prop} {X : String → g_St → Prop}
/-- the room that a builder may still need -/
def rmB (N c s : Nat) : Prop := (N = 16 ∧ 5 ≤ c ∧ 326 ≤ s) ∨ (N = 34 ∧ 4 ≤ c ∧ 292 ≤ s) ∨ (N = 70 ∧ 3 ≤ c ∧ 222 ≤ s) ∨ (N = 142 ∧ 2 ≤ c ∧ 80 ≤ s)
theorem rmB_no {m c s : Nat} (h : rmB N c s) (hm : N < m) (hm2 : m ≤ N + 4) : N < m → 1 ≤ (1 : Nat) := fun _ => Nat.le_refl _
theorem rmB_g {m c s : Nat} (h : rmB N c s) (hm : N < m) (hm2 : m ≤ N + 4) (h72 : m ≤ 80) : nwN N m = 2 * N + 2 ∧ 1 ≤ c ∧ 2 * N + 2 ≤ s ∧ rmB (2 * N + 2) (c - 1) (s - (2 * N + 2)) := by
  unfold rmB at *
  unfold nwN
  rcases h with h | h | h | h <;> obtain ⟨rfl, h1, h2⟩ := h <;> (refine ⟨?_, ?_, ?_, ?_⟩ <;> first | (split <;> omega) | omega)
theorem ct_written {q : Nat} {Q : Option Nat → g_St → Prop} (h : SPx E st a sb v N tm n nd ka va mc x ca fc t ws cs) (hu : Str st.1 q u) (hu8 : sgs u) (hul : u.length ≤ 24) (hcb : 7 ≤ cb) (hsb : 346 ≤ sb') (hq : ∀ (q' : Nat) (st' : g_St), Str st'.1 q' (wr cs u) → Sb st.2.2 st st' → Q (some q') st') : wp_X1_written l E cb sb' [va_rf (some a), va_rf (some q)] st Q := by
  refine g_WPa.wf fun hw => ?_
  have hC := h.C
  have lt := fun z hz => h.lt hw (z := z) hz
  refine wk_X1_written ⟨by omega, by omega, fun q1 s2 e1 e2 => ⟨1, 16, by omega, by omega, sb_new e1 e2 (Nat.le_refl _) (Nat.le_refl _) fun s3 v3 hS3 hv3 hb3 => ?_⟩⟩
  have hq1 : st.2.2 ≤ q1 := Nat.le_of_eq e1.symm
  refine g_lp4_m (fun mm y s c s' => ∃ (k v' N' : Nat), y = nI k ∧ k ≤ u.length ∧ SB s.2.1 q1 (wr cs (u.take k)) v' N' ∧ rmB N' c s' ∧ st.2.2 ≤ v' ∧ Sb st.2.2 st s ∧ mm = 100 - k) ?_ ⟨0, v3, 16, rfl, Nat.zero_le _, hS3, Or.inl ⟨rfl, by omega, by omega⟩, hv3, hb3, rfl⟩
  rintro mm y s c s' K ⟨k, v', N', rfl, hk, hB, hr, hv', hb, rfl⟩ hK
  have hS := h.fb lt hb
  have hu1 := hu.ext hb.1
  have wl := wr_len hC (hu8.tk k)
  rw [List.length_take] at wl
  have hN' : N' ≤ 142 := by rcases hr with r | r | r | r <;> omega
  have hr2 : 2 ≤ c ∧ 80 ≤ s' := by rcases hr with r | r | r | r <;> omega
  refine ⟨_, rfl, hu1.is, ct_J2_length hu1 ⟨rfl, b_le (by omega) (by omega) (fun z => ?_) fun z => ?_⟩⟩
  · rw [List.take_of_length_le z] at hB wl
    exact ⟨2, 80, by omega, by omega, hB.is, ct_toString hB (by omega) (by omega) fun q4 s4 hq4 hs4 _ => hq q4 s4 hq4 (hb.tr (hs4.bl hb.z))⟩
  · obtain ⟨j1, j2⟩ := sg97 hu8 z
    have hc := hC.c j2
    obtain ⟨q2, f1, f2⟩ := hS.fcS j2
    have idx : nI (u.getD k 0) - nI 97 = nI (u.getD k 0 - 97) := i_sub97 (hu8.ge z)
    refine ⟨_, hS.cat, hu1.is, ct_J2_charAt hu1 z ⟨rfl, _, rfl, 6, fc, _, Or.inl hS.caS, idx, j2, by omega, fun o e => ?_⟩⟩
    rw [e, f1]
    have wk1 := wr_tk (cs := cs) z
    have wl2 : (wr cs (u.take (k + 1))).length = (wr cs (u.take k)).length + (cs (u.getD k 0 - 97)).length := by rw [wk1, List.length_append]
    have hBl := hB.lt.2
    by_cases g : N' < (wr cs (u.take k)).length + (cs (u.getD k 0 - 97)).length
    · obtain ⟨g1, g2, g3, g4⟩ := rmB_g hr g (by omega) (by omega)
      refine ⟨1, 2 * N' + 2, g2, g3, hB.is, ct_appendS hB (by omega) f2 (by omega) (fun _ => Nat.le_refl _) (fun _ => Nat.le_of_eq g1) fun s4 v4 N4 hB4 e4 ev4 hs4 _ _ => ?_⟩
      rw [if_pos g, g1] at e4
      rw [← wk1] at hB4
      rw [e4] at hB4
      exact hK _ _ _ _ _ ⟨k + 1, v4, _, nI_add k 1, z, hB4, g4, ev4.elim (fun e => by rw [e]; exact hv') fun e => Nat.le_trans hb.z e, hb.tr (hs4.bl hb.z fun z hz => hz.elim (fun e => by rw [e]; exact hq1) fun e => by rw [e]; exact hv'), rfl⟩ (by omega)
    · refine ⟨0, 0, Nat.zero_le _, Nat.zero_le _, hB.is, ct_appendS hB (by omega) f2 (by omega) (fun w => absurd w g) (fun w => absurd w g) fun s4 v4 N4 hB4 e4 ev4 hs4 _ _ => ?_⟩
      rw [if_neg g] at e4
      rw [← wk1] at hB4
      rw [e4] at hB4
      exact hK _ _ _ _ _ ⟨k + 1, v4, _, nI_add k 1, z, hB4, hr, ev4.elim (fun e => by rw [e]; exact hv') fun e => Nat.le_trans hb.z e, hb.tr (hs4.bl hb.z fun z hz => hz.elim (fun e => by rw [e]; exact hq1) fun e => by rw [e]; exact hv'), rfl⟩ (by omega)
theorem ct_xwrite (hl : l.stackTraces = false) (h : SP E st a t ws cs) (hcb : 100 ≤ cb) (hsb : 1000 ≤ sb') (hq : xq E st a Q X [nIS] (sp_write t ws cs)) : wpx_X1_write l E cb sb' [va_rf (some a)] st Q X := by
  refine g_WPX.wf fun hw => ?_
  obtain ⟨sb, v, N, tm, n, nd, ka, va, mc, x, ca, fc, h⟩ := h
  have hT := h.T
  have hT1 := hT.1
  have hC := h.C
  have lt := fun z hz => h.lt hw (z := z) hz
  have wl := wr_len hC hT.2
  unfold sp_write at hq
  refine wkx_X1_write hl ⟨_, h.sbt, _, rfl, 2, 28, by omega, by omega, h.sbi, ct_toString h.sbS (by omega) (by omega) fun q1 s1 hq1 hs1 _ => ?_⟩
  have hb1 := hs1.bl (Nat.le_refl st.2.2)
  have h1 := h.fb lt hb1
  refine ⟨7, 346, by omega, by omega, h1.is, ct_written h1 hq1 hT.2 hT1 (Nat.le_refl _) (Nat.le_refl _) fun q2 s2 hq2 hb2' _ => ?_⟩
  have hb2 := hb1.tr (hb2'.le hb1.z)
  have h2 := h.fb lt hb2
  refine ⟨_, rfl, hq2.is, ct_J2_length hq2 ⟨rfl, b_le (by omega) (by omega) (fun z => ?_) fun z => ?_⟩⟩
  · rw [if_neg (by omega)] at hq
    exact ⟨1, 34, by omega, by omega, h2.is, ct_become h2 hq2 ⟨z, wr_sgs hC hT.2⟩ (Nat.le_refl _) (Nat.le_refl _) fun s4 v4 N4 h4 hY4 _ => ⟨(hq2.ext hY4.1).is, ct_J2_length (hq2.ext hY4.1) ⟨rfl, hq s4 h4.sp (hb2.sy.tr (hY4.le hb2.z))⟩⟩⟩
  · rw [if_pos z] at hq
    exact ⟨by omega, by omega, hq s2 h2.sp hb2.sy⟩
theorem ct_xcode {c : Nat} (hl : l.stackTraces = false) (h : SP E st a t ws cs) (hc : c < 65536) (hcb : 100 ≤ cb) (hsb : 1000 ≤ sb') (hq : xq E st a Q X [nIA, nUO] (sp_code c t ws cs)) : wpx_X1_code l E cb sb' [va_rf (some a), .int (nI c)] st Q X := by
  refine g_WPX.wf fun hw => ?_
  obtain ⟨sb, v, N, tm, n, nd, ka, va, mc, x, ca, fc, h⟩ := h
  have hT := h.T
  have hT1 := hT.1
  have hC := h.C
  have lt := fun z hz => h.lt hw (z := z) hz
  unfold sp_code at hq
  refine wkx_X1_code hl (ct_xisSign hc ⟨rfl, ?_⟩)
  refine b_vt (fun z => ⟨_, h.sbt, _, rfl, h.sbi, h.len ⟨rfl, ?_⟩⟩) fun z => ?_
  · rw [if_neg (fun w => w z)] at hq
    by_cases y : t.length < 1 ∨ 3 < t.length
    · rw [if_pos y] at hq
      refine g_jn0_i ⟨by omega, by omega, hq st h.sp Sy.rf⟩ fun K hK => ?_
      show (nI _ = nI 0 → _) ∧ (¬ nI _ = nI 0 → _)
      exact b_eq (by omega) (by omega) (fun _ => hK) fun _ => ⟨_, h.sbt, _, rfl, h.sbi, h.len ⟨rfl, b_le (by omega) (by omega) (fun w => by omega) fun _ => hK⟩⟩
    · rw [if_neg y] at hq
      have hj : c - 97 < 6 := by omega
      have idx : nI c - nI 97 = nI (c - 97) := i_sub97 z.1
      show _ ∧ _
      show (nI _ = nI 0 → _) ∧ (¬ nI _ = nI 0 → _)
      refine b_eq (by omega) (by omega) (fun w => by omega) fun _ => ⟨_, h.sbt, _, rfl, h.sbi, h.len ⟨rfl, b_le (by omega) (by omega) (fun _ => ?_) fun w => by omega⟩⟩
      refine h.rc hj idx fun q1 hq1 => ⟨_, rfl, hq1.is, ct_J2_length hq1 ⟨rfl, _, h.cat, _, h.sbt, _, rfl, 2, 28, by omega, by omega, h.sbi, ct_toString h.sbS (by omega) (by omega) fun q2 s2 hq2 hs2 _ => ?_⟩⟩
      have hb2 := hs2.bl (Nat.le_refl st.2.2)
      have h2 := h.fb lt hb2
      refine ⟨_, rfl, 6, fc, _, h2.caS, idx, hj, by omega, hq2.isN, fun s3 e3 => ?_⟩
      obtain ⟨n1, n2, n3, n4, n5, n6, n7, n8, n9⟩ := h2.nsb
      have hx3 : g_Ext s2 s3 := by rw [e3]; exact g_Ext.put g_Ext.rf h2.caS
      have hne : ∀ z, z ≠ ca → s3.2.1 z = s2.2.1 z := fun z hz => by rw [e3]; exact g_upd_n hz
      have hY3 : Sy st.2.2 s2 s3 := ⟨hx3, fun z _ hz => hne z fun e => hz (.inl (4, 6, .inr (.inr (.inr (.inr fc))))) (by rw [e]; exact h2.caS) (Or.inr rfl)⟩
      refine hq s3 ⟨sb, v, N, tm, n, nd, ka, va, mc, x, ca, va_up fc (c - 97) (some q2), (hne a n5).trans h2.1, h2.sbS.fr (hne sb (Ne.symm n3)) (hne v (Ne.symm n4)), h2.N34, h2.tmS.fr hx3.2.1 (fun z hz => hne z fun e => n9 (e ▸ hz)), by rw [e3]; exact g_upd_s, fun j hj2 => ?_, hT, h.W, fun j hj2 => ?_, h2.cE.ext hx3, h2.U.ext hx3⟩ (hb2.sy.tr hY3)
      · show ∃ q, va_up fc (c - 97) (some q2) j = some q ∧ Str s3.1 q (if j = c - 97 then t else cs j)
        by_cases e : j = c - 97
        · rw [if_pos e, e, va_up_self]
          exact ⟨q2, rfl, hq2.ext hx3⟩
        · rw [if_neg e, va_up_ne _ _ e]
          obtain ⟨q, f1, f2⟩ := h2.fcS hj2
          exact ⟨q, f1, f2.ext hx3⟩
      · show 1 ≤ (if j = c - 97 then t else cs j).length ∧ (if j = c - 97 then t else cs j).length ≤ 3 ∧ sgs (if j = c - 97 then t else cs j)
        split
        · exact ⟨by omega, by omega, hT.2⟩
        · exact hC j hj2
  · rw [if_pos z] at hq
    exact ⟨by omega, by omega, hq st h.sp Sy.rf⟩
end GXS8
