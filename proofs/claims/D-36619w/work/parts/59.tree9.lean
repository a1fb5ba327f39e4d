/-! TREE 9: putting -/
section GT9
/-- the sorted words with t's number v -/
def insS (t : List Nat) (v : Nat) : wL → wL
  | [] => [(t, v)]
  | w :: ws => if w.1 < t then w :: insS t v ws else if t < w.1 then (t, v) :: w :: ws else (t, v) :: ws
theorem insS_mem {t : List Nat} {v : Nat} {ws : wL} {y : List Nat × Nat} (h : y ∈ insS t v ws) : y ∈ ws ∨ y = (t, v) := by
  induction ws with
  | nil => exact Or.inr (List.mem_singleton.mp h)
  | cons w ws ih =>
    unfold insS at h
    split at h
    · rcases List.mem_cons.mp h with e | e
      · exact Or.inl (by rw [e]; exact List.mem_cons_self)
      · rcases ih e with e | e
        · exact Or.inl (List.mem_cons_of_mem _ e)
        · exact Or.inr e
    · split at h
      · rcases List.mem_cons.mp h with e | e
        · exact Or.inr e
        · exact Or.inl e
      · rcases List.mem_cons.mp h with e | e
        · exact Or.inr e
        · exact Or.inl (List.mem_cons_of_mem _ e)
theorem insS_sd {t : List Nat} {v : Nat} {ws : wL} (hs : Sd ws) : Sd (insS t v ws) := by
  induction ws with
  | nil => exact List.pairwise_singleton _ _
  | cons w ws ih =>
    obtain ⟨h1, h2⟩ := List.pairwise_cons.mp hs
    unfold insS
    split
    · rename_i z
      refine List.pairwise_cons.mpr ⟨fun y hy => ?_, ih h2⟩
      rcases insS_mem hy with e | e
      · exact h1 y e
      · rw [e]; exact z
    · split
      · rename_i z
        refine List.pairwise_cons.mpr ⟨fun y hy => ?_, hs⟩
        rcases List.mem_cons.mp hy with e | e
        · rw [e]; exact z
        · exact ll_tr z (h1 y e)
      · rename_i z1 z2
        have e : w.1 = t := by
          rcases ll_tri w.1 t with z | z | z
          · exact absurd z z1
          · exact z
          · exact absurd z z2
        refine List.pairwise_cons.mpr ⟨fun y hy => ?_, h2⟩
        have := h1 y hy
        rw [e] at this
        exact this
theorem insS_eq {t : List Nat} {v : Nat} {ws : wL} (hs : Sd ws) : insS t v ws = if cL ws t < dL ws t then ws.set (cL ws t) (t, v) else ws.insertIdx (cL ws t) (t, v) := by
  induction ws with
  | nil => rfl
  | cons w ws ih =>
    obtain ⟨h1, h2⟩ := List.pairwise_cons.mp hs
    have k := ih h2
    unfold insS cL dL
    by_cases z : w.1 < t
    · rw [if_pos z, if_pos z, if_neg (ll_as z), k]
      by_cases y : cL ws t < dL ws t
      · rw [if_pos y, if_pos (by omega)]
        rfl
      · rw [if_neg y, if_neg (by omega)]
        rfl
    · rw [if_neg z, if_neg z]
      by_cases y : t < w.1
      · rw [if_pos y, if_pos y, if_neg (by omega)]
        rfl
      · rw [if_neg y, if_neg y]
        rw [if_pos (by omega)]
        rfl
theorem kk_q {ws : wL} {i : Nat} : kk ws i = (ws[i]?.getD ([], 0)).1 := by unfold kk; rw [List.getD_eq_getElem?_getD]
theorem vv_q {ws : wL} {i : Nat} : vv ws i = (ws[i]?.getD ([], 0)).2 := by unfold vv; rw [List.getD_eq_getElem?_getD]
def f_in (f : Nat → Nat) (k y : Nat) : Nat → Nat := fun i => if i = k then y else f (t_si k i)
theorem insI_k {ws : wL} {k i v : Nat} {t : List Nat} (hk : k ≤ ws.length) (hi : i < ws.length + 1) : (ws.insertIdx k (t, v))[i]? = if i = k then some (t, v) else ws[t_si k i]? := by
  rw [List.getElem?_insertIdx]
  unfold t_si
  by_cases e : i < k
  · rw [if_pos e, if_neg (by omega), if_pos e]
  · rw [if_neg e]
    by_cases e2 : i = k
    · rw [if_pos e2, if_pos e2, if_pos (by omega)]
    · rw [if_neg e2, if_neg e2, if_neg e]
variable {l : Launch} {E : g_E} {st0 st : g_St} {tm n : Nat} {nd ka va : Nat → Nat} {L R P : Nat → Option Nat} {co : Nat → Int32} {rt : Option Nat} {sz mc : Int32} {lo hi : Nat → Nat} {x : tX} {ws : wL}
theorem om_in {k : Nat} {f f' : Nat → Nat} {o : Option Nat} (h : ∀ i, i ≠ k → f' i = f (t_si k i)) : (o.map (t_in k)).map f' = o.map f := by
  cases o with
  | none => rfl
  | some i =>
    show some (f' (t_in k i)) = some (f i)
    rw [h _ t_in_ne, t_si_in]
theorem TS.grow {k p a b : Nat} {c : Int32} {st' : g_St} {nd' : Nat → Nat} (h : TS st0 st tm n nd ka va L R P co rt sz mc x) (hk : k ≤ n) (hq : st'.2.1 (nd' k) = some (.inr (4, [va_rf (some a), va_rf (some b), va_rf none, va_rf none, va_rf (some (nd p)), .int c]))) (hh : ∀ z, TA tm n nd z → st'.2.1 z = st.2.1 z) (hne : ∀ i, i < n → nd i ≠ nd' k) (h2 : ∀ i, i ≠ k → nd' i = nd (t_si k i)) : TS st' st' tm (n + 1) nd' (f_in ka k a) (f_in va k b) (iY L k) (iY R k) (iP P k p) (fun i => if i = k then c else co (t_si k i)) (rt.map (t_in k)) sz mc x := by
  refine ⟨Sx.rf, ?_, fun i hi => ?_, fun i j hi hj e => ?_⟩
  · rw [hh _ (Or.inl rfl), h.2.1]
    unfold tM
    rw [om_in h2]
  · rcases t_in_c k i with rfl | ⟨i, rfl⟩
    · rw [hq]
      unfold tE f_in iY iP
      rw [if_pos rfl, if_pos rfl, if_pos rfl, if_pos rfl, if_pos rfl]
      simp only [Option.map_none, Option.map_some]
      rw [h2 _ t_in_ne, t_si_in]
      simp
    · have i0 := t_in_l hi hk
      have en : nd' (t_in k i) = nd i := by rw [h2 _ t_in_ne, t_si_in]
      rw [en, hh _ (Or.inr ⟨i, i0, rfl⟩), h.2.2.1 i i0]
      unfold tE f_in iY iP
      simp only [if_neg t_in_ne, t_si_in]
      rw [om_in h2, om_in h2, om_in h2]
  · rcases t_in_c k i with e1 | ⟨i, rfl⟩
    · rcases t_in_c k j with e2 | ⟨j, rfl⟩
      · rw [e1, e2]
      · have j0 := t_in_l hj hk
        rw [h2 _ (t_in_ne (i := j)), t_si_in, e1] at e
        exact absurd e.symm (hne j j0)
    · have i0 := t_in_l hi hk
      rcases t_in_c k j with e2 | ⟨j, rfl⟩
      · rw [h2 _ (t_in_ne (i := i)), t_si_in, e2] at e
        exact absurd e (hne i i0)
      · have j0 := t_in_l hj hk
        rw [h2 _ t_in_ne, t_si_in, h2 _ t_in_ne, t_si_in] at e
        rw [h.inj i0 j0 e]
/-- what stands when a node has come in at k -/
def INS (st : g_St) (tm n : Nat) (nd ka va : Nat → Nat) (sz mc : Int32) (x : tX) (k a b : Nat) (st' : g_St) : Prop := ∃ (nd' : Nat → Nat) (L' R' P' : Nat → Option Nat) (co' : Nat → Int32) (rt' : Option Nat) (lo' hi' : Nat → Nat), nd' k = st.2.2 ∧ (∀ i, i ≠ k → i < n + 1 → nd' i = nd (t_si k i)) ∧ st'.1 = st.1 ∧ st'.2.2 = st.2.2 + 1 ∧ Se (TA tm n nd) st st' ∧ TS st' st' tm (n + 1) nd' (f_in ka k a) (f_in va k b) L' R' P' co' rt' (sz + nI 1) (mc + nI 1) x ∧ Shp (n + 1) rt' L' R' P' lo' hi' ∧ tB co'
theorem TA_in {k : Nat} {nd' : Nat → Nat} (hk : k ≤ n) (h2 : ∀ i, i ≠ k → nd' i = nd (t_si k i)) {a : Nat} (h : TA tm (n + 1) nd' a) : TA tm n nd a ∨ a = nd' k := by
  rcases h with rfl | ⟨i, hi, rfl⟩
  · exact Or.inl (Or.inl rfl)
  · rcases t_in_c k i with e | ⟨i, rfl⟩
    · exact Or.inr (by rw [e])
    · exact Or.inl (Or.inr ⟨i, t_in_l hi hk, by rw [h2 _ t_in_ne, t_si_in]⟩)
/-- one cell is written -/
def Pt (st : g_St) (a : Nat) (st' : g_St) (o : g_Ob) : Prop := st'.1 = st.1 ∧ st'.2.2 = st.2.2 ∧ st'.2.1 a = some o ∧ (∀ z, z ≠ a → st'.2.1 z = st.2.1 z) ∧ g_Ext st st'
theorem Pt.tr {a : Nat} {s1 s2 : g_St} {o1 o2 : g_Ob} (h1 : Pt st a s1 o1) (h2 : Pt s1 a s2 o2) : Pt st a s2 o2 := ⟨h2.1.trans h1.1, h2.2.1.trans h1.2.1, h2.2.2.1, fun z hz => (h2.2.2.2.1 z hz).trans (h1.2.2.2.1 z hz), h1.2.2.2.2.tr h2.2.2.2.2⟩
theorem Pt.put {a : Nat} {o o0 : g_Ob} (h : st.2.1 a = some o0) : Pt st a (g_put st a o) o := ⟨rfl, rfl, g_upd_s, fun z hz => g_upd_n hz, g_Ext.put g_Ext.rf h⟩
theorem pu {a ci k : Nat} {v : Value} {fs : List Value} {G : g_St → Prop} (h : st.2.1 a = some (.inr (ci, fs))) (kk : ∀ st' : g_St, Pt st a st' (.inr (ci, fs.set k v)) → G st') : ∃ fs : List Value, st.2.1 a = some (.inr (ci, fs)) ∧ ∀ st' : g_St, st' = g_put st a (.inr (ci, fs.set k v)) → G st' :=
  ⟨fs, h, fun st' e => kk st' (by rw [e]; exact Pt.put h)⟩
theorem Pt.nx {a : Nat} {s1 : g_St} {o : g_Ob} (h : Pt st a s1 o) : s1.2.1 a = some o := h.2.2.1
theorem Pt.sx {a : Nat} {s1 : g_St} {o : g_Ob} (h : Pt st a s1 o) : Sx (fun z => z = a) st s1 := ⟨h.1, h.2.1, h.2.2.2.2, h.2.2.2.1⟩
theorem ct_J27_init {q a b : Nat} {o : Option Nat} {Q : g_St → Prop} (hq : st.2.1 q = some (.inr (4, [va_rf none, va_rf none, va_rf none, va_rf none, va_rf none, .int 0]))) (k : ∀ st' : g_St, Pt st q st' (.inr (4, [va_rf (some a), va_rf (some b), va_rf none, va_rf none, va_rf o, .int (nI 1)])) → Q st') : wp_J27_init l E 0 0 [va_rf (some q), va_rf (some a), va_rf (some b), va_rf o] st Q :=
  wk_J27_init (pu hq fun s1 h1 => pu h1.nx fun s2 h2 => pu h2.nx fun s3 h3 => pu h3.nx fun s4 h4 => k s4 (((h1.tr h2).tr h3).tr h4))
theorem ct_addEntry {p a b k cb sb : Nat} {fl : Int32} {Q : g_St → Prop} (h : TS st st tm n nd ka va L R P co rt sz mc x) (hS : Shp n rt L R P lo hi) (hB : tB co) (hw : g_Wf st) (hp : p < n) (side : (fl = nI 0 ∧ R p = none ∧ k = p + 1) ∨ (fl = nI 1 ∧ L p = none ∧ k = p)) (hcb : 1 ≤ cb) (hsb : 6 ≤ sb)
    (hq : ∀ st' : g_St, INS st tm n nd ka va sz mc x k a b st' → Q st') : wp_J5_addEntry l E cb sb [va_rf (some tm), va_rf (some a), va_rf (some b), va_rf (some (nd p)), .int fl] st Q := by
  have hk : k ≤ n := by
    rcases side with ⟨_, _, e⟩ | ⟨_, _, e⟩ <;> omega
  refine wk_J5_addEntry ⟨hcb, hsb, fun q1 st2 e1 e2 => ?_⟩
  obtain ⟨nd', hn1, hn2⟩ : ∃ nd' : Nat → Nat, nd' k = q1 ∧ ∀ i, i ≠ k → nd' i = nd (t_si k i) := ⟨f_in nd k q1, by unfold f_in; rw [if_pos rfl], fun i hi => by unfold f_in; rw [if_neg hi]⟩
  subst hn1
  subst e2
  have hnew : ∀ i, i < n → nd i ≠ nd' k := fun i hi e => by
    have := (hw.2 _ _ (h.2.2.1 i hi)).2
    omega
  have htm : tm ≠ nd' k := fun e => by
    have := (hw.2 _ _ h.2.1).2
    omega
  refine ct_J27_init (by rw [e1]; exact g_upd_s) fun s4 ⟨f1, f2, f3, f4, _⟩ hx => ?_
  have hg4 : ∀ z, z ≠ nd' k → s4.2.1 z = st.2.1 z := fun z hz => by
    rw [f4 z hz]
    show g_upd st.2.1 st.2.2 _ z = _
    rw [g_upd_n (by rw [← e1]; exact hz)]
  have hG := h.grow hk f3 (fun z hz => hg4 z (by rcases hz with rfl | ⟨i, hi, rfl⟩; exact htm; exact hnew i hi)) hnew hn2
  have hkn : k < n + 1 := by omega
  have hpn : t_in k p < n + 1 := t_in_l2 hp
  have hx4 : g_Ext st s4 := (g_Ext.new g_Ext.rf).tr hx
  have fin : ∀ (L1 R1 : Nat → Option Nat) (lo1 hi1 : Nat → Nat) (s5 : g_St), TS s4 s5 tm (n + 1) nd' (f_in ka k a) (f_in va k b) L1 R1 (iP P k p) (fun i => if i = k then nI 1 else co (t_si k i)) (rt.map (t_in k)) sz mc x → Shp (n + 1) (rt.map (t_in k)) L1 R1 (iP P k p) lo1 hi1 → (g_is s5 tm 3 ∧ wp_J5_fixAfterInsertion l E 0 0 [va_rf (some tm), va_rf (some (nd' k))] s5 (fun st7 => g_Ext s5 st7 → ∃ x8 : Int32, g_gi st7 tm 3 4 x8 ∧ ∃ fs9 : List Value, st7.2.1 tm = some (.inr (3, fs9)) ∧ ∀ st10 : g_St, st10 = g_put st7 tm (.inr (3, fs9.set 4 (.int (x8 + (nI 1))))) → ∃ x11 : Int32, g_gi st10 tm 3 5 x11 ∧ ∃ fs12 : List Value, st10.2.1 tm = some (.inr (3, fs12)) ∧ ∀ st13 : g_St, st13 = g_put st10 tm (.inr (3, fs12.set 5 (.int (x11 + (nI 1))))) → Q st13)) := by
    intro L1 R1 lo1 hi1 s5 hT5 hS5
    refine ⟨hT5.gI, ct_fixIns hT5 hS5 (fun i => ?_) hkn fun s7 L2 R2 P2 co2 rt2 lo2 hi2 hT7 hS7 hB7 _ => ⟨_, hT7.gS, hT7.pS _ fun s10 hT10 => ⟨_, hT10.gD, hT10.pM _ fun s13 hT13 => hq _ ⟨nd', L2, R2, P2, co2, rt2, lo2, hi2, e1, fun i hi _ => hn2 i hi, ?_, ?_, ⟨hx4.tr hT13.1.2.2.1, fun z hz hz2 => ?_⟩, hT13.s, hS7, hB7⟩⟩⟩⟩
    · show (if i = k then nI 1 else co (t_si k i)) = nI 0 ∨ _ = nI 1
      split
      · exact Or.inr rfl
      · exact hB _
    · rw [hT13.1.1, f1]; rfl
    · rw [hT13.1.2.1, f2]; rfl
    · rw [hT13.1.2.2.2 z fun w => (TA_in hk hn2 w).elim hz2 (fun w => by omega), hg4 z (by omega)]
  refine g_jn1_i (fun s5 => ∃ (L1 R1 : Nat → Option Nat) (lo1 hi1 : Nat → Nat), TS s4 s5 tm (n + 1) nd' (f_in ka k a) (f_in va k b) L1 R1 (iP P k p) (fun i => if i = k then nI 1 else co (t_si k i)) (rt.map (t_in k)) sz mc x ∧ Shp (n + 1) (rt.map (t_in k)) L1 R1 (iP P k p) lo1 hi1) (fun s5 ⟨L1, R1, lo1, hi1, g1, g2⟩ => fin L1 R1 lo1 hi1 s5 g1 g2) fun K5 hK5 => ?_
  have ep : nd p = nd' (t_in k p) := by rw [hn2 _ t_in_ne, t_si_in]
  rw [ep]
  rcases side with ⟨rfl, hR, rfl⟩ | ⟨rfl, hL, rfl⟩
  · refine ⟨fun _ => ⟨_, rfl, hG.pR hpn (some (p + 1)) fun s5 hT5 => hK5 _ ⟨_, _, _, _, hT5.cg (fun _ _ => rfl) (fun i hi => ?_) (fun _ _ => rfl) rfl, hS.insR hp hR⟩⟩, fun z => absurd (by decide) z⟩
    unfold t_up iY iX
    by_cases e : i = t_in (p + 1) p
    · rw [if_pos e, if_neg (by rw [e]; exact t_in_ne), if_pos e]
    · rw [if_neg e, if_neg e]
  · refine ⟨fun z => absurd z (by decide), fun _ => ⟨_, rfl, hG.pL hpn (some k) fun s5 hT5 => hK5 _ ⟨_, _, _, _, hT5.cg (fun i hi => ?_) (fun _ _ => rfl) (fun _ _ => rfl) rfl, hS.insL hp hL⟩⟩⟩
    unfold t_up iY iX
    by_cases e : i = t_in k k
    · rw [if_pos e, if_neg (by rw [e]; exact t_in_ne), if_pos e]
    · rw [if_neg e, if_neg e]
theorem ct_addEmpty {a b cb sb : Nat} {t : List Nat} {Q : g_St → Prop} (h : TS st st tm 0 nd ka va L R P co none (nI 0) mc x) (hw : g_Wf st) (ha : Str st.1 a t) (hat : t.length < 128) (hu : ∃ a : Nat, E.2.2.2.2.1 5 = some a) (hcb : 1 ≤ cb) (hsb : 6 ≤ sb)
    (hq : ∀ st' : g_St, INS st tm 0 nd ka va (nI 0) mc x 0 a b st' → Q st') : wp_J5_addEntryToEmptyMap l E cb sb [va_rf (some tm), va_rf (some a), va_rf (some b)] st Q := by
  refine wk_J5_addEntryToEmptyMap ⟨h.gI, ct_J5_compare h ha ha hu hat hat fun y hy => ⟨rfl, hcb, hsb, fun q st3 e1 e2 => ?_⟩⟩
  subst e2
  have htm : tm ≠ q := fun e => by
    have := (hw.2 _ _ h.2.1).2
    omega
  refine ct_J27_init (by rw [e1]; exact g_upd_s) fun s4 ⟨f1, f2, f3, f4, _⟩ hx => ?_
  have hg4 : ∀ z, z ≠ q → s4.2.1 z = st.2.1 z := fun z hz => by
    rw [f4 z hz]
    show g_upd st.2.1 st.2.2 _ z = _
    rw [g_upd_n (by rw [← e1]; exact hz)]
  have hT : TS s4 s4 tm 1 (fun _ => q) (f_in ka 0 a) (f_in va 0 b) (fun _ => none) (fun _ => none) (fun _ => none) (fun _ => nI 1) none (nI 0) mc x := by
    refine ⟨Sx.rf, ?_, fun i hi => ?_, fun i j hi hj _ => by omega⟩
    · rw [hg4 _ htm, h.2.1]
      rfl
    · have e : i = 0 := by omega
      subst e
      show s4.2.1 q = _
      rw [f3]
      rfl
  have hx4 : g_Ext st s4 := (g_Ext.new g_Ext.rf).tr hx
  refine hT.pT (some 0) fun s6 hT6 => hT6.pS (nI 1) fun s8 hT8 => ⟨_, hT8.gD, hT8.pM _ fun s11 hT11 => hq _ ⟨fun _ => q, _, _, _, _, _, _, _, e1, fun i hi hi2 => by omega, ?_, ?_, ⟨hx4.tr hT11.1.2.2.1, fun z hz hz2 => ?_⟩, ?_, Shp.one, fun i => Or.inr rfl⟩⟩
  · rw [hT11.1.1, f1]; rfl
  · rw [hT11.1.2.1, f2]; rfl
  · rw [hT11.1.2.2.2 z, hg4 z (by omega)]
    rintro (w | ⟨i, hi, w⟩)
    · exact hz2 (Or.inl w)
    · have w : z = q := w
      omega
  · rw [show nI 0 + nI 1 = nI 1 by decide]
    exact hT11.s
end GT9
