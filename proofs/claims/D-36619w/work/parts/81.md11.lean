/-! MODEL 11: cuts, how many and how few -/
section GMD11
variable {us ws : wL} {t s : List Nat} {cs : Nat → List Nat} {op : Nat → Nat → Nat} {e b : Nat} {h : Nat → Nat} {g g' : Nat → Nat}
/-- what the words that the row begins with give, joined -/
def rW (op : Nat → Nat → Nat) (e : Nat) (g : Nat → Nat) (s : List Nat) : wL → Nat
  | [] => e
  | u :: us => op (rW op e g s us) (if lcp u.1 s = u.1.length then g u.1.length else e)
theorem rW_pm (ho : ∀ a b c, op (op a b) c = op (op a c) b) (hp : us.Perm ws) : rW op e g s us = rW op e g s ws := by
  induction hp with
  | nil => rfl
  | cons x _ ih =>
    show op _ _ = op _ _
    rw [ih]
  | swap x y l =>
    show op (op _ _) _ = op (op _ _) _
    rw [ho]
  | trans _ _ h1 h2 => exact h1.trans h2
theorem rW_1 (ho : ∀ a b c, op (op a b) c = op (op a c) b) {u : List Nat × Nat} : rW op e g s (us ++ [u]) = op (rW op e g s us) (if lcp u.1 s = u.1.length then g u.1.length else e) := rW_pm ho (us := us ++ [u]) (ws := u :: us) List.perm_append_comm
theorem rW_cg (hg : ∀ u ∈ us, lcp u.1 s = u.1.length → g u.1.length = g' u.1.length) : rW op e g s us = rW op e g' s us := by
  induction us with
  | nil => rfl
  | cons u us ih =>
    show op _ _ = op _ _
    rw [ih fun v hv => hg v (List.mem_cons_of_mem _ hv)]
    by_cases z : lcp u.1 s = u.1.length
    · rw [if_pos z, if_pos z, hg u List.mem_cons_self z]
    · rw [if_neg z, if_neg z]
def rF (op : Nat → Nat → Nat) (e b : Nat) (h : Nat → Nat) (us : wL) : Nat → List Nat → Nat
  | 0, s => if s.length = 0 then b else e
  | f + 1, s => if s.length = 0 then b else rW op e (fun n => h (rF op e b h us f (s.drop n))) s us
theorem rF_f (hu : ∀ u ∈ us, 1 ≤ u.1.length) (f : Nat) : ∀ (f' : Nat) (s : List Nat), s.length ≤ f → s.length ≤ f' → rF op e b h us f s = rF op e b h us f' s := by
  induction f with
  | zero =>
    intro f' s h1 h2
    have z : s.length = 0 := by omega
    cases f' with
    | zero => rfl
    | succ f' =>
      show (if s.length = 0 then b else _) = (if s.length = 0 then b else _)
      rw [if_pos z, if_pos z]
  | succ f ih =>
    intro f' s h1 h2
    by_cases z : s.length = 0
    · cases f' with
      | zero =>
        show (if s.length = 0 then b else _) = (if s.length = 0 then b else _)
        rw [if_pos z, if_pos z]
      | succ f' =>
        show (if s.length = 0 then b else _) = (if s.length = 0 then b else _)
        rw [if_pos z, if_pos z]
    · cases f' with
      | zero => omega
      | succ f' =>
        show (if s.length = 0 then b else _) = (if s.length = 0 then b else _)
        rw [if_neg z, if_neg z]
        refine rW_cg fun u hu1 _ => ?_
        have := hu u hu1
        rw [ih f' (s.drop u.1.length) (by rw [List.length_drop]; omega) (by rw [List.length_drop]; omega)]
/-- how many ways; how few pieces (99: none) -/
def wy (us : wL) (s : List Nat) : Nat := rF (· + ·) 0 1 (fun x => x) us 24 s
def fw (us : wL) (s : List Nat) : Nat := rF Nat.min 99 0 (· + 1) us 24 s
def wyX (us : wL) (s : List Nat) (ws : wL) : Nat := rW (· + ·) 0 (fun n => wy us (s.drop n)) s ws
def fwX (us : wL) (s : List Nat) (ws : wL) : Nat := rW Nat.min 99 (fun n => fw us (s.drop n) + 1) s ws
theorem wy_eq (hu : ∀ u ∈ us, 1 ≤ u.1.length) (hs : s.length ≤ 24) : wy us s = if s.length = 0 then 1 else wyX us s us := rF_f hu 24 25 s hs (by omega)
theorem fw_eq (hu : ∀ u ∈ us, 1 ≤ u.1.length) (hs : s.length ≤ 24) : fw us s = if s.length = 0 then 0 else fwX us s us := rF_f hu 24 25 s hs (by omega)
theorem ho_add : ∀ a b c : Nat, a + b + c = a + c + b := by omega
theorem ho_min : ∀ a b c : Nat, Nat.min (Nat.min a b) c = Nat.min (Nat.min a c) b := by
  intro a b c
  show min (min a b) c = min (min a c) b
  omega
theorem rF_pm (ho : ∀ a b c, op (op a b) c = op (op a c) b) (hp : us.Perm ws) (f : Nat) (s : List Nat) : rF op e b h us f s = rF op e b h ws f s := by
  induction f generalizing s with
  | zero => rfl
  | succ f ih =>
    show (if s.length = 0 then b else _) = (if s.length = 0 then b else _)
    rw [rW_pm ho hp, funext fun n => congrArg h (ih (s.drop n))]
theorem wy_pm (hp : us.Perm ws) : wy us s = wy ws s := rF_pm ho_add hp _ _
theorem fw_pm (hp : us.Perm ws) : fw us s = fw ws s := rF_pm ho_min hp _ _
theorem fwX_le : fwX us s ws ≤ 99 := by
  unfold fwX
  cases ws with
  | nil => exact Nat.le_refl _
  | cons u ws =>
    have : ∀ vs, rW Nat.min 99 (fun n => fw us (s.drop n) + 1) s vs ≤ 99 := by
      intro vs
      induction vs with
      | nil => exact Nat.le_refl _
      | cons v vs ih => exact Nat.le_trans (Nat.min_le_left _ _) ih
    exact this _
theorem fw_le (hu : ∀ u ∈ us, 1 ≤ u.1.length) (hs : s.length ≤ 24) : fw us s ≤ 99 := by
  rw [fw_eq hu hs]
  split
  · omega
  · exact fwX_le
theorem rW_mn {g : Nat → Nat} (vs : wL) : rW Nat.min 99 g s vs = 99 ∨ ∃ u ∈ vs, lcp u.1 s = u.1.length ∧ rW Nat.min 99 g s vs = g u.1.length := by
  induction vs with
  | nil => exact Or.inl rfl
  | cons v vs ih =>
    show min (rW Nat.min 99 g s vs) _ = 99 ∨ ∃ u ∈ v :: vs, lcp u.1 s = u.1.length ∧ min (rW Nat.min 99 g s vs) (if lcp v.1 s = v.1.length then g v.1.length else 99) = g u.1.length
    rcases Nat.le_total (rW Nat.min 99 g s vs) (if lcp v.1 s = v.1.length then g v.1.length else 99) with q | q
    · rw [Nat.min_eq_left q]
      rcases ih with h | ⟨u, h1, h2⟩
      · exact Or.inl h
      · exact Or.inr ⟨u, List.mem_cons_of_mem _ h1, h2⟩
    · rw [Nat.min_eq_right q]
      by_cases z : lcp v.1 s = v.1.length
      · rw [if_pos z]
        exact Or.inr ⟨v, List.mem_cons_self, z, rfl⟩
      · rw [if_neg z]
        exact Or.inl rfl
theorem fw_cs0 (hu : ∀ u ∈ us, 1 ≤ u.1.length) (n : Nat) : ∀ s : List Nat, s.length ≤ n → n ≤ 24 → fw us s = 99 ∨ fw us s ≤ s.length := by
  induction n with
  | zero =>
    intro s h1 h2
    rw [fw_eq hu (by omega), if_pos (by omega)]
    omega
  | succ n ih =>
    intro s h1 h2
    rw [fw_eq hu (by omega)]
    split
    · omega
    · have h9 := fwX_le (us := us) (s := s) (ws := us)
      rcases rW_mn (g := fun n => fw us (s.drop n) + 1) (s := s) us with h | ⟨u, h3, h4, h5⟩
      · exact Or.inl h
      · have h5 : fwX us s us = fw us (s.drop u.1.length) + 1 := h5
        have := hu u h3
        have h6 := lcp_le2 u.1 s
        have h7 : (s.drop u.1.length).length = s.length - u.1.length := List.length_drop
        rcases ih (s.drop u.1.length) (by omega) (by omega) with q | q
        · omega
        · omega
theorem fw_cs (hu : ∀ u ∈ us, 1 ≤ u.1.length) (hs : s.length ≤ 24) : fw us s = 99 ∨ fw us s ≤ s.length := fw_cs0 hu 24 s hs (Nat.le_refl _)
/-- none is -1 -/
def enc (x : Nat) : Int32 := if x = 99 then -1 else nI x
def sp_cuts (t : List Nat) (ws : wL) : Int64 := lN (wy ws t)
def sp_fewest (t : List Nat) (ws : wL) (cs : Nat → List Nat) : sR := (0, enc (fw ws t), t, ws, cs)
variable {l : Launch} {E : g_E} {st0 st : g_St} {m k0 : Nat} {A : Nat → Nat → Int32} {W : Nat → Int64} {c ln mn : Int32}
theorem ct_mcutsAll {Q : g_St → Prop} (h : MS st0 st m c (nI t.length) (nI us.length) A W) (hR : MR t us cs A) (hq : ∀ (st' : g_St) (A' : Nat → Nat → Int32) (W' : Nat → Int64), MS st0 st' m c (nI t.length) (nI us.length) A' W' → MR t us cs A' → W' 0 = lN (wy us t) → A' 11 0 = enc (fw us t) → Q st') : wp_X2_cutsAll l E 0 0 [va_rf (some m)] st Q := by
  have hW := hR.2.1
  have hT1 := hR.1.1
  have hn := hW.1
  have hu1 : ∀ u ∈ us, 1 ≤ u.1.length := fun u hu => (hW.2 u hu).1
  have hcg : ∀ {A' : Nat → Nat → Int32}, (∀ q, q ≠ 11 → A' q = A q) → MR t us cs A' := fun hA => hR.cg (hA 1 (by decide)) (hA 2 (by decide)) (hA 3 (by decide)) (hA 5 (by decide)) (hA 6 (by decide)) (hA 7 (by decide))
  refine wk_X2_cutsAll ⟨_, h.gL, ?_⟩
  refine g_lp2_m (fun mm x s => ∃ (w : Nat) (A' : Nat → Nat → Int32) (W' : Nat → Int64), x = nI w - nI 1 ∧ w ≤ t.length + 1 ∧ MS st0 s m c (nI t.length) (nI us.length) A' W' ∧ (∀ q, q ≠ 11 → A' q = A q) ∧ (∀ k, w ≤ k → k ≤ t.length → W' k = lN (wy us (t.drop k)) ∧ A' 11 k = enc (fw us (t.drop k))) ∧ mm = w) ?_ ⟨t.length + 1, A, W, (sb_pr _).symm, Nat.le_refl _, h, fun _ _ => rfl, fun k k1 k2 => by omega, rfl⟩
  rintro mm x s1 K ⟨w, A', W', rfl, hw, hS, hA, hI, rfl⟩ hK
  refine ⟨fun z => ?_, fun z => ?_⟩
  · have e := (sb_neg mm (by omega)).mp z
    subst e
    have := hI 0 (Nat.le_refl _) (Nat.zero_le _)
    exact hq s1 A' W' hS (hcg hA) this.1 this.2
  · have hm0 : mm ≠ 0 := fun e => z ((sb_neg mm (by omega)).mpr e)
    obtain ⟨w, rfl⟩ := Nat.exists_eq_succ_of_ne_zero hm0
    rw [Nat.succ_eq_add_one] at *
    rw [sb_pr]
    have hw' : w ≤ t.length := by omega
    have hds : (t.drop w).length = t.length - w := List.length_drop
    refine ⟨_, hS.g10, _, hS.gL, ?_⟩
    refine g_jn1_i (fun y => y = lN (if w = t.length then 1 else 0)) (fun y ey => ?_) fun K11 hK11 => b_ne (by omega) (by omega) (fun v => hK11 _ (by rw [if_pos v]; rfl)) fun v => hK11 _ (by rw [if_neg v]; rfl)
    refine ⟨_, rfl, hS.w10 w rfl (by omega) fun s2 h2 => ⟨_, h2.g11, _, h2.gL, ?_⟩⟩
    refine g_jn1_i (fun y => y = enc (if w = t.length then 0 else 99)) (fun y2 ey2 => ?_) fun K21 hK21 => b_ne (by omega) (by omega) (fun v => hK21 _ (by rw [if_pos v]; rfl)) fun v => hK21 _ (by rw [if_neg v]; rfl)
    refine ⟨_, rfl, h2.w11 w rfl (by omega) fun s3 h3 => ?_⟩
    refine g_lp2_m (fun mm x s => ∃ (v : Nat) (A2 : Nat → Nat → Int32) (W2 : Nat → Int64), x = nI v ∧ v ≤ us.length ∧ MS st0 s m c (nI t.length) (nI us.length) A2 W2 ∧ (∀ q, q ≠ 11 → A2 q = A q) ∧ (∀ k, w + 1 ≤ k → k ≤ t.length → W2 k = lN (wy us (t.drop k)) ∧ A2 11 k = enc (fw us (t.drop k))) ∧ W2 w = lN (if w = t.length then 1 else wyX us (t.drop w) (us.take v)) ∧ A2 11 w = enc (if w = t.length then 0 else fwX us (t.drop w) (us.take v)) ∧ mm = 100 - v) ?_ ⟨0, _, _, rfl, Nat.zero_le _, h3, ?_, ?_, ?_, ?_, rfl⟩
    · rintro mm x s4 K30 ⟨v, A2, W2, rfl, hv, hS2, hA2, hI2, hW2, hF2, rfl⟩ hK30
      have hR2 := hcg hA2
      refine ⟨_, hS2.gN, b_le (by omega) (by omega) (fun y => ?_) fun y => ⟨hS2.is, ct_mlike hS2 hR2 y hw' ⟨rfl, _, hS2.g5, _, rfl, hS2.r5 v rfl (by omega) ?_⟩⟩⟩
      · refine hK w _ _ ⟨w, A2, W2, by rw [← Int32.sub_eq_add_neg]; rfl, by omega, hS2, hA2, fun k k1 k2 => ?_, rfl⟩ (by omega)
        by_cases q : k = w
        · rw [q, hW2, hF2, tkn y, wy_eq hu1 (by omega), fw_eq hu1 (by omega), hds]
          by_cases r : w = t.length
          · rw [if_pos r, if_pos r, if_pos (by omega), if_pos (by omega)]
            exact ⟨rfl, rfl⟩
          · rw [if_neg r, if_neg r, if_neg (by omega), if_neg (by omega)]
            exact ⟨rfl, rfl⟩
        · exact hI2 k (by omega) k2
      · have kv := hW.kk y
        have l1 := lcp_le1 (kk us v) (t.drop w)
        have l2 := lcp_le2 (kk us v) (t.drop w)
        rw [(hR2.2.2.2.2.1 v y).1]
        refine g_jn1_i (fun s => ∃ (A3 : Nat → Nat → Int32) (W3 : Nat → Int64), MS st0 s m c (nI t.length) (nI us.length) A3 W3 ∧ (∀ q, q ≠ 11 → A3 q = A q) ∧ (∀ k, w + 1 ≤ k → k ≤ t.length → W3 k = lN (wy us (t.drop k)) ∧ A3 11 k = enc (fw us (t.drop k))) ∧ W3 w = lN (if w = t.length then 1 else wyX us (t.drop w) (us.take (v + 1))) ∧ A3 11 w = enc (if w = t.length then 0 else fwX us (t.drop w) (us.take (v + 1)))) (fun s5 ⟨A3, W3, g1, g2, g3, g4, g5⟩ => hK30 _ _ _ ⟨v + 1, A3, W3, nI_add v 1, y, g1, g2, g3, g4, g5, rfl⟩ (by omega)) fun K42 hK42 => ?_
        have x1 : wyX us (t.drop w) (us.take (v + 1)) = wyX us (t.drop w) (us.take v) + if lcp (kk us v) (t.drop w) = (kk us v).length then wy us ((t.drop w).drop (kk us v).length) else 0 := by
          unfold wyX
          rw [tk1 y, rW_1 ho_add]
        have x2 : fwX us (t.drop w) (us.take (v + 1)) = Nat.min (fwX us (t.drop w) (us.take v)) (if lcp (kk us v) (t.drop w) = (kk us v).length then fw us ((t.drop w).drop (kk us v).length) + 1 else 99) := by
          unfold fwX
          rw [tk1 y, rW_1 ho_min]
        have x3 : fwX us (t.drop w) (us.take v) ≤ 99 := fwX_le
        refine b_le (by omega) (by omega) (fun z1 => ?_) fun z1 => hK42 _ ⟨A2, W2, hS2, hA2, hI2, ?_, ?_⟩
        · have z2 : lcp (kk us v) (t.drop w) = (kk us v).length := by omega
          rw [if_pos z2, List.drop_drop] at x1 x2
          have hwl : w ≠ t.length := by omega
          rw [if_neg hwl] at hW2 hF2
          have hnx : w + (kk us v).length ≤ t.length := by omega
          obtain ⟨i1, i2⟩ := hI2 (w + (kk us v).length) (by omega) hnx
          have x4 := fw_le (s := t.drop (w + (kk us v).length)) hu1 (by rw [List.length_drop]; omega)
          have x5 := fw_cs (s := t.drop (w + (kk us v).length)) hu1 (by rw [List.length_drop]; omega)
          rw [List.length_drop] at x5
          refine ⟨_, hS2.g5, _, rfl, hS2.r5 v rfl (by omega) ?_⟩
          rw [(hR2.2.2.2.2.1 v y).1, nI_add]
          refine ⟨_, hS2.g10, _, rfl, hS2.r10 w rfl (by omega) ⟨_, hS2.g10, _, rfl, hS2.r10 (w + (kk us v).length) rfl (by omega) ?_⟩⟩
          rw [hW2, i1, lN_add]
          refine hS2.w10 w rfl (by omega) fun s5 h5 => ⟨_, h5.g11, _, rfl, h5.r11 (w + (kk us v).length) rfl (by omega) ?_⟩
          rw [i2]
          have hI5 : ∀ k, w + 1 ≤ k → k ≤ t.length → va_up W2 w (lN (wyX us (t.drop w) (us.take v) + wy us (t.drop (w + (kk us v).length)))) k = lN (wy us (t.drop k)) ∧ A2 11 k = enc (fw us (t.drop k)) := fun k k1 k2 => by
            rw [va_up_ne _ _ (by omega)]
            exact hI2 k k1 k2
          have hW5 : va_up W2 w (lN (wyX us (t.drop w) (us.take v) + wy us (t.drop (w + (kk us v).length)))) w = lN (if w = t.length then 1 else wyX us (t.drop w) (us.take (v + 1))) := by
            rw [if_neg hwl, x1, va_up_self]
          have keep : fwX us (t.drop w) (us.take (v + 1)) = fwX us (t.drop w) (us.take v) → K42 s5 := fun e => hK42 s5 ⟨A2, _, h5, hA2, hI5, hW5, by rw [if_neg hwl, e]; exact hF2⟩
          by_cases n99 : fw us (t.drop (w + (kk us v).length)) = 99
          · rw [n99] at x2 ⊢
            have e0 : enc 99 + nI 1 = nI 0 := rfl
            rw [e0]
            refine ⟨fun _ => keep ?_, fun q => absurd (by decide) q⟩
            rw [x2]
            show min _ _ = _
            omega
          · have e0 : enc (fw us (t.drop (w + (kk us v).length))) + nI 1 = nI (fw us (t.drop (w + (kk us v).length)) + 1) := by
              unfold enc
              rw [if_neg n99, nI_add]
            rw [e0]
            show (nI _ ≤ nI 0 → _) ∧ (¬ nI _ ≤ nI 0 → _)
            refine b_le (by omega) (by omega) (fun q => by omega) fun q => ⟨_, h5.g11, _, rfl, h5.r11 w rfl (by omega) ?_⟩
            rw [hF2]
            have upd : fw us (t.drop (w + (kk us v).length)) + 1 < fwX us (t.drop w) (us.take v) → ∃ o77, g_gr s5 m 16 13 o77 ∧ ∃ a78 : Nat, o77 = some a78 ∧ ∃ (n79 : Nat) (f80 : Nat → Int32) (j81 : Nat), s5.2.1 a78 = some (.inl (0, n79, .inl (f80))) ∧ nI w = nI j81 ∧ j81 < n79 ∧ j81 < 2 ^ 31 ∧ ∀ st82 : g_St, st82 = g_put s5 a78 (.inl (0, n79, .inl (va_up f80 j81 (nI (fw us (t.drop (w + (kk us v).length)) + 1))))) → K42 st82 := fun lt => by
              refine ⟨_, h5.g11, _, rfl, h5.w11 w rfl (by omega) fun s6 h6 => hK42 s6 ⟨_, _, h6, fun q hq => by rw [t_up_n hq]; exact hA2 q hq, fun k k1 k2 => ⟨(hI5 k k1 k2).1, ?_⟩, hW5, ?_⟩⟩
              · rw [t_up_s, va_up_ne _ _ (by omega)]
                exact (hI5 k k1 k2).2
              · rw [t_up_s, va_up_self, if_neg hwl, x2]
                have : Nat.min (fwX us (t.drop w) (us.take v)) (fw us (t.drop (w + (kk us v).length)) + 1) = fw us (t.drop (w + (kk us v).length)) + 1 := by
                  show min _ _ = _
                  omega
                rw [this]
                have q9 : ¬ fw us (t.drop (w + (kk us v).length)) + 1 = 99 := by omega
                exact (if_neg q9).symm
            by_cases f99 : fwX us (t.drop w) (us.take v) = 99
            · have e9 : enc (fwX us (t.drop w) (us.take v)) = -1 := by rw [f99]; rfl
              refine g_jn0_i (upd (by omega)) fun K75 hK75 => ?_
              rw [e9]
              exact ⟨fun _ => hK75, fun r => absurd (by decide) r⟩
            · have e9 : enc (fwX us (t.drop w) (us.take v)) = nI (fwX us (t.drop w) (us.take v)) := if_neg f99
              rw [e9]
              by_cases lt : fw us (t.drop (w + (kk us v).length)) + 1 < fwX us (t.drop w) (us.take v)
              · refine g_jn0_i (upd lt) fun K75 hK75 => ?_
                refine ⟨fun _ => hK75, fun _ => ⟨_, h5.g11, _, rfl, h5.r11 w rfl (by omega) ?_⟩⟩
                rw [hF2, e9]
                exact b_le (by omega) (by omega) (fun r => by omega) fun _ => hK75
              · have k2 : K42 s5 := keep (by rw [x2]; show min _ _ = _; omega)
                show _ ∧ _
                refine ⟨fun r => ?_, fun _ => ⟨_, h5.g11, _, rfl, h5.r11 w rfl (by omega) ?_⟩⟩
                · have := (nI_ltI (b := 0) (by omega) (by omega)).mp r
                  omega
                · rw [hF2, e9]
                  exact b_le (by omega) (by omega) (fun _ => k2) fun r => by omega
        · rw [x1, if_neg (c := lcp (kk us v) (t.drop w) = (kk us v).length) (by omega)]
          exact hW2
        · have e5 : Nat.min (fwX us (t.drop w) (us.take v)) 99 = fwX us (t.drop w) (us.take v) := by
            show min _ _ = _
            omega
          rw [x2, if_neg (c := lcp (kk us v) (t.drop w) = (kk us v).length) (by omega), hF2, e5]
    · intro q hq
      rw [t_up_n hq]
      exact hA q hq
    · intro k k1 k2
      rw [va_up_ne _ _ (by omega), t_up_s, va_up_ne _ _ (by omega)]
      exact hI k k1 k2
    · rw [va_up_self, ey]
      rfl
    · rw [t_up_s, va_up_self, ey2]
      rfl
theorem ct_mcuts {Q : Int64 → g_St → Prop} (h : MP st st m k0 t ws cs) (hq : ∀ st', MP st st' m 0 t ws cs → Q (sp_cuts t ws) st') : wp_X2_cuts l E 0 0 [va_rf (some m)] st Q := by
  obtain ⟨us, A, W, hp, h, hR⟩ := h
  refine wk_X2_cuts (h.pC _ fun s1 h1 => ⟨h1.is, ct_mcutsAll h1 hR fun s2 A2 W2 h2 hR2 e1 e2 _ => ⟨_, h2.g10, _, rfl, h2.r10 0 rfl (by omega) ?_⟩⟩)
  rw [e1, wy_pm hp]
  exact hq s2 ⟨us, A2, W2, hp, h2, hR2⟩
theorem ct_mfewest {Q : Int32 → g_St → Prop} (h : MP st st m k0 t ws cs) (hq : mok st m Q (sp_fewest t ws cs)) : wp_X2_fewest l E 0 0 [va_rf (some m)] st Q := by
  obtain ⟨us, A, W, hp, h, hR⟩ := h
  refine wk_X2_fewest (h.pC _ fun s1 h1 => ⟨h1.is, ct_mcutsAll h1 hR fun s2 A2 W2 h2 hR2 e1 e2 _ => ⟨_, h2.g11, _, rfl, h2.r11 0 rfl (by omega) ?_⟩⟩)
  rw [e2, fw_pm hp]
  exact hq s2 ⟨us, A2, W2, hp, h2, hR2⟩
end GMD11
