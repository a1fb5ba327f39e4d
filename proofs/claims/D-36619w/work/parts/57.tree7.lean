/-! TREE 7: deleting an entry -/
section GT7
variable {l : Launch} {E : g_E} {st0 st : g_St} {tm n : Nat} {nd ka va : Nat → Nat} {L R P : Nat → Option Nat} {co : Nat → Int32} {rt : Option Nat} {sz mc : Int32} {lo hi : Nat → Nat} {x : tX}
theorem om_ou {q : Nat} {o : Option Nat} (h : o ≠ some q) : (o.map (t_ou q)).map (fun k => nd (t_so q k)) = o.map nd := by
  cases o with
  | none => rfl
  | some j =>
    show some (nd (t_so q (t_ou q j))) = some (nd j)
    rw [t_so_ou (fun e => h (by rw [e]))]
/-- the node q goes -/
theorem TS.drop {q : Nat} {c : Option Nat} {L2 R2 P2 : Nat → Option Nat} {rt2 : Option Nat} (h : TS st0 st tm n nd ka va L2 R2 P2 co rt2 sz mc x) (hS : Shp n rt L R P lo hi) (hq : q < n) (hc : L q = none ∧ R q = c ∨ R q = none ∧ L q = c) (hL : ∀ i, i < n → i ≠ q → L2 i = if L i = some q then c else L i) (hR : ∀ i, i < n → i ≠ q → R2 i = if R i = some q then c else R i) (hP : ∀ i, i < n → i ≠ q → P2 i = if c = some i then P q else P i) (hrt : rt2 = if rt = some q then c else rt) : TS st st tm (n - 1) (fun k => nd (t_so q k)) (fun k => ka (t_so q k)) (fun k => va (t_so q k)) (dX L q c) (dX R q c) (dP P q c) (fun k => co (t_so q k)) (dT rt q c) sz mc x := by
  obtain ⟨h1, h2, h3, h4, h5, h6, h7, h8, h9⟩ := hS
  have bq := h1 q hq
  have hcq : c ≠ some q := by
    intro e
    rcases hc with ⟨_, z⟩ | ⟨_, z⟩
    · rw [e] at z
      have := h5 q q hq z
      omega
    · rw [e] at z
      have := h3 q q hq z
      omega
  have hPq : P q ≠ some q := by
    intro e
    rcases (h7 q q hq e).2 with z | z
    · have := h3 q q hq z
      omega
    · have := h5 q q hq z
      omega
  refine ⟨Sx.rf, ?_, fun k hk => ?_, fun k j hk hj e => t_so_inj (h.inj (t_so_lt hk hq) (t_so_lt hj hq) e)⟩
  · rw [h.2.1]
    unfold tM dT
    rw [hrt, om_ou]
    split
    · exact hcq
    · assumption
  · have kn := t_so_lt hk hq
    have kq : t_so q k ≠ q := t_so_ne
    rw [h.2.2.1 _ kn]
    unfold tE dX dP
    rw [hL _ kn kq, hR _ kn kq, hP _ kn kq, om_ou, om_ou, om_ou]
    · split
      · exact hPq
      · rename_i z
        intro e
        rcases (h7 _ q kn e).2 with y | y
        · rcases hc with ⟨w, _⟩ | ⟨_, w⟩
          · rw [w] at y; cases y
          · exact z (w.symm.trans y)
        · rcases hc with ⟨_, w⟩ | ⟨w, _⟩
          · exact z (w.symm.trans y)
          · rw [w] at y; cases y
    · split
      · exact hcq
      · assumption
    · split
      · exact hcq
      · assumption
/-- what stands when the entry i has gone -/
def DEL (st : g_St) (tm n : Nat) (nd ka va : Nat → Nat) (L R : Nat → Option Nat) (sz mc : Int32) (x : tX) (i : Nat) (st' : g_St) : Prop := ∃ (q : Nat) (ka' va' : Nat → Nat) (L' R' P' : Nat → Option Nat) (co' : Nat → Int32) (rt' : Option Nat) (lo' hi' : Nat → Nat), Sx (TA tm n nd) st st' ∧ TS st' st' tm (n - 1) (fun k => nd (t_so q k)) ka' va' L' R' P' co' rt' (sz - nI 1) (mc + nI 1) x ∧ Shp (n - 1) rt' L' R' P' lo' hi' ∧ tB co' ∧ ((q = i ∧ (L i = none ∨ R i = none)) ∨ (q = i + 1 ∧ i + 1 < n ∧ L i ≠ none ∧ R i ≠ none)) ∧ ∀ k, k < n - 1 → ka' k = ka (t_so i k) ∧ va' k = va (t_so i k)
theorem ct_deleteEntry {i : Nat} {Q : g_St → Prop} (h : TS st st tm n nd ka va L R P co rt sz mc x) (hS : Shp n rt L R P lo hi) (hB : tB co) (hin : i < n)
    (hq : ∀ st' : g_St, DEL st tm n nd ka va L R sz mc x i st' → Q st') : wp_J5_deleteEntry l E 0 0 [va_rf (some tm), va_rf (some (nd i))] st Q := by
  obtain ⟨h1, h2, h3, h4, h5, h6, h7, h8, h9⟩ := id hS
  have bi := h1 i hin
  refine wk_J5_deleteEntry ⟨_, h.gD, h.pM (mc + nI 1) fun st3 hT3 => ⟨_, hT3.gS, hT3.pS (sz - nI 1) fun st6 hT6 => ⟨_, rfl, _, hT6.gL hin, ?_⟩⟩⟩
  refine g_jn2_i (fun o s => ∃ (q : Nat) (ka1 va1 : Nat → Nat), o = some (nd q) ∧ q < n ∧ (L q = none ∨ R q = none) ∧ TS st s tm n nd ka1 va1 L R P co rt (sz - nI 1) (mc + nI 1) x ∧ ((q = i ∧ (L i = none ∨ R i = none)) ∨ (q = i + 1 ∧ i + 1 < n ∧ L i ≠ none ∧ R i ≠ none)) ∧ ∀ k, k < n - 1 → ka1 (t_so q k) = ka (t_so i k) ∧ va1 (t_so q k) = va (t_so i k)) (fun o s H => ?_) fun K11 hK11 => ⟨fun e => hK11 _ _ ⟨i, ka, va, rfl, hin, Or.inl (om_none e), hT6, Or.inl ⟨rfl, Or.inl (om_none e)⟩, fun k hk => ⟨rfl, rfl⟩⟩, fun a e => ⟨_, hT6.gR hin, fun e2 => hK11 _ _ ⟨i, ka, va, rfl, hin, Or.inr (om_none e2), hT6, Or.inl ⟨rfl, Or.inr (om_none e2)⟩, fun k hk => ⟨rfl, rfl⟩⟩, fun a2 e2 => ?_⟩⟩
  rotate_left
  · obtain ⟨c1, hL1, rfl⟩ := om_some e
    obtain ⟨c2, hR1, rfl⟩ := om_some e2
    have k2 := h5 i c2 hin hR1
    have b2 := h1 c2 k2.1
    have hi1 : i + 1 < n := by omega
    refine ct_succ hT6 hS hin ⟨rfl, nd (i + 1), by unfold tnx; rw [if_pos hi1], _, hT6.gK hi1, hT6.pK hin _ fun s1 hT7 => ⟨_, hT7.gV hi1, hT7.pV hin _ fun s2 hT8 => hK11 _ _ ⟨i + 1, _, _, rfl, hi1, Or.inl ?_, hT8, Or.inr ⟨rfl, hi1, ?_, ?_⟩, fun k hk => ?_⟩⟩⟩
    · have b3 := h1 (i + 1) hi1
      cases z : L (i + 1) with
      | none => rfl
      | some j =>
        exfalso
        have k3 := h3 _ j hi1 z
        have bj := h1 j k3.1
        have key : ∀ m c : Nat, c < n → lo c = i + 1 → c ≤ m → ∃ d, d < n ∧ lo d = i + 1 ∧ L d = none := by
          intro m
          induction m with
          | zero => intro c hc e hm; have := h1 c hc; omega
          | succ m ih =>
            intro c hc e hm
            cases w : L c with
            | none => exact ⟨c, hc, e, w⟩
            | some d =>
              have k5 := h3 c d hc w
              have := h1 d k5.1
              exact ih d k5.1 (by omega) (by omega)
        obtain ⟨d, d1, d2, d3⟩ := key c2 c2 k2.1 k2.2.1 (Nat.le_refl _)
        have := h2 d d1 d3
        have e5 : d = i + 1 := by omega
        rw [e5, z] at d3
        cases d3
    · rw [hL1]; exact fun z => by cases z
    · rw [hR1]; exact fun z => by cases z
    · unfold t_up t_so
      constructor
      · grind
      · grind
  clear hT6 hT3
  obtain ⟨q, ka1, va1, rfl, hqn, hone, hT, hqi, hkv⟩ := H
  have bq := h1 q hqn
  refine ⟨_, rfl, _, hT.gL hqn, ?_⟩
  refine g_jn1_i (fun o => ∃ c, o = c.map nd ∧ (L q = none ∧ R q = c ∨ R q = none ∧ L q = c)) (fun o H => ?_) fun K16 hK16 => ⟨fun e => ⟨_, hT.gR hqn, hK16 _ ⟨_, rfl, Or.inl ⟨om_none e, rfl⟩⟩⟩, fun a e => ⟨_, hT.gL hqn, hK16 _ ⟨_, rfl, Or.inr ⟨?_, rfl⟩⟩⟩⟩
  rotate_left
  · rcases hone with z | z
    · rw [z] at e; cases e
    · exact z
  obtain ⟨c, rfl, hc⟩ := H
  have hcn : ∀ j, c = some j → j < n ∧ P j = some q ∧ j ≠ q := by
    intro j e
    rcases hc with ⟨_, z⟩ | ⟨_, z⟩
    · rw [e] at z
      have k := h5 q j hqn z
      have := h1 j k.1
      exact ⟨k.1, k.2.2.2, by omega⟩
    · rw [e] at z
      have k := h3 q j hqn z
      have := h1 j k.1
      exact ⟨k.1, k.2.2.2, by omega⟩
  have hPq : ∀ p, P q = some p → p < n ∧ p ≠ q ∧ (L p = some q ∧ R p ≠ some q ∨ R p = some q ∧ L p ≠ some q) := by
    intro p e
    obtain ⟨k1, k2⟩ := h7 q p hqn e
    have bp := h1 p k1
    rcases k2 with z | z
    · have k := h3 p q k1 z
      refine ⟨k1, by omega, Or.inl ⟨z, fun w => ?_⟩⟩
      have := h5 p q k1 w
      omega
    · have k := h5 p q k1 z
      refine ⟨k1, by omega, Or.inr ⟨z, fun w => ?_⟩⟩
      have := h3 p q k1 w
      omega
  have hPu : ∀ p j, j < n → (L j = some q ∨ R j = some q) → P q = some p → j = p := by
    intro p j hj z e
    rcases z with z | z
    · have k := (h3 j q hj z).2.2.2
      rw [e] at k
      exact (Option.some.inj k).symm
    · have k := (h5 j q hj z).2.2.2
      rw [e] at k
      exact (Option.some.inj k).symm
  refine g_jn1_i (DEL st tm n nd ka va L R sz mc x i) (fun s H => hq s H) fun K19 hK19 => ⟨fun e => ⟨_, hT.gP hqn, fun e2 => ?_, fun a25 e2 => ?_⟩, fun a22 e => ?_⟩
  · -- the only node
    have hc0 := om_none e
    subst hc0
    have hP0 := om_none e2
    have hr := h6 q hqn hP0
    have k := h9 q hr
    refine hT.pT none fun s1 hT1 => hK19 _ ⟨q, _, _, _, _, _, _, _, _, _, hT1.1, hT1.drop hS hqn hc ?_ ?_ ?_ ?_, hS.del hqn none hc, fun k => hB _, hqi, hkv⟩
    · intro j hj hne
      rw [if_neg]
      intro z
      have := (h3 j q hj z).2.2.2
      rw [hP0] at this
      cases this
    · intro j hj hne
      rw [if_neg]
      intro z
      have := (h5 j q hj z).2.2.2
      rw [hP0] at this
      cases this
    · intro j hj hne
      rw [if_neg (fun z => by cases z)]
    · rw [if_pos hr]
  · -- a leaf
    have hc0 := om_none e
    subst hc0
    obtain ⟨p, hP0, rfl⟩ := om_some e2
    obtain ⟨p1, p2, p3⟩ := hPq p hP0
    have leaf : L q = none ∧ R q = none := by
      rcases hc with ⟨z, w⟩ | ⟨z, w⟩
      · exact ⟨z, w⟩
      · exact ⟨w, z⟩
    have l1 := h2 q hqn leaf.1
    have l2 := h4 q hqn leaf.2
    refine ⟨_, hT.gC hqn, ?_⟩
    refine g_jn1_i (fun s => ∃ (L' R' P' : Nat → Option Nat) (co' : Nat → Int32) (rt' : Option Nat) (lo' hi' : Nat → Nat), TS st s tm n nd ka1 va1 L' R' P' co' rt' (sz - nI 1) (mc + nI 1) x ∧ Shp n rt' L' R' P' lo' hi' ∧ tB co' ∧ lo' q = q ∧ hi' q = q + 1) (fun s H => ?_) fun K30 hK30 => ⟨fun _ => hK30 _ ⟨L, R, P, co, rt, lo, hi, hT, hS, hB, l1, l2⟩, fun _ => ⟨hT.gI, ct_fixDel hT hS hB hqn fun s1 L' R' P' co' rt' lo' hi' hT' hS' hB' hlf _ => hK30 _ ⟨L', R', P', co', rt', lo', hi', hT', hS', hB', ?_, ?_⟩⟩⟩
    rotate_left
    · rw [(hlf q (by omega) (by omega)).1]; exact l1
    · rw [(hlf q (by omega) (by omega)).2]; exact l2
    clear hone hPq hPu p3 leaf hcn hc
    obtain ⟨L', R', P', co', rt', lo', hi', hT', hS', hB', l1', l2'⟩ := H
    obtain ⟨h1', h2', h3', h4', h5', h6', h7', h8', h9'⟩ := id hS'
    have b1' := h1' q hqn
    have hL0 : L' q = none := by
      cases z : L' q with
      | none => rfl
      | some j =>
        have k := h3' q j hqn z
        have := h1' j k.1
        omega
    have hR0 : R' q = none := by
      cases z : R' q with
      | none => rfl
      | some j =>
        have k := h5' q j hqn z
        have := h1' j k.1
        omega
    refine ⟨_, hT'.gP hqn, fun e => ?_, fun a34 e => ?_⟩
    · have k := h9' q (h6' q hqn (om_none e))
      omega
    · obtain ⟨p', hP', rfl⟩ := om_some e
      obtain ⟨k1, k2⟩ := h7' q p' hqn hP'
      have bp := h1' p' k1
      have hrt : rt' ≠ some q := fun z => by
        have := (h9' q z).2.2.2
        rw [hP'] at this
        cases this
      have fin : ∀ (s1 : g_St) (L2 R2 P2 : Nat → Option Nat), TS st s1 tm n nd ka1 va1 L2 R2 P2 co' rt' (sz - nI 1) (mc + nI 1) x → (∀ j, j < n → j ≠ q → L2 j = if L' j = some q then none else L' j) → (∀ j, j < n → j ≠ q → R2 j = if R' j = some q then none else R' j) → (∀ j, j < n → j ≠ q → P2 j = P' j) → K19 s1 := fun s1 L2 R2 P2 g1 g2 g3 g4 =>
        hK19 _ ⟨q, _, _, _, _, _, _, _, _, _, g1.1, g1.drop hS' hqn (Or.inl ⟨hL0, hR0⟩) g2 g3 (fun j hj hne => by rw [g4 j hj hne, if_neg (fun z => by cases z)]) (by rw [if_neg hrt]), hS'.del hqn none (Or.inl ⟨hL0, hR0⟩), fun k => hB' _, hqi, hkv⟩
      have e1 : ∀ j, j < n → L' j = some q → j = p' := fun j hj z => by
        have := (h3' j q hj z).2.2.2
        rw [hP'] at this
        exact (Option.some.inj this).symm
      have e2 : ∀ j, j < n → R' j = some q → j = p' := fun j hj z => by
        have := (h5' j q hj z).2.2.2
        rw [hP'] at this
        exact (Option.some.inj this).symm
      refine ⟨_, hT'.gP hqn, nd p', by rw [hP']; rfl, _, hT'.gL k1, ?_⟩
      refine g_jn1_i (fun s => ∃ (L2 R2 P2 : Nat → Option Nat), TS st s tm n nd ka1 va1 L2 R2 P2 co' rt' (sz - nI 1) (mc + nI 1) x ∧ (∀ j, j < n → j ≠ q → L2 j = if L' j = some q then none else L' j) ∧ (∀ j, j < n → j ≠ q → R2 j = if R' j = some q then none else R' j) ∧ (∀ j, j < n → j ≠ q → P2 j = P' j)) (fun s ⟨L2, R2, P2, g1, g2, g3, g4⟩ => g1.pP hqn none fun s2 hT2 => fin _ _ _ _ hT2 g2 g3 (fun j hj hne => by rw [t_up_n hne]; exact g4 j hj hne)) fun K39 hK39 => ⟨fun z => ?_, fun z => ?_⟩
      · have hR : R' p' = some q := by
          rcases k2 with w | w
          · exact absurd (by rw [w]; rfl) z
          · exact w
        have hL : L' p' ≠ some q := fun w => z (by rw [w]; rfl)
        refine ⟨_, hT'.gP hqn, nd p', by rw [hP']; rfl, _, hT'.gR k1, fun w => absurd (by rw [hR]; rfl) w, fun _ => ⟨_, hT'.gP hqn, nd p', by rw [hP']; rfl, hT'.pR k1 none fun s2 hT2 => hK39 _ ⟨_, _, _, hT2, fun j hj hne => ?_, fun j hj hne => ?_, fun _ _ _ => rfl⟩⟩⟩
        · rw [if_neg]
          intro w
          rw [e1 j hj w] at w
          exact hL w
        · by_cases w : R' j = some q
          · rw [if_pos w, e2 j hj w, t_up_s]
          · rw [if_neg w, t_up_n]
            intro v
            rw [v] at w
            exact w hR
      · have hL := hT'.injO hqn (fun j hj => (h3' p' j k1 hj).1) z
        have hR : R' p' ≠ some q := fun w => by
          have := h3' p' q k1 hL
          have := h5' p' q k1 w
          omega
        refine ⟨_, hT'.gP hqn, nd p', by rw [hP']; rfl, hT'.pL k1 none fun s2 hT2 => hK39 _ ⟨_, _, _, hT2, fun j hj hne => ?_, fun j hj hne => ?_, fun _ _ _ => rfl⟩⟩
        · by_cases w : L' j = some q
          · rw [if_pos w, e1 j hj w, t_up_s]
          · rw [if_neg w, t_up_n]
            intro v
            rw [v] at w
            exact w hL
        · rw [if_neg]
          intro w
          rw [e2 j hj w] at w
          exact hR w
  · -- a child takes its place
    obtain ⟨j, hcj, rfl⟩ := om_some e
    obtain ⟨j1, j2, j3⟩ := hcn j hcj
    refine ⟨_, hT.gP hqn, hT.pP j1 (P q) fun s1 hT1 => ⟨_, hT1.gP hqn, ?_⟩⟩
    have eP : t_up P j (P q) q = P q := t_up_n (Ne.symm j3)
    rw [eP]
    refine g_jn1_i (fun s => ∃ (L2 R2 : Nat → Option Nat), TS st s tm n nd ka1 va1 L2 R2 (t_up P j (P q)) co (if rt = some q then c else rt) (sz - nI 1) (mc + nI 1) x ∧ (∀ i, i < n → i ≠ q → L2 i = if L i = some q then c else L i) ∧ (∀ i, i < n → i ≠ q → R2 i = if R i = some q then c else R i)) (fun s ⟨L2, R2, g1, g2, g3⟩ => ?_) fun K65 hK65 => ⟨fun z => ?_, fun a77 z => ?_⟩
    · refine g1.pP hqn none fun s2 hT2 => hT2.pR hqn none fun s3 hT3 => hT3.pL hqn none fun s4 hT4 => ⟨_, hT4.gC hqn, ?_⟩
      have hD := hT4.drop hS hqn hc (fun i hi hne => by rw [t_up_n hne]; exact g2 i hi hne) (fun i hi hne => by rw [t_up_n hne]; exact g3 i hi hne) (fun i hi hne => by
        rw [t_up_n hne]
        by_cases w : i = j
        · rw [w, t_up_s, if_pos hcj]
        · rw [t_up_n w, if_neg]
          intro v
          rw [hcj] at v
          exact w (Option.some.inj v).symm) rfl
      have hSD := hS.del hqn c hc
      refine ⟨fun _ => hK19 _ ⟨q, _, _, _, _, _, _, _, _, _, hT4.1, hD, hSD, fun k => hB _, hqi, hkv⟩, fun _ => ⟨hT4.gI, ?_⟩⟩
      have ej : nd j = (fun k => nd (t_so q k)) (t_ou q j) := by
        show nd j = nd (t_so q (t_ou q j))
        rw [t_so_ou j3]
      have jl : t_ou q j < n - 1 := by
        unfold t_ou
        split <;> omega
      rw [ej]
      refine ct_fixDel (nd := fun k => nd (t_so q k)) (j0 := t_ou q j) hD hSD (fun k => hB _) jl fun s5 L' R' P' co' rt' lo' hi' hT' hS' hB' _ _ => hK19 _ ⟨q, _, _, L', R', P', co', rt', lo', hi', hT4.1.tr (hT'.1.wk ?_), hT'.s, hS', hB', hqi, hkv⟩
      rintro a (rfl | ⟨k, k1, rfl⟩)
      · exact Or.inl rfl
      · exact Or.inr ⟨_, t_so_lt k1 hqn, rfl⟩
    · have hP0 := om_none z
      have hr := h6 q hqn hP0
      refine hT1.pT (some j) fun s2 hT2 => hK65 _ ⟨L, R, ?_, fun i hi hne => ?_, fun i hi hne => ?_⟩
      · rw [if_pos hr, hcj]
        exact hT2
      · rw [if_neg]
        intro w
        have := (h3 i q hi w).2.2.2
        rw [hP0] at this
        cases this
      · rw [if_neg]
        intro w
        have := (h5 i q hi w).2.2.2
        rw [hP0] at this
        cases this
    · obtain ⟨p, hP0, rfl⟩ := om_some z
      obtain ⟨p1, p2, p3⟩ := hPq p hP0
      have hrt : rt ≠ some q := fun w => by
        have := (h9 q w).2.2.2
        rw [hP0] at this
        cases this
      have eP2 : (t_up P j (P q) q).map nd = some (nd p) := by rw [eP, hP0]; rfl
      rw [if_neg hrt] at hK65
      refine ⟨_, hT1.gP hqn, nd p, eP2, _, hT1.gL p1, fun w => ?_, fun w => ?_⟩
      · have hL : L p ≠ some q := fun v => w (by rw [v]; rfl)
        have hR : R p = some q := by
          rcases p3 with ⟨v, _⟩ | ⟨v, _⟩
          · exact absurd v hL
          · exact v
        refine ⟨_, hT1.gP hqn, nd p, eP2, hT1.pR p1 (some j) fun s2 hT2 => hK65 _ ⟨_, _, hT2, fun i hi hne => ?_, fun i hi hne => ?_⟩⟩
        · rw [if_neg]
          intro v
          rw [hPu p i hi (Or.inl v) hP0] at v
          exact hL v
        · by_cases v : R i = some q
          · rw [if_pos v, hPu p i hi (Or.inr v) hP0, t_up_s, hcj]
          · rw [if_neg v, t_up_n]
            intro u
            rw [u] at v
            exact v hR
      · have hL := hT1.injO hqn (fun i hi => (h3 p i p1 hi).1) w
        have hR : R p ≠ some q := by
          rcases p3 with ⟨_, v⟩ | ⟨_, v⟩
          · exact v
          · exact absurd hL v
        refine ⟨_, hT1.gP hqn, nd p, eP2, hT1.pL p1 (some j) fun s2 hT2 => hK65 _ ⟨_, _, hT2, fun i hi hne => ?_, fun i hi hne => ?_⟩⟩
        · by_cases v : L i = some q
          · rw [if_pos v, hPu p i hi (Or.inl v) hP0, t_up_s, hcj]
          · rw [if_neg v, t_up_n]
            intro u
            rw [u] at v
            exact v hL
        · rw [if_neg]
          intro v
          rw [hPu p i hi (Or.inr v) hP0] at v
          exact hR v
end GT7
