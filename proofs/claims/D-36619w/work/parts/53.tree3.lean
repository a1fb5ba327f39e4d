/-! TREE 3: rotations, successor, first entry -/
section GT3
variable {l : Launch} {E : g_E} {st0 st : g_St} {tm n : Nat} {nd ka va : Nat → Nat} {L R P : Nat → Option Nat} {co : Nat → Int32} {rt : Option Nat} {sz mc : Int32} {lo hi : Nat → Nat} {x : tX}
theorem ct_rotL {p r : Nat} {Q : g_St → Prop} (h : TS st0 st tm n nd ka va L R P co rt sz mc x) (hS : Shp n rt L R P lo hi) (hp : p < n) (hr : R p = some r)
    (hq : ∀ st' : g_St, TS st0 st' tm n nd ka va (rL L p r) (rR L R p r) (rP L P p r) co (rT rt p r) sz mc x → Q st') : wp_J5_rotateLeft l E 0 0 [va_rf (some tm), va_rf (some (nd p))] st Q := by
  obtain ⟨h1, h2, h3, h4, h5, h6, h7, h8, h9⟩ := id hS
  obtain ⟨r1, r2, r3, r4⟩ := h5 p r hp hr
  have b1 := h1 p hp
  have b2 := h1 r r1
  have hpr : p ≠ r := by omega
  refine wk_J5_rotateLeft ?_
  show _ ∧ _
  refine ⟨fun e => (by cases e), fun a5 e => ?_⟩
  cases e
  refine ⟨_, h.gR hp, nd r, by rw [hr]; rfl, _, h.gL r1, h.pR hp (L r) fun st10 hT1 => ⟨_, hT1.gL r1, ?_⟩⟩
  have e1 : t_up R p (L r) r = R r := t_up_n (Ne.symm hpr)
  refine g_jn1_i (fun st12 => TS st0 st12 tm n nd ka va L (t_up R p (L r)) (fun i => if L r = some i then some p else P i) co rt sz mc x) (fun st12 hT2 => ?_) (fun K hK => ⟨fun e => hK _ ?_, fun a e => ?_⟩)
  · have ePp : (if L r = some p then some p else P p) = P p := by
      rw [if_neg]
      intro e
      have := h3 r p r1 e
      omega
    have ePr : (if L r = some r then some p else P r) = P r := by
      rw [if_neg]
      intro e
      have := h3 r r r1 e
      omega
    refine ⟨_, hT2.gP hp, ?_⟩
    rw [ePp]
    refine hT2.pP r1 (P p) fun st17 hT3 => ⟨_, hT3.gP hp, ?_⟩
    have eQ : (t_up (fun i => if L r = some i then some p else P i) r (P p)) p = P p := by rw [t_up_n hpr]; exact ePp
    rw [eQ]
    refine g_jn1_i (fun st19 => TS st0 st19 tm n nd ka va (fun i => if L i = some p then some r else L i) (fun i => if i = p then L r else if R i = some p then some r else R i) (t_up (fun i => if L r = some i then some p else P i) r (P p)) co (rT rt p r) sz mc x) (fun st19 hT4 => ?_) (fun K hK => ⟨fun e => ?_, fun a e => ?_⟩)
    · refine hT4.pL r1 (some p) fun st23 hT5 => hT5.pP hp (some r) fun st25 hT6 => hq _ ?_
      refine hT6.cg ?_ ?_ ?_ rfl
      · intro i hi
        unfold rL
        try unfold t_up
        grind
      · intro i hi
        unfold rR
        try unfold t_up
        grind
      · intro i hi
        unfold rP t_up
        grind
    · have hP : P p = none := om_none e
      have hrt := h6 p hp hP
      refine hT3.pT (some r) fun st29 hT4 => hK _ (hT4.cg ?_ ?_ (fun _ _ => rfl) ?_)
      · intro i hi
        try unfold t_up
        grind
      · intro i hi
        try unfold t_up
        grind
      · unfold rT
        rw [if_pos hrt]
    · obtain ⟨q, hP, rfl⟩ := om_some e
      obtain ⟨q1, q2⟩ := h7 p q hp hP
      have b3 := h1 q q1
      have hrt : rt ≠ some p := by
        intro e
        have := (h9 p e).2.2.2
        rw [hP] at this
        cases this
      refine ⟨_, hT3.gP hp, nd q, ?_, _, hT3.gL q1, fun e => ?_, fun e => ?_⟩
      · rw [eQ, hP]; rfl
      · have hne : L q ≠ some p := fun z => e (by show Option.map nd (L q) = _; rw [z]; rfl)
        have hqp : R q = some p := by grind
        refine ⟨_, hT3.gP hp, nd q, ?_, hT3.pR q1 (some r) fun st37 hT4 => hK _ (hT4.cg ?_ ?_ (fun _ _ => rfl) ?_)⟩
        · rw [eQ, hP]; rfl
        · intro i hi
          try unfold t_up
          grind
        · intro i hi
          try unfold t_up
          grind
        · unfold rT
          rw [if_neg hrt]
      · have hqp : L q = some p := h.injO hp (fun j hj => (h3 q j q1 hj).1) e.symm
        refine ⟨_, hT3.gP hp, nd q, ?_, hT3.pL q1 (some r) fun st37 hT4 => hK _ (hT4.cg ?_ ?_ (fun _ _ => rfl) ?_)⟩
        · rw [eQ, hP]; rfl
        · intro i hi
          try unfold t_up
          grind
        · intro i hi
          try unfold t_up
          grind
        · unfold rT
          rw [if_neg hrt]
  · have hB := om_none e
    refine hT1.cg (fun _ _ => rfl) (fun _ _ => rfl) (fun i hi => ?_) rfl
    rw [hB]
    simp
  · obtain ⟨c, hc, rfl⟩ := om_some e
    obtain ⟨c1, c2, c3, c4⟩ := h3 r c r1 hc
    refine ⟨_, hT1.gL r1, nd c, by rw [hc]; rfl, hT1.pP c1 (some p) fun st48 hT2 => hK _ (hT2.cg (fun _ _ => rfl) (fun _ _ => rfl) (fun i hi => ?_) rfl)⟩
    try unfold t_up
    grind
theorem ct_rotR {p r : Nat} {Q : g_St → Prop} (h : TS st0 st tm n nd ka va L R P co rt sz mc x) (hS : Shp n rt L R P lo hi) (hp : p < n) (hr : L p = some r)
    (hq : ∀ st' : g_St, TS st0 st' tm n nd ka va (rR R L p r) (rL R p r) (rP R P p r) co (rT rt p r) sz mc x → Q st') : wp_J5_rotateRight l E 0 0 [va_rf (some tm), va_rf (some (nd p))] st Q := by
  obtain ⟨h1, h2, h3, h4, h5, h6, h7, h8, h9⟩ := id hS
  obtain ⟨r1, r2, r3, r4⟩ := h3 p r hp hr
  have b1 := h1 p hp
  have b2 := h1 r r1
  have hpr : p ≠ r := by omega
  refine wk_J5_rotateRight ?_
  show _ ∧ _
  refine ⟨fun e => (by cases e), fun a5 e => ?_⟩
  cases e
  refine ⟨_, h.gL hp, nd r, by rw [hr]; rfl, _, h.gR r1, h.pL hp (R r) fun st10 hT1 => ⟨_, hT1.gR r1, ?_⟩⟩
  have e1 : t_up L p (R r) r = L r := t_up_n (Ne.symm hpr)
  refine g_jn1_i (fun st12 => TS st0 st12 tm n nd ka va (t_up L p (R r)) R (fun i => if R r = some i then some p else P i) co rt sz mc x) (fun st12 hT2 => ?_) (fun K hK => ⟨fun e => hK _ ?_, fun a e => ?_⟩)
  · have ePp : (if R r = some p then some p else P p) = P p := by
      rw [if_neg]
      intro e
      have := h5 r p r1 e
      omega
    have ePr : (if R r = some r then some p else P r) = P r := by
      rw [if_neg]
      intro e
      have := h5 r r r1 e
      omega
    refine ⟨_, hT2.gP hp, ?_⟩
    rw [ePp]
    refine hT2.pP r1 (P p) fun st17 hT3 => ⟨_, hT3.gP hp, ?_⟩
    have eQ : (t_up (fun i => if R r = some i then some p else P i) r (P p)) p = P p := by rw [t_up_n hpr]; exact ePp
    rw [eQ]
    refine g_jn1_i (fun st19 => TS st0 st19 tm n nd ka va (fun i => if i = p then R r else if L i = some p then some r else L i) (fun i => if R i = some p then some r else R i) (t_up (fun i => if R r = some i then some p else P i) r (P p)) co (rT rt p r) sz mc x) (fun st19 hT4 => ?_) (fun K hK => ⟨fun e => ?_, fun a e => ?_⟩)
    · refine hT4.pR r1 (some p) fun st23 hT5 => hT5.pP hp (some r) fun st25 hT6 => hq _ ?_
      refine hT6.cg ?_ ?_ ?_ rfl
      · intro i hi
        unfold rR
        try unfold t_up
        grind
      · intro i hi
        unfold rL
        try unfold t_up
        grind
      · intro i hi
        unfold rP t_up
        grind
    · have hP : P p = none := om_none e
      have hrt := h6 p hp hP
      refine hT3.pT (some r) fun st29 hT4 => hK _ (hT4.cg ?_ ?_ (fun _ _ => rfl) ?_)
      · intro i hi
        try unfold t_up
        grind
      · intro i hi
        try unfold t_up
        grind
      · unfold rT
        rw [if_pos hrt]
    · obtain ⟨q, hP, rfl⟩ := om_some e
      obtain ⟨q1, q2⟩ := h7 p q hp hP
      have b3 := h1 q q1
      have hrt : rt ≠ some p := by
        intro e
        have := (h9 p e).2.2.2
        rw [hP] at this
        cases this
      refine ⟨_, hT3.gP hp, nd q, ?_, _, hT3.gR q1, fun e => ?_, fun e => ?_⟩
      · rw [eQ, hP]; rfl
      · have hne : R q ≠ some p := fun z => e (by show Option.map nd (R q) = _; rw [z]; rfl)
        have hqp : L q = some p := by grind
        refine ⟨_, hT3.gP hp, nd q, ?_, hT3.pL q1 (some r) fun st37 hT4 => hK _ (hT4.cg ?_ ?_ (fun _ _ => rfl) ?_)⟩
        · rw [eQ, hP]; rfl
        · intro i hi
          try unfold t_up
          grind
        · intro i hi
          try unfold t_up
          grind
        · unfold rT
          rw [if_neg hrt]
      · have hqp : R q = some p := h.injO hp (fun j hj => (h5 q j q1 hj).1) e.symm
        refine ⟨_, hT3.gP hp, nd q, ?_, hT3.pR q1 (some r) fun st37 hT4 => hK _ (hT4.cg ?_ ?_ (fun _ _ => rfl) ?_)⟩
        · rw [eQ, hP]; rfl
        · intro i hi
          try unfold t_up
          grind
        · intro i hi
          try unfold t_up
          grind
        · unfold rT
          rw [if_neg hrt]
  · have hB := om_none e
    refine hT1.cg (fun _ _ => rfl) (fun _ _ => rfl) (fun i hi => ?_) rfl
    rw [hB]
    simp
  · obtain ⟨c, hc, rfl⟩ := om_some e
    obtain ⟨c1, c2, c3, c4⟩ := h5 r c r1 hc
    refine ⟨_, hT1.gR r1, nd c, by rw [hc]; rfl, hT1.pP c1 (some p) fun st48 hT2 => hK _ (hT2.cg (fun _ _ => rfl) (fun _ _ => rfl) (fun i hi => ?_) rfl)⟩
    try unfold t_up
    grind
theorem ct_rot0 {Q : g_St → Prop} (hq : Q st) : wp_J5_rotateLeft l E 0 0 [va_rf (some tm), va_rf none] st Q := by
  refine wk_J5_rotateLeft ?_
  show _ ∧ _
  exact ⟨fun _ => hq, fun a e => by cases e⟩
theorem ct_rotR0 {Q : g_St → Prop} (hq : Q st) : wp_J5_rotateRight l E 0 0 [va_rf (some tm), va_rf none] st Q := by
  refine wk_J5_rotateRight ?_
  show _ ∧ _
  exact ⟨fun _ => hq, fun a e => by cases e⟩
/-- the next node -/
def tnx (n : Nat) (nd : Nat → Nat) (i : Nat) : Option Nat := if i < n then some (nd i) else none
theorem ct_succ {i : Nat} {Q : Option Nat → g_St → Prop} (h : TS st0 st tm n nd ka va L R P co rt sz mc x) (hS : Shp n rt L R P lo hi) (hin : i < n) (hq : Q (tnx n nd (i + 1)) st) : wp_J5_successor l E 0 0 [va_rf (some (nd i))] st Q := by
  obtain ⟨h1, h2, h3, h4, h5, h6, h7, h8, h9⟩ := id hS
  refine wk_J5_successor ⟨fun e => (by cases e), fun a2 e => ?_⟩
  cases e
  refine ⟨_, h.gR hin, fun e => ⟨_, h.gP hin, ?_⟩, fun a5 e => ⟨_, h.gR hin, ?_⟩⟩
  · have hR := om_none e
    have hh := h4 i hin hR
    refine g_lp2_m (fun m o7 o8 => ∃ c, c < n ∧ o7 = (P c).map nd ∧ o8 = some (nd c) ∧ hi c = i + 1 ∧ m = n - (hi c - lo c)) ?_ ⟨i, hin, rfl, rfl, hh, rfl⟩
    rintro m o7 o8 K ⟨c, hc, rfl, rfl, hc1, rfl⟩ hK
    have bc := h1 c hc
    show _ ∧ _
    refine ⟨fun e => ?_, fun a15 e => ?_⟩
    · rw [e]
      have k1 := h6 c hc (om_none e)
      have k2 := h9 c k1
      unfold tnx at hq
      rw [if_neg (by omega)] at hq
      exact hq
    · rw [e]
      obtain ⟨a, hP, rfl⟩ := om_some e
      obtain ⟨ha, hLR⟩ := h7 c a hc hP
      have ba := h1 a ha
      refine ⟨_, h.gR ha, fun hne => ?_, fun heq => ?_⟩
      · rcases hLR with hL | hR'
        · have k := h3 a c ha hL
          have e2 : a = i + 1 := by omega
          unfold tnx at hq
          rw [if_pos (by omega), ← e2] at hq
          exact hq
        · exact absurd (by rw [hR']; rfl) hne
      · have hR' := h.injO hc (fun j hj => (h5 a j ha hj).1) heq
        have k := h5 a c ha hR'
        exact ⟨_, h.gP ha, hK _ _ _ ⟨a, ha, rfl, rfl, by omega, rfl⟩ (by omega)⟩
  · obtain ⟨r, hr, rfl⟩ := om_some e
    obtain ⟨r1, r2, r3, r4⟩ := h5 i r hin hr
    have b1 := h1 i hin
    refine g_lp1_m (fun m o => ∃ c, c < n ∧ o = some (nd c) ∧ lo c = i + 1 ∧ m = c) ?_ ⟨r, r1, by rw [hr]; rfl, r2, rfl⟩
    rintro m o K ⟨c, hc, rfl, hc1, rfl⟩ hK
    have bc := h1 m hc
    refine ⟨_, rfl, _, h.gL hc, fun e => ?_, fun a31 e => ⟨_, h.gL hc, ?_⟩⟩
    · have k := h2 m hc (om_none e)
      unfold tnx at hq
      rw [if_pos (by omega), show i + 1 = m by omega] at hq
      exact hq
    · obtain ⟨j, hj, rfl⟩ := om_some e
      have k := h3 m j hc hj
      have bj := h1 j k.1
      rw [hj]
      exact hK j _ ⟨j, k.1, rfl, by omega, rfl⟩ (by omega)
theorem ct_first {Q : Option Nat → g_St → Prop} (h : TS st0 st tm n nd ka va L R P co rt sz mc x) (hS : Shp n rt L R P lo hi) (hq : Q (tnx n nd 0) st) : wp_J5_getFirstEntry l E 0 0 [va_rf (some tm)] st Q := by
  obtain ⟨h1, h2, h3, h4, h5, h6, h7, h8, h9⟩ := id hS
  refine wk_J5_getFirstEntry ⟨_, h.gT, ?_⟩
  refine g_jn1_i (fun o => o = tnx n nd 0) (fun o e => by rw [e]; exact hq) (fun K hK => ⟨fun e => ?_, fun a6 e => ?_⟩)
  · have k := h8 (om_none e)
    refine hK _ ?_
    unfold tnx
    rw [if_neg (by omega)]
  · obtain ⟨r, hr, rfl⟩ := om_some e
    obtain ⟨r1, r2, r3, r4⟩ := h9 r hr
    refine g_lp1_m (fun m o => ∃ c, c < n ∧ o = some (nd c) ∧ lo c = 0 ∧ m = c) ?_ ⟨r, r1, rfl, r2, rfl⟩
    rintro m o K2 ⟨c, hc, rfl, hc1, rfl⟩ hK2
    have bc := h1 m hc
    refine ⟨_, rfl, _, h.gL hc, fun e => ?_, fun a31 e => ⟨_, h.gL hc, ?_⟩⟩
    · have k := h2 m hc (om_none e)
      refine hK _ ?_
      unfold tnx
      rw [if_pos (by omega), show 0 = m by omega]
    · obtain ⟨j, hj, rfl⟩ := om_some e
      have k := h3 m j hc hj
      have bj := h1 j k.1
      rw [hj]
      exact hK2 j _ ⟨j, k.1, rfl, by omega, rfl⟩ (by omega)
end GT3
