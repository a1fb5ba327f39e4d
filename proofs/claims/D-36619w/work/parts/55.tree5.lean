/-! TREE 5: fixing up after an insertion -/
section GT5
variable {l : Launch} {E : g_E} {st0 st : g_St} {tm n : Nat} {nd ka va : Nat → Nat} {L R P : Nat → Option Nat} {co : Nat → Int32} {rt : Option Nat} {sz mc : Int32} {lo hi : Nat → Nat} {x : tX}
/-- the loop's invariant: a node (or none), a tree -/
def FI (st0 : g_St) (tm n : Nat) (nd ka va : Nat → Nat) (sz mc : Int32) (x : tX) (m : Nat) (o : Option Nat) (s : g_St) : Prop := ∃ (y : Option Nat) (L R P : Nat → Option Nat) (co : Nat → Int32) (rt : Option Nat) (lo hi : Nat → Nat), o = y.map nd ∧ (∀ i, y = some i → i < n) ∧ TS st0 s tm n nd ka va L R P co rt sz mc x ∧ Shp n rt L R P lo hi ∧ tB co ∧ ∀ i p, y = some i → P i = some p → co p = nI 0 → n - (hi i - lo i) < m
theorem nI10 : nI 1 ≠ nI 0 := by decide
theorem nI00 : (0 : Int32) = nI 0 := by decide
theorem sm_lt {n i : Nat} (h : i < n) : ∀ j, some i = some j → j < n := fun j e => by cases e; exact h
theorem no_lt {n : Nat} : ∀ j, (none : Option Nat) = some j → j < n := fun j e => by cases e
theorem ct_fixIns {i : Nat} {Q : g_St → Prop} (h : TS st0 st tm n nd ka va L R P co rt sz mc x) (hS : Shp n rt L R P lo hi) (hB : tB co) (hin : i < n)
    (hq : ∀ (st' : g_St) (L R P : Nat → Option Nat) (co : Nat → Int32) (rt : Option Nat) (lo hi : Nat → Nat), TS st0 st' tm n nd ka va L R P co rt sz mc x → Shp n rt L R P lo hi → tB co → Q st') : wp_J5_fixAfterInsertion l E 0 0 [va_rf (some tm), va_rf (some (nd i))] st Q := by
  refine wk_J5_fixAfterInsertion ⟨_, rfl, h.pC hin (nI 0) fun st3 hT3 => ?_⟩
  have hB3 : tB (t_up co i (nI 0)) := tsetB (o := some i) hB (Or.inl rfl)
  clear hB h
  refine g_lp2_m (FI st0 tm n nd ka va sz mc x) ?_ (m := n + 1) ⟨some i, L, R, P, _, rt, lo, hi, rfl, sm_lt hin, hT3, hS, hB3, fun _ _ _ _ _ => by omega⟩
  clear hT3 hB3 hS
  rintro m o s K ⟨y, L, R, P, co, rt, lo, hi, rfl, hy, hT, hS, hB, hm⟩ hK
  refine g_jn0_i ?_ fun K9 hK9 => ⟨fun _ => hK9, fun a16 e => ?_⟩
  · cases hr : rt with
    | none =>
      have := hS.2.2.2.2.2.2.2.1 hr
      omega
    | some r =>
      have hr1 := (hS.2.2.2.2.2.2.2.2 r hr).1
      exact ⟨_, hT.gT, nd r, by rw [hr]; rfl, hT.pC hr1 (nI 1) fun st14 hT14 => hq _ _ _ _ _ _ _ _ hT14 hS (tsetB (o := some r) hB (Or.inr rfl))⟩
  obtain ⟨j, rfl, rfl⟩ := om_some e
  have hj := hy j rfl
  refine ⟨_, hT.gT, fun _ => hK9, fun hne => ?_⟩
  obtain ⟨h1, h2, h3, h4, h5, h6, h7, h8, h9⟩ := id hS
  have bj := h1 j hj
  cases hP : P j with
  | none => exact absurd (by rw [h6 j hj hP]; rfl) hne
  | some p =>
    obtain ⟨hp, hjp⟩ := h7 j p hj hP
    have bp := h1 p hp
    refine ⟨_, hT.gP hj, nd p, by rw [hP]; rfl, _, hT.gC hp, fun _ => hK9, fun hred => ?_⟩
    have hm := hm j p rfl hP hred
    have hbig : hi j - lo j < hi p - lo p := by
      rcases hjp with z | z
      · have := h3 p j hp z
        omega
      · have := h5 p j hp z
        omega
    have hgl : ∀ i, P p = some i → i < n := fun i e => (h7 p i hp e).1
    refine ct_parentOf (o := some j) (o' := some p) hT (sm_lt hj) hP ⟨rfl, ct_parentOf (o := some j) (o' := some p) hT (sm_lt hj) hP ⟨rfl, ct_parentOf (o := some p) (o' := P p) hT (sm_lt hp) rfl ⟨rfl, ct_leftOf (o := P p) hT hgl rfl ⟨rfl, fun hne2 => ?_, fun heq2 => ?_⟩⟩⟩⟩
    · have hgp : ∀ gg, P p = some gg → gg < n ∧ R gg = some p := by
        intro gg e
        obtain ⟨k1, k2⟩ := h7 p gg hp e
        refine ⟨k1, ?_⟩
        rcases k2 with z | z
        · exact absurd (by rw [e]; show some (nd p) = (L gg).map nd; rw [z]; rfl) hne2
        · exact z
      have hul : ∀ i, (P p).bind L = some i → i < n := by
        intro i e
        cases z : P p with
        | none => rw [z] at e; cases e
        | some gg => rw [z] at e; exact (h3 gg i (hgl gg z) e).1
      refine ct_parentOf (o := some j) (o' := some p) hT (sm_lt hj) hP ⟨rfl, ct_parentOf (o := some p) (o' := P p) hT (sm_lt hp) rfl ⟨rfl, ct_leftOf (o := P p) hT hgl rfl ⟨rfl, ct_colorOf hT hul hB ⟨rfl, ?_⟩⟩⟩⟩
      refine g_jn2_i (fun o s => ∃ m', FI st0 tm n nd ka va sz mc x m' o s ∧ m' < m) (fun o s ⟨m', hI, hm'⟩ => hK m' o s hI hm') fun K70 hK70 => ⟨fun hc => ?_, fun hc => ?_⟩
      · refine ct_parentOf (o := some j) (o' := some p) hT (sm_lt hj) hP ⟨rfl, ct_leftOf (o := some p) (o' := L p) hT (sm_lt hp) rfl ⟨rfl, ?_⟩⟩
        refine g_jn2_i (fun o s => ∃ (j' p' : Nat) (g' : Option Nat) (L R P : Nat → Option Nat) (rt : Option Nat) (lo hi : Nat → Nat), o = some (nd j') ∧ j' < n ∧ p' < n ∧ P j' = some p' ∧ P p' = g' ∧ R p' = some j' ∧ (∀ gg, g' = some gg → gg < n ∧ R gg = some p') ∧ TS st0 s tm n nd ka va L R P co rt sz mc x ∧ Shp n rt L R P lo hi) (fun o s H => ?_) fun K77 hK77 => ⟨fun hne => hK77 _ _ ?_, fun heq => ?_⟩
        · obtain ⟨j', p', g', L', R', P', rt', lo', hi', rfl, hj', hp', e1, e2, e3, e4, hT', hS'⟩ := H
          have hgl' : ∀ i, g' = some i → i < n := fun i e => (e4 i e).1
          refine ct_parentOf (o := some j') (o' := some p') hT' (sm_lt hj') e1 ⟨rfl, ct_setColor (o := some p') hT' (sm_lt hp') (Or.inr rfl) fun s1 hT1 _ => ?_⟩
          refine ct_parentOf (o := some j') (o' := some p') hT1 (sm_lt hj') e1 ⟨rfl, ct_parentOf (o := some p') (o' := g') hT1 (sm_lt hp') e2 ⟨rfl, ct_setColor (o := g') hT1 hgl' (Or.inl rfl) fun s2 hT2 _ => ?_⟩⟩
          refine ct_parentOf (o := some j') (o' := some p') hT2 (sm_lt hj') e1 ⟨rfl, ct_parentOf (o := some p') (o' := g') hT2 (sm_lt hp') e2 ⟨rfl, hT2.gI, ?_⟩⟩
          have hB' := tsetB (o := g') (c := nI 0) (tsetB (o := some p') (c := nI 1) hB (Or.inr rfl)) (Or.inl rfl)
          cases g' with
          | none => exact ct_rot0 fun _ => hK70 _ _ ⟨0, ⟨some j', L', R', P', _, rt', lo', hi', rfl, sm_lt hj', hT2, hS', hB', fun i p e z1 z2 => absurd z2 (by cases e; rw [e1] at z1; cases z1; show t_up co p' (nI 1) p' ≠ nI 0; rw [t_up_s]; exact nI10)⟩, by omega⟩
          | some gg =>
            obtain ⟨g1, g2⟩ := e4 gg rfl
            have hS3 := hS'.rotL g1 g2
            refine ct_rotL hT2 hS' g1 g2 fun s3 hT3 _ => hK70 _ _ ⟨0, ⟨some j', _, _, _, _, _, _, _, rfl, sm_lt hj', hT3, hS3, hB', fun i p e z1 z2 => ?_⟩, by omega⟩
            cases e
            obtain ⟨h1, h2, h3, h4, h5, h6, h7, h8, h9⟩ := hS'
            have bj := h1 j' hj'
            have bp := h1 p' hp'
            have bg := h1 gg g1
            have k1 := h5 p' j' hp' e3
            have k2 := h5 gg p' g1 g2
            have k3 : L' p' ≠ some j' := fun z => by have := h3 p' j' hp' z; omega
            unfold rP at z1
            rw [if_neg (by omega), if_neg (by omega), if_neg k3, e1] at z1
            cases z1
            have z2 : t_up (t_up co p' (nI 1)) gg (nI 0) p' = nI 0 := z2
            rw [t_up_n (by omega), t_up_s] at z2
            exact absurd z2 nI10
        · have hX : R p = some j := by
            rcases hjp with z | z
            · exact absurd (by rw [z]; rfl) hne
            · exact z
          exact ⟨j, p, P p, L, R, P, rt, lo, hi, rfl, hj, hp, hP, rfl, hX, hgp, hT, hS⟩
        · have hY := hT.injO hj (fun i hi' => (h3 p i hp hi').1) heq
          have kY := h3 p j hp hY
          refine ct_parentOf (o := some j) (o' := some p) hT (sm_lt hj) hP ⟨rfl, hT.gI, ct_rotR hT hS hp hY fun s1 hT1 _ => hK77 _ _ ⟨p, j, P p, _, _, _, _, _, _, rfl, hp, hj, ?_, ?_, ?_, fun gg e => ?_, hT1, hS.rotR hp hY⟩⟩
          · unfold rP
            rw [if_pos rfl]
          · unfold rP
            rw [if_neg (by omega), if_pos rfl]
          · unfold rL
            rw [if_pos rfl]
          · obtain ⟨g1, g2⟩ := hgp gg e
            refine ⟨g1, ?_⟩
            have k2 := h5 gg p g1 g2
            have bg := h1 gg g1
            have k1 := h3 p j hp hY
            unfold rL
            rw [if_neg (by omega), if_pos g2]
      · have hu : ∃ gg, P p = some gg := by
          cases z : P p with
          | none =>
            rw [z] at hc
            exact absurd (show nI 1 = 0 from hc) (by decide)
          | some gg => exact ⟨gg, rfl⟩
        obtain ⟨gg, hg⟩ := hu
        obtain ⟨g1, g2⟩ := hgp gg hg
        have bg := h1 gg g1
        have k2 := h5 gg p g1 g2
        refine ct_parentOf (o := some j) (o' := some p) hT (sm_lt hj) hP ⟨rfl, ct_setColor (o := some p) hT (sm_lt hp) (Or.inr rfl) fun s1 hT1 _ => ct_setColor hT1 hul (Or.inr rfl) fun s2 hT2 _ => ?_⟩
        refine ct_parentOf (o := some j) (o' := some p) hT2 (sm_lt hj) hP ⟨rfl, ct_parentOf (o := some p) (o' := some gg) hT2 (sm_lt hp) hg ⟨rfl, ct_setColor (o := some gg) hT2 (sm_lt g1) (Or.inl rfl) fun s3 hT3 _ => ?_⟩⟩
        refine ct_parentOf (o := some j) (o' := some p) hT3 (sm_lt hj) hP ⟨rfl, ct_parentOf (o := some p) (o' := some gg) hT3 (sm_lt hp) hg ⟨rfl, hK70 _ _ ⟨n - (hi gg - lo gg) + 1, ⟨some gg, L, R, P, _, rt, lo, hi, rfl, sm_lt g1, hT3, hS, tsetB (tsetB (tsetB hB (Or.inr rfl)) (Or.inr rfl)) (Or.inl rfl), fun i p e _ _ => by cases e; omega⟩, by omega⟩⟩⟩
    · have hgp : ∀ gg, P p = some gg → gg < n ∧ L gg = some p := by
        intro gg e
        obtain ⟨k1, k2⟩ := h7 p gg hp e
        refine ⟨k1, ?_⟩
        rw [e] at heq2
        exact hT.injO hp (fun i hi' => (h3 gg i k1 hi').1) heq2
      have hul : ∀ i, (P p).bind R = some i → i < n := by
        intro i e
        cases z : P p with
        | none => rw [z] at e; cases e
        | some gg => rw [z] at e; exact (h5 gg i (hgl gg z) e).1
      refine ct_parentOf (o := some j) (o' := some p) hT (sm_lt hj) hP ⟨rfl, ct_parentOf (o := some p) (o' := P p) hT (sm_lt hp) rfl ⟨rfl, ct_rightOf (o := P p) hT hgl rfl ⟨rfl, ct_colorOf hT hul hB ⟨rfl, ?_⟩⟩⟩⟩
      refine g_jn2_i (fun o s => ∃ m', FI st0 tm n nd ka va sz mc x m' o s ∧ m' < m) (fun o s ⟨m', hI, hm'⟩ => hK m' o s hI hm') fun K70 hK70 => ⟨fun hc => ?_, fun hc => ?_⟩
      · refine ct_parentOf (o := some j) (o' := some p) hT (sm_lt hj) hP ⟨rfl, ct_rightOf (o := some p) (o' := R p) hT (sm_lt hp) rfl ⟨rfl, ?_⟩⟩
        refine g_jn2_i (fun o s => ∃ (j' p' : Nat) (g' : Option Nat) (L R P : Nat → Option Nat) (rt : Option Nat) (lo hi : Nat → Nat), o = some (nd j') ∧ j' < n ∧ p' < n ∧ P j' = some p' ∧ P p' = g' ∧ L p' = some j' ∧ (∀ gg, g' = some gg → gg < n ∧ L gg = some p') ∧ TS st0 s tm n nd ka va L R P co rt sz mc x ∧ Shp n rt L R P lo hi) (fun o s H => ?_) fun K77 hK77 => ⟨fun hne => hK77 _ _ ?_, fun heq => ?_⟩
        · obtain ⟨j', p', g', L', R', P', rt', lo', hi', rfl, hj', hp', e1, e2, e3, e4, hT', hS'⟩ := H
          have hgl' : ∀ i, g' = some i → i < n := fun i e => (e4 i e).1
          refine ct_parentOf (o := some j') (o' := some p') hT' (sm_lt hj') e1 ⟨rfl, ct_setColor (o := some p') hT' (sm_lt hp') (Or.inr rfl) fun s1 hT1 _ => ?_⟩
          refine ct_parentOf (o := some j') (o' := some p') hT1 (sm_lt hj') e1 ⟨rfl, ct_parentOf (o := some p') (o' := g') hT1 (sm_lt hp') e2 ⟨rfl, ct_setColor (o := g') hT1 hgl' (Or.inl rfl) fun s2 hT2 _ => ?_⟩⟩
          refine ct_parentOf (o := some j') (o' := some p') hT2 (sm_lt hj') e1 ⟨rfl, ct_parentOf (o := some p') (o' := g') hT2 (sm_lt hp') e2 ⟨rfl, hT2.gI, ?_⟩⟩
          have hB' := tsetB (o := g') (c := nI 0) (tsetB (o := some p') (c := nI 1) hB (Or.inr rfl)) (Or.inl rfl)
          cases g' with
          | none => exact ct_rotR0 fun _ => hK70 _ _ ⟨0, ⟨some j', L', R', P', _, rt', lo', hi', rfl, sm_lt hj', hT2, hS', hB', fun i p e z1 z2 => absurd z2 (by cases e; rw [e1] at z1; cases z1; show t_up co p' (nI 1) p' ≠ nI 0; rw [t_up_s]; exact nI10)⟩, by omega⟩
          | some gg =>
            obtain ⟨g1, g2⟩ := e4 gg rfl
            have hS3 := hS'.rotR g1 g2
            refine ct_rotR hT2 hS' g1 g2 fun s3 hT3 _ => hK70 _ _ ⟨0, ⟨some j', _, _, _, _, _, _, _, rfl, sm_lt hj', hT3, hS3, hB', fun i p e z1 z2 => ?_⟩, by omega⟩
            cases e
            obtain ⟨h1, h2, h3, h4, h5, h6, h7, h8, h9⟩ := hS'
            have bj := h1 j' hj'
            have bp := h1 p' hp'
            have bg := h1 gg g1
            have k1 := h3 p' j' hp' e3
            have k2 := h3 gg p' g1 g2
            have k3 : R' p' ≠ some j' := fun z => by have := h5 p' j' hp' z; omega
            unfold rP at z1
            rw [if_neg (by omega), if_neg (by omega), if_neg k3, e1] at z1
            cases z1
            have z2 : t_up (t_up co p' (nI 1)) gg (nI 0) p' = nI 0 := z2
            rw [t_up_n (by omega), t_up_s] at z2
            exact absurd z2 nI10
        · have hX : L p = some j := by
            rcases hjp with z | z
            · exact z
            · exact absurd (by rw [z]; rfl) hne
          exact ⟨j, p, P p, L, R, P, rt, lo, hi, rfl, hj, hp, hP, rfl, hX, hgp, hT, hS⟩
        · have hY := hT.injO hj (fun i hi' => (h5 p i hp hi').1) heq
          have kY := h5 p j hp hY
          refine ct_parentOf (o := some j) (o' := some p) hT (sm_lt hj) hP ⟨rfl, hT.gI, ct_rotL hT hS hp hY fun s1 hT1 _ => hK77 _ _ ⟨p, j, P p, _, _, _, _, _, _, rfl, hp, hj, ?_, ?_, ?_, fun gg e => ?_, hT1, hS.rotL hp hY⟩⟩
          · unfold rP
            rw [if_pos rfl]
          · unfold rP
            rw [if_neg (by omega), if_pos rfl]
          · unfold rL
            rw [if_pos rfl]
          · obtain ⟨g1, g2⟩ := hgp gg e
            refine ⟨g1, ?_⟩
            have k2 := h3 gg p g1 g2
            have bg := h1 gg g1
            have k1 := h5 p j hp hY
            unfold rL
            rw [if_neg (by omega), if_pos g2]
      · have hu : ∃ gg, P p = some gg := by
          cases z : P p with
          | none =>
            rw [z] at hc
            exact absurd (show nI 1 = 0 from hc) (by decide)
          | some gg => exact ⟨gg, rfl⟩
        obtain ⟨gg, hg⟩ := hu
        obtain ⟨g1, g2⟩ := hgp gg hg
        have bg := h1 gg g1
        have k2 := h3 gg p g1 g2
        refine ct_parentOf (o := some j) (o' := some p) hT (sm_lt hj) hP ⟨rfl, ct_setColor (o := some p) hT (sm_lt hp) (Or.inr rfl) fun s1 hT1 _ => ct_setColor hT1 hul (Or.inr rfl) fun s2 hT2 _ => ?_⟩
        refine ct_parentOf (o := some j) (o' := some p) hT2 (sm_lt hj) hP ⟨rfl, ct_parentOf (o := some p) (o' := some gg) hT2 (sm_lt hp) hg ⟨rfl, ct_setColor (o := some gg) hT2 (sm_lt g1) (Or.inl rfl) fun s3 hT3 _ => ?_⟩⟩
        refine ct_parentOf (o := some j) (o' := some p) hT3 (sm_lt hj) hP ⟨rfl, ct_parentOf (o := some p) (o' := some gg) hT3 (sm_lt hp) hg ⟨rfl, hK70 _ _ ⟨n - (hi gg - lo gg) + 1, ⟨some gg, L, R, P, _, rt, lo, hi, rfl, sm_lt g1, hT3, hS, tsetB (tsetB (tsetB hB (Or.inr rfl)) (Or.inr rfl)) (Or.inl rfl), fun i p e _ _ => by cases e; omega⟩, by omega⟩⟩⟩
end GT5
