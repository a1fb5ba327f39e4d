/-! TREE 6: fixing up after a deletion -/
section GT6
variable {l : Launch} {E : g_E} {st0 st : g_St} {tm n : Nat} {nd ka va : Nat → Nat} {L R P : Nat → Option Nat} {co : Nat → Int32} {rt : Option Nat} {sz mc : Int32} {lo hi : Nat → Nat} {x : tX}
def FD (st0 : g_St) (tm n : Nat) (nd ka va : Nat → Nat) (sz mc : Int32) (x : tX) (a b : Nat) (lo0 hi0 : Nat → Nat) (m : Nat) (o : Option Nat) (s : g_St) : Prop := ∃ (j : Nat) (L R P : Nat → Option Nat) (co : Nat → Int32) (rt : Option Nat) (lo hi : Nat → Nat), o = some (nd j) ∧ j < n ∧ TS st0 s tm n nd ka va L R P co rt sz mc x ∧ Shp n rt L R P lo hi ∧ tB co ∧ (∀ i, a ≤ i → i < b → lo i = lo0 i ∧ hi i = hi0 i) ∧ lo j ≤ a ∧ b ≤ hi j ∧ m = n - (hi j - lo j)
def PDL (st0 : g_St) (tm n : Nat) (nd ka va : Nat → Nat) (sz mc : Int32) (x : tX) (a b : Nat) (lo0 hi0 : Nat → Nat) (j p w : Nat) (o : Option Nat) (s : g_St) : Prop := ∃ (L R P : Nat → Option Nat) (co : Nat → Int32) (rt : Option Nat) (lo hi : Nat → Nat), o = (R p).map nd ∧ TS st0 s tm n nd ka va L R P co rt sz mc x ∧ Shp n rt L R P lo hi ∧ tB co ∧ (∀ i, a ≤ i → i < b → lo i = lo0 i ∧ hi i = hi0 i) ∧ P j = some p ∧ L p = some j ∧ lo j ≤ a ∧ b ≤ hi j ∧ hi j - lo j = w
def PDR (st0 : g_St) (tm n : Nat) (nd ka va : Nat → Nat) (sz mc : Int32) (x : tX) (a b : Nat) (lo0 hi0 : Nat → Nat) (j p w : Nat) (o : Option Nat) (s : g_St) : Prop := ∃ (L R P : Nat → Option Nat) (co : Nat → Int32) (rt : Option Nat) (lo hi : Nat → Nat), o = (L p).map nd ∧ TS st0 s tm n nd ka va L R P co rt sz mc x ∧ Shp n rt L R P lo hi ∧ tB co ∧ (∀ i, a ≤ i → i < b → lo i = lo0 i ∧ hi i = hi0 i) ∧ P j = some p ∧ R p = some j ∧ lo j ≤ a ∧ b ≤ hi j ∧ hi j - lo j = w
theorem ct_fixDel {j0 : Nat} {Q : g_St → Prop} (h : TS st0 st tm n nd ka va L R P co rt sz mc x) (hS : Shp n rt L R P lo hi) (hB : tB co) (hin : j0 < n)
    (hq : ∀ (st' : g_St) (L' R' P' : Nat → Option Nat) (co' : Nat → Int32) (rt' : Option Nat) (lo' hi' : Nat → Nat), TS st0 st' tm n nd ka va L' R' P' co' rt' sz mc x → Shp n rt' L' R' P' lo' hi' → tB co' → (∀ i, lo j0 ≤ i → i < hi j0 → lo' i = lo i ∧ hi' i = hi i) → Q st') : wp_J5_fixAfterDeletion l E 0 0 [va_rf (some tm), va_rf (some (nd j0))] st Q := by
  refine wk_J5_fixAfterDeletion ?_
  have bj0 := hS.1 j0 hin
  generalize ea : lo j0 = a at hq
  generalize eb : hi j0 = b at hq
  generalize lo = lo0, hi = hi0 at hq hS ea eb bj0
  refine g_lp2_m (FD st0 tm n nd ka va sz mc x a b lo0 hi0) ?_ (m := n - (hi0 j0 - lo0 j0)) ⟨j0, L, R, P, co, rt, lo0, hi0, rfl, hin, h, hS, hB, fun _ _ _ => ⟨rfl, rfl⟩, by omega, by omega, rfl⟩
  have hab : a < b := by omega
  clear h hS hB hin bj0 ea eb
  rintro m o s K ⟨j, L, R, P, co, rt, lo, hi, rfl, hj, hT, hS, hB, hlf, ha, hb, hm⟩ hK
  refine ⟨_, hT.gT, g_jn0_i (ct_setColor (o := some j) hT (sm_lt hj) (Or.inr rfl) fun s1 hT1 _ => hq _ _ _ _ _ _ _ _ hT1 hS (tsetB (o := some j) hB (Or.inr rfl)) hlf) fun K7 hK7 => ⟨fun _ => hK7, fun hne => ?_⟩⟩
  obtain ⟨h1, h2, h3, h4, h5, h6, h7, h8, h9⟩ := id hS
  have bj := h1 j hj
  cases hP : P j with
  | none => exact absurd (by rw [h6 j hj hP]; rfl) hne
  | some p =>
    obtain ⟨hp, hlr⟩ := h7 j p hj hP
    have bp := h1 p hp
    have hwn : hi j - lo j < n := by
      rcases hlr with z | z
      · have := h3 p j hp z
        omega
      · have := h5 p j hp z
        omega
    refine ct_colorOf (o := some j) hT (sm_lt hj) hB ⟨rfl, fun _ => hK7, fun _ => ct_parentOf (o := some j) (o' := some p) hT (sm_lt hj) hP ⟨rfl, ct_leftOf (o := some p) (o' := L p) hT (sm_lt hp) rfl ⟨rfl, fun hne2 => ?_, fun heq2 => ?_⟩⟩⟩
    · have hX : R p = some j := by
        rcases hlr with z | z
        · exact absurd (by rw [z]; rfl) hne2
        · exact z
      have k1 := h5 p j hp hX
      have hyl : ∀ i, L p = some i → i < n := fun i e => (h3 p i hp e).1
      have hyx : ∀ i, (L p).bind R = some i → i < n := by
        intro i e
        cases z : L p with
        | none => rw [z] at e; cases e
        | some gg => rw [z] at e; exact (h5 gg i (hyl gg z) e).1
      have hyy : ∀ i, (L p).bind L = some i → i < n := by
        intro i e
        cases z : L p with
        | none => rw [z] at e; cases e
        | some gg => rw [z] at e; exact (h3 gg i (hyl gg z) e).1
      refine ct_parentOf (o := some j) (o' := some p) hT (sm_lt hj) hP ⟨rfl, ct_leftOf (o := some p) (o' := L p) hT (sm_lt hp) rfl ⟨rfl, ct_colorOf hT hyl hB ⟨rfl, ?_⟩⟩⟩
      refine g_jn2_i (PDR st0 tm n nd ka va sz mc x a b lo0 hi0 j p (hi j - lo j)) (fun o s H => ?_) fun K21 hK21 => ⟨fun hc => hK21 _ _ ⟨L, R, P, co, rt, lo, hi, rfl, hT, hS, hB, hlf, hP, hX, ha, hb, rfl⟩, fun hc => ?_⟩
      rotate_left
      · have hu : ∃ t, L p = some t := by
          cases z : L p with
          | none =>
            rw [z] at hc
            exact absurd (show nI 1 = 0 from hc) (by decide)
          | some t => exact ⟨t, rfl⟩
        obtain ⟨t, ht⟩ := hu
        have k2 := h3 p t hp ht
        have bt := h1 t k2.1
        have hST := hS.rotR hp ht
        have eP : rP R P p t j = some p := by
          have z : R t ≠ some j := fun z => by have := h5 t j k2.1 z; omega
          unfold rP
          rw [if_neg (by omega), if_neg (by omega), if_neg z, hP]
        have eY : rR R L p t p = R t := by
          unfold rR
          rw [if_pos rfl]
        have eX : rL R p t p = some j := by
          unfold rL
          rw [if_neg (by omega), if_neg (by rw [hX]; intro e; cases e; omega), hX]
        refine ct_setColor hT hyl (Or.inr rfl) fun s1 hT1 _ => ct_parentOf (o := some j) (o' := some p) hT1 (sm_lt hj) hP ⟨rfl, ct_setColor (o := some p) hT1 (sm_lt hp) (Or.inl rfl) fun s2 hT2 _ => ct_parentOf (o := some j) (o' := some p) hT2 (sm_lt hj) hP ⟨rfl, hT2.gI, ct_rotR hT2 hS hp ht fun s3 hT3 _ => ct_parentOf (o := some j) (o' := some p) hT3 (sm_lt hj) eP ⟨rfl, ct_leftOf (o := some p) (o' := R t) hT3 (sm_lt hp) eY ⟨rfl, hK21 _ _ ⟨_, _, _, _, _, _, _, by rw [eY], hT3, hST, tsetB (o := some p) (tsetB hB (Or.inr rfl)) (Or.inl rfl), fun i hi1 hi2 => ?_, eP, eX, ?_, ?_, ?_⟩⟩⟩⟩⟩
        · rw [t_up_n (by omega), t_up_n (by omega)]
          exact hlf i hi1 hi2
        · rw [t_up_n (by omega)]
          exact ha
        · rw [t_up_n (by omega)]
          exact hb
        · rw [t_up_n (by omega), t_up_n (by omega)]
      · generalize hi j - lo j = w at H hm hwn
        clear hne hne2 hT hS hB hlf hP hX ha hb h1 h2 h3 h4 h5 h6 h7 h8 h9 bj bp k1 hyl hyx hyy hlr
        obtain ⟨L, R, P, co, rt, lo, hi, rfl, hT, hS, hB, hlf, hP, hX, ha, hb, rfl⟩ := H
        obtain ⟨h1, h2, h3, h4, h5, h6, h7, h8, h9⟩ := id hS
        have bj := h1 j hj
        have bp := h1 p hp
        have k1 := h5 p j hp hX
        have hyl : ∀ i, L p = some i → i < n := fun i e => (h3 p i hp e).1
        have hyx : ∀ i, (L p).bind R = some i → i < n := by
          intro i e
          cases z : L p with
          | none => rw [z] at e; cases e
          | some gg => rw [z] at e; exact (h5 gg i (hyl gg z) e).1
        have hyy : ∀ i, (L p).bind L = some i → i < n := by
          intro i e
          cases z : L p with
          | none => rw [z] at e; cases e
          | some gg => rw [z] at e; exact (h3 gg i (hyl gg z) e).1
        refine ct_rightOf (o := L p) hT hyl rfl ⟨rfl, ct_colorOf hT hyx hB ⟨rfl, ?_⟩⟩
        refine g_jn2_i (fun o s => ∃ m', FD st0 tm n nd ka va sz mc x a b lo0 hi0 m' o s ∧ m' < m) (fun o s ⟨m', hI, hm'⟩ => hK m' o s hI hm') fun K27 hK27 => ?_
        by_cases hbb : tcol co ((L p).bind R) = nI 1 ∧ tcol co ((L p).bind L) = nI 1
        · show _ ∧ _
          exact ⟨fun z => absurd hbb.1 z, fun _ => ct_leftOf (o := L p) hT hyl rfl ⟨rfl, ct_colorOf hT hyy hB ⟨rfl, fun z => absurd hbb.2 z, fun _ => ct_setColor hT hyl (Or.inl rfl) fun s1 hT1 _ => ct_parentOf (o := some j) (o' := some p) hT1 (sm_lt hj) hP ⟨rfl, hK27 _ _ ⟨n - (hi p - lo p), ⟨p, L, R, P, _, rt, lo, hi, rfl, hp, hT1, hS, tsetB hB (Or.inl rfl), hlf, by omega, by omega, rfl⟩, by omega⟩⟩⟩⟩⟩
        · refine g_jn0_i ?_ fun K29 hK29 => ⟨fun _ => hK29, fun e1 => ct_leftOf (o := L p) hT hyl rfl ⟨rfl, ct_colorOf hT hyy hB ⟨rfl, fun _ => hK29, fun e2 => absurd ⟨e1, e2⟩ hbb⟩⟩⟩
          have hu : ∃ t, L p = some t := by
            cases z : L p with
            | none =>
              rw [z] at hbb
              exact absurd ⟨rfl, rfl⟩ hbb
            | some t => exact ⟨t, rfl⟩
          obtain ⟨t, ht⟩ := hu
          have k2 := h3 p t hp ht
          have bt := h1 t k2.1
          refine ct_leftOf (o := L p) hT hyl rfl ⟨rfl, ct_colorOf hT hyy hB ⟨rfl, ?_⟩⟩
          refine g_jn2_i (fun o s => PDR st0 tm n nd ka va sz mc x a b lo0 hi0 j p (hi j - lo j) o s ∧ ∃ t, o = some t) (fun o s H => ?_) fun K35 hK35 => ⟨fun hc => hK35 _ _ ⟨⟨L, R, P, co, rt, lo, hi, rfl, hT, hS, hB, hlf, hP, hX, ha, hb, rfl⟩, nd t, by rw [ht]; rfl⟩, fun hc => ?_⟩
          · generalize hi j - lo j = w at H hm hwn
            clear hT hS hB hlf hP hX ha hb h1 h2 h3 h4 h5 h6 h7 h8 h9 bj bp k1 hyl hyx hyy k2 bt ht hbb
            obtain ⟨⟨L, R, P, co, rt, lo, hi, rfl, hT, hS, hB, hlf, hP, hX, ha, hb, rfl⟩, t0, ht0⟩ := H
            obtain ⟨t, ht, -⟩ := om_some ht0
            clear ht0 t0
            obtain ⟨h1, h2, h3, h4, h5, h6, h7, h8, h9⟩ := id hS
            have bj := h1 j hj
            have bp := h1 p hp
            have k1 := h5 p j hp hX
            have hyl : ∀ i, L p = some i → i < n := fun i e => (h3 p i hp e).1
            have hyx : ∀ i, (L p).bind R = some i → i < n := by
              intro i e
              cases z : L p with
              | none => rw [z] at e; cases e
              | some gg => rw [z] at e; exact (h5 gg i (hyl gg z) e).1
            have hyy : ∀ i, (L p).bind L = some i → i < n := by
              intro i e
              cases z : L p with
              | none => rw [z] at e; cases e
              | some gg => rw [z] at e; exact (h3 gg i (hyl gg z) e).1
            have k2 := h3 p t hp ht
            have bt := h1 t k2.1
            have hST := hS.rotR hp ht
            refine ct_parentOf (o := some j) (o' := some p) hT (sm_lt hj) hP ⟨rfl, ct_colorOf (o := some p) hT (sm_lt hp) hB ⟨rfl, ct_setColor (o := L p) hT hyl (tcolB hB) fun s1 hT1 _ => ct_parentOf (o := some j) (o' := some p) hT1 (sm_lt hj) hP ⟨rfl, ct_setColor (o := some p) hT1 (sm_lt hp) (Or.inr rfl) fun s2 hT2 _ => ct_leftOf (o := L p) hT2 hyl rfl ⟨rfl, ct_setColor hT2 hyy (Or.inr rfl) fun s3 hT3 _ => ct_parentOf (o := some j) (o' := some p) hT3 (sm_lt hj) hP ⟨rfl, hT3.gI, ct_rotR hT3 hS hp ht fun s4 hT4 _ => ⟨_, hT4.gT, ?_⟩⟩⟩⟩⟩⟩
            have hBB := tsetB (o := (L p).bind L) (c := nI 1) (tsetB (o := some p) (c := nI 1) (tsetB (o := L p) (c := tcol co (some p)) hB (tcolB hB)) (Or.inr rfl)) (Or.inr rfl)
            cases hr : rT rt p t with
            | none =>
              have := hST.2.2.2.2.2.2.2.1 hr
              omega
            | some r =>
              rw [hr] at hST hT4
              have kr := hST.2.2.2.2.2.2.2.2 r rfl
              refine hK27 _ _ ⟨0, ⟨r, _, _, _, _, _, _, _, rfl, kr.1, hT4, hST, hBB, fun i hi1 hi2 => ?_, by omega, by omega, by omega⟩, by omega⟩
              rw [t_up_n (by omega), t_up_n (by omega)]
              exact hlf i hi1 hi2
          · have hu : ∃ r, R t = some r := by
              cases z : R t with
              | none =>
                rw [ht] at hbb hc
                refine absurd ⟨?_, hc⟩ hbb
                show tcol co (R t) = nI 1
                rw [z]
                rfl
              | some r => exact ⟨r, rfl⟩
            obtain ⟨r, hr⟩ := hu
            have k3 := h5 t r k2.1 hr
            have br := h1 r k3.1
            have hST := hS.rotL k2.1 hr
            have eP : rP L P t r j = some p := by
              have z : L r ≠ some j := fun z => by have := h3 r j k3.1 z; omega
              unfold rP
              rw [if_neg (by omega), if_neg (by omega), if_neg z, hP]
            have eX : rR L R t r p = some j := by
              unfold rR
              rw [if_neg (by omega), if_neg (by rw [hX]; intro e; cases e; omega), hX]
            have eY : rL L t r p = some r := by
              unfold rL
              rw [if_neg (by omega), if_pos ht]
            rw [ht]
            refine ct_rightOf (o := some t) (o' := some r) hT (sm_lt k2.1) hr ⟨rfl, ct_setColor (o := some r) hT (sm_lt k3.1) (Or.inr rfl) fun s1 hT1 _ => ct_setColor (o := some t) hT1 (sm_lt k2.1) (Or.inl rfl) fun s2 hT2 _ => ⟨hT2.gI, ct_rotL hT2 hS k2.1 hr fun s3 hT3 _ => ct_parentOf (o := some j) (o' := some p) hT3 (sm_lt hj) eP ⟨rfl, ct_leftOf (o := some p) (o' := some r) hT3 (sm_lt hp) eY ⟨rfl, hK35 _ _ ⟨⟨_, _, _, _, _, _, _, by rw [eY], hT3, hST, tsetB (o := some t) (tsetB (o := some r) hB (Or.inr rfl)) (Or.inl rfl), fun i hi1 hi2 => ?_, eP, eX, ?_, ?_, ?_⟩, nd r, rfl⟩⟩⟩⟩⟩
            · rw [t_up_n (by omega), t_up_n (by omega)]
              exact hlf i hi1 hi2
            · rw [t_up_n (by omega)]
              exact ha
            · rw [t_up_n (by omega)]
              exact hb
            · rw [t_up_n (by omega), t_up_n (by omega)]
    · have hX : L p = some j := hT.injO hj (fun i hi' => (h3 p i hp hi').1) heq2
      have k1 := h3 p j hp hX
      have hyl : ∀ i, R p = some i → i < n := fun i e => (h5 p i hp e).1
      have hyx : ∀ i, (R p).bind L = some i → i < n := by
        intro i e
        cases z : R p with
        | none => rw [z] at e; cases e
        | some gg => rw [z] at e; exact (h3 gg i (hyl gg z) e).1
      have hyy : ∀ i, (R p).bind R = some i → i < n := by
        intro i e
        cases z : R p with
        | none => rw [z] at e; cases e
        | some gg => rw [z] at e; exact (h5 gg i (hyl gg z) e).1
      refine ct_parentOf (o := some j) (o' := some p) hT (sm_lt hj) hP ⟨rfl, ct_rightOf (o := some p) (o' := R p) hT (sm_lt hp) rfl ⟨rfl, ct_colorOf hT hyl hB ⟨rfl, ?_⟩⟩⟩
      refine g_jn2_i (PDL st0 tm n nd ka va sz mc x a b lo0 hi0 j p (hi j - lo j)) (fun o s H => ?_) fun K21 hK21 => ⟨fun hc => hK21 _ _ ⟨L, R, P, co, rt, lo, hi, rfl, hT, hS, hB, hlf, hP, hX, ha, hb, rfl⟩, fun hc => ?_⟩
      rotate_left
      · have hu : ∃ t, R p = some t := by
          cases z : R p with
          | none =>
            rw [z] at hc
            exact absurd (show nI 1 = 0 from hc) (by decide)
          | some t => exact ⟨t, rfl⟩
        obtain ⟨t, ht⟩ := hu
        have k2 := h5 p t hp ht
        have bt := h1 t k2.1
        have hST := hS.rotL hp ht
        have eP : rP L P p t j = some p := by
          have z : L t ≠ some j := fun z => by have := h3 t j k2.1 z; omega
          unfold rP
          rw [if_neg (by omega), if_neg (by omega), if_neg z, hP]
        have eY : rR L R p t p = L t := by
          unfold rR
          rw [if_pos rfl]
        have eX : rL L p t p = some j := by
          unfold rL
          rw [if_neg (by omega), if_neg (by rw [hX]; intro e; cases e; omega), hX]
        refine ct_setColor hT hyl (Or.inr rfl) fun s1 hT1 _ => ct_parentOf (o := some j) (o' := some p) hT1 (sm_lt hj) hP ⟨rfl, ct_setColor (o := some p) hT1 (sm_lt hp) (Or.inl rfl) fun s2 hT2 _ => ct_parentOf (o := some j) (o' := some p) hT2 (sm_lt hj) hP ⟨rfl, hT2.gI, ct_rotL hT2 hS hp ht fun s3 hT3 _ => ct_parentOf (o := some j) (o' := some p) hT3 (sm_lt hj) eP ⟨rfl, ct_rightOf (o := some p) (o' := L t) hT3 (sm_lt hp) eY ⟨rfl, hK21 _ _ ⟨_, _, _, _, _, _, _, by rw [eY], hT3, hST, tsetB (o := some p) (tsetB hB (Or.inr rfl)) (Or.inl rfl), fun i hi1 hi2 => ?_, eP, eX, ?_, ?_, ?_⟩⟩⟩⟩⟩
        · rw [t_up_n (by omega), t_up_n (by omega)]
          exact hlf i hi1 hi2
        · rw [t_up_n (by omega)]
          exact ha
        · rw [t_up_n (by omega)]
          exact hb
        · rw [t_up_n (by omega), t_up_n (by omega)]
      · generalize hi j - lo j = w at H hm hwn
        clear hne heq2 hT hS hB hlf hP hX ha hb h1 h2 h3 h4 h5 h6 h7 h8 h9 bj bp k1 hyl hyx hyy hlr
        obtain ⟨L, R, P, co, rt, lo, hi, rfl, hT, hS, hB, hlf, hP, hX, ha, hb, rfl⟩ := H
        obtain ⟨h1, h2, h3, h4, h5, h6, h7, h8, h9⟩ := id hS
        have bj := h1 j hj
        have bp := h1 p hp
        have k1 := h3 p j hp hX
        have hyl : ∀ i, R p = some i → i < n := fun i e => (h5 p i hp e).1
        have hyx : ∀ i, (R p).bind L = some i → i < n := by
          intro i e
          cases z : R p with
          | none => rw [z] at e; cases e
          | some gg => rw [z] at e; exact (h3 gg i (hyl gg z) e).1
        have hyy : ∀ i, (R p).bind R = some i → i < n := by
          intro i e
          cases z : R p with
          | none => rw [z] at e; cases e
          | some gg => rw [z] at e; exact (h5 gg i (hyl gg z) e).1
        refine ct_leftOf (o := R p) hT hyl rfl ⟨rfl, ct_colorOf hT hyx hB ⟨rfl, ?_⟩⟩
        refine g_jn2_i (fun o s => ∃ m', FD st0 tm n nd ka va sz mc x a b lo0 hi0 m' o s ∧ m' < m) (fun o s ⟨m', hI, hm'⟩ => hK m' o s hI hm') fun K27 hK27 => ?_
        by_cases hbb : tcol co ((R p).bind L) = nI 1 ∧ tcol co ((R p).bind R) = nI 1
        · show _ ∧ _
          exact ⟨fun z => absurd hbb.1 z, fun _ => ct_rightOf (o := R p) hT hyl rfl ⟨rfl, ct_colorOf hT hyy hB ⟨rfl, fun z => absurd hbb.2 z, fun _ => ct_setColor hT hyl (Or.inl rfl) fun s1 hT1 _ => ct_parentOf (o := some j) (o' := some p) hT1 (sm_lt hj) hP ⟨rfl, hK27 _ _ ⟨n - (hi p - lo p), ⟨p, L, R, P, _, rt, lo, hi, rfl, hp, hT1, hS, tsetB hB (Or.inl rfl), hlf, by omega, by omega, rfl⟩, by omega⟩⟩⟩⟩⟩
        · refine g_jn0_i ?_ fun K29 hK29 => ⟨fun _ => hK29, fun e1 => ct_rightOf (o := R p) hT hyl rfl ⟨rfl, ct_colorOf hT hyy hB ⟨rfl, fun _ => hK29, fun e2 => absurd ⟨e1, e2⟩ hbb⟩⟩⟩
          have hu : ∃ t, R p = some t := by
            cases z : R p with
            | none =>
              rw [z] at hbb
              exact absurd ⟨rfl, rfl⟩ hbb
            | some t => exact ⟨t, rfl⟩
          obtain ⟨t, ht⟩ := hu
          have k2 := h5 p t hp ht
          have bt := h1 t k2.1
          refine ct_rightOf (o := R p) hT hyl rfl ⟨rfl, ct_colorOf hT hyy hB ⟨rfl, ?_⟩⟩
          refine g_jn2_i (fun o s => PDL st0 tm n nd ka va sz mc x a b lo0 hi0 j p (hi j - lo j) o s ∧ ∃ t, o = some t) (fun o s H => ?_) fun K35 hK35 => ⟨fun hc => hK35 _ _ ⟨⟨L, R, P, co, rt, lo, hi, rfl, hT, hS, hB, hlf, hP, hX, ha, hb, rfl⟩, nd t, by rw [ht]; rfl⟩, fun hc => ?_⟩
          · generalize hi j - lo j = w at H hm hwn
            clear hT hS hB hlf hP hX ha hb h1 h2 h3 h4 h5 h6 h7 h8 h9 bj bp k1 hyl hyx hyy k2 bt ht hbb
            obtain ⟨⟨L, R, P, co, rt, lo, hi, rfl, hT, hS, hB, hlf, hP, hX, ha, hb, rfl⟩, t0, ht0⟩ := H
            obtain ⟨t, ht, -⟩ := om_some ht0
            clear ht0 t0
            obtain ⟨h1, h2, h3, h4, h5, h6, h7, h8, h9⟩ := id hS
            have bj := h1 j hj
            have bp := h1 p hp
            have k1 := h3 p j hp hX
            have hyl : ∀ i, R p = some i → i < n := fun i e => (h5 p i hp e).1
            have hyx : ∀ i, (R p).bind L = some i → i < n := by
              intro i e
              cases z : R p with
              | none => rw [z] at e; cases e
              | some gg => rw [z] at e; exact (h3 gg i (hyl gg z) e).1
            have hyy : ∀ i, (R p).bind R = some i → i < n := by
              intro i e
              cases z : R p with
              | none => rw [z] at e; cases e
              | some gg => rw [z] at e; exact (h5 gg i (hyl gg z) e).1
            have k2 := h5 p t hp ht
            have bt := h1 t k2.1
            have hST := hS.rotL hp ht
            refine ct_parentOf (o := some j) (o' := some p) hT (sm_lt hj) hP ⟨rfl, ct_colorOf (o := some p) hT (sm_lt hp) hB ⟨rfl, ct_setColor (o := R p) hT hyl (tcolB hB) fun s1 hT1 _ => ct_parentOf (o := some j) (o' := some p) hT1 (sm_lt hj) hP ⟨rfl, ct_setColor (o := some p) hT1 (sm_lt hp) (Or.inr rfl) fun s2 hT2 _ => ct_rightOf (o := R p) hT2 hyl rfl ⟨rfl, ct_setColor hT2 hyy (Or.inr rfl) fun s3 hT3 _ => ct_parentOf (o := some j) (o' := some p) hT3 (sm_lt hj) hP ⟨rfl, hT3.gI, ct_rotL hT3 hS hp ht fun s4 hT4 _ => ⟨_, hT4.gT, ?_⟩⟩⟩⟩⟩⟩
            have hBB := tsetB (o := (R p).bind R) (c := nI 1) (tsetB (o := some p) (c := nI 1) (tsetB (o := R p) (c := tcol co (some p)) hB (tcolB hB)) (Or.inr rfl)) (Or.inr rfl)
            cases hr : rT rt p t with
            | none =>
              have := hST.2.2.2.2.2.2.2.1 hr
              omega
            | some r =>
              rw [hr] at hST hT4
              have kr := hST.2.2.2.2.2.2.2.2 r rfl
              refine hK27 _ _ ⟨0, ⟨r, _, _, _, _, _, _, _, rfl, kr.1, hT4, hST, hBB, fun i hi1 hi2 => ?_, by omega, by omega, by omega⟩, by omega⟩
              rw [t_up_n (by omega), t_up_n (by omega)]
              exact hlf i hi1 hi2
          · have hu : ∃ r, L t = some r := by
              cases z : L t with
              | none =>
                rw [ht] at hbb hc
                refine absurd ⟨?_, hc⟩ hbb
                show tcol co (L t) = nI 1
                rw [z]
                rfl
              | some r => exact ⟨r, rfl⟩
            obtain ⟨r, hr⟩ := hu
            have k3 := h3 t r k2.1 hr
            have br := h1 r k3.1
            have hST := hS.rotR k2.1 hr
            have eP : rP R P t r j = some p := by
              have z : R r ≠ some j := fun z => by have := h5 r j k3.1 z; omega
              unfold rP
              rw [if_neg (by omega), if_neg (by omega), if_neg z, hP]
            have eX : rR R L t r p = some j := by
              unfold rR
              rw [if_neg (by omega), if_neg (by rw [hX]; intro e; cases e; omega), hX]
            have eY : rL R t r p = some r := by
              unfold rL
              rw [if_neg (by omega), if_pos ht]
            rw [ht]
            refine ct_leftOf (o := some t) (o' := some r) hT (sm_lt k2.1) hr ⟨rfl, ct_setColor (o := some r) hT (sm_lt k3.1) (Or.inr rfl) fun s1 hT1 _ => ct_setColor (o := some t) hT1 (sm_lt k2.1) (Or.inl rfl) fun s2 hT2 _ => ⟨hT2.gI, ct_rotR hT2 hS k2.1 hr fun s3 hT3 _ => ct_parentOf (o := some j) (o' := some p) hT3 (sm_lt hj) eP ⟨rfl, ct_rightOf (o := some p) (o' := some r) hT3 (sm_lt hp) eY ⟨rfl, hK35 _ _ ⟨⟨_, _, _, _, _, _, _, by rw [eY], hT3, hST, tsetB (o := some t) (tsetB (o := some r) hB (Or.inr rfl)) (Or.inl rfl), fun i hi1 hi2 => ?_, eP, eX, ?_, ?_, ?_⟩, nd r, rfl⟩⟩⟩⟩⟩
            · rw [t_up_n (by omega), t_up_n (by omega)]
              exact hlf i hi1 hi2
            · rw [t_up_n (by omega)]
              exact ha
            · rw [t_up_n (by omega)]
              exact hb
            · rw [t_up_n (by omega), t_up_n (by omega)]
end GT6
