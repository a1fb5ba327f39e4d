/-! TREE 15: building a tree out of a sorted iterator -/
section GT15
variable {l : Launch} {E : g_E} {st0 st : g_St} {tm n : Nat} {nd ka va : Nat → Nat} {mc : Int32} {x : tX} {ws : wL}
theorem bs_mid : ∀ s : Nat, s < 256 → ((nI s).toUInt32 >>> ((nI 1).toUInt32 &&& Int32.toUInt32 31)).toInt32 = nI (s / 2) := by decide +kernel
/-- the shape of the piece a .. b - 1 with the root r -/
def PS (a b : Nat) (r : Option Nat) (L R P : Nat → Option Nat) (lo hi : Nat → Nat) : Prop :=
  (r = none → a = b) ∧ (∀ j, r = some j → a ≤ j ∧ j < b ∧ lo j = a ∧ hi j = b ∧ P j = none) ∧
  (∀ i, a ≤ i → i < b → lo i ≤ i ∧ i < hi i ∧ a ≤ lo i ∧ hi i ≤ b) ∧
  (∀ i, a ≤ i → i < b → L i = none → lo i = i) ∧
  (∀ i j, a ≤ i → i < b → L i = some j → a ≤ j ∧ j < b ∧ lo j = lo i ∧ hi j = i ∧ P j = some i) ∧
  (∀ i, a ≤ i → i < b → R i = none → hi i = i + 1) ∧
  (∀ i j, a ≤ i → i < b → R i = some j → a ≤ j ∧ j < b ∧ lo j = i + 1 ∧ hi j = hi i ∧ P j = some i) ∧
  (∀ i, a ≤ i → i < b → P i = none → r = some i) ∧
  (∀ i j, a ≤ i → i < b → P i = some j → a ≤ j ∧ j < b ∧ (L j = some i ∨ R j = some i))
/-- the nodes a .. b - 1 -/
def NS (h : g_H) (a b : Nat) (nd ka va : Nat → Nat) (L R P : Nat → Option Nat) (co : Nat → Int32) : Prop := ∀ i, a ≤ i → i < b → h (nd i) = some (tE nd ka va L R P co i)
def g3 {α : Type} (m : Nat) (f : Nat → α) (y : α) (g : Nat → α) : Nat → α := fun i => if i < m then f i else if i = m then y else g i
def pP (P : Nat → Option Nat) (r : Option Nat) (m : Nat) : Nat → Option Nat := fun i => if r = some i then some m else P i
theorem PS.glue {a m b : Nat} {r1 r2 : Option Nat} {L1 R1 P1 L2 R2 P2 : Nat → Option Nat} {lo1 hi1 lo2 hi2 : Nat → Nat} (h1 : PS a m r1 L1 R1 P1 lo1 hi1) (h2 : PS (m + 1) b r2 L2 R2 P2 lo2 hi2) (ham : a ≤ m) (hmb : m < b) : PS a b (some m) (g3 m L1 r1 L2) (g3 m R1 r2 R2) (g3 m (pP P1 r1 m) none (pP P2 r2 m)) (g3 m lo1 a lo2) (g3 m hi1 b hi2) := by
  obtain ⟨a1, a2, a3, a4, a5, a6, a7, a8, a9⟩ := h1
  obtain ⟨b1, b2, b3, b4, b5, b6, b7, b8, b9⟩ := h2
  unfold g3 pP
  refine ⟨fun e => (by cases e), fun j e => ?_, fun i hi1' hi2' => ?_, fun i hi1' hi2' => ?_, fun i j hi1' hi2' => ?_, fun i hi1' hi2' => ?_, fun i j hi1' hi2' => ?_, fun i hi1' hi2' => ?_, fun i j hi1' hi2' => ?_⟩
  · cases e
    simp
    omega
  · rcases Nat.lt_trichotomy i m with z | z | z
    · have := a3 i hi1' z
      simp only [if_pos z]
      omega
    · subst z
      simp
      omega
    · have := b3 i z hi2'
      simp only [if_neg (show ¬ i < m by omega), if_neg (show ¬ i = m by omega)]
      omega
  · grind
  · grind
  · grind
  · grind
  · grind
  · grind
theorem tE_cg {nd nd' ka va : Nat → Nat} {L R P L' R' P' : Nat → Option Nat} {co co' : Nat → Int32} {i : Nat} (h1 : (L i).map nd = (L' i).map nd') (h2 : (R i).map nd = (R' i).map nd') (h3 : (P i).map nd = (P' i).map nd') (h4 : co i = co' i) : tE nd ka va L R P co i = tE nd' ka va L' R' P' co' i := by
  unfold tE
  rw [h1, h2, h3, h4]
/-- what stands when the piece a .. b - 1 is built -/
def BFS (st : g_St) (it tms n : Nat) (nds ka va : Nat → Nat) (mcs : Int32) (a b : Nat) (o : Option Nat) (st' : g_St) : Prop := ∃ (nd : Nat → Nat) (r : Option Nat) (L R P : Nat → Option Nat) (co : Nat → Int32) (lo hi : Nat → Nat), o = r.map nd ∧ PS a b r L R P lo hi ∧ NS st'.2.1 a b nd ka va L R P co ∧ tB co ∧ (∀ i j, a ≤ i → i < b → a ≤ j → j < b → nd i = nd j → i = j) ∧ (∀ i, a ≤ i → i < b → st.2.2 ≤ nd i ∧ nd i < st'.2.2) ∧ IT st' 9 it tms n nds mcs b ∧ Se (fun z => z = it) st st' ∧ st'.1 = st.1
theorem ct_buildF {tms it a0 : Nat} {nds : Nat → Nat} {mcs : Int32} {xs : tX} (red : Int32) : ∀ (dep a b : Nat) (lev : Int32) (st : g_St) (cb sb : Nat) (Q : Option Nat → g_St → Prop), TMx st tms n nds ka va mcs xs ws → g_is st a0 3 → (∀ z, CX tms n nds xs z → z < st.2.2) → IT st 9 it tms n nds mcs a → it < st.2.2 → a0 < st.2.2 → a0 ≠ it → a < b → b ≤ n → n < 100 → b - a < 2 ^ dep → b - a ≤ cb → 6 * (b - a) ≤ sb → (∀ (o : Option Nat) (st' : g_St), BFS st it tms n nds ka va mcs a b o st' → Q o st') → wp_J5_buildFromSorted_2 l E dep cb sb [va_rf (some a0), .int lev, .int (nI a), .int (nI b - nI 1), .int red, va_rf (some it), va_rf none, va_rf none] st Q := by
  intro dep
  induction dep with
  | zero => intro a b lev st cb sb Q _ _ _ _ _ _ _ h1 h2 _ h3; omega
  | succ dep ih =>
    intro a b lev st cb sb Q hT hA hcx hI hit ha0 hne hab hbn hn100 hdep hcb hsb hq
    rw [su_sub (show 1 ≤ b by omega)]
    refine wk_J5_buildFromSorted_2 ⟨fun _ => ?_, fun z => absurd (nI_le (by omega) (by omega)) z⟩
    rw [nI_add, bs_mid (a + (b - 1)) (by omega)]
    have hm1 : a ≤ (a + (b - 1)) / 2 := by omega
    have hm2 : (a + (b - 1)) / 2 < b := by omega
    have hm3 : (a + (b - 1)) / 2 - a < 2 ^ dep := by
      have : 2 ^ (dep + 1) = 2 * 2 ^ dep := by rw [Nat.pow_succ]; omega
      omega
    have hm4 : b - ((a + (b - 1)) / 2 + 1) < 2 ^ dep := by
      have : 2 ^ (dep + 1) = 2 * 2 ^ dep := by rw [Nat.pow_succ]; omega
      omega
    generalize (a + (b - 1)) / 2 = m at hm1 hm2 hm3 hm4 ⊢
    have hnit : ∀ z, CX tms n nds xs z → z ≠ it := fun z hz e => by
      obtain ⟨last, hI⟩ := hI
      exact hT.nc hI (by decide) (by rw [← e]; exact hz)
    refine g_jn4_i (fun o s cb4 sb5 => BFS st it tms n nds ka va mcs a m o s ∧ b - m ≤ cb4 ∧ 6 * (b - m) ≤ sb5) (fun o s cb4 sb5 H => ?_) fun K6 hK6 => ⟨fun z => ?_, fun z => ?_⟩
    rotate_left
    · have e : a = m := by
        have := (nI_leI (a := m) (b := a) (by omega) (by omega)).mp z
        omega
      subst e
      refine hK6 _ _ _ _ ⟨⟨fun _ => 0, none, fun _ => none, fun _ => none, fun _ => none, fun _ => nI 1, fun _ => 0, fun _ => 0, rfl, ?_, fun i h1 h2 => absurd h2 (by omega), fun _ => Or.inr rfl, fun i j h1 h2 => absurd h2 (by omega), fun i h1 h2 => absurd h2 (by omega), hI, Se.rf, rfl⟩, hcb, hsb⟩
      refine ⟨fun _ => rfl, fun j e => (by cases e), fun i h1 h2 => absurd h2 (by omega), fun i h1 h2 => absurd h2 (by omega), fun i j h1 h2 => absurd h2 (by omega), fun i h1 h2 => absurd h2 (by omega), fun i j h1 h2 => absurd h2 (by omega), fun i h1 h2 => absurd h2 (by omega), fun i j h1 h2 => absurd h2 (by omega)⟩
    · have e : a < m := by
        rcases Nat.lt_or_ge a m with w | w
        · exact w
        · exact absurd (nI_le w (by omega)) z
      exact ⟨m - a, 6 * (m - a), by omega, by omega, hA, ih a m _ st (m - a) (6 * (m - a)) _ hT hA hcx hI hit ha0 hne e (by omega) hn100 hm3 (Nat.le_refl _) (Nat.le_refl _) fun o s hB _ => hK6 _ _ _ _ ⟨hB, by omega, by omega⟩⟩
    obtain ⟨⟨nd1, r1, L1, R1, P1, co1, lo1, hi1, rfl, hS1, hN1, hB1, hj1, ha1, hI1, hse1, hf1⟩, hcb4, hsb5⟩ := H
    have hz1 := hse1.1.1
    have hT1 : TMx s tms n nds ka va mcs xs ws := hT.fr (fun q o hq => by rw [hf1]; exact hq) fun z hz => hse1.2 z (hcx z hz) (hnit z hz)
    refine ⟨fun z => (by cases z), fun a9 e => ?_⟩
    cases e
    have hmn : m < n := by omega
    have hI10 := hI1
    obtain ⟨last1, hI1c⟩ := hI10
    refine g_jn3_i (fun o10 o11 s12 => o10 = some (ka m) ∧ o11 = some (va m) ∧ IT s12 9 it tms n nds mcs (m + 1) ∧ Sx (fun z => z = it) s s12) (fun o10 o11 s12 H => ?_) fun K13 hK13 => ⟨fun _ => ⟨⟨_, Or.inl hI1c⟩, ct_nextE hT1 hI1 hmn fun s54 hI54 hx54 hx54' => ?_⟩, fun a52 e => (by cases e)⟩
    rotate_left
    · have hT54 : TMx s54 tms n nds ka va mcs xs ws := hT1.fr (fun q o hq => by rw [hx54.1]; exact hq) fun z hz => hx54.2.2.2 z (hnit z hz)
      exact ⟨fun z e => by cases e; exact hT54.isN hmn, _, rfl, hT54.isN hmn, ct_eKey hT54 hmn ⟨rfl, hT54.isN hmn, ct_eVal hT54 hmn ⟨rfl, hK13 _ _ _ ⟨rfl, rfl, hI54, hx54⟩⟩⟩⟩
    obtain ⟨rfl, rfl, hI12, hx12⟩ := H
    refine ⟨by omega, by omega, fun q15 st16 e1 e2 => ?_⟩
    have hold16 : ∀ z, z < s12.2.2 → st16.2.1 z = s12.2.1 z := fun z hz => by rw [e2]; exact g_upd_n (by omega)
    have hz12 : s12.2.2 = s.2.2 := hx12.2.1
    have hx16 : g_Ext s12 st16 := by rw [e2]; exact g_Ext.new g_Ext.rf
    refine ct_J27_init (by rw [e1, e2]; exact g_upd_s) fun s17 h17 hx17 => ?_
    refine g_jn1_i (fun s18 => ∃ c : Int32, (c = nI 0 ∨ c = nI 1) ∧ Pt st16 q15 s18 (.inr (4, [va_rf (some (ka m)), va_rf (some (va m)), va_rf none, va_rf none, va_rf none, .int c]))) (fun s18 H => ?_) fun K19 hK19 => ⟨fun _ => hK19 _ ⟨_, Or.inr rfl, h17⟩, fun _ => pu h17.nx fun s49 h49 => hK19 _ ⟨_, Or.inl rfl, h17.tr h49⟩⟩
    obtain ⟨c, hc, h18⟩ := H
    have hold18 : ∀ z, z < s.2.2 → s18.2.1 z = s12.2.1 z := fun z hz => by rw [h18.2.2.2.1 z (by omega)]; exact hold16 z (by omega)
    have hz18 : s18.2.2 = s.2.2 + 1 := by rw [h18.2.1, e2]; show s12.2.2 + 1 = _; rw [hz12]
    have hq15 : q15 = s.2.2 := by rw [e1, hz12]
    have hndlt : ∀ i, a ≤ i → i < m → nd1 i < s.2.2 ∧ nd1 i ≠ it ∧ st.2.2 ≤ nd1 i := fun i h1 h2 => by
      have := ha1 i h1 h2
      exact ⟨this.2, by omega, this.1⟩
    have hN18 : ∀ i, a ≤ i → i < m → s18.2.1 (nd1 i) = some (tE nd1 ka va L1 R1 P1 co1 i) := fun i h1 h2 => by
      obtain ⟨k1, k2, -⟩ := hndlt i h1 h2
      rw [hold18 _ k1, hx12.2.2.2 _ k2]
      exact hN1 i h1 h2
    -- the left child is linked
    refine g_jn1_i (fun s21 => s21.2.1 q15 = some (.inr (4, [va_rf (some (ka m)), va_rf (some (va m)), va_rf (r1.map nd1), va_rf none, va_rf none, .int c])) ∧ (∀ i, a ≤ i → i < m → s21.2.1 (nd1 i) = some (.inr (4, [va_rf (some (ka i)), va_rf (some (va i)), va_rf ((L1 i).map nd1), va_rf ((R1 i).map nd1), va_rf (if r1 = some i then some q15 else (P1 i).map nd1), .int (co1 i)]))) ∧ (∀ z, z ≠ q15 → (∀ i, a ≤ i → i < m → z ≠ nd1 i) → s21.2.1 z = s18.2.1 z) ∧ s21.1 = s18.1 ∧ s21.2.2 = s18.2.2 ∧ g_Ext s18 s21) (fun s21 H => ?_) fun K22 hK22 => ⟨fun e => ?_, fun a41 e => ?_⟩
    rotate_left
    · have e' := om_none e
      subst e'
      refine hK22 _ ⟨h18.nx, fun i h1 h2 => ?_, fun _ _ _ => rfl, rfl, rfl, g_Ext.rf⟩
      rw [hN18 i h1 h2]
      unfold tE
      rw [if_neg (fun z => by cases z)]
    · obtain ⟨j, rfl, rfl⟩ := om_some e
      obtain ⟨j1, j2, -⟩ := hS1.2.1 j rfl
      have hjq : nd1 j ≠ q15 := by have := hndlt j j1 j2; omega
      refine pu h18.nx fun s43 h43 => pu (fs := [va_rf (some (ka j)), va_rf (some (va j)), va_rf ((L1 j).map nd1), va_rf ((R1 j).map nd1), va_rf ((P1 j).map nd1), .int (co1 j)]) ((h43.2.2.2.1 _ hjq).trans (hN18 j j1 j2)) fun s45 h45 => hK22 _ ⟨(h45.2.2.2.1 _ (Ne.symm hjq)).trans h43.nx, fun i h1 h2 => ?_, fun z hz1 hz2 => ?_, by rw [h45.1, h43.1], by rw [h45.2.1, h43.2.1], h43.2.2.2.2.tr h45.2.2.2.2⟩
      · by_cases w : i = j
        · subst w
          rw [h45.nx, if_pos rfl]
          rfl
        · rw [h45.2.2.2.1 _ (fun z => w (hj1 i j h1 h2 j1 j2 z)), h43.2.2.2.1 _ (by have := hndlt i h1 h2; omega), hN18 i h1 h2, if_neg (fun z => w (Option.some.inj z).symm)]
          rfl
      · rw [h45.2.2.2.1 _ (hz2 j j1 j2), h43.2.2.2.1 _ hz1]
    obtain ⟨hq21, hN21, ho21, hf21, hz21, hx21⟩ := H
    have hf21' : s21.1 = st.1 := by rw [hf21, h18.1, e2]; show s12.1 = _; rw [hx12.1, hf1]
    have hit21 : ∀ z, z < st.2.2 → s21.2.1 z = s12.2.1 z := fun z hz => by
      rw [ho21 z (by omega) (fun i h1 h2 e => by have := hndlt i h1 h2; omega)]
      exact hold18 z (by omega)
    have hx021 : g_Ext st s21 := hse1.1.tr (hx12.2.2.1.tr (hx16.tr (h18.2.2.2.2.tr hx21)))
    have hT21 : TMx s21 tms n nds ka va mcs xs ws := hT1.fr (fun q o hq => by rw [hf21', ← hf1]; exact hq) fun z hz => by
      rw [hit21 z (hcx z hz)]
      exact hx12.2.2.2 z (hnit z hz)
    have hI21 : IT s21 9 it tms n nds mcs (m + 1) := by
      obtain ⟨last, k⟩ := hI12
      exact ⟨last, (hit21 it hit).trans k⟩
    have hA21 : g_is s21 a0 3 := hA.mv (by rw [hit21 a0 ha0, hx12.2.2.2 a0 hne]; exact hse1.2 a0 ha0 hne) hf21'
    refine g_jn3_i (fun s24 _ _ => BFS st it tms n nds ka va mcs a b (some q15) s24) (fun s24 _ _ H => hq _ _ H) fun K27 hK27 => ⟨fun z => ?_, fun z => ?_⟩
    · -- no right child
      have e : b = m + 1 := by
        have := (nI_leI (a := b - 1) (b := m) (by omega) (by omega)).mp z
        omega
      have hS2 : PS (m + 1) b none (fun _ => none) (fun _ => none) (fun _ => none) (fun _ => 0) (fun _ => 0) := ⟨fun _ => e.symm, fun j e => (by cases e), fun i h1 h2 => absurd h2 (by omega), fun i h1 h2 => absurd h2 (by omega), fun i j h1 h2 => absurd h2 (by omega), fun i h1 h2 => absurd h2 (by omega), fun i j h1 h2 => absurd h2 (by omega), fun i h1 h2 => absurd h2 (by omega), fun i j h1 h2 => absurd h2 (by omega)⟩
      refine hK27 _ _ _ ⟨g3 m nd1 q15 (fun _ => 0), some m, _, _, _, g3 m co1 c (fun _ => nI 1), _, _, ?_, hS1.glue hS2 hm1 hm2, fun i h1 h2 => ?_, fun i => ?_, fun i j h1 h2 h3 h4 he => ?_, fun i h1 h2 => ?_, by rw [e]; exact hI21, ⟨hx021, fun z hz hne => ?_⟩, hf21'⟩
      · show some q15 = some (g3 m nd1 q15 (fun _ => 0) m)
        unfold g3
        rw [if_neg (Nat.lt_irrefl _), if_pos rfl]
      · have ml : ∀ (X : Nat → Option Nat) i, a ≤ i → i < m → (∀ j, X i = some j → a ≤ j ∧ j < m) → (X i).map nd1 = (X i).map (g3 m nd1 q15 (fun _ => 0)) := fun X i h1 h2 hX => by
          cases w : X i with
          | none => rfl
          | some j =>
            have := hX j w
            show some _ = some _
            unfold g3
            rw [if_pos this.2]
        by_cases w : i < m
        · have ei : g3 m nd1 q15 (fun _ => 0) i = nd1 i := by unfold g3; rw [if_pos w]
          rw [ei, hN21 i h1 w]
          unfold tE
          have eL : g3 m L1 r1 (fun _ => none) i = L1 i := by unfold g3; rw [if_pos w]
          have eR : g3 m R1 none (fun _ => none) i = R1 i := by unfold g3; rw [if_pos w]
          have eC : g3 m co1 c (fun _ => nI 1) i = co1 i := by unfold g3; rw [if_pos w]
          have eP : g3 m (pP P1 r1 m) none (pP (fun _ => none) none m) i = pP P1 r1 m i := by unfold g3; rw [if_pos w]
          rw [eL, eR, eC, eP, ← ml L1 i h1 w (fun j hj => by have := hS1.2.2.2.2.1 i j h1 w hj; exact ⟨this.1, this.2.1⟩), ← ml R1 i h1 w (fun j hj => by have := hS1.2.2.2.2.2.2.1 i j h1 w hj; exact ⟨this.1, this.2.1⟩)]
          unfold pP
          by_cases v : r1 = some i
          · rw [if_pos v, if_pos v]
            simp only [Option.map_some]
            unfold g3
            rw [if_neg (Nat.lt_irrefl _), if_pos rfl]
          · rw [if_neg v, if_neg v, ← ml P1 i h1 w (fun j hj => by have := hS1.2.2.2.2.2.2.2.2 i j h1 w hj; exact ⟨this.1, this.2.1⟩)]
        · have ei : i = m := by omega
          subst ei
          have e0 : ∀ {α : Type} (f : Nat → α) (y : α) (g : Nat → α), g3 i f y g i = y := fun f y g => by unfold g3; rw [if_neg (Nat.lt_irrefl _), if_pos rfl]
          rw [e0, hq21]
          unfold tE
          rw [e0, e0, e0, e0]
          congr 6
          cases w2 : r1 with
          | none => rfl
          | some j =>
            have := hS1.2.1 j w2
            show va_rf (some _) = va_rf (some _)
            unfold g3
            rw [if_pos this.2.1]
      · unfold g3
        split
        · exact hB1 i
        · split
          · exact hc
          · exact Or.inr rfl
      · have ej : ∀ k, a ≤ k → k < b → (k < m ∧ g3 m nd1 q15 (fun _ => 0) k = nd1 k ∧ nd1 k < q15) ∨ (k = m ∧ g3 m nd1 q15 (fun _ => 0) k = q15) := fun k g1 g2 => by
          by_cases w : k < m
          · refine Or.inl ⟨w, by unfold g3; rw [if_pos w], ?_⟩
            have := hndlt k g1 w
            omega
          · refine Or.inr ⟨by omega, ?_⟩
            unfold g3
            rw [if_neg w, if_pos (by omega)]
        rcases ej i h1 h2 with ⟨w1, w2, w3⟩ | ⟨w1, w2⟩
        · rcases ej j h3 h4 with ⟨v1, v2, v3⟩ | ⟨v1, v2⟩
          · rw [w2, v2] at he
            exact hj1 i j h1 w1 h3 v1 he
          · omega
        · rcases ej j h3 h4 with ⟨v1, v2, v3⟩ | ⟨v1, v2⟩
          · omega
          · omega
      · by_cases w : i < m
        · have ei : g3 m nd1 q15 (fun _ => 0) i = nd1 i := by unfold g3; rw [if_pos w]
          rw [ei]
          have := hndlt i h1 w
          omega
        · have ei : g3 m nd1 q15 (fun _ => 0) i = q15 := by unfold g3; rw [if_neg w, if_pos (by omega)]
          rw [ei]
          omega
      · rw [hit21 z hz, hx12.2.2.2 z hne]
        exact hse1.2 z hz hne
    · -- a right child
      have hm5 : m + 1 < b := by
        rcases Nat.lt_or_ge (m + 1) b with w | w
        · exact w
        · exact absurd (nI_le (by omega) (by omega)) z
      refine ⟨b - (m + 1), 6 * (b - (m + 1)), by omega, by omega, hA21, ?_⟩
      rw [nI_add]
      have key := ih (m + 1) b (lev + nI 1) s21 (b - (m + 1)) (6 * (b - (m + 1))) (fun o30 st31 => g_Ext s21 st31 → ∃ fs34 : List Value, st31.2.1 q15 = some (.inr (4, fs34)) ∧ ∀ st35 : g_St, st35 = g_put st31 q15 (.inr (4, fs34.set 3 (va_rf o30))) → ∃ a36 : Nat, o30 = some a36 ∧ ∃ fs37 : List Value, st35.2.1 a36 = some (.inr (4, fs37)) ∧ ∀ st38 : g_St, st38 = g_put st35 a36 (.inr (4, fs37.set 4 (va_rf (some q15)))) → K27 st38 ((cb4 - 1) - (b - (m + 1))) ((sb5 - 6) - 6 * (b - (m + 1)))) hT21 hA21 (fun z hz => Nat.lt_of_lt_of_le (hcx z hz) hx021.1) hI21 (by omega) (by omega) hne hm5 hbn hn100 hm4 (Nat.le_refl _) (Nat.le_refl _) ?_
      · rw [su_sub (show 1 ≤ b by omega)] at key
        exact key
      rintro o s31 ⟨nd2, r2, L2, R2, P2, co2, lo2, hi2, rfl, hS2, hN2, hB2, hj2, ha2, hI31, hse31, hf31⟩ _
      obtain ⟨rr, hrr⟩ : ∃ rr, r2 = some rr := by
        cases w : r2 with
        | none =>
          have := hS2.1 w
          omega
        | some rr => exact ⟨rr, rfl⟩
      subst hrr
      obtain ⟨rr1, rr2, -⟩ := hS2.2.1 rr rfl
      have hnd2 : ∀ i, m + 1 ≤ i → i < b → q15 < nd2 i ∧ nd2 i ≠ it ∧ nd2 i < s31.2.2 := fun i h1 h2 => by
        have := ha2 i h1 h2
        omega
      have hq31 := (hse31.2 q15 (by omega) (by omega)).trans hq21
      refine pu hq31 fun s35 h35 => ⟨nd2 rr, rfl, pu (fs := [va_rf (some (ka rr)), va_rf (some (va rr)), va_rf ((L2 rr).map nd2), va_rf ((R2 rr).map nd2), va_rf ((P2 rr).map nd2), .int (co2 rr)]) ((h35.2.2.2.1 _ (by have := hnd2 rr rr1 rr2; omega)).trans (hN2 rr rr1 rr2)) fun s38 h38 => ?_⟩
      have hxf : g_Ext st s38 := hx021.tr (hse31.1.tr (h35.2.2.2.2.tr h38.2.2.2.2))
      have hzf : s38.2.2 = s31.2.2 := by rw [h38.2.1, h35.2.1]
      have hz31 := hse31.1.1
      have hlow : ∀ z, z < q15 → z ≠ it → s38.2.1 z = s21.2.1 z := fun z h1 h2 => by
        have := hnd2 rr rr1 rr2
        rw [h38.2.2.2.1 z (by omega), h35.2.2.2.1 z (by omega), hse31.2 z (by omega) h2]
      have hqf : s38.2.1 q15 = some (.inr (4, [va_rf (some (ka m)), va_rf (some (va m)), va_rf (r1.map nd1), va_rf (some (nd2 rr)), va_rf none, .int c])) := by
        have := hnd2 rr rr1 rr2
        rw [h38.2.2.2.1 q15 (by omega), h35.nx]
        rfl
      have hN2f : ∀ i, m + 1 ≤ i → i < b → s38.2.1 (nd2 i) = some (.inr (4, [va_rf (some (ka i)), va_rf (some (va i)), va_rf ((L2 i).map nd2), va_rf ((R2 i).map nd2), va_rf (if some rr = some i then some q15 else (P2 i).map nd2), .int (co2 i)])) := fun i h1 h2 => by
        by_cases w : i = rr
        · subst w
          rw [h38.nx, if_pos rfl]
          rfl
        · have := hnd2 i h1 h2
          rw [h38.2.2.2.1 _ (fun z => w (hj2 i rr h1 h2 rr1 rr2 z)), h35.2.2.2.1 _ (by omega), hN2 i h1 h2, if_neg (fun z => w (Option.some.inj z).symm)]
          rfl
      have ml : ∀ (X : Nat → Option Nat) i, (∀ j, X i = some j → a ≤ j ∧ j < m) → (X i).map nd1 = (X i).map (g3 m nd1 q15 nd2) := fun X i hX => by
        cases w : X i with
        | none => rfl
        | some j =>
          have := hX j w
          show some _ = some _
          unfold g3
          rw [if_pos this.2]
      have mr : ∀ (X : Nat → Option Nat) i, (∀ j, X i = some j → m + 1 ≤ j ∧ j < b) → (X i).map nd2 = (X i).map (g3 m nd1 q15 nd2) := fun X i hX => by
        cases w : X i with
        | none => rfl
        | some j =>
          have := hX j w
          show some _ = some _
          unfold g3
          rw [if_neg (by omega), if_neg (by omega)]
      have em : g3 m nd1 q15 nd2 m = q15 := by unfold g3; rw [if_neg (Nat.lt_irrefl _), if_pos rfl]
      refine hK27 _ _ _ ⟨g3 m nd1 q15 nd2, some m, _, _, _, g3 m co1 c co2, _, _, ?_, hS1.glue hS2 hm1 hm2, fun i h1 h2 => ?_, fun i => ?_, fun i j h1 h2 h3 h4 he => ?_, fun i h1 h2 => ?_, ?_, ⟨hxf, fun z hz hne => ?_⟩, ?_⟩
      · show some q15 = some (g3 m nd1 q15 nd2 m)
        rw [em]
      · rcases Nat.lt_trichotomy i m with w | w | w
        · have e0 : ∀ {α : Type} (f : Nat → α) (y : α) (g : Nat → α), g3 m f y g i = f i := fun f y g => by unfold g3; rw [if_pos w]
          have := hndlt i h1 w
          rw [e0, hlow _ (by omega) (by omega), hN21 i h1 w]
          unfold tE
          rw [e0, e0, e0, e0, ← ml L1 i (fun j hj => by have := hS1.2.2.2.2.1 i j h1 w hj; exact ⟨this.1, this.2.1⟩), ← ml R1 i (fun j hj => by have := hS1.2.2.2.2.2.2.1 i j h1 w hj; exact ⟨this.1, this.2.1⟩)]
          unfold pP
          by_cases v : r1 = some i
          · rw [if_pos v, if_pos v]
            simp only [Option.map_some]
            rw [em]
          · rw [if_neg v, if_neg v, ← ml P1 i (fun j hj => by have := hS1.2.2.2.2.2.2.2.2 i j h1 w hj; exact ⟨this.1, this.2.1⟩)]
        · subst w
          have e0 : ∀ {α : Type} (f : Nat → α) (y : α) (g : Nat → α), g3 i f y g i = y := fun f y g => by unfold g3; rw [if_neg (Nat.lt_irrefl _), if_pos rfl]
          rw [e0, hqf]
          unfold tE
          rw [e0, e0, e0, e0]
          have eA : r1.map nd1 = r1.map (g3 i nd1 q15 nd2) := ml (fun _ => r1) 0 fun j hj => by have := hS1.2.1 j hj; exact ⟨this.1, this.2.1⟩
          have eB : some (nd2 rr) = (some rr).map (g3 i nd1 q15 nd2) := mr (fun _ => some rr) 0 fun j hj => by cases hj; exact ⟨rr1, rr2⟩
          rw [eA, eB]
          rfl
        · have e0 : ∀ {α : Type} (f : Nat → α) (y : α) (g : Nat → α), g3 m f y g i = g i := fun f y g => by unfold g3; rw [if_neg (by omega), if_neg (by omega)]
          rw [e0, hN2f i w h2]
          unfold tE
          rw [e0, e0, e0, e0, ← mr L2 i (fun j hj => by have := hS2.2.2.2.2.1 i j w h2 hj; exact ⟨this.1, this.2.1⟩), ← mr R2 i (fun j hj => by have := hS2.2.2.2.2.2.2.1 i j w h2 hj; exact ⟨this.1, this.2.1⟩)]
          unfold pP
          by_cases v : some rr = some i
          · rw [if_pos v, if_pos v]
            simp only [Option.map_some]
            rw [em]
          · rw [if_neg v, if_neg v, ← mr P2 i (fun j hj => by have := hS2.2.2.2.2.2.2.2.2 i j w h2 hj; exact ⟨this.1, this.2.1⟩)]
      · unfold g3
        split
        · exact hB1 i
        · split
          · exact hc
          · exact hB2 i
      · have ej : ∀ k, a ≤ k → k < b → (k < m ∧ g3 m nd1 q15 nd2 k = nd1 k ∧ nd1 k < q15) ∨ (k = m ∧ g3 m nd1 q15 nd2 k = q15) ∨ (m + 1 ≤ k ∧ g3 m nd1 q15 nd2 k = nd2 k ∧ q15 < nd2 k) := fun k g1 g2 => by
          rcases Nat.lt_trichotomy k m with w | w | w
          · refine Or.inl ⟨w, by unfold g3; rw [if_pos w], ?_⟩
            have := hndlt k g1 w
            omega
          · exact Or.inr (Or.inl ⟨w, by rw [w]; exact em⟩)
          · refine Or.inr (Or.inr ⟨w, by unfold g3; rw [if_neg (by omega), if_neg (by omega)], ?_⟩)
            exact (hnd2 k w g2).1
        rcases ej i h1 h2 with ⟨w1, w2, w3⟩ | ⟨w1, w2⟩ | ⟨w1, w2, w3⟩
        · rcases ej j h3 h4 with ⟨v1, v2, v3⟩ | ⟨v1, v2⟩ | ⟨v1, v2, v3⟩
          · rw [w2, v2] at he
            exact hj1 i j h1 w1 h3 v1 he
          · omega
          · omega
        · rcases ej j h3 h4 with ⟨v1, v2, v3⟩ | ⟨v1, v2⟩ | ⟨v1, v2, v3⟩ <;> omega
        · rcases ej j h3 h4 with ⟨v1, v2, v3⟩ | ⟨v1, v2⟩ | ⟨v1, v2, v3⟩
          · omega
          · omega
          · rw [w2, v2] at he
            exact hj2 i j w1 h2 v1 h4 he
      · rcases Nat.lt_trichotomy i m with w | w | w
        · have ei : g3 m nd1 q15 nd2 i = nd1 i := by unfold g3; rw [if_pos w]
          rw [ei]
          have := hndlt i h1 w
          omega
        · rw [w, em]
          omega
        · have ei : g3 m nd1 q15 nd2 i = nd2 i := by unfold g3; rw [if_neg (by omega), if_neg (by omega)]
          rw [ei]
          have := hnd2 i w h2
          omega
      · obtain ⟨last, k⟩ := hI31
        have := hnd2 rr rr1 rr2
        exact ⟨last, by rw [h38.2.2.2.1 it (by omega), h35.2.2.2.1 it (by omega)]; exact k⟩
      · rw [hlow z (by omega) hne, hit21 z hz, hx12.2.2.2 z hne]
        exact hse1.2 z hz hne
      · rw [h38.1, h35.1, hf31, hf21']
theorem ct_nlz {y : Int32} {Q : Int32 → g_St → Prop} (hq : ∀ y, Q y st) : wp_J14_numberOfLeadingZeros l E 0 0 [.int y] st Q := by
  refine wk_J14_numberOfLeadingZeros ⟨fun _ => ?_, fun _ => ?_⟩
  · refine g_jn2_i (fun _ _ => True) (fun _ _ _ => ?_) fun K hK => ⟨fun _ => hK _ _ trivial, fun _ => hK _ _ trivial⟩
    refine g_jn2_i (fun _ _ => True) (fun _ _ _ => ?_) fun K hK => ⟨fun _ => hK _ _ trivial, fun _ => hK _ _ trivial⟩
    refine g_jn2_i (fun _ _ => True) (fun _ _ _ => ?_) fun K hK => ⟨fun _ => hK _ _ trivial, fun _ => hK _ _ trivial⟩
    refine g_jn2_i (fun _ _ => True) (fun _ _ _ => ?_) fun K hK => ⟨fun _ => hK _ _ trivial, fun _ => hK _ _ trivial⟩
    exact hq _
  · exact g_jn1_i (fun _ => True) (fun _ _ => hq _) fun K hK => ⟨fun _ => hK _ trivial, fun _ => hK _ trivial⟩
end GT15
