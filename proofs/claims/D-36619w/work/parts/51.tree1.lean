/-! TREE 1: the shape of a binary tree whose nodes are numbered in order -/
section GT1
def t_up {α : Type} (f : Nat → α) (i : Nat) (x : α) : Nat → α := fun q => if q = i then x else f q
theorem t_up_s {α : Type} {f : Nat → α} {i : Nat} {x : α} : t_up f i x i = x := by simp [t_up]
theorem t_up_n {α : Type} {f : Nat → α} {i q : Nat} {x : α} (h : q ≠ i) : t_up f i x q = f q := by simp [t_up, h]
/-- root, left, right, parent, bounds of the subtrees -/
def Shp (n : Nat) (rt : Option Nat) (L R P : Nat → Option Nat) (lo hi : Nat → Nat) : Prop :=
  (∀ i, i < n → lo i ≤ i ∧ i < hi i ∧ hi i ≤ n) ∧
  (∀ i, i < n → L i = none → lo i = i) ∧
  (∀ i j, i < n → L i = some j → j < n ∧ lo j = lo i ∧ hi j = i ∧ P j = some i) ∧
  (∀ i, i < n → R i = none → hi i = i + 1) ∧
  (∀ i j, i < n → R i = some j → j < n ∧ lo j = i + 1 ∧ hi j = hi i ∧ P j = some i) ∧
  (∀ i, i < n → P i = none → rt = some i) ∧
  (∀ i j, i < n → P i = some j → j < n ∧ (L j = some i ∨ R j = some i)) ∧
  (rt = none → n = 0) ∧
  (∀ j, rt = some j → j < n ∧ lo j = 0 ∧ hi j = n ∧ P j = none)
variable {n : Nat} {rt : Option Nat} {L R P : Nat → Option Nat} {lo hi : Nat → Nat}
/-- a left rotation at p, whose right child is r -/
def rL (L : Nat → Option Nat) (p r : Nat) : Nat → Option Nat := fun i => if i = r then some p else if L i = some p then some r else L i
def rR (L R : Nat → Option Nat) (p r : Nat) : Nat → Option Nat := fun i => if i = p then L r else if R i = some p then some r else R i
def rP (L P : Nat → Option Nat) (p r : Nat) : Nat → Option Nat := fun i => if i = p then some r else if i = r then P p else if L r = some i then some p else P i
def rT (rt : Option Nat) (p r : Nat) : Option Nat := if rt = some p then some r else rt
theorem Shp.rotL (h : Shp n rt L R P lo hi) {p r : Nat} (hp : p < n) (hr : R p = some r) : Shp n (rT rt p r) (rL L p r) (rR L R p r) (rP L P p r) (t_up lo r (lo p)) (t_up hi p r) := by
  obtain ⟨h1, h2, h3, h4, h5, h6, h7, h8, h9⟩ := h
  obtain ⟨r1, r2, r3, r4⟩ := h5 p r hp hr
  have b1 := h1 p hp
  have b2 := h1 r r1
  unfold rT rL rR rP t_up
  refine ⟨fun i hi => ?_, fun i hi => ?_, fun i j hi => ?_, fun i hi => ?_, fun i j hi => ?_, fun i hi => ?_, fun i j hi => ?_, ?_, fun j => ?_⟩
  · have := h1 i hi
    grind
  · grind
  · grind
  · grind
  · grind
  · grind
  · grind
  · grind
  · grind
/-- a right rotation at p, whose left child is r -/
theorem Shp.rotR (h : Shp n rt L R P lo hi) {p r : Nat} (hp : p < n) (hr : L p = some r) : Shp n (rT rt p r) (rR R L p r) (rL R p r) (rP R P p r) (t_up lo p (r + 1)) (t_up hi r (hi p)) := by
  obtain ⟨h1, h2, h3, h4, h5, h6, h7, h8, h9⟩ := h
  obtain ⟨r1, r2, r3, r4⟩ := h3 p r hp hr
  have b1 := h1 p hp
  have b2 := h1 r r1
  unfold rT rL rR rP t_up
  refine ⟨fun i hi => ?_, fun i hi => ?_, fun i j hi => ?_, fun i hi => ?_, fun i j hi => ?_, fun i hi => ?_, fun i j hi => ?_, ?_, fun j => ?_⟩
  · have := h1 i hi
    grind
  · grind
  · grind
  · grind
  · grind
  · grind
  · grind
  · grind
  · grind
/-- a place's number when a node goes away at q, comes in at k -/
def t_ou (q b : Nat) : Nat := if b ≤ q then b else b - 1
def t_so (q i : Nat) : Nat := if i < q then i else i + 1
def t_in (k b : Nat) : Nat := if b < k then b else b + 1
def t_iq (k b : Nat) : Nat := if b ≤ k then b else b + 1
def t_si (k i : Nat) : Nat := if i < k then i else i - 1
/-- the functions of a tree from which the node q (with at most one child c) goes -/
def dX (X : Nat → Option Nat) (q : Nat) (c : Option Nat) : Nat → Option Nat := fun i => ((if X (t_so q i) = some q then c else X (t_so q i))).map (t_ou q)
def dP (P : Nat → Option Nat) (q : Nat) (c : Option Nat) : Nat → Option Nat := fun i => ((if c = some (t_so q i) then P q else P (t_so q i))).map (t_ou q)
def dT (rt : Option Nat) (q : Nat) (c : Option Nat) : Option Nat := ((if rt = some q then c else rt)).map (t_ou q)
theorem t_so_lt {n q k : Nat} (h : k < n - 1) (hq : q < n) : t_so q k < n := by unfold t_so; split <;> omega
theorem t_so_ne {q k : Nat} : t_so q k ≠ q := by unfold t_so; split <;> omega
theorem t_so_inj {q k j : Nat} (h : t_so q k = t_so q j) : k = j := by unfold t_so at h; split at h <;> split at h <;> omega
theorem t_so_ou {q j : Nat} (h : j ≠ q) : t_so q (t_ou q j) = j := by unfold t_so t_ou; split <;> split <;> omega
theorem t_ou_so {q j : Nat} : t_ou q (t_so q j) = j := by unfold t_so t_ou; split <;> split <;> omega
theorem t_ou_lt {n q j : Nat} (h : j < n) (hq : q < n) (hj : j ≠ q) : t_ou q j < n - 1 := by unfold t_ou; split <;> omega
theorem t_om {q : Nat} {o : Option Nat} {j : Nat} (h : o.map (t_ou q) = some j) : ∃ j0, o = some j0 ∧ j = t_ou q j0 := by
  cases o with
  | none => cases h
  | some i => exact ⟨i, rfl, (Option.some.inj h).symm⟩
theorem t_on {q : Nat} {o : Option Nat} (h : o.map (t_ou q) = none) : o = none := by
  cases o with
  | none => rfl
  | some i => cases h
theorem Shp.del (h : Shp n rt L R P lo hi) {q : Nat} (hq : q < n) (c : Option Nat) (hc : L q = none ∧ R q = c ∨ R q = none ∧ L q = c) : Shp (n - 1) (dT rt q c) (dX L q c) (dX R q c) (dP P q c) (fun i => t_ou q (lo (t_so q i))) (fun i => t_ou q (hi (t_so q i))) := by
  obtain ⟨h1, h2, h3, h4, h5, h6, h7, h8, h9⟩ := h
  have b1 := h1 q hq
  have ua : ∀ i, i < n → i ≠ q → (if L i = some q then c else L i) = none → t_ou q (lo i) = t_ou q i := by
    intro i hi hne e
    have := h1 i hi
    grind [t_ou]
  have ub : ∀ i j, i < n → i ≠ q → (if L i = some q then c else L i) = some j → j < n ∧ j ≠ q ∧ t_ou q (lo j) = t_ou q (lo i) ∧ t_ou q (hi j) = t_ou q i ∧ (if c = some j then P q else P j) = some i := by
    intro i j hi hne e
    have := h1 i hi
    grind [t_ou]
  have uc : ∀ i, i < n → i ≠ q → (if R i = some q then c else R i) = none → t_ou q (hi i) = t_ou q i + 1 := by
    intro i hi hne e
    have := h1 i hi
    grind [t_ou]
  have ud : ∀ i j, i < n → i ≠ q → (if R i = some q then c else R i) = some j → j < n ∧ j ≠ q ∧ t_ou q (lo j) = t_ou q i + 1 ∧ t_ou q (hi j) = t_ou q (hi i) ∧ (if c = some j then P q else P j) = some i := by
    intro i j hi hne e
    have := h1 i hi
    grind [t_ou]
  have ue : ∀ i, i < n → i ≠ q → (if c = some i then P q else P i) = none → (if rt = some q then c else rt) = some i := by
    intro i hi hne e
    have := h1 i hi
    grind
  have uf : ∀ i j, i < n → i ≠ q → (if c = some i then P q else P i) = some j → j < n ∧ j ≠ q ∧ ((if L j = some q then c else L j) = some i ∨ (if R j = some q then c else R j) = some i) := by
    intro i j hi hne e
    have := h1 i hi
    grind
  have ug : (if rt = some q then c else rt) = none → n = 1 := by
    intro e
    grind
  have uh : ∀ j, (if rt = some q then c else rt) = some j → j < n ∧ j ≠ q ∧ t_ou q (lo j) = 0 ∧ t_ou q (hi j) = n - 1 ∧ (if c = some j then P q else P j) = none := by
    intro j e
    grind [t_ou]
  unfold dT dX dP
  refine ⟨fun i hin => ?_, fun i hin e => ?_, fun i j hin e => ?_, fun i hin e => ?_, fun i j hin e => ?_, fun i hin e => ?_, fun i j hin e => ?_, fun e => ?_, fun j e => ?_⟩
  · have k := h1 _ (t_so_lt hin hq)
    have k2 : t_ou q (t_so q i) = i := t_ou_so
    have k3 : t_so q i ≠ q := t_so_ne
    show t_ou q (lo (t_so q i)) ≤ i ∧ i < t_ou q (hi (t_so q i)) ∧ t_ou q (hi (t_so q i)) ≤ n - 1
    generalize t_so q i = i0 at k k2 k3
    unfold t_ou at k2 ⊢
    split at k2 <;> split <;> split <;> omega
  · dsimp only at e ⊢
    rw [ua _ (t_so_lt hin hq) t_so_ne (t_on e), t_ou_so]
  · dsimp only at e ⊢
    obtain ⟨j0, e1, rfl⟩ := t_om e
    obtain ⟨k1, k2, k3, k4, k5⟩ := ub _ j0 (t_so_lt hin hq) t_so_ne e1
    refine ⟨t_ou_lt k1 hq k2, ?_, ?_, ?_⟩
    · rw [t_so_ou k2]; exact k3
    · rw [t_so_ou k2, k4, t_ou_so]
    · rw [t_so_ou k2, k5]
      show some (t_ou q (t_so q i)) = some i
      rw [t_ou_so]
  · dsimp only at e ⊢
    rw [uc _ (t_so_lt hin hq) t_so_ne (t_on e), t_ou_so]
  · dsimp only at e ⊢
    obtain ⟨j0, e1, rfl⟩ := t_om e
    obtain ⟨k1, k2, k3, k4, k5⟩ := ud _ j0 (t_so_lt hin hq) t_so_ne e1
    refine ⟨t_ou_lt k1 hq k2, ?_, ?_, ?_⟩
    · rw [t_so_ou k2, k3, t_ou_so]
    · rw [t_so_ou k2]; exact k4
    · rw [t_so_ou k2, k5]
      show some (t_ou q (t_so q i)) = some i
      rw [t_ou_so]
  · dsimp only at e ⊢
    rw [ue _ (t_so_lt hin hq) t_so_ne (t_on e)]
    show some (t_ou q (t_so q i)) = some i
    rw [t_ou_so]
  · dsimp only at e ⊢
    obtain ⟨j0, e1, rfl⟩ := t_om e
    obtain ⟨k1, k2, k3⟩ := uf _ j0 (t_so_lt hin hq) t_so_ne e1
    refine ⟨t_ou_lt k1 hq k2, ?_⟩
    rw [t_so_ou k2]
    rcases k3 with z | z
    · refine Or.inl ?_
      rw [z]
      show some (t_ou q (t_so q i)) = some i
      rw [t_ou_so]
    · refine Or.inr ?_
      rw [z]
      show some (t_ou q (t_so q i)) = some i
      rw [t_ou_so]
  · have := ug (t_on e)
    omega
  · dsimp only at e ⊢
    obtain ⟨j0, e1, rfl⟩ := t_om e
    obtain ⟨k1, k2, k3, k4, k5⟩ := uh j0 e1
    refine ⟨t_ou_lt k1 hq k2, ?_, ?_, ?_⟩
    · rw [t_so_ou k2]; exact k3
    · rw [t_so_ou k2]; exact k4
    · rw [t_so_ou k2, k5]
      rfl
/-- a leaf comes in at k, as the left child of the node that is now k + 1 (at p = k), or as the right one of k - 1 -/
def iX (X : Nat → Option Nat) (k p : Nat) : Nat → Option Nat := fun i => if i = k then none else if i = t_in k p then some k else (X (t_si k i)).map (t_in k)
def iY (X : Nat → Option Nat) (k : Nat) : Nat → Option Nat := fun i => if i = k then none else (X (t_si k i)).map (t_in k)
def iP (P : Nat → Option Nat) (k p : Nat) : Nat → Option Nat := fun i => if i = k then some (t_in k p) else (P (t_si k i)).map (t_in k)
theorem t_in_ne {k i : Nat} : t_in k i ≠ k := by unfold t_in; split <;> omega
theorem t_in_eq {k i j : Nat} : t_in k i = t_in k j ↔ i = j := by
  constructor
  · intro h
    unfold t_in at h
    split at h <;> split at h <;> omega
  · intro h
    rw [h]
theorem t_si_in {k i : Nat} : t_si k (t_in k i) = i := by
  unfold t_si t_in
  by_cases h : i < k
  · rw [if_pos h, if_pos h]
  · rw [if_neg h, if_neg (by omega)]
    omega
theorem t_in_si {k i : Nat} (h : i ≠ k) : t_in k (t_si k i) = i := by
  unfold t_si t_in
  by_cases h2 : i < k
  · rw [if_pos h2, if_pos h2]
  · rw [if_neg h2, if_neg (by omega)]
    omega
theorem t_in_c (k i : Nat) : i = k ∨ ∃ i0, i = t_in k i0 := by
  by_cases e : i = k
  · exact Or.inl e
  · exact Or.inr ⟨t_si k i, (t_in_si e).symm⟩
theorem t_in_l {n k i : Nat} (h : t_in k i < n + 1) (hk : k ≤ n) : i < n := by unfold t_in at h; split at h <;> omega
theorem t_in_l2 {n k i : Nat} (h : i < n) : t_in k i < n + 1 := by unfold t_in; split <;> omega
theorem om_n {f : Nat → Nat} {o : Option Nat} : o.map f = none ↔ o = none := by cases o <;> simp
theorem om_s {f : Nat → Nat} {o : Option Nat} {j : Nat} (h : o.map f = some j) : ∃ i, o = some i ∧ j = f i := by
  cases o with
  | none => cases h
  | some i => exact ⟨i, rfl, (Option.some.inj h).symm⟩
theorem Shp.insL (h : Shp n rt L R P lo hi) {p : Nat} (hp : p < n) (hL : L p = none) : Shp (n + 1) (rt.map (t_in p)) (iX L p p) (iY R p) (iP P p p) (fun i => if i = p then p else t_iq p (lo (t_si p i))) (fun i => if i = p then p + 1 else t_iq p (hi (t_si p i))) := by
  obtain ⟨h1, h2, h3, h4, h5, h6, h7, h8, h9⟩ := h
  have b1 := h1 p hp
  have b2 := h2 p hp hL
  unfold iX iY iP
  refine ⟨fun i hin => ?_, fun i hin => ?_, fun i j hin => ?_, fun i hin => ?_, fun i j hin => ?_, fun i hin => ?_, fun i j hin => ?_, ?_, fun j => ?_⟩
  · rcases t_in_c p i with rfl | ⟨i, rfl⟩
    · try dsimp only
      rw [if_pos rfl, if_pos rfl]
      omega
    · have i0 := t_in_l hin (show p ≤ n by omega)
      have := h1 i i0
      dsimp only
      rw [if_neg t_in_ne, if_neg t_in_ne, t_si_in]
      grind [t_in, t_iq]
  · rcases t_in_c p i with rfl | ⟨i, rfl⟩
    · simp
    · have i0 := t_in_l hin (show p ≤ n by omega)
      have := h1 i i0
      simp only [t_si_in, t_in_eq, if_neg t_in_ne]
      intro e
      by_cases z : i = p
      · rw [if_pos z] at e
        cases e
      rw [if_neg z] at e
      have e1 := om_n.mp e
      have := h2 i i0 e1
      grind [t_in, t_iq]
  · rcases t_in_c p i with rfl | ⟨i, rfl⟩
    · simp
    · have i0 := t_in_l hin (show p ≤ n by omega)
      have := h1 i i0
      simp only [t_si_in, t_in_eq, if_neg t_in_ne]
      intro e
      by_cases z : i = p
      · rw [if_pos z] at e
        cases e
        subst z
        simp only [if_pos]
        grind [t_in, t_iq]
      rw [if_neg z] at e
      obtain ⟨j, e', rfl⟩ := om_s e
      have k3 := h3 i j i0 e'
      have := h1 j k3.1
      simp only [t_si_in, t_in_eq, if_neg t_in_ne, k3.2.2.2]
      refine ⟨t_in_l2 k3.1, ?_, ?_, rfl⟩
      · rw [k3.2.1]
      · grind [t_in, t_iq]
  · rcases t_in_c p i with rfl | ⟨i, rfl⟩
    · simp
    · have i0 := t_in_l hin (show p ≤ n by omega)
      have := h1 i i0
      simp only [t_si_in, t_in_eq, if_neg t_in_ne]
      intro e
      have e1 := om_n.mp e
      have := h4 i i0 e1
      grind [t_in, t_iq]
  · rcases t_in_c p i with rfl | ⟨i, rfl⟩
    · simp
    · have i0 := t_in_l hin (show p ≤ n by omega)
      have := h1 i i0
      simp only [t_si_in, t_in_eq, if_neg t_in_ne]
      intro e
      skip
      obtain ⟨j, e', rfl⟩ := om_s e
      have k3 := h5 i j i0 e'
      have := h1 j k3.1
      simp only [t_si_in, t_in_eq, if_neg t_in_ne, k3.2.2.2]
      refine ⟨t_in_l2 k3.1, ?_, ?_, rfl⟩
      · grind [t_in, t_iq]
      · rw [k3.2.2.1]
  · rcases t_in_c p i with rfl | ⟨i, rfl⟩
    · simp
    · have i0 := t_in_l hin (show p ≤ n by omega)
      simp only [t_si_in, t_in_eq, if_neg t_in_ne, om_n]
      intro e
      rw [h6 i i0 e]
      rfl
  · rcases t_in_c p i with rfl | ⟨i, rfl⟩
    · dsimp only
      rw [if_pos rfl]
      intro e
      cases e
      refine ⟨t_in_l2 hp, ?_⟩
      simp [t_in_ne]
    · have i0 := t_in_l hin (show p ≤ n by omega)
      simp only [t_si_in, t_in_eq, if_neg t_in_ne]
      intro e
      obtain ⟨j, e', rfl⟩ := om_s e
      have k3 := h7 i j i0 e'
      refine ⟨t_in_l2 k3.1, ?_⟩
      simp only [t_si_in, t_in_eq, if_neg t_in_ne]
      rcases k3.2 with z | z
      · refine Or.inl ?_
        have zz : j ≠ p := fun w => by rw [w, hL] at z; cases z
        rw [if_neg zz]
        rw [z]; rfl
      · refine Or.inr ?_
        skip
        rw [z]; rfl
  · intro e
    have := h8 (om_n.mp e)
    omega
  · intro e
    obtain ⟨j, e', rfl⟩ := om_s e
    have k3 := h9 j e'
    simp only [t_si_in, t_in_eq, if_neg t_in_ne, k3.2.2.2]
    refine ⟨t_in_l2 k3.1, ?_, ?_, rfl⟩
    · rw [k3.2.1]
      grind [t_in, t_iq]
    · rw [k3.2.2.1]
      grind [t_in, t_iq]
theorem Shp.insR (h : Shp n rt L R P lo hi) {p : Nat} (hp : p < n) (hR : R p = none) : Shp (n + 1) (rt.map (t_in (p + 1))) (iY L (p + 1)) (iX R (p + 1) p) (iP P (p + 1) p) (fun i => if i = (p + 1) then (p + 1) else t_in (p + 1) (lo (t_si (p + 1) i))) (fun i => if i = (p + 1) then (p + 1) + 1 else t_in (p + 1) (hi (t_si (p + 1) i))) := by
  obtain ⟨h1, h2, h3, h4, h5, h6, h7, h8, h9⟩ := h
  have b1 := h1 p hp
  have b2 := h4 p hp hR
  unfold iX iY iP
  refine ⟨fun i hin => ?_, fun i hin => ?_, fun i j hin => ?_, fun i hin => ?_, fun i j hin => ?_, fun i hin => ?_, fun i j hin => ?_, ?_, fun j => ?_⟩
  · rcases t_in_c (p + 1) i with rfl | ⟨i, rfl⟩
    · try dsimp only
      rw [if_pos rfl, if_pos rfl]
      omega
    · have i0 := t_in_l hin (show (p + 1) ≤ n by omega)
      have := h1 i i0
      dsimp only
      rw [if_neg t_in_ne, if_neg t_in_ne, t_si_in]
      grind [t_in, t_iq]
  · rcases t_in_c (p + 1) i with rfl | ⟨i, rfl⟩
    · simp
    · have i0 := t_in_l hin (show (p + 1) ≤ n by omega)
      have := h1 i i0
      simp only [t_si_in, t_in_eq, if_neg t_in_ne]
      intro e
      have e1 := om_n.mp e
      have := h2 i i0 e1
      grind [t_in, t_iq]
  · rcases t_in_c (p + 1) i with rfl | ⟨i, rfl⟩
    · simp
    · have i0 := t_in_l hin (show (p + 1) ≤ n by omega)
      have := h1 i i0
      simp only [t_si_in, t_in_eq, if_neg t_in_ne]
      intro e
      skip
      obtain ⟨j, e', rfl⟩ := om_s e
      have k3 := h3 i j i0 e'
      have := h1 j k3.1
      simp only [t_si_in, t_in_eq, if_neg t_in_ne, k3.2.2.2]
      refine ⟨t_in_l2 k3.1, ?_, ?_, rfl⟩
      · rw [k3.2.1]
      · grind [t_in, t_iq]
  · rcases t_in_c (p + 1) i with rfl | ⟨i, rfl⟩
    · simp
    · have i0 := t_in_l hin (show (p + 1) ≤ n by omega)
      have := h1 i i0
      simp only [t_si_in, t_in_eq, if_neg t_in_ne]
      intro e
      by_cases z : i = p
      · rw [if_pos z] at e
        cases e
      rw [if_neg z] at e
      have e1 := om_n.mp e
      have := h4 i i0 e1
      grind [t_in, t_iq]
  · rcases t_in_c (p + 1) i with rfl | ⟨i, rfl⟩
    · simp
    · have i0 := t_in_l hin (show (p + 1) ≤ n by omega)
      have := h1 i i0
      simp only [t_si_in, t_in_eq, if_neg t_in_ne]
      intro e
      by_cases z : i = p
      · rw [if_pos z] at e
        cases e
        subst z
        simp only [if_pos]
        grind [t_in, t_iq]
      rw [if_neg z] at e
      obtain ⟨j, e', rfl⟩ := om_s e
      have k3 := h5 i j i0 e'
      have := h1 j k3.1
      simp only [t_si_in, t_in_eq, if_neg t_in_ne, k3.2.2.2]
      refine ⟨t_in_l2 k3.1, ?_, ?_, rfl⟩
      · grind [t_in, t_iq]
      · rw [k3.2.2.1]
  · rcases t_in_c (p + 1) i with rfl | ⟨i, rfl⟩
    · simp
    · have i0 := t_in_l hin (show (p + 1) ≤ n by omega)
      simp only [t_si_in, t_in_eq, if_neg t_in_ne, om_n]
      intro e
      rw [h6 i i0 e]
      rfl
  · rcases t_in_c (p + 1) i with rfl | ⟨i, rfl⟩
    · dsimp only
      rw [if_pos rfl]
      intro e
      cases e
      refine ⟨t_in_l2 hp, ?_⟩
      simp [t_in_ne]
    · have i0 := t_in_l hin (show (p + 1) ≤ n by omega)
      simp only [t_si_in, t_in_eq, if_neg t_in_ne]
      intro e
      obtain ⟨j, e', rfl⟩ := om_s e
      have k3 := h7 i j i0 e'
      refine ⟨t_in_l2 k3.1, ?_⟩
      simp only [t_si_in, t_in_eq, if_neg t_in_ne]
      rcases k3.2 with z | z
      · refine Or.inl ?_
        skip
        rw [z]; rfl
      · refine Or.inr ?_
        have zz : j ≠ p := fun w => by rw [w, hR] at z; cases z
        rw [if_neg zz]
        rw [z]; rfl
  · intro e
    have := h8 (om_n.mp e)
    omega
  · intro e
    obtain ⟨j, e', rfl⟩ := om_s e
    have k3 := h9 j e'
    simp only [t_si_in, t_in_eq, if_neg t_in_ne, k3.2.2.2]
    refine ⟨t_in_l2 k3.1, ?_, ?_, rfl⟩
    · rw [k3.2.1]
      grind [t_in, t_iq]
    · rw [k3.2.2.1]
      grind [t_in, t_iq]
/-- the tree of one node -/
theorem Shp.one : Shp 1 (some 0) (fun _ => none) (fun _ => none) (fun _ => none) (fun _ => 0) (fun _ => 1) := by
  refine ⟨fun i hin => ?_, fun i hin => ?_, fun i j hin => ?_, fun i hin => ?_, fun i j hin => ?_, fun i hin => ?_, fun i j hin => ?_, ?_, fun j => ?_⟩ <;> grind
theorem Shp.zero : Shp 0 none (fun _ => none) (fun _ => none) (fun _ => none) (fun _ => 0) (fun _ => 0) := by
  refine ⟨fun i hin => ?_, fun i hin => ?_, fun i j hin => ?_, fun i hin => ?_, fun i j hin => ?_, fun i hin => ?_, fun i j hin => ?_, ?_, fun j => ?_⟩ <;> grind
end GT1
