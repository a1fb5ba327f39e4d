/-! LOOPS with the measure in the invariant -/
section GLM
theorem g_lp1_m {A1 : Type} {F : (A1 → Prop) → A1 → Prop} (I : Nat → A1 → Prop) (h : ∀ (m : Nat) (a1 : A1) (K : A1 → Prop), I m a1 → (∀ (m' : Nat) (b1 : A1), I m' b1 → m' < m → K b1) → F K a1) {m : Nat} {a1 : A1} (hI : I m a1) : g_lp1 F a1 := by
  have key : ∀ (n m : Nat) (a1 : A1), I m a1 → m < n → g_LP1 F n a1 := by
    intro n
    induction n with
    | zero => intro m a1 _ hn; exact absurd hn (Nat.not_lt_zero _)
    | succ n ih =>
      intro m a1 hI hn
      exact h m a1 (g_LP1 F n) hI (fun m' b1 hb hm => ih m' b1 hb (by omega))
  exact ⟨_, key _ m a1 hI (Nat.lt_succ_self _)⟩
theorem g_lp2_m {A1 A2 : Type} {F : (A1 → A2 → Prop) → A1 → A2 → Prop} (I : Nat → A1 → A2 → Prop) (h : ∀ (m : Nat) (a1 : A1) (a2 : A2) (K : A1 → A2 → Prop), I m a1 a2 → (∀ (m' : Nat) (b1 : A1) (b2 : A2), I m' b1 b2 → m' < m → K b1 b2) → F K a1 a2) {m : Nat} {a1 : A1} {a2 : A2} (hI : I m a1 a2) : g_lp2 F a1 a2 := by
  have key : ∀ (n m : Nat) (a1 : A1) (a2 : A2), I m a1 a2 → m < n → g_LP2 F n a1 a2 := by
    intro n
    induction n with
    | zero => intro m a1 a2 _ hn; exact absurd hn (Nat.not_lt_zero _)
    | succ n ih =>
      intro m a1 a2 hI hn
      exact h m a1 a2 (g_LP2 F n) hI (fun m' b1 b2 hb hm => ih m' b1 b2 hb (by omega))
  exact ⟨_, key _ m a1 a2 hI (Nat.lt_succ_self _)⟩
theorem g_lp3_m {A1 A2 A3 : Type} {F : (A1 → A2 → A3 → Prop) → A1 → A2 → A3 → Prop} (I : Nat → A1 → A2 → A3 → Prop) (h : ∀ (m : Nat) (a1 : A1) (a2 : A2) (a3 : A3) (K : A1 → A2 → A3 → Prop), I m a1 a2 a3 → (∀ (m' : Nat) (b1 : A1) (b2 : A2) (b3 : A3), I m' b1 b2 b3 → m' < m → K b1 b2 b3) → F K a1 a2 a3) {m : Nat} {a1 : A1} {a2 : A2} {a3 : A3} (hI : I m a1 a2 a3) : g_lp3 F a1 a2 a3 := by
  have key : ∀ (n m : Nat) (a1 : A1) (a2 : A2) (a3 : A3), I m a1 a2 a3 → m < n → g_LP3 F n a1 a2 a3 := by
    intro n
    induction n with
    | zero => intro m a1 a2 a3 _ hn; exact absurd hn (Nat.not_lt_zero _)
    | succ n ih =>
      intro m a1 a2 a3 hI hn
      exact h m a1 a2 a3 (g_LP3 F n) hI (fun m' b1 b2 b3 hb hm => ih m' b1 b2 b3 hb (by omega))
  exact ⟨_, key _ m a1 a2 a3 hI (Nat.lt_succ_self _)⟩
theorem g_lp4_m {A1 A2 A3 A4 : Type} {F : (A1 → A2 → A3 → A4 → Prop) → A1 → A2 → A3 → A4 → Prop} (I : Nat → A1 → A2 → A3 → A4 → Prop) (h : ∀ (m : Nat) (a1 : A1) (a2 : A2) (a3 : A3) (a4 : A4) (K : A1 → A2 → A3 → A4 → Prop), I m a1 a2 a3 a4 → (∀ (m' : Nat) (b1 : A1) (b2 : A2) (b3 : A3) (b4 : A4), I m' b1 b2 b3 b4 → m' < m → K b1 b2 b3 b4) → F K a1 a2 a3 a4) {m : Nat} {a1 : A1} {a2 : A2} {a3 : A3} {a4 : A4} (hI : I m a1 a2 a3 a4) : g_lp4 F a1 a2 a3 a4 := by
  have key : ∀ (n m : Nat) (a1 : A1) (a2 : A2) (a3 : A3) (a4 : A4), I m a1 a2 a3 a4 → m < n → g_LP4 F n a1 a2 a3 a4 := by
    intro n
    induction n with
    | zero => intro m a1 a2 a3 a4 _ hn; exact absurd hn (Nat.not_lt_zero _)
    | succ n ih =>
      intro m a1 a2 a3 a4 hI hn
      exact h m a1 a2 a3 a4 (g_LP4 F n) hI (fun m' b1 b2 b3 b4 hb hm => ih m' b1 b2 b3 b4 hb (by omega))
  exact ⟨_, key _ m a1 a2 a3 a4 hI (Nat.lt_succ_self _)⟩
theorem g_lp5_m {A1 A2 A3 A4 A5 : Type} {F : (A1 → A2 → A3 → A4 → A5 → Prop) → A1 → A2 → A3 → A4 → A5 → Prop} (I : Nat → A1 → A2 → A3 → A4 → A5 → Prop) (h : ∀ (m : Nat) (a1 : A1) (a2 : A2) (a3 : A3) (a4 : A4) (a5 : A5) (K : A1 → A2 → A3 → A4 → A5 → Prop), I m a1 a2 a3 a4 a5 → (∀ (m' : Nat) (b1 : A1) (b2 : A2) (b3 : A3) (b4 : A4) (b5 : A5), I m' b1 b2 b3 b4 b5 → m' < m → K b1 b2 b3 b4 b5) → F K a1 a2 a3 a4 a5) {m : Nat} {a1 : A1} {a2 : A2} {a3 : A3} {a4 : A4} {a5 : A5} (hI : I m a1 a2 a3 a4 a5) : g_lp5 F a1 a2 a3 a4 a5 := by
  have key : ∀ (n m : Nat) (a1 : A1) (a2 : A2) (a3 : A3) (a4 : A4) (a5 : A5), I m a1 a2 a3 a4 a5 → m < n → g_LP5 F n a1 a2 a3 a4 a5 := by
    intro n
    induction n with
    | zero => intro m a1 a2 a3 a4 a5 _ hn; exact absurd hn (Nat.not_lt_zero _)
    | succ n ih =>
      intro m a1 a2 a3 a4 a5 hI hn
      exact h m a1 a2 a3 a4 a5 (g_LP5 F n) hI (fun m' b1 b2 b3 b4 b5 hb hm => ih m' b1 b2 b3 b4 b5 hb (by omega))
  exact ⟨_, key _ m a1 a2 a3 a4 a5 hI (Nat.lt_succ_self _)⟩
theorem g_lp6_m {A1 A2 A3 A4 A5 A6 : Type} {F : (A1 → A2 → A3 → A4 → A5 → A6 → Prop) → A1 → A2 → A3 → A4 → A5 → A6 → Prop} (I : Nat → A1 → A2 → A3 → A4 → A5 → A6 → Prop) (h : ∀ (m : Nat) (a1 : A1) (a2 : A2) (a3 : A3) (a4 : A4) (a5 : A5) (a6 : A6) (K : A1 → A2 → A3 → A4 → A5 → A6 → Prop), I m a1 a2 a3 a4 a5 a6 → (∀ (m' : Nat) (b1 : A1) (b2 : A2) (b3 : A3) (b4 : A4) (b5 : A5) (b6 : A6), I m' b1 b2 b3 b4 b5 b6 → m' < m → K b1 b2 b3 b4 b5 b6) → F K a1 a2 a3 a4 a5 a6) {m : Nat} {a1 : A1} {a2 : A2} {a3 : A3} {a4 : A4} {a5 : A5} {a6 : A6} (hI : I m a1 a2 a3 a4 a5 a6) : g_lp6 F a1 a2 a3 a4 a5 a6 := by
  have key : ∀ (n m : Nat) (a1 : A1) (a2 : A2) (a3 : A3) (a4 : A4) (a5 : A5) (a6 : A6), I m a1 a2 a3 a4 a5 a6 → m < n → g_LP6 F n a1 a2 a3 a4 a5 a6 := by
    intro n
    induction n with
    | zero => intro m a1 a2 a3 a4 a5 a6 _ hn; exact absurd hn (Nat.not_lt_zero _)
    | succ n ih =>
      intro m a1 a2 a3 a4 a5 a6 hI hn
      exact h m a1 a2 a3 a4 a5 a6 (g_LP6 F n) hI (fun m' b1 b2 b3 b4 b5 b6 hb hm => ih m' b1 b2 b3 b4 b5 b6 hb (by omega))
  exact ⟨_, key _ m a1 a2 a3 a4 a5 a6 hI (Nat.lt_succ_self _)⟩
theorem g_lp7_m {A1 A2 A3 A4 A5 A6 A7 : Type} {F : (A1 → A2 → A3 → A4 → A5 → A6 → A7 → Prop) → A1 → A2 → A3 → A4 → A5 → A6 → A7 → Prop} (I : Nat → A1 → A2 → A3 → A4 → A5 → A6 → A7 → Prop) (h : ∀ (m : Nat) (a1 : A1) (a2 : A2) (a3 : A3) (a4 : A4) (a5 : A5) (a6 : A6) (a7 : A7) (K : A1 → A2 → A3 → A4 → A5 → A6 → A7 → Prop), I m a1 a2 a3 a4 a5 a6 a7 → (∀ (m' : Nat) (b1 : A1) (b2 : A2) (b3 : A3) (b4 : A4) (b5 : A5) (b6 : A6) (b7 : A7), I m' b1 b2 b3 b4 b5 b6 b7 → m' < m → K b1 b2 b3 b4 b5 b6 b7) → F K a1 a2 a3 a4 a5 a6 a7) {m : Nat} {a1 : A1} {a2 : A2} {a3 : A3} {a4 : A4} {a5 : A5} {a6 : A6} {a7 : A7} (hI : I m a1 a2 a3 a4 a5 a6 a7) : g_lp7 F a1 a2 a3 a4 a5 a6 a7 := by
  have key : ∀ (n m : Nat) (a1 : A1) (a2 : A2) (a3 : A3) (a4 : A4) (a5 : A5) (a6 : A6) (a7 : A7), I m a1 a2 a3 a4 a5 a6 a7 → m < n → g_LP7 F n a1 a2 a3 a4 a5 a6 a7 := by
    intro n
    induction n with
    | zero => intro m a1 a2 a3 a4 a5 a6 a7 _ hn; exact absurd hn (Nat.not_lt_zero _)
    | succ n ih =>
      intro m a1 a2 a3 a4 a5 a6 a7 hI hn
      exact h m a1 a2 a3 a4 a5 a6 a7 (g_LP7 F n) hI (fun m' b1 b2 b3 b4 b5 b6 b7 hb hm => ih m' b1 b2 b3 b4 b5 b6 b7 hb (by omega))
  exact ⟨_, key _ m a1 a2 a3 a4 a5 a6 a7 hI (Nat.lt_succ_self _)⟩
theorem g_lp8_m {A1 A2 A3 A4 A5 A6 A7 A8 : Type} {F : (A1 → A2 → A3 → A4 → A5 → A6 → A7 → A8 → Prop) → A1 → A2 → A3 → A4 → A5 → A6 → A7 → A8 → Prop} (I : Nat → A1 → A2 → A3 → A4 → A5 → A6 → A7 → A8 → Prop) (h : ∀ (m : Nat) (a1 : A1) (a2 : A2) (a3 : A3) (a4 : A4) (a5 : A5) (a6 : A6) (a7 : A7) (a8 : A8) (K : A1 → A2 → A3 → A4 → A5 → A6 → A7 → A8 → Prop), I m a1 a2 a3 a4 a5 a6 a7 a8 → (∀ (m' : Nat) (b1 : A1) (b2 : A2) (b3 : A3) (b4 : A4) (b5 : A5) (b6 : A6) (b7 : A7) (b8 : A8), I m' b1 b2 b3 b4 b5 b6 b7 b8 → m' < m → K b1 b2 b3 b4 b5 b6 b7 b8) → F K a1 a2 a3 a4 a5 a6 a7 a8) {m : Nat} {a1 : A1} {a2 : A2} {a3 : A3} {a4 : A4} {a5 : A5} {a6 : A6} {a7 : A7} {a8 : A8} (hI : I m a1 a2 a3 a4 a5 a6 a7 a8) : g_lp8 F a1 a2 a3 a4 a5 a6 a7 a8 := by
  have key : ∀ (n m : Nat) (a1 : A1) (a2 : A2) (a3 : A3) (a4 : A4) (a5 : A5) (a6 : A6) (a7 : A7) (a8 : A8), I m a1 a2 a3 a4 a5 a6 a7 a8 → m < n → g_LP8 F n a1 a2 a3 a4 a5 a6 a7 a8 := by
    intro n
    induction n with
    | zero => intro m a1 a2 a3 a4 a5 a6 a7 a8 _ hn; exact absurd hn (Nat.not_lt_zero _)
    | succ n ih =>
      intro m a1 a2 a3 a4 a5 a6 a7 a8 hI hn
      exact h m a1 a2 a3 a4 a5 a6 a7 a8 (g_LP8 F n) hI (fun m' b1 b2 b3 b4 b5 b6 b7 b8 hb hm => ih m' b1 b2 b3 b4 b5 b6 b7 b8 hb (by omega))
  exact ⟨_, key _ m a1 a2 a3 a4 a5 a6 a7 a8 hI (Nat.lt_succ_self _)⟩
theorem g_lp9_m {A1 A2 A3 A4 A5 A6 A7 A8 A9 : Type} {F : (A1 → A2 → A3 → A4 → A5 → A6 → A7 → A8 → A9 → Prop) → A1 → A2 → A3 → A4 → A5 → A6 → A7 → A8 → A9 → Prop} (I : Nat → A1 → A2 → A3 → A4 → A5 → A6 → A7 → A8 → A9 → Prop) (h : ∀ (m : Nat) (a1 : A1) (a2 : A2) (a3 : A3) (a4 : A4) (a5 : A5) (a6 : A6) (a7 : A7) (a8 : A8) (a9 : A9) (K : A1 → A2 → A3 → A4 → A5 → A6 → A7 → A8 → A9 → Prop), I m a1 a2 a3 a4 a5 a6 a7 a8 a9 → (∀ (m' : Nat) (b1 : A1) (b2 : A2) (b3 : A3) (b4 : A4) (b5 : A5) (b6 : A6) (b7 : A7) (b8 : A8) (b9 : A9), I m' b1 b2 b3 b4 b5 b6 b7 b8 b9 → m' < m → K b1 b2 b3 b4 b5 b6 b7 b8 b9) → F K a1 a2 a3 a4 a5 a6 a7 a8 a9) {m : Nat} {a1 : A1} {a2 : A2} {a3 : A3} {a4 : A4} {a5 : A5} {a6 : A6} {a7 : A7} {a8 : A8} {a9 : A9} (hI : I m a1 a2 a3 a4 a5 a6 a7 a8 a9) : g_lp9 F a1 a2 a3 a4 a5 a6 a7 a8 a9 := by
  have key : ∀ (n m : Nat) (a1 : A1) (a2 : A2) (a3 : A3) (a4 : A4) (a5 : A5) (a6 : A6) (a7 : A7) (a8 : A8) (a9 : A9), I m a1 a2 a3 a4 a5 a6 a7 a8 a9 → m < n → g_LP9 F n a1 a2 a3 a4 a5 a6 a7 a8 a9 := by
    intro n
    induction n with
    | zero => intro m a1 a2 a3 a4 a5 a6 a7 a8 a9 _ hn; exact absurd hn (Nat.not_lt_zero _)
    | succ n ih =>
      intro m a1 a2 a3 a4 a5 a6 a7 a8 a9 hI hn
      exact h m a1 a2 a3 a4 a5 a6 a7 a8 a9 (g_LP9 F n) hI (fun m' b1 b2 b3 b4 b5 b6 b7 b8 b9 hb hm => ih m' b1 b2 b3 b4 b5 b6 b7 b8 b9 hb (by omega))
  exact ⟨_, key _ m a1 a2 a3 a4 a5 a6 a7 a8 a9 hI (Nat.lt_succ_self _)⟩
theorem g_lp10_m {A1 A2 A3 A4 A5 A6 A7 A8 A9 A10 : Type} {F : (A1 → A2 → A3 → A4 → A5 → A6 → A7 → A8 → A9 → A10 → Prop) → A1 → A2 → A3 → A4 → A5 → A6 → A7 → A8 → A9 → A10 → Prop} (I : Nat → A1 → A2 → A3 → A4 → A5 → A6 → A7 → A8 → A9 → A10 → Prop) (h : ∀ (m : Nat) (a1 : A1) (a2 : A2) (a3 : A3) (a4 : A4) (a5 : A5) (a6 : A6) (a7 : A7) (a8 : A8) (a9 : A9) (a10 : A10) (K : A1 → A2 → A3 → A4 → A5 → A6 → A7 → A8 → A9 → A10 → Prop), I m a1 a2 a3 a4 a5 a6 a7 a8 a9 a10 → (∀ (m' : Nat) (b1 : A1) (b2 : A2) (b3 : A3) (b4 : A4) (b5 : A5) (b6 : A6) (b7 : A7) (b8 : A8) (b9 : A9) (b10 : A10), I m' b1 b2 b3 b4 b5 b6 b7 b8 b9 b10 → m' < m → K b1 b2 b3 b4 b5 b6 b7 b8 b9 b10) → F K a1 a2 a3 a4 a5 a6 a7 a8 a9 a10) {m : Nat} {a1 : A1} {a2 : A2} {a3 : A3} {a4 : A4} {a5 : A5} {a6 : A6} {a7 : A7} {a8 : A8} {a9 : A9} {a10 : A10} (hI : I m a1 a2 a3 a4 a5 a6 a7 a8 a9 a10) : g_lp10 F a1 a2 a3 a4 a5 a6 a7 a8 a9 a10 := by
  have key : ∀ (n m : Nat) (a1 : A1) (a2 : A2) (a3 : A3) (a4 : A4) (a5 : A5) (a6 : A6) (a7 : A7) (a8 : A8) (a9 : A9) (a10 : A10), I m a1 a2 a3 a4 a5 a6 a7 a8 a9 a10 → m < n → g_LP10 F n a1 a2 a3 a4 a5 a6 a7 a8 a9 a10 := by
    intro n
    induction n with
    | zero => intro m a1 a2 a3 a4 a5 a6 a7 a8 a9 a10 _ hn; exact absurd hn (Nat.not_lt_zero _)
    | succ n ih =>
      intro m a1 a2 a3 a4 a5 a6 a7 a8 a9 a10 hI hn
      exact h m a1 a2 a3 a4 a5 a6 a7 a8 a9 a10 (g_LP10 F n) hI (fun m' b1 b2 b3 b4 b5 b6 b7 b8 b9 b10 hb hm => ih m' b1 b2 b3 b4 b5 b6 b7 b8 b9 b10 hb (by omega))
  exact ⟨_, key _ m a1 a2 a3 a4 a5 a6 a7 a8 a9 a10 hI (Nat.lt_succ_self _)⟩
theorem g_lp11_m {A1 A2 A3 A4 A5 A6 A7 A8 A9 A10 A11 : Type} {F : (A1 → A2 → A3 → A4 → A5 → A6 → A7 → A8 → A9 → A10 → A11 → Prop) → A1 → A2 → A3 → A4 → A5 → A6 → A7 → A8 → A9 → A10 → A11 → Prop} (I : Nat → A1 → A2 → A3 → A4 → A5 → A6 → A7 → A8 → A9 → A10 → A11 → Prop) (h : ∀ (m : Nat) (a1 : A1) (a2 : A2) (a3 : A3) (a4 : A4) (a5 : A5) (a6 : A6) (a7 : A7) (a8 : A8) (a9 : A9) (a10 : A10) (a11 : A11) (K : A1 → A2 → A3 → A4 → A5 → A6 → A7 → A8 → A9 → A10 → A11 → Prop), I m a1 a2 a3 a4 a5 a6 a7 a8 a9 a10 a11 → (∀ (m' : Nat) (b1 : A1) (b2 : A2) (b3 : A3) (b4 : A4) (b5 : A5) (b6 : A6) (b7 : A7) (b8 : A8) (b9 : A9) (b10 : A10) (b11 : A11), I m' b1 b2 b3 b4 b5 b6 b7 b8 b9 b10 b11 → m' < m → K b1 b2 b3 b4 b5 b6 b7 b8 b9 b10 b11) → F K a1 a2 a3 a4 a5 a6 a7 a8 a9 a10 a11) {m : Nat} {a1 : A1} {a2 : A2} {a3 : A3} {a4 : A4} {a5 : A5} {a6 : A6} {a7 : A7} {a8 : A8} {a9 : A9} {a10 : A10} {a11 : A11} (hI : I m a1 a2 a3 a4 a5 a6 a7 a8 a9 a10 a11) : g_lp11 F a1 a2 a3 a4 a5 a6 a7 a8 a9 a10 a11 := by
  have key : ∀ (n m : Nat) (a1 : A1) (a2 : A2) (a3 : A3) (a4 : A4) (a5 : A5) (a6 : A6) (a7 : A7) (a8 : A8) (a9 : A9) (a10 : A10) (a11 : A11), I m a1 a2 a3 a4 a5 a6 a7 a8 a9 a10 a11 → m < n → g_LP11 F n a1 a2 a3 a4 a5 a6 a7 a8 a9 a10 a11 := by
    intro n
    induction n with
    | zero => intro m a1 a2 a3 a4 a5 a6 a7 a8 a9 a10 a11 _ hn; exact absurd hn (Nat.not_lt_zero _)
    | succ n ih =>
      intro m a1 a2 a3 a4 a5 a6 a7 a8 a9 a10 a11 hI hn
      exact h m a1 a2 a3 a4 a5 a6 a7 a8 a9 a10 a11 (g_LP11 F n) hI (fun m' b1 b2 b3 b4 b5 b6 b7 b8 b9 b10 b11 hb hm => ih m' b1 b2 b3 b4 b5 b6 b7 b8 b9 b10 b11 hb (by omega))
  exact ⟨_, key _ m a1 a2 a3 a4 a5 a6 a7 a8 a9 a10 a11 hI (Nat.lt_succ_self _)⟩
theorem g_lp12_m {A1 A2 A3 A4 A5 A6 A7 A8 A9 A10 A11 A12 : Type} {F : (A1 → A2 → A3 → A4 → A5 → A6 → A7 → A8 → A9 → A10 → A11 → A12 → Prop) → A1 → A2 → A3 → A4 → A5 → A6 → A7 → A8 → A9 → A10 → A11 → A12 → Prop} (I : Nat → A1 → A2 → A3 → A4 → A5 → A6 → A7 → A8 → A9 → A10 → A11 → A12 → Prop) (h : ∀ (m : Nat) (a1 : A1) (a2 : A2) (a3 : A3) (a4 : A4) (a5 : A5) (a6 : A6) (a7 : A7) (a8 : A8) (a9 : A9) (a10 : A10) (a11 : A11) (a12 : A12) (K : A1 → A2 → A3 → A4 → A5 → A6 → A7 → A8 → A9 → A10 → A11 → A12 → Prop), I m a1 a2 a3 a4 a5 a6 a7 a8 a9 a10 a11 a12 → (∀ (m' : Nat) (b1 : A1) (b2 : A2) (b3 : A3) (b4 : A4) (b5 : A5) (b6 : A6) (b7 : A7) (b8 : A8) (b9 : A9) (b10 : A10) (b11 : A11) (b12 : A12), I m' b1 b2 b3 b4 b5 b6 b7 b8 b9 b10 b11 b12 → m' < m → K b1 b2 b3 b4 b5 b6 b7 b8 b9 b10 b11 b12) → F K a1 a2 a3 a4 a5 a6 a7 a8 a9 a10 a11 a12) {m : Nat} {a1 : A1} {a2 : A2} {a3 : A3} {a4 : A4} {a5 : A5} {a6 : A6} {a7 : A7} {a8 : A8} {a9 : A9} {a10 : A10} {a11 : A11} {a12 : A12} (hI : I m a1 a2 a3 a4 a5 a6 a7 a8 a9 a10 a11 a12) : g_lp12 F a1 a2 a3 a4 a5 a6 a7 a8 a9 a10 a11 a12 := by
  have key : ∀ (n m : Nat) (a1 : A1) (a2 : A2) (a3 : A3) (a4 : A4) (a5 : A5) (a6 : A6) (a7 : A7) (a8 : A8) (a9 : A9) (a10 : A10) (a11 : A11) (a12 : A12), I m a1 a2 a3 a4 a5 a6 a7 a8 a9 a10 a11 a12 → m < n → g_LP12 F n a1 a2 a3 a4 a5 a6 a7 a8 a9 a10 a11 a12 := by
    intro n
    induction n with
    | zero => intro m a1 a2 a3 a4 a5 a6 a7 a8 a9 a10 a11 a12 _ hn; exact absurd hn (Nat.not_lt_zero _)
    | succ n ih =>
      intro m a1 a2 a3 a4 a5 a6 a7 a8 a9 a10 a11 a12 hI hn
      exact h m a1 a2 a3 a4 a5 a6 a7 a8 a9 a10 a11 a12 (g_LP12 F n) hI (fun m' b1 b2 b3 b4 b5 b6 b7 b8 b9 b10 b11 b12 hb hm => ih m' b1 b2 b3 b4 b5 b6 b7 b8 b9 b10 b11 b12 hb (by omega))
  exact ⟨_, key _ m a1 a2 a3 a4 a5 a6 a7 a8 a9 a10 a11 a12 hI (Nat.lt_succ_self _)⟩
end GLM
