/-! MODEL 1: its cells; reading and writing them -/
section GMD1
variable {l : Launch} {E : g_E} {st0 st : g_St} {m : Nat} {c ln mn : Int32} {A : Nat → Nat → Int32} {W : Nat → Int64}
theorem nI_mul (a b : Nat) : nI a * nI b = nI (a * b) := (Int32.ofNat_mul a b).symm
def mO (m : Nat) (c ln mn : Int32) : g_Ob := .inr (16, [.int c, va_rf (some (m + 1)), va_rf (some (m + 2)), va_rf (some (m + 3)), va_rf (some (m + 4)), va_rf (some (m + 5)), va_rf (some (m + 6)), va_rf (some (m + 7)), .int ln, .int mn, va_rf (some (m + 8)), va_rf (some (m + 9)), va_rf (some (m + 10)), va_rf (some (m + 11))])
/-- the model's cells: object, 11 arrays behind it -/
def MC (h : g_H) (m : Nat) (c ln mn : Int32) (A : Nat → Nat → Int32) (W : Nat → Int64) : Prop :=
  h m = some (mO m c ln mn) ∧ h (m + 1) = some (.inl (2, 24, .inl (A 1))) ∧ h (m + 2) = some (.inl (2, 240, .inl (A 2))) ∧ h (m + 3) = some (.inl (2, 18, .inl (A 3))) ∧ h (m + 4) = some (.inl (2, 72, .inl (A 4))) ∧ h (m + 5) = some (.inl (0, 24, .inl (A 5))) ∧ h (m + 6) = some (.inl (0, 24, .inl (A 6))) ∧ h (m + 7) = some (.inl (0, 6, .inl (A 7))) ∧ h (m + 8) = some (.inl (0, 24, .inl (A 8))) ∧ h (m + 9) = some (.inl (0, 24, .inl (A 9))) ∧ h (m + 11) = some (.inl (0, 25, .inl (A 11))) ∧ h (m + 10) = some (.inl (3, 25, .inr (.inl W)))
def MM (m a : Nat) : Prop := m ≤ a ∧ a ≤ m + 11
/-- since st0 only the model's cells have changed -/
def MS (st0 st : g_St) (m : Nat) (c ln mn : Int32) (A : Nat → Nat → Int32) (W : Nat → Int64) : Prop := Sx (MM m) st0 st ∧ MC st.2.1 m c ln mn A W
theorem MS.s (h : MS st0 st m c ln mn A W) : MS st st m c ln mn A W := ⟨Sx.rf, h.2⟩
theorem MS.tr {st1 : g_St} (h0 : Sx (MM m) st0 st1) (h : MS st1 st m c ln mn A W) : MS st0 st m c ln mn A W := ⟨h0.tr h.1, h.2⟩
theorem MS.o (h : MS st0 st m c ln mn A W) : st.2.1 m = some (mO m c ln mn) := h.2.1
theorem MS.is (h : MS st0 st m c ln mn A W) : g_is st m 16 := ⟨_, Or.inl h.2.1⟩
theorem MS.gC (h : MS st0 st m c ln mn A W) : g_gi st m 16 0 c := ⟨_, Or.inl h.2.1, rfl⟩
theorem MS.gL (h : MS st0 st m c ln mn A W) : g_gi st m 16 8 ln := ⟨_, Or.inl h.2.1, rfl⟩
theorem MS.gN (h : MS st0 st m c ln mn A W) : g_gi st m 16 9 mn := ⟨_, Or.inl h.2.1, rfl⟩
theorem MS.g1 (h : MS st0 st m c ln mn A W) : g_gr st m 16 1 (some (m + 1)) := ⟨_, Or.inl h.2.1, rfl⟩
theorem MS.a1 (h : MS st0 st m c ln mn A W) : st.2.1 (m + 1) = some (.inl (2, 24, .inl (A 1))) := h.2.2.1
theorem MS.r1 (h : MS st0 st m c ln mn A W) (j : Nat) {x : Int32} (hx : x = nI j) (hj : j < 24) {G : (Nat → Int32) → Nat → Prop} (g : G (A 1) j) : ∃ (n : Nat) (f : Nat → Int32) (j : Nat), g_ai st (m + 1) 2 n f ∧ x = nI j ∧ j < n ∧ j < 2 ^ 31 ∧ G f j := ⟨24, A 1, j, Or.inl h.a1, hx, hj, by omega, g⟩
theorem MS.g2 (h : MS st0 st m c ln mn A W) : g_gr st m 16 2 (some (m + 2)) := ⟨_, Or.inl h.2.1, rfl⟩
theorem MS.a2 (h : MS st0 st m c ln mn A W) : st.2.1 (m + 2) = some (.inl (2, 240, .inl (A 2))) := h.2.2.2.1
theorem MS.r2 (h : MS st0 st m c ln mn A W) (j : Nat) {x : Int32} (hx : x = nI j) (hj : j < 240) {G : (Nat → Int32) → Nat → Prop} (g : G (A 2) j) : ∃ (n : Nat) (f : Nat → Int32) (j : Nat), g_ai st (m + 2) 2 n f ∧ x = nI j ∧ j < n ∧ j < 2 ^ 31 ∧ G f j := ⟨240, A 2, j, Or.inl h.a2, hx, hj, by omega, g⟩
theorem MS.g3 (h : MS st0 st m c ln mn A W) : g_gr st m 16 3 (some (m + 3)) := ⟨_, Or.inl h.2.1, rfl⟩
theorem MS.a3 (h : MS st0 st m c ln mn A W) : st.2.1 (m + 3) = some (.inl (2, 18, .inl (A 3))) := h.2.2.2.2.1
theorem MS.r3 (h : MS st0 st m c ln mn A W) (j : Nat) {x : Int32} (hx : x = nI j) (hj : j < 18) {G : (Nat → Int32) → Nat → Prop} (g : G (A 3) j) : ∃ (n : Nat) (f : Nat → Int32) (j : Nat), g_ai st (m + 3) 2 n f ∧ x = nI j ∧ j < n ∧ j < 2 ^ 31 ∧ G f j := ⟨18, A 3, j, Or.inl h.a3, hx, hj, by omega, g⟩
theorem MS.g4 (h : MS st0 st m c ln mn A W) : g_gr st m 16 4 (some (m + 4)) := ⟨_, Or.inl h.2.1, rfl⟩
theorem MS.a4 (h : MS st0 st m c ln mn A W) : st.2.1 (m + 4) = some (.inl (2, 72, .inl (A 4))) := h.2.2.2.2.2.1
theorem MS.r4 (h : MS st0 st m c ln mn A W) (j : Nat) {x : Int32} (hx : x = nI j) (hj : j < 72) {G : (Nat → Int32) → Nat → Prop} (g : G (A 4) j) : ∃ (n : Nat) (f : Nat → Int32) (j : Nat), g_ai st (m + 4) 2 n f ∧ x = nI j ∧ j < n ∧ j < 2 ^ 31 ∧ G f j := ⟨72, A 4, j, Or.inl h.a4, hx, hj, by omega, g⟩
theorem MS.g5 (h : MS st0 st m c ln mn A W) : g_gr st m 16 5 (some (m + 5)) := ⟨_, Or.inl h.2.1, rfl⟩
theorem MS.a5 (h : MS st0 st m c ln mn A W) : st.2.1 (m + 5) = some (.inl (0, 24, .inl (A 5))) := h.2.2.2.2.2.2.1
theorem MS.r5 (h : MS st0 st m c ln mn A W) (j : Nat) {x : Int32} (hx : x = nI j) (hj : j < 24) {G : (Nat → Int32) → Nat → Prop} (g : G (A 5) j) : ∃ (n : Nat) (f : Nat → Int32) (j : Nat), g_ai st (m + 5) 0 n f ∧ x = nI j ∧ j < n ∧ j < 2 ^ 31 ∧ G f j := ⟨24, A 5, j, Or.inl h.a5, hx, hj, by omega, g⟩
theorem MS.g6 (h : MS st0 st m c ln mn A W) : g_gr st m 16 6 (some (m + 6)) := ⟨_, Or.inl h.2.1, rfl⟩
theorem MS.a6 (h : MS st0 st m c ln mn A W) : st.2.1 (m + 6) = some (.inl (0, 24, .inl (A 6))) := h.2.2.2.2.2.2.2.1
theorem MS.r6 (h : MS st0 st m c ln mn A W) (j : Nat) {x : Int32} (hx : x = nI j) (hj : j < 24) {G : (Nat → Int32) → Nat → Prop} (g : G (A 6) j) : ∃ (n : Nat) (f : Nat → Int32) (j : Nat), g_ai st (m + 6) 0 n f ∧ x = nI j ∧ j < n ∧ j < 2 ^ 31 ∧ G f j := ⟨24, A 6, j, Or.inl h.a6, hx, hj, by omega, g⟩
theorem MS.g7 (h : MS st0 st m c ln mn A W) : g_gr st m 16 7 (some (m + 7)) := ⟨_, Or.inl h.2.1, rfl⟩
theorem MS.a7 (h : MS st0 st m c ln mn A W) : st.2.1 (m + 7) = some (.inl (0, 6, .inl (A 7))) := h.2.2.2.2.2.2.2.2.1
theorem MS.r7 (h : MS st0 st m c ln mn A W) (j : Nat) {x : Int32} (hx : x = nI j) (hj : j < 6) {G : (Nat → Int32) → Nat → Prop} (g : G (A 7) j) : ∃ (n : Nat) (f : Nat → Int32) (j : Nat), g_ai st (m + 7) 0 n f ∧ x = nI j ∧ j < n ∧ j < 2 ^ 31 ∧ G f j := ⟨6, A 7, j, Or.inl h.a7, hx, hj, by omega, g⟩
theorem MS.g8 (h : MS st0 st m c ln mn A W) : g_gr st m 16 10 (some (m + 8)) := ⟨_, Or.inl h.2.1, rfl⟩
theorem MS.a8 (h : MS st0 st m c ln mn A W) : st.2.1 (m + 8) = some (.inl (0, 24, .inl (A 8))) := h.2.2.2.2.2.2.2.2.2.1
theorem MS.r8 (h : MS st0 st m c ln mn A W) (j : Nat) {x : Int32} (hx : x = nI j) (hj : j < 24) {G : (Nat → Int32) → Nat → Prop} (g : G (A 8) j) : ∃ (n : Nat) (f : Nat → Int32) (j : Nat), g_ai st (m + 8) 0 n f ∧ x = nI j ∧ j < n ∧ j < 2 ^ 31 ∧ G f j := ⟨24, A 8, j, Or.inl h.a8, hx, hj, by omega, g⟩
theorem MS.g9 (h : MS st0 st m c ln mn A W) : g_gr st m 16 11 (some (m + 9)) := ⟨_, Or.inl h.2.1, rfl⟩
theorem MS.a9 (h : MS st0 st m c ln mn A W) : st.2.1 (m + 9) = some (.inl (0, 24, .inl (A 9))) := h.2.2.2.2.2.2.2.2.2.2.1
theorem MS.r9 (h : MS st0 st m c ln mn A W) (j : Nat) {x : Int32} (hx : x = nI j) (hj : j < 24) {G : (Nat → Int32) → Nat → Prop} (g : G (A 9) j) : ∃ (n : Nat) (f : Nat → Int32) (j : Nat), g_ai st (m + 9) 0 n f ∧ x = nI j ∧ j < n ∧ j < 2 ^ 31 ∧ G f j := ⟨24, A 9, j, Or.inl h.a9, hx, hj, by omega, g⟩
theorem MS.g11 (h : MS st0 st m c ln mn A W) : g_gr st m 16 13 (some (m + 11)) := ⟨_, Or.inl h.2.1, rfl⟩
theorem MS.a11 (h : MS st0 st m c ln mn A W) : st.2.1 (m + 11) = some (.inl (0, 25, .inl (A 11))) := h.2.2.2.2.2.2.2.2.2.2.2.1
theorem MS.r11 (h : MS st0 st m c ln mn A W) (j : Nat) {x : Int32} (hx : x = nI j) (hj : j < 25) {G : (Nat → Int32) → Nat → Prop} (g : G (A 11) j) : ∃ (n : Nat) (f : Nat → Int32) (j : Nat), g_ai st (m + 11) 0 n f ∧ x = nI j ∧ j < n ∧ j < 2 ^ 31 ∧ G f j := ⟨25, A 11, j, Or.inl h.a11, hx, hj, by omega, g⟩
theorem MS.g10 (h : MS st0 st m c ln mn A W) : g_gr st m 16 12 (some (m + 10)) := ⟨_, Or.inl h.2.1, rfl⟩
theorem MS.a10 (h : MS st0 st m c ln mn A W) : st.2.1 (m + 10) = some (.inl (3, 25, .inr (.inl W))) := h.2.2.2.2.2.2.2.2.2.2.2.2
theorem MS.r10 (h : MS st0 st m c ln mn A W) (j : Nat) {x : Int32} (hx : x = nI j) (hj : j < 25) {G : (Nat → Int64) → Nat → Prop} (g : G W j) : ∃ (n : Nat) (f : Nat → Int64) (j : Nat), g_al st (m + 10) 3 n f ∧ x = nI j ∧ j < n ∧ j < 2 ^ 31 ∧ G f j := ⟨25, W, j, Or.inl h.a10, hx, hj, by omega, g⟩
theorem MS.pO {c' ln' mn' : Int32} (h : MS st0 st m c ln mn A W) : MS st0 (g_put st m (mO m c' ln' mn')) m c' ln' mn' A W := by
  refine ⟨h.1.tr (Sx.put h.2.1 ⟨Nat.le_refl _, by omega⟩), g_upd_s, ?_⟩
  obtain ⟨-, -, h1, h2, h3, h4, h5, h6, h7, h8, h9, h11, h10⟩ := h
  refine ⟨?_, ?_, ?_, ?_, ?_, ?_, ?_, ?_, ?_, ?_, ?_⟩
  · exact (g_upd_n (by omega)).trans h1
  · exact (g_upd_n (by omega)).trans h2
  · exact (g_upd_n (by omega)).trans h3
  · exact (g_upd_n (by omega)).trans h4
  · exact (g_upd_n (by omega)).trans h5
  · exact (g_upd_n (by omega)).trans h6
  · exact (g_upd_n (by omega)).trans h7
  · exact (g_upd_n (by omega)).trans h8
  · exact (g_upd_n (by omega)).trans h9
  · exact (g_upd_n (by omega)).trans h11
  · exact (g_upd_n (by omega)).trans h10
theorem MS.pC (h : MS st0 st m c ln mn A W) (y : Int32) {G : g_St → Prop} (k : ∀ st' : g_St, MS st0 st' m y ln mn A W → G st') : ∃ fs : List Value, st.2.1 m = some (.inr (16, fs)) ∧ ∀ st' : g_St, st' = g_put st m (.inr (16, fs.set 0 (.int y))) → G st' := ⟨_, h.2.1, fun st' e => k st' (by rw [e]; exact h.pO)⟩
theorem MS.pL (h : MS st0 st m c ln mn A W) (y : Int32) {G : g_St → Prop} (k : ∀ st' : g_St, MS st0 st' m c y mn A W → G st') : ∃ fs : List Value, st.2.1 m = some (.inr (16, fs)) ∧ ∀ st' : g_St, st' = g_put st m (.inr (16, fs.set 8 (.int y))) → G st' := ⟨_, h.2.1, fun st' e => k st' (by rw [e]; exact h.pO)⟩
theorem MS.pN (h : MS st0 st m c ln mn A W) (y : Int32) {G : g_St → Prop} (k : ∀ st' : g_St, MS st0 st' m c ln y A W → G st') : ∃ fs : List Value, st.2.1 m = some (.inr (16, fs)) ∧ ∀ st' : g_St, st' = g_put st m (.inr (16, fs.set 9 (.int y))) → G st' := ⟨_, h.2.1, fun st' e => k st' (by rw [e]; exact h.pO)⟩
theorem MS.u1 (h : MS st0 st m c ln mn A W) (f : Nat → Int32) : MS st0 (g_put st (m + 1) (.inl (2, 24, .inl f))) m c ln mn (t_up A 1 f) W := by
  refine ⟨h.1.tr (Sx.put h.a1 ⟨by omega, by omega⟩), (g_upd_n (by omega)).trans h.o, ?_⟩
  obtain ⟨-, -, h1, h2, h3, h4, h5, h6, h7, h8, h9, h11, h10⟩ := h
  refine ⟨?_, ?_, ?_, ?_, ?_, ?_, ?_, ?_, ?_, ?_, ?_⟩
  · exact g_upd_s
  · exact (g_upd_n (by omega)).trans h2
  · exact (g_upd_n (by omega)).trans h3
  · exact (g_upd_n (by omega)).trans h4
  · exact (g_upd_n (by omega)).trans h5
  · exact (g_upd_n (by omega)).trans h6
  · exact (g_upd_n (by omega)).trans h7
  · exact (g_upd_n (by omega)).trans h8
  · exact (g_upd_n (by omega)).trans h9
  · exact (g_upd_n (by omega)).trans h11
  · exact (g_upd_n (by omega)).trans h10
theorem MS.w1 (h : MS st0 st m c ln mn A W) (j : Nat) {x v : Int32} (hx : x = nI j) (hj : j < 24) {G : g_St → Prop} (k : ∀ st' : g_St, MS st0 st' m c ln mn (t_up A 1 (va_up (A 1) j v)) W → G st') : ∃ (n : Nat) (f : Nat → Int32) (j : Nat), st.2.1 (m + 1) = some (.inl (2, n, .inl f)) ∧ x = nI j ∧ j < n ∧ j < 2 ^ 31 ∧ ∀ st' : g_St, st' = g_put st (m + 1) (.inl (2, n, .inl (va_up f j v))) → G st' := ⟨24, A 1, j, h.a1, hx, hj, by omega, fun st' e => k st' (by rw [e]; exact h.u1 _)⟩
theorem MS.u2 (h : MS st0 st m c ln mn A W) (f : Nat → Int32) : MS st0 (g_put st (m + 2) (.inl (2, 240, .inl f))) m c ln mn (t_up A 2 f) W := by
  refine ⟨h.1.tr (Sx.put h.a2 ⟨by omega, by omega⟩), (g_upd_n (by omega)).trans h.o, ?_⟩
  obtain ⟨-, -, h1, h2, h3, h4, h5, h6, h7, h8, h9, h11, h10⟩ := h
  refine ⟨?_, ?_, ?_, ?_, ?_, ?_, ?_, ?_, ?_, ?_, ?_⟩
  · exact (g_upd_n (by omega)).trans h1
  · exact g_upd_s
  · exact (g_upd_n (by omega)).trans h3
  · exact (g_upd_n (by omega)).trans h4
  · exact (g_upd_n (by omega)).trans h5
  · exact (g_upd_n (by omega)).trans h6
  · exact (g_upd_n (by omega)).trans h7
  · exact (g_upd_n (by omega)).trans h8
  · exact (g_upd_n (by omega)).trans h9
  · exact (g_upd_n (by omega)).trans h11
  · exact (g_upd_n (by omega)).trans h10
theorem MS.w2 (h : MS st0 st m c ln mn A W) (j : Nat) {x v : Int32} (hx : x = nI j) (hj : j < 240) {G : g_St → Prop} (k : ∀ st' : g_St, MS st0 st' m c ln mn (t_up A 2 (va_up (A 2) j v)) W → G st') : ∃ (n : Nat) (f : Nat → Int32) (j : Nat), st.2.1 (m + 2) = some (.inl (2, n, .inl f)) ∧ x = nI j ∧ j < n ∧ j < 2 ^ 31 ∧ ∀ st' : g_St, st' = g_put st (m + 2) (.inl (2, n, .inl (va_up f j v))) → G st' := ⟨240, A 2, j, h.a2, hx, hj, by omega, fun st' e => k st' (by rw [e]; exact h.u2 _)⟩
theorem MS.u3 (h : MS st0 st m c ln mn A W) (f : Nat → Int32) : MS st0 (g_put st (m + 3) (.inl (2, 18, .inl f))) m c ln mn (t_up A 3 f) W := by
  refine ⟨h.1.tr (Sx.put h.a3 ⟨by omega, by omega⟩), (g_upd_n (by omega)).trans h.o, ?_⟩
  obtain ⟨-, -, h1, h2, h3, h4, h5, h6, h7, h8, h9, h11, h10⟩ := h
  refine ⟨?_, ?_, ?_, ?_, ?_, ?_, ?_, ?_, ?_, ?_, ?_⟩
  · exact (g_upd_n (by omega)).trans h1
  · exact (g_upd_n (by omega)).trans h2
  · exact g_upd_s
  · exact (g_upd_n (by omega)).trans h4
  · exact (g_upd_n (by omega)).trans h5
  · exact (g_upd_n (by omega)).trans h6
  · exact (g_upd_n (by omega)).trans h7
  · exact (g_upd_n (by omega)).trans h8
  · exact (g_upd_n (by omega)).trans h9
  · exact (g_upd_n (by omega)).trans h11
  · exact (g_upd_n (by omega)).trans h10
theorem MS.w3 (h : MS st0 st m c ln mn A W) (j : Nat) {x v : Int32} (hx : x = nI j) (hj : j < 18) {G : g_St → Prop} (k : ∀ st' : g_St, MS st0 st' m c ln mn (t_up A 3 (va_up (A 3) j v)) W → G st') : ∃ (n : Nat) (f : Nat → Int32) (j : Nat), st.2.1 (m + 3) = some (.inl (2, n, .inl f)) ∧ x = nI j ∧ j < n ∧ j < 2 ^ 31 ∧ ∀ st' : g_St, st' = g_put st (m + 3) (.inl (2, n, .inl (va_up f j v))) → G st' := ⟨18, A 3, j, h.a3, hx, hj, by omega, fun st' e => k st' (by rw [e]; exact h.u3 _)⟩
theorem MS.u4 (h : MS st0 st m c ln mn A W) (f : Nat → Int32) : MS st0 (g_put st (m + 4) (.inl (2, 72, .inl f))) m c ln mn (t_up A 4 f) W := by
  refine ⟨h.1.tr (Sx.put h.a4 ⟨by omega, by omega⟩), (g_upd_n (by omega)).trans h.o, ?_⟩
  obtain ⟨-, -, h1, h2, h3, h4, h5, h6, h7, h8, h9, h11, h10⟩ := h
  refine ⟨?_, ?_, ?_, ?_, ?_, ?_, ?_, ?_, ?_, ?_, ?_⟩
  · exact (g_upd_n (by omega)).trans h1
  · exact (g_upd_n (by omega)).trans h2
  · exact (g_upd_n (by omega)).trans h3
  · exact g_upd_s
  · exact (g_upd_n (by omega)).trans h5
  · exact (g_upd_n (by omega)).trans h6
  · exact (g_upd_n (by omega)).trans h7
  · exact (g_upd_n (by omega)).trans h8
  · exact (g_upd_n (by omega)).trans h9
  · exact (g_upd_n (by omega)).trans h11
  · exact (g_upd_n (by omega)).trans h10
theorem MS.w4 (h : MS st0 st m c ln mn A W) (j : Nat) {x v : Int32} (hx : x = nI j) (hj : j < 72) {G : g_St → Prop} (k : ∀ st' : g_St, MS st0 st' m c ln mn (t_up A 4 (va_up (A 4) j v)) W → G st') : ∃ (n : Nat) (f : Nat → Int32) (j : Nat), st.2.1 (m + 4) = some (.inl (2, n, .inl f)) ∧ x = nI j ∧ j < n ∧ j < 2 ^ 31 ∧ ∀ st' : g_St, st' = g_put st (m + 4) (.inl (2, n, .inl (va_up f j v))) → G st' := ⟨72, A 4, j, h.a4, hx, hj, by omega, fun st' e => k st' (by rw [e]; exact h.u4 _)⟩
theorem MS.u5 (h : MS st0 st m c ln mn A W) (f : Nat → Int32) : MS st0 (g_put st (m + 5) (.inl (0, 24, .inl f))) m c ln mn (t_up A 5 f) W := by
  refine ⟨h.1.tr (Sx.put h.a5 ⟨by omega, by omega⟩), (g_upd_n (by omega)).trans h.o, ?_⟩
  obtain ⟨-, -, h1, h2, h3, h4, h5, h6, h7, h8, h9, h11, h10⟩ := h
  refine ⟨?_, ?_, ?_, ?_, ?_, ?_, ?_, ?_, ?_, ?_, ?_⟩
  · exact (g_upd_n (by omega)).trans h1
  · exact (g_upd_n (by omega)).trans h2
  · exact (g_upd_n (by omega)).trans h3
  · exact (g_upd_n (by omega)).trans h4
  · exact g_upd_s
  · exact (g_upd_n (by omega)).trans h6
  · exact (g_upd_n (by omega)).trans h7
  · exact (g_upd_n (by omega)).trans h8
  · exact (g_upd_n (by omega)).trans h9
  · exact (g_upd_n (by omega)).trans h11
  · exact (g_upd_n (by omega)).trans h10
theorem MS.w5 (h : MS st0 st m c ln mn A W) (j : Nat) {x v : Int32} (hx : x = nI j) (hj : j < 24) {G : g_St → Prop} (k : ∀ st' : g_St, MS st0 st' m c ln mn (t_up A 5 (va_up (A 5) j v)) W → G st') : ∃ (n : Nat) (f : Nat → Int32) (j : Nat), st.2.1 (m + 5) = some (.inl (0, n, .inl f)) ∧ x = nI j ∧ j < n ∧ j < 2 ^ 31 ∧ ∀ st' : g_St, st' = g_put st (m + 5) (.inl (0, n, .inl (va_up f j v))) → G st' := ⟨24, A 5, j, h.a5, hx, hj, by omega, fun st' e => k st' (by rw [e]; exact h.u5 _)⟩
theorem MS.u6 (h : MS st0 st m c ln mn A W) (f : Nat → Int32) : MS st0 (g_put st (m + 6) (.inl (0, 24, .inl f))) m c ln mn (t_up A 6 f) W := by
  refine ⟨h.1.tr (Sx.put h.a6 ⟨by omega, by omega⟩), (g_upd_n (by omega)).trans h.o, ?_⟩
  obtain ⟨-, -, h1, h2, h3, h4, h5, h6, h7, h8, h9, h11, h10⟩ := h
  refine ⟨?_, ?_, ?_, ?_, ?_, ?_, ?_, ?_, ?_, ?_, ?_⟩
  · exact (g_upd_n (by omega)).trans h1
  · exact (g_upd_n (by omega)).trans h2
  · exact (g_upd_n (by omega)).trans h3
  · exact (g_upd_n (by omega)).trans h4
  · exact (g_upd_n (by omega)).trans h5
  · exact g_upd_s
  · exact (g_upd_n (by omega)).trans h7
  · exact (g_upd_n (by omega)).trans h8
  · exact (g_upd_n (by omega)).trans h9
  · exact (g_upd_n (by omega)).trans h11
  · exact (g_upd_n (by omega)).trans h10
theorem MS.w6 (h : MS st0 st m c ln mn A W) (j : Nat) {x v : Int32} (hx : x = nI j) (hj : j < 24) {G : g_St → Prop} (k : ∀ st' : g_St, MS st0 st' m c ln mn (t_up A 6 (va_up (A 6) j v)) W → G st') : ∃ (n : Nat) (f : Nat → Int32) (j : Nat), st.2.1 (m + 6) = some (.inl (0, n, .inl f)) ∧ x = nI j ∧ j < n ∧ j < 2 ^ 31 ∧ ∀ st' : g_St, st' = g_put st (m + 6) (.inl (0, n, .inl (va_up f j v))) → G st' := ⟨24, A 6, j, h.a6, hx, hj, by omega, fun st' e => k st' (by rw [e]; exact h.u6 _)⟩
theorem MS.u7 (h : MS st0 st m c ln mn A W) (f : Nat → Int32) : MS st0 (g_put st (m + 7) (.inl (0, 6, .inl f))) m c ln mn (t_up A 7 f) W := by
  refine ⟨h.1.tr (Sx.put h.a7 ⟨by omega, by omega⟩), (g_upd_n (by omega)).trans h.o, ?_⟩
  obtain ⟨-, -, h1, h2, h3, h4, h5, h6, h7, h8, h9, h11, h10⟩ := h
  refine ⟨?_, ?_, ?_, ?_, ?_, ?_, ?_, ?_, ?_, ?_, ?_⟩
  · exact (g_upd_n (by omega)).trans h1
  · exact (g_upd_n (by omega)).trans h2
  · exact (g_upd_n (by omega)).trans h3
  · exact (g_upd_n (by omega)).trans h4
  · exact (g_upd_n (by omega)).trans h5
  · exact (g_upd_n (by omega)).trans h6
  · exact g_upd_s
  · exact (g_upd_n (by omega)).trans h8
  · exact (g_upd_n (by omega)).trans h9
  · exact (g_upd_n (by omega)).trans h11
  · exact (g_upd_n (by omega)).trans h10
theorem MS.w7 (h : MS st0 st m c ln mn A W) (j : Nat) {x v : Int32} (hx : x = nI j) (hj : j < 6) {G : g_St → Prop} (k : ∀ st' : g_St, MS st0 st' m c ln mn (t_up A 7 (va_up (A 7) j v)) W → G st') : ∃ (n : Nat) (f : Nat → Int32) (j : Nat), st.2.1 (m + 7) = some (.inl (0, n, .inl f)) ∧ x = nI j ∧ j < n ∧ j < 2 ^ 31 ∧ ∀ st' : g_St, st' = g_put st (m + 7) (.inl (0, n, .inl (va_up f j v))) → G st' := ⟨6, A 7, j, h.a7, hx, hj, by omega, fun st' e => k st' (by rw [e]; exact h.u7 _)⟩
theorem MS.u8 (h : MS st0 st m c ln mn A W) (f : Nat → Int32) : MS st0 (g_put st (m + 8) (.inl (0, 24, .inl f))) m c ln mn (t_up A 8 f) W := by
  refine ⟨h.1.tr (Sx.put h.a8 ⟨by omega, by omega⟩), (g_upd_n (by omega)).trans h.o, ?_⟩
  obtain ⟨-, -, h1, h2, h3, h4, h5, h6, h7, h8, h9, h11, h10⟩ := h
  refine ⟨?_, ?_, ?_, ?_, ?_, ?_, ?_, ?_, ?_, ?_, ?_⟩
  · exact (g_upd_n (by omega)).trans h1
  · exact (g_upd_n (by omega)).trans h2
  · exact (g_upd_n (by omega)).trans h3
  · exact (g_upd_n (by omega)).trans h4
  · exact (g_upd_n (by omega)).trans h5
  · exact (g_upd_n (by omega)).trans h6
  · exact (g_upd_n (by omega)).trans h7
  · exact g_upd_s
  · exact (g_upd_n (by omega)).trans h9
  · exact (g_upd_n (by omega)).trans h11
  · exact (g_upd_n (by omega)).trans h10
theorem MS.w8 (h : MS st0 st m c ln mn A W) (j : Nat) {x v : Int32} (hx : x = nI j) (hj : j < 24) {G : g_St → Prop} (k : ∀ st' : g_St, MS st0 st' m c ln mn (t_up A 8 (va_up (A 8) j v)) W → G st') : ∃ (n : Nat) (f : Nat → Int32) (j : Nat), st.2.1 (m + 8) = some (.inl (0, n, .inl f)) ∧ x = nI j ∧ j < n ∧ j < 2 ^ 31 ∧ ∀ st' : g_St, st' = g_put st (m + 8) (.inl (0, n, .inl (va_up f j v))) → G st' := ⟨24, A 8, j, h.a8, hx, hj, by omega, fun st' e => k st' (by rw [e]; exact h.u8 _)⟩
theorem MS.u9 (h : MS st0 st m c ln mn A W) (f : Nat → Int32) : MS st0 (g_put st (m + 9) (.inl (0, 24, .inl f))) m c ln mn (t_up A 9 f) W := by
  refine ⟨h.1.tr (Sx.put h.a9 ⟨by omega, by omega⟩), (g_upd_n (by omega)).trans h.o, ?_⟩
  obtain ⟨-, -, h1, h2, h3, h4, h5, h6, h7, h8, h9, h11, h10⟩ := h
  refine ⟨?_, ?_, ?_, ?_, ?_, ?_, ?_, ?_, ?_, ?_, ?_⟩
  · exact (g_upd_n (by omega)).trans h1
  · exact (g_upd_n (by omega)).trans h2
  · exact (g_upd_n (by omega)).trans h3
  · exact (g_upd_n (by omega)).trans h4
  · exact (g_upd_n (by omega)).trans h5
  · exact (g_upd_n (by omega)).trans h6
  · exact (g_upd_n (by omega)).trans h7
  · exact (g_upd_n (by omega)).trans h8
  · exact g_upd_s
  · exact (g_upd_n (by omega)).trans h11
  · exact (g_upd_n (by omega)).trans h10
theorem MS.w9 (h : MS st0 st m c ln mn A W) (j : Nat) {x v : Int32} (hx : x = nI j) (hj : j < 24) {G : g_St → Prop} (k : ∀ st' : g_St, MS st0 st' m c ln mn (t_up A 9 (va_up (A 9) j v)) W → G st') : ∃ (n : Nat) (f : Nat → Int32) (j : Nat), st.2.1 (m + 9) = some (.inl (0, n, .inl f)) ∧ x = nI j ∧ j < n ∧ j < 2 ^ 31 ∧ ∀ st' : g_St, st' = g_put st (m + 9) (.inl (0, n, .inl (va_up f j v))) → G st' := ⟨24, A 9, j, h.a9, hx, hj, by omega, fun st' e => k st' (by rw [e]; exact h.u9 _)⟩
theorem MS.u11 (h : MS st0 st m c ln mn A W) (f : Nat → Int32) : MS st0 (g_put st (m + 11) (.inl (0, 25, .inl f))) m c ln mn (t_up A 11 f) W := by
  refine ⟨h.1.tr (Sx.put h.a11 ⟨by omega, by omega⟩), (g_upd_n (by omega)).trans h.o, ?_⟩
  obtain ⟨-, -, h1, h2, h3, h4, h5, h6, h7, h8, h9, h11, h10⟩ := h
  refine ⟨?_, ?_, ?_, ?_, ?_, ?_, ?_, ?_, ?_, ?_, ?_⟩
  · exact (g_upd_n (by omega)).trans h1
  · exact (g_upd_n (by omega)).trans h2
  · exact (g_upd_n (by omega)).trans h3
  · exact (g_upd_n (by omega)).trans h4
  · exact (g_upd_n (by omega)).trans h5
  · exact (g_upd_n (by omega)).trans h6
  · exact (g_upd_n (by omega)).trans h7
  · exact (g_upd_n (by omega)).trans h8
  · exact (g_upd_n (by omega)).trans h9
  · exact g_upd_s
  · exact (g_upd_n (by omega)).trans h10
theorem MS.w11 (h : MS st0 st m c ln mn A W) (j : Nat) {x v : Int32} (hx : x = nI j) (hj : j < 25) {G : g_St → Prop} (k : ∀ st' : g_St, MS st0 st' m c ln mn (t_up A 11 (va_up (A 11) j v)) W → G st') : ∃ (n : Nat) (f : Nat → Int32) (j : Nat), st.2.1 (m + 11) = some (.inl (0, n, .inl f)) ∧ x = nI j ∧ j < n ∧ j < 2 ^ 31 ∧ ∀ st' : g_St, st' = g_put st (m + 11) (.inl (0, n, .inl (va_up f j v))) → G st' := ⟨25, A 11, j, h.a11, hx, hj, by omega, fun st' e => k st' (by rw [e]; exact h.u11 _)⟩
theorem MS.u10 (h : MS st0 st m c ln mn A W) (f : Nat → Int64) : MS st0 (g_put st (m + 10) (.inl (3, 25, .inr (.inl f)))) m c ln mn A f := by
  refine ⟨h.1.tr (Sx.put h.a10 ⟨by omega, by omega⟩), (g_upd_n (by omega)).trans h.o, ?_⟩
  obtain ⟨-, -, h1, h2, h3, h4, h5, h6, h7, h8, h9, h11, h10⟩ := h
  refine ⟨?_, ?_, ?_, ?_, ?_, ?_, ?_, ?_, ?_, ?_, ?_⟩
  · exact (g_upd_n (by omega)).trans h1
  · exact (g_upd_n (by omega)).trans h2
  · exact (g_upd_n (by omega)).trans h3
  · exact (g_upd_n (by omega)).trans h4
  · exact (g_upd_n (by omega)).trans h5
  · exact (g_upd_n (by omega)).trans h6
  · exact (g_upd_n (by omega)).trans h7
  · exact (g_upd_n (by omega)).trans h8
  · exact (g_upd_n (by omega)).trans h9
  · exact (g_upd_n (by omega)).trans h11
  · exact g_upd_s
theorem MS.w10 (h : MS st0 st m c ln mn A W) (j : Nat) {x : Int32} {v : Int64} (hx : x = nI j) (hj : j < 25) {G : g_St → Prop} (k : ∀ st' : g_St, MS st0 st' m c ln mn A (va_up W j v) → G st') : ∃ (n : Nat) (f : Nat → Int64) (j : Nat), st.2.1 (m + 10) = some (.inl (3, n, .inr (.inl f))) ∧ x = nI j ∧ j < n ∧ j < 2 ^ 31 ∧ ∀ st' : g_St, st' = g_put st (m + 10) (.inl (3, n, .inr (.inl (va_up f j v)))) → G st' := ⟨25, W, j, h.a10, hx, hj, by omega, fun st' e => k st' (by rw [e]; exact h.u10 _)⟩
/-- branches over comparisons of small numbers -/
theorem b_le {a b : Nat} {X Y : Prop} (ha : a < 2 ^ 31) (hb : b < 2 ^ 31) (h1 : a ≤ b → X) (h2 : b < a → Y) : (nI a ≤ nI b → X) ∧ (¬ nI a ≤ nI b → Y) :=
  ⟨fun z => h1 ((nI_leI ha hb).mp z), fun z => h2 (Nat.lt_of_not_le fun w => z (nI_le w hb))⟩
theorem b_lt {a b : Nat} {X Y : Prop} (ha : a < 2 ^ 31) (hb : b < 2 ^ 31) (h1 : a < b → X) (h2 : b ≤ a → Y) : (nI a < nI b → X) ∧ (¬ nI a < nI b → Y) :=
  ⟨fun z => h1 ((nI_ltI ha hb).mp z), fun z => h2 (Nat.le_of_not_lt fun w => z (nI_lt w hb))⟩
theorem b_eq {a b : Nat} {X Y : Prop} (ha : a < 2 ^ 31) (hb : b < 2 ^ 31) (h1 : a = b → X) (h2 : a ≠ b → Y) : (nI a = nI b → X) ∧ (¬ nI a = nI b → Y) :=
  ⟨fun z => h1 ((nI_eq ha hb).mp z), fun z => h2 fun w => z (by rw [w])⟩
theorem b_ne {a b : Nat} {X Y : Prop} (ha : a < 2 ^ 31) (hb : b < 2 ^ 31) (h1 : a = b → X) (h2 : a ≠ b → Y) : (¬ nI a = nI b → Y) ∧ (nI a = nI b → X) := And.symm (b_eq ha hb h1 h2)
/-- branches over a truth value -/
def tv (p : Prop) [Decidable p] : Int32 := if p then nI 1 else nI 0
theorem tv_1 {p : Prop} [Decidable p] (h : p) : tv p = nI 1 := if_pos h
theorem tv_0 {p : Prop} [Decidable p] (h : ¬ p) : tv p = nI 0 := if_neg h
theorem tv_nar {p : Prop} [Decidable p] : narrow .boolean (.int (tv p)) = .int (tv p) := by
  unfold tv
  split <;> rfl
theorem tv_cg {p q : Prop} [Decidable p] [Decidable q] (h : p ↔ q) : tv p = tv q := by
  unfold tv
  by_cases z : p
  · rw [if_pos z, if_pos (h.mp z)]
  · rw [if_neg z, if_neg (fun w => z (h.mpr w))]
theorem b_tv {p : Prop} [Decidable p] {X Y : Prop} (h1 : p → X) (h0 : ¬ p → Y) : (tv p = 0 → Y) ∧ (¬ tv p = 0 → X) := by
  unfold tv
  by_cases z : p
  · rw [if_pos z]
    exact ⟨fun w => absurd w (by decide), fun _ => h1 z⟩
  · rw [if_neg z]
    exact ⟨fun _ => h0 z, fun w => absurd (by decide) w⟩
theorem b_vt {p : Prop} [Decidable p] {X Y : Prop} (h1 : p → X) (h0 : ¬ p → Y) : (¬ tv p = 0 → X) ∧ (tv p = 0 → Y) := And.symm (b_tv h1 h0)
theorem ct_mfails {k : Nat} {Q : Int32 → g_St → Prop} (h : MS st0 st m c ln mn A W) (hk : k < 100) (hq : ∀ st' : g_St, MS st0 st' m (nI k) ln mn A W → Q (tv (0 < k)) st') : wp_X2_fails l E 0 0 [va_rf (some m), .int (nI k)] st Q := by
  refine wk_X2_fails (h.pC _ fun st2 h2 => ?_)
  refine g_jn1_i (fun x => x = tv (0 < k)) (fun x e => by rw [e]; exact ⟨tv_nar, hq st2 h2⟩) fun K hK => ?_
  show (nI k ≤ nI 0 → _) ∧ (¬ nI k ≤ nI 0 → _)
  exact b_le (by omega) (by omega) (fun z => hK _ (tv_0 (by omega)).symm) (fun z => hK _ (tv_1 (by omega)).symm)
theorem ct_min {x lo hi : Int32} {Q : Int32 → g_St → Prop} (hq : Q (tv (¬ (x < lo ∨ hi < x))) st) : wp_X2_in l E 0 0 [.int x, .int lo, .int hi] st Q := by
  refine wk_X2_in ?_
  refine g_jn1_i (fun y => y = tv (¬ (x < lo ∨ hi < x))) (fun y e => by rw [e]; exact ⟨tv_nar, hq⟩) fun K hK => ?_
  by_cases z : x < lo ∨ hi < x
  · refine g_jn0_i (hK _ (tv_0 (fun w => w z)).symm) fun K4 hK4 => ⟨fun _ => hK4, fun w => ⟨fun _ => hK4, fun w2 => ?_⟩⟩
    rcases z with z | z
    · exact absurd z w
    · exact absurd z w2
  · show _ ∧ _
    exact ⟨fun w => absurd (Or.inl w) z, fun _ => ⟨fun w => absurd (Or.inr w) z, fun _ => hK _ (tv_1 z).symm⟩⟩
theorem ct_misSign {x : Int32} {Q : Int32 → g_St → Prop} (hq : Q (tv (¬ (x < nI 97 ∨ nI 102 < x))) st) : wp_X2_isSign l E 0 0 [.int x] st Q := by
  refine wk_X2_isSign ?_
  refine g_jn1_i (fun y => y = tv (¬ (x < nI 97 ∨ nI 102 < x))) (fun y e => by rw [e]; exact ⟨tv_nar, hq⟩) fun K hK => ?_
  by_cases z : x < nI 97 ∨ nI 102 < x
  · refine g_jn0_i (hK _ (tv_0 (fun w => w z)).symm) fun K4 hK4 => ⟨fun _ => hK4, fun w => ⟨fun _ => hK4, fun w2 => ?_⟩⟩
    rcases z with z | z
    · exact absurd z w
    · exact absurd z w2
  · show _ ∧ _
    exact ⟨fun w => absurd (Or.inl w) z, fun _ => ⟨fun w => absurd (Or.inr w) z, fun _ => hK _ (tv_1 z).symm⟩⟩
theorem i_in {x : Int32} {n : Nat} (h0 : ¬ x < nI 0) (h1 : ¬ nI n < x) (hn : n < 2 ^ 31) : ∃ j, j ≤ n ∧ x = nI j := by
  obtain ⟨j, hj, e⟩ := nI_of (x := x) h0
  refine ⟨j, Nat.le_of_not_lt fun w => h1 ?_, e⟩
  rw [e]
  exact nI_lt w hj
end GMD1
