/-! TREE 2: the heap of a tree; its small methods -/
section GT2
variable {l : Launch} {E : g_E} {st0 st : g_St} {tm n : Nat} {nd ka va : Nat → Nat} {L R P : Nat → Option Nat} {co : Nat → Int32} {rt : Option Nat} {sz mc : Int32} {lo hi : Nat → Nat}
abbrev tX : Type := Value × Value × Option Nat × Option Nat × Value
variable {x : tX}
def tE (nd ka va : Nat → Nat) (L R P : Nat → Option Nat) (co : Nat → Int32) (i : Nat) : g_Ob := .inr (4, [va_rf (some (ka i)), va_rf (some (va i)), va_rf ((L i).map nd), va_rf ((R i).map nd), va_rf ((P i).map nd), .int (co i)])
def tM (nd : Nat → Nat) (rt : Option Nat) (sz mc : Int32) (x : tX) : g_Ob := .inr (3, [x.1, x.2.1, va_rf none, va_rf (rt.map nd), .int sz, .int mc, va_rf x.2.2.1, va_rf x.2.2.2.1, x.2.2.2.2])
/-- the cells of the tree -/
def TA (tm n : Nat) (nd : Nat → Nat) (a : Nat) : Prop := a = tm ∨ ∃ i, i < n ∧ a = nd i
/-- nothing is made, nothing outside A is changed -/
def Sx (A : Nat → Prop) (st st' : g_St) : Prop := st'.1 = st.1 ∧ st'.2.2 = st.2.2 ∧ g_Ext st st' ∧ ∀ a, ¬ A a → st'.2.1 a = st.2.1 a
theorem Sx.rf {A : Nat → Prop} : Sx A st st := ⟨rfl, rfl, g_Ext.rf, fun _ _ => rfl⟩
theorem Sx.tr {A : Nat → Prop} {a b c : g_St} (h1 : Sx A a b) (h2 : Sx A b c) : Sx A a c :=
  ⟨h2.1.trans h1.1, h2.2.1.trans h1.2.1, h1.2.2.1.tr h2.2.2.1, fun q hq => (h2.2.2.2 q hq).trans (h1.2.2.2 q hq)⟩
theorem Sx.wk {A B : Nat → Prop} {st' : g_St} (h : Sx A st st') (hB : ∀ a, A a → B a) : Sx B st st' := ⟨h.1, h.2.1, h.2.2.1, fun a ha => h.2.2.2 a (fun z => ha (hB a z))⟩
theorem Sx.put {A : Nat → Prop} {a : Nat} {o o0 : g_Ob} (ha : st.2.1 a = some o0) (hA : A a) : Sx A st (g_put st a o) :=
  ⟨rfl, rfl, g_Ext.put g_Ext.rf ha, fun q hq => g_upd_n (fun e => hq (by rw [e]; exact hA))⟩
theorem Sx.se {A : Nat → Prop} {st' : g_St} (h : Sx A st st') : Se A st st' := ⟨h.2.2.1, fun q _ hq => h.2.2.2 q hq⟩
/-- since st0 nothing but the tree's cells has changed; the tree stands -/
def TS (st0 st : g_St) (tm n : Nat) (nd ka va : Nat → Nat) (L R P : Nat → Option Nat) (co : Nat → Int32) (rt : Option Nat) (sz mc : Int32) (x : tX) : Prop :=
  Sx (TA tm n nd) st0 st ∧ st.2.1 tm = some (tM nd rt sz mc x) ∧ (∀ i, i < n → st.2.1 (nd i) = some (tE nd ka va L R P co i)) ∧ ∀ i j, i < n → j < n → nd i = nd j → i = j
theorem TS.s (h : TS st0 st tm n nd ka va L R P co rt sz mc x) : TS st st tm n nd ka va L R P co rt sz mc x := ⟨Sx.rf, h.2⟩
theorem TS.tr {st1 : g_St} (h0 : Sx (TA tm n nd) st0 st1) (h : TS st1 st tm n nd ka va L R P co rt sz mc x) : TS st0 st tm n nd ka va L R P co rt sz mc x := ⟨h0.tr h.1, h.2⟩
theorem TS.ne (h : TS st0 st tm n nd ka va L R P co rt sz mc x) {i : Nat} (hi : i < n) : nd i ≠ tm := by
  intro e
  have h1 := h.2.2.1 i hi
  rw [e, h.2.1] at h1
  unfold tM tE at h1
  simp at h1
theorem TS.inj (h : TS st0 st tm n nd ka va L R P co rt sz mc x) {i j : Nat} (hi : i < n) (hj : j < n) (e : nd i = nd j) : i = j := h.2.2.2 i j hi hj e
theorem TS.injO (h : TS st0 st tm n nd ka va L R P co rt sz mc x) {o : Option Nat} {i : Nat} (hi : i < n) (ho : ∀ j, o = some j → j < n) (e : some (nd i) = o.map nd) : o = some i := by
  cases o with
  | none => cases e
  | some j =>
    have e : some (nd i) = some (nd j) := e
    rw [h.inj hi (ho j rfl) (Option.some.inj e)]
theorem TS.gK (h : TS st0 st tm n nd ka va L R P co rt sz mc x) {i : Nat} (hi : i < n) : g_gr st (nd i) 4 0 (some (ka i)) := ⟨_, Or.inl (h.2.2.1 i hi), rfl⟩
theorem TS.gV (h : TS st0 st tm n nd ka va L R P co rt sz mc x) {i : Nat} (hi : i < n) : g_gr st (nd i) 4 1 (some (va i)) := ⟨_, Or.inl (h.2.2.1 i hi), rfl⟩
theorem TS.gL (h : TS st0 st tm n nd ka va L R P co rt sz mc x) {i : Nat} (hi : i < n) : g_gr st (nd i) 4 2 ((L i).map nd) := ⟨_, Or.inl (h.2.2.1 i hi), rfl⟩
theorem TS.gR (h : TS st0 st tm n nd ka va L R P co rt sz mc x) {i : Nat} (hi : i < n) : g_gr st (nd i) 4 3 ((R i).map nd) := ⟨_, Or.inl (h.2.2.1 i hi), rfl⟩
theorem TS.gP (h : TS st0 st tm n nd ka va L R P co rt sz mc x) {i : Nat} (hi : i < n) : g_gr st (nd i) 4 4 ((P i).map nd) := ⟨_, Or.inl (h.2.2.1 i hi), rfl⟩
theorem TS.gC (h : TS st0 st tm n nd ka va L R P co rt sz mc x) {i : Nat} (hi : i < n) : g_gi st (nd i) 4 5 (co i) := ⟨_, Or.inl (h.2.2.1 i hi), rfl⟩
theorem TS.gN (h : TS st0 st tm n nd ka va L R P co rt sz mc x) {i : Nat} (hi : i < n) : g_is st (nd i) 4 := ⟨_, Or.inl (h.2.2.1 i hi)⟩
theorem TS.gT (h : TS st0 st tm n nd ka va L R P co rt sz mc x) : g_gr st tm 3 3 (rt.map nd) := ⟨_, Or.inl h.2.1, rfl⟩
theorem TS.gM (h : TS st0 st tm n nd ka va L R P co rt sz mc x) : g_gr st tm 3 2 none := ⟨_, Or.inl h.2.1, rfl⟩
theorem TS.gS (h : TS st0 st tm n nd ka va L R P co rt sz mc x) : g_gi st tm 3 4 sz := ⟨_, Or.inl h.2.1, rfl⟩
theorem TS.gD (h : TS st0 st tm n nd ka va L R P co rt sz mc x) : g_gi st tm 3 5 mc := ⟨_, Or.inl h.2.1, rfl⟩
theorem TS.gI (h : TS st0 st tm n nd ka va L R P co rt sz mc x) : g_is st tm 3 := ⟨_, Or.inl h.2.1⟩
theorem TS.cg {L' R' P' : Nat → Option Nat} {rt' : Option Nat} (h : TS st0 st tm n nd ka va L R P co rt sz mc x) (h1 : ∀ i, i < n → L i = L' i) (h2 : ∀ i, i < n → R i = R' i) (h3 : ∀ i, i < n → P i = P' i) (h4 : rt = rt') : TS st0 st tm n nd ka va L' R' P' co rt' sz mc x := by
  subst h4
  refine ⟨h.1, h.2.1, fun i hi => ?_, h.2.2.2⟩
  rw [h.2.2.1 i hi]
  unfold tE
  rw [h1 i hi, h2 i hi, h3 i hi]
theorem TS.putN {ka' va' : Nat → Nat} {L' R' P' : Nat → Option Nat} {co' : Nat → Int32} {o : g_Ob} (h : TS st0 st tm n nd ka va L R P co rt sz mc x) {i : Nat} (hi : i < n) (ho : o = tE nd ka' va' L' R' P' co' i) (he : ∀ j, j ≠ i → tE nd ka va L R P co j = tE nd ka' va' L' R' P' co' j) : TS st0 (g_put st (nd i) o) tm n nd ka' va' L' R' P' co' rt sz mc x := by
  refine ⟨h.1.tr (Sx.put (h.2.2.1 i hi) (Or.inr ⟨i, hi, rfl⟩)), ?_, fun j hj => ?_, h.2.2.2⟩
  · show g_upd st.2.1 (nd i) o tm = _
    rw [g_upd_n (Ne.symm (h.ne hi))]
    exact h.2.1
  · show g_upd st.2.1 (nd i) o (nd j) = _
    by_cases e : j = i
    · subst e
      rw [g_upd_s, ho]
    · rw [g_upd_n (fun q => e (h.inj hj hi q)), h.2.2.1 j hj, he j e]
theorem TS.putT {o : g_Ob} {rt' : Option Nat} {sz' mc' : Int32} {x' : tX} (h : TS st0 st tm n nd ka va L R P co rt sz mc x) (ho : o = tM nd rt' sz' mc' x') : TS st0 (g_put st tm o) tm n nd ka va L R P co rt' sz' mc' x' := by
  refine ⟨h.1.tr (Sx.put h.2.1 (Or.inl rfl)), ?_, fun j hj => ?_, h.2.2.2⟩
  · show g_upd st.2.1 tm o tm = _
    rw [g_upd_s, ho]
  · show g_upd st.2.1 tm o (nd j) = _
    rw [g_upd_n (h.ne hj)]
    exact h.2.2.1 j hj
theorem TS.pK {G : g_St → Prop} {i : Nat} (h : TS st0 st tm n nd ka va L R P co rt sz mc x) (hi : i < n) (y : Nat) (k : ∀ st' : g_St, TS st0 st' tm n nd (t_up ka i y) va L R P co rt sz mc x → G st') : ∃ fs : List Value, st.2.1 (nd i) = some (.inr (4, fs)) ∧ ∀ st' : g_St, st' = g_put st (nd i) (.inr (4, fs.set 0 (va_rf (some y)))) → G st' :=
  ⟨_, h.2.2.1 i hi, fun st' e => k st' (by rw [e]; exact h.putN hi (by unfold tE; simp [t_up]) (fun j hj => by unfold tE; simp [t_up, hj]))⟩
theorem TS.pV {G : g_St → Prop} {i : Nat} (h : TS st0 st tm n nd ka va L R P co rt sz mc x) (hi : i < n) (y : Nat) (k : ∀ st' : g_St, TS st0 st' tm n nd ka (t_up va i y) L R P co rt sz mc x → G st') : ∃ fs : List Value, st.2.1 (nd i) = some (.inr (4, fs)) ∧ ∀ st' : g_St, st' = g_put st (nd i) (.inr (4, fs.set 1 (va_rf (some y)))) → G st' :=
  ⟨_, h.2.2.1 i hi, fun st' e => k st' (by rw [e]; exact h.putN hi (by unfold tE; simp [t_up]) (fun j hj => by unfold tE; simp [t_up, hj]))⟩
theorem TS.pL {G : g_St → Prop} {i : Nat} (h : TS st0 st tm n nd ka va L R P co rt sz mc x) (hi : i < n) (y : Option Nat) (k : ∀ st' : g_St, TS st0 st' tm n nd ka va (t_up L i y) R P co rt sz mc x → G st') : ∃ fs : List Value, st.2.1 (nd i) = some (.inr (4, fs)) ∧ ∀ st' : g_St, st' = g_put st (nd i) (.inr (4, fs.set 2 (va_rf (y.map nd)))) → G st' :=
  ⟨_, h.2.2.1 i hi, fun st' e => k st' (by rw [e]; exact h.putN hi (by unfold tE; simp [t_up]) (fun j hj => by unfold tE; simp [t_up, hj]))⟩
theorem TS.pR {G : g_St → Prop} {i : Nat} (h : TS st0 st tm n nd ka va L R P co rt sz mc x) (hi : i < n) (y : Option Nat) (k : ∀ st' : g_St, TS st0 st' tm n nd ka va L (t_up R i y) P co rt sz mc x → G st') : ∃ fs : List Value, st.2.1 (nd i) = some (.inr (4, fs)) ∧ ∀ st' : g_St, st' = g_put st (nd i) (.inr (4, fs.set 3 (va_rf (y.map nd)))) → G st' :=
  ⟨_, h.2.2.1 i hi, fun st' e => k st' (by rw [e]; exact h.putN hi (by unfold tE; simp [t_up]) (fun j hj => by unfold tE; simp [t_up, hj]))⟩
theorem TS.pP {G : g_St → Prop} {i : Nat} (h : TS st0 st tm n nd ka va L R P co rt sz mc x) (hi : i < n) (y : Option Nat) (k : ∀ st' : g_St, TS st0 st' tm n nd ka va L R (t_up P i y) co rt sz mc x → G st') : ∃ fs : List Value, st.2.1 (nd i) = some (.inr (4, fs)) ∧ ∀ st' : g_St, st' = g_put st (nd i) (.inr (4, fs.set 4 (va_rf (y.map nd)))) → G st' :=
  ⟨_, h.2.2.1 i hi, fun st' e => k st' (by rw [e]; exact h.putN hi (by unfold tE; simp [t_up]) (fun j hj => by unfold tE; simp [t_up, hj]))⟩
theorem TS.pC {G : g_St → Prop} {i : Nat} (h : TS st0 st tm n nd ka va L R P co rt sz mc x) (hi : i < n) (y : Int32) (k : ∀ st' : g_St, TS st0 st' tm n nd ka va L R P (t_up co i y) rt sz mc x → G st') : ∃ fs : List Value, st.2.1 (nd i) = some (.inr (4, fs)) ∧ ∀ st' : g_St, st' = g_put st (nd i) (.inr (4, fs.set 5 (.int y))) → G st' :=
  ⟨_, h.2.2.1 i hi, fun st' e => k st' (by rw [e]; exact h.putN hi (by unfold tE; simp [t_up]) (fun j hj => by unfold tE; simp [t_up, hj]))⟩
theorem TS.pT {G : g_St → Prop} (h : TS st0 st tm n nd ka va L R P co rt sz mc x) (y : Option Nat) (k : ∀ st' : g_St, TS st0 st' tm n nd ka va L R P co y sz mc x → G st') : ∃ fs : List Value, st.2.1 tm = some (.inr (3, fs)) ∧ ∀ st' : g_St, st' = g_put st tm (.inr (3, fs.set 3 (va_rf (y.map nd)))) → G st' :=
  ⟨_, h.2.1, fun st' e => k st' (by rw [e]; exact h.putT (by unfold tM; rfl))⟩
theorem TS.pS {G : g_St → Prop} (h : TS st0 st tm n nd ka va L R P co rt sz mc x) (y : Int32) (k : ∀ st' : g_St, TS st0 st' tm n nd ka va L R P co rt y mc x → G st') : ∃ fs : List Value, st.2.1 tm = some (.inr (3, fs)) ∧ ∀ st' : g_St, st' = g_put st tm (.inr (3, fs.set 4 (.int y))) → G st' :=
  ⟨_, h.2.1, fun st' e => k st' (by rw [e]; exact h.putT (by unfold tM; rfl))⟩
theorem TS.pM {G : g_St → Prop} (h : TS st0 st tm n nd ka va L R P co rt sz mc x) (y : Int32) (k : ∀ st' : g_St, TS st0 st' tm n nd ka va L R P co rt sz y x → G st') : ∃ fs : List Value, st.2.1 tm = some (.inr (3, fs)) ∧ ∀ st' : g_St, st' = g_put st tm (.inr (3, fs.set 5 (.int y))) → G st' :=
  ⟨_, h.2.1, fun st' e => k st' (by rw [e]; exact h.putT (by unfold tM; rfl))⟩
theorem om_some {nd : Nat → Nat} {o : Option Nat} {a : Nat} (h : o.map nd = some a) : ∃ i, o = some i ∧ a = nd i := by
  cases o with
  | none => cases h
  | some i => exact ⟨i, rfl, (Option.some.inj h).symm⟩
theorem om_none {nd : Nat → Nat} {o : Option Nat} (h : o.map nd = none) : o = none := by
  cases o with
  | none => rfl
  | some i => cases h
/-- parentOf, leftOf, rightOf, colorOf, setColor: null-safe -/
theorem ct_parentOf {o : Option Nat} {Q : Option Nat → g_St → Prop} (h : TS st0 st tm n nd ka va L R P co rt sz mc x) {o' : Option Nat} (ho : ∀ i, o = some i → i < n) (e' : o.bind P = o') (hq : Q (o'.map nd) st) : wp_J5_parentOf l E 0 0 [va_rf (o.map nd)] st Q := by
  subst e'
  refine wk_J5_parentOf ?_
  show _ ∧ _
  refine ⟨fun e => ?_, fun a e => ?_⟩
  · rw [om_none e] at hq
    exact hq
  · obtain ⟨i, rfl, rfl⟩ := om_some e
    exact ⟨_, h.gP (ho i rfl), hq⟩
theorem ct_leftOf {o : Option Nat} {Q : Option Nat → g_St → Prop} (h : TS st0 st tm n nd ka va L R P co rt sz mc x) {o' : Option Nat} (ho : ∀ i, o = some i → i < n) (e' : o.bind L = o') (hq : Q (o'.map nd) st) : wp_J5_leftOf l E 0 0 [va_rf (o.map nd)] st Q := by
  subst e'
  refine wk_J5_leftOf ?_
  show _ ∧ _
  refine ⟨fun e => ?_, fun a e => ?_⟩
  · rw [om_none e] at hq
    exact hq
  · obtain ⟨i, rfl, rfl⟩ := om_some e
    exact ⟨_, h.gL (ho i rfl), hq⟩
theorem ct_rightOf {o : Option Nat} {Q : Option Nat → g_St → Prop} (h : TS st0 st tm n nd ka va L R P co rt sz mc x) {o' : Option Nat} (ho : ∀ i, o = some i → i < n) (e' : o.bind R = o') (hq : Q (o'.map nd) st) : wp_J5_rightOf l E 0 0 [va_rf (o.map nd)] st Q := by
  subst e'
  refine wk_J5_rightOf ?_
  show _ ∧ _
  refine ⟨fun e => ?_, fun a e => ?_⟩
  · rw [om_none e] at hq
    exact hq
  · obtain ⟨i, rfl, rfl⟩ := om_some e
    exact ⟨_, h.gR (ho i rfl), hq⟩
/-- colours are booleans -/
def tB (co : Nat → Int32) : Prop := ∀ i, co i = nI 0 ∨ co i = nI 1
def tcol (co : Nat → Int32) (o : Option Nat) : Int32 := match o with
  | none => nI 1
  | some i => co i
theorem bnar {c : Int32} (h : c = nI 0 ∨ c = nI 1) : narrow .boolean (.int c) = .int c ∧ fits .boolean (.int c) = true := by
  rcases h with h | h <;> subst h <;> decide
theorem tcolB {o : Option Nat} (hB : tB co) : tcol co o = nI 0 ∨ tcol co o = nI 1 := by
  cases o with
  | none => exact Or.inr rfl
  | some i => exact hB i
theorem ct_colorOf {o : Option Nat} {Q : Int32 → g_St → Prop} (h : TS st0 st tm n nd ka va L R P co rt sz mc x) (ho : ∀ i, o = some i → i < n) (hB : tB co) (hq : Q (tcol co o) st) : wp_J5_colorOf l E 0 0 [va_rf (o.map nd)] st Q := by
  refine wk_J5_colorOf ?_
  show _ ∧ _
  refine ⟨fun e => ?_, fun a e => ?_⟩
  · rw [om_none e] at hq
    exact ⟨rfl, hq⟩
  · obtain ⟨i, rfl, rfl⟩ := om_some e
    exact ⟨_, h.gC (ho i rfl), (bnar (hB i)).1, hq⟩
def tset (co : Nat → Int32) (o : Option Nat) (c : Int32) : Nat → Int32 := match o with
  | none => co
  | some i => t_up co i c
theorem tsetB {o : Option Nat} {c : Int32} (hB : tB co) (hc : c = nI 0 ∨ c = nI 1) : tB (tset co o c) := by
  intro j
  cases o with
  | none => exact hB j
  | some i =>
    show t_up co i c j = nI 0 ∨ t_up co i c j = nI 1
    by_cases e : j = i
    · rw [e, t_up_s]; exact hc
    · rw [t_up_n e]; exact hB j
theorem ct_setColor {o : Option Nat} {c : Int32} {Q : g_St → Prop} (h : TS st0 st tm n nd ka va L R P co rt sz mc x) (ho : ∀ i, o = some i → i < n) (hc : c = nI 0 ∨ c = nI 1) (hq : ∀ st' : g_St, TS st0 st' tm n nd ka va L R P (tset co o c) rt sz mc x → Q st') : wp_J5_setColor l E 0 0 [va_rf (o.map nd), .int c] st Q := by
  refine wk_J5_setColor ?_
  show _ ∧ _
  refine ⟨fun e => ?_, fun a e => ?_⟩
  · rw [om_none e] at hq
    exact hq st h
  · obtain ⟨i, rfl, rfl⟩ := om_some e
    exact ⟨bnar hc, h.pC (ho i rfl) c fun st' h' => hq st' h'⟩
end GT2
