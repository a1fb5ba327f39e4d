/-! MODEL 6: lists of words, up to their order -/
section GMD6
variable {us ws vs : wL} {t s : List Nat}
theorem Sd.lt (hs : Sd ws) {i j : Nat} (h : i < j) (hj : j < ws.length) : kk ws i < kk ws j := by
  have := List.pairwise_iff_getElem.mp hs i j (by omega) hj h
  rw [kk_q, kk_q, List.getElem?_eq_getElem (by omega), List.getElem?_eq_getElem hj]
  exact this
/-- the least row behind all that begin with t -/
def bh (t : List Nat) : List Nat := t ++ [103]
theorem pre_iff {u : List Nat} (hu : sgs u) : lcp u t = t.length ↔ ¬ u < t ∧ u < bh t := by
  unfold bh
  induction t generalizing u with
  | nil =>
    rw [lcp_nil]
    refine ⟨fun _ => ⟨List.not_lt_nil _, ?_⟩, fun _ => rfl⟩
    cases u with
    | nil => exact List.nil_lt_cons _ _
    | cons x us =>
      have := (hu x List.mem_cons_self).2
      exact List.cons_lt_cons_iff.mpr (Or.inl (by omega))
  | cons y ts ih =>
    cases u with
    | nil =>
      refine ⟨fun h => ?_, fun h => absurd (List.nil_lt_cons _ _) h.1⟩
      have h : 0 = ts.length + 1 := h
      omega
    | cons x us =>
      have hu2 : sgs us := fun c hc => hu c (List.mem_cons_of_mem _ hc)
      have e : lcp (x :: us) (y :: ts) = if x = y then lcp us ts + 1 else 0 := rfl
      rw [e, List.cons_append, List.cons_lt_cons_iff, List.cons_lt_cons_iff, List.length_cons]
      by_cases z : x = y
      · rw [if_pos z]
        have := ih hu2
        constructor
        · intro h
          have k := this.mp (by omega)
          refine ⟨?_, Or.inr ⟨z, k.2⟩⟩
          rintro (w | ⟨_, w⟩)
          · omega
          · exact k.1 w
        · rintro ⟨h1, h2⟩
          have h3 : us < ts ++ [103] := by
            rcases h2 with w | ⟨_, w⟩
            · omega
            · exact w
          have := this.mpr ⟨fun w => h1 (Or.inr ⟨z, w⟩), h3⟩
          omega
      · rw [if_neg z]
        refine ⟨fun h => by omega, fun ⟨h1, h2⟩ => ?_⟩
        rcases h2 with w | ⟨w, _⟩
        · exact absurd (Or.inl w) h1
        · exact absurd w z
theorem lt_bh : t < bh t := by
  unfold bh
  induction t with
  | nil => exact List.nil_lt_cons _ _
  | cons y ts ih => exact List.cons_lt_cons_iff.mpr (Or.inr ⟨rfl, ih⟩)
/-- how many begin with t -/
def nB (t : List Nat) (us : wL) : Nat := us.countP (fun u => decide (lcp u.1 t = t.length))
theorem nB_pm (hp : us.Perm ws) : nB t us = nB t ws := hp.countP_eq _
theorem nB_1 {u : List Nat × Nat} : nB t (us ++ [u]) = nB t us + if lcp u.1 t = t.length then 1 else 0 := by
  unfold nB
  rw [List.countP_append, List.countP_singleton]
  simp
theorem nB_c {u : List Nat × Nat} : nB t (u :: us) = nB t us + if lcp u.1 t = t.length then 1 else 0 := by
  unfold nB
  rw [List.countP_cons]
  simp
theorem nB_cnt (h : ∀ u ∈ us, sgs u.1) : nB t us + cnt t us = cnt (bh t) us := by
  induction us with
  | nil => rfl
  | cons u us ih =>
    have k := ih (fun v hv => h v (List.mem_cons_of_mem _ hv))
    have e := pre_iff (t := t) (h u List.mem_cons_self)
    rw [nB_c, cnt_c, cnt_c]
    by_cases z : u.1 < t
    · rw [if_neg (fun w => (e.mp w).1 z), if_pos z, if_pos (ll_tr z lt_bh)]
      omega
    · by_cases y : u.1 < bh t
      · rw [if_pos (e.mpr ⟨z, y⟩), if_neg z, if_pos y]
        omega
      · rw [if_neg (fun w => y (e.mp w).2), if_neg z, if_neg y]
        omega
/-- those that begin with t and are less than k -/
def nBk (t k : List Nat) (us : wL) : Nat := us.countP (fun u => decide (lcp u.1 t = t.length ∧ u.1 < k))
theorem nBk_1 {k : List Nat} {u : List Nat × Nat} : nBk t k (us ++ [u]) = nBk t k us + if lcp u.1 t = t.length ∧ u.1 < k then 1 else 0 := by
  unfold nBk
  rw [List.countP_append, List.countP_singleton]
  simp
theorem nBk_cnt {k : List Nat} (h : ∀ u ∈ us, sgs u.1) (hk : sgs k) (hpk : lcp k t = t.length) : nBk t k us + cnt t us = cnt k us := by
  have hk2 := (pre_iff (t := t) hk).mp hpk
  have htk : t < k ∨ t = k := by
    rcases ll_tri t k with w | w | w
    · exact Or.inl w
    · exact Or.inr w
    · exact absurd w hk2.1
  induction us with
  | nil => rfl
  | cons u us ih =>
    have q := ih (fun v hv => h v (List.mem_cons_of_mem _ hv))
    have e := pre_iff (t := t) (h u List.mem_cons_self)
    have e1 : nBk t k (u :: us) = nBk t k us + if lcp u.1 t = t.length ∧ u.1 < k then 1 else 0 := by
      unfold nBk
      rw [List.countP_cons]
      simp
    rw [e1, cnt_c, cnt_c]
    by_cases z : u.1 < t
    · have z2 : u.1 < k := by
        rcases htk with w | w
        · exact ll_tr z w
        · rw [← w]; exact z
      rw [if_neg (fun w => (e.mp w.1).1 z), if_pos z, if_pos z2]
      omega
    · by_cases y : u.1 < k
      · rw [if_pos ⟨e.mpr ⟨z, ll_tr y hk2.2⟩, y⟩, if_neg z, if_pos y]
        omega
      · rw [if_neg (fun w => y w.2), if_neg z, if_neg y]
        omega
/-- the numbers of those that begin with t -/
def sB (t : List Nat) : wL → Nat
  | [] => 0
  | u :: us => (if lcp u.1 t = t.length then u.2 else 0) + sB t us
theorem sB_app : sB t (us ++ vs) = sB t us + sB t vs := by
  induction us with
  | nil => show sB t vs = 0 + sB t vs; omega
  | cons u us ih =>
    show (if lcp u.1 t = t.length then u.2 else 0) + sB t (us ++ vs) = (if lcp u.1 t = t.length then u.2 else 0) + sB t us + sB t vs
    rw [ih]
    omega
theorem sB_pm (hp : us.Perm ws) : sB t us = sB t ws := by
  induction hp with
  | nil => rfl
  | cons x _ ih =>
    show _ + _ = _ + _
    rw [ih]
  | swap x y l =>
    show _ + (_ + _) = _ + (_ + _)
    omega
  | trans _ _ h1 h2 => exact h1.trans h2
theorem sB_le (h : ∀ u ∈ us, u.2 ≤ 999) : sB t us ≤ 999 * us.length := by
  induction us with
  | nil => exact Nat.zero_le _
  | cons u us ih =>
    have k := ih (fun v hv => h v (List.mem_cons_of_mem _ hv))
    have := h u List.mem_cons_self
    show (if lcp u.1 t = t.length then u.2 else 0) + sB t us ≤ 999 * (us.length + 1)
    split <;> omega
/-- the longest word with which s begins -/
def lgX (s : List Nat) : wL → Nat
  | [] => 0
  | u :: us => Nat.max (if lcp u.1 s = u.1.length then u.1.length else 0) (lgX s us)
theorem lgX_app : lgX s (us ++ vs) = Nat.max (lgX s us) (lgX s vs) := by
  induction us with
  | nil => show lgX s vs = Nat.max 0 (lgX s vs); exact (Nat.zero_max _).symm
  | cons u us ih =>
    show Nat.max _ (lgX s (us ++ vs)) = Nat.max (Nat.max _ (lgX s us)) (lgX s vs)
    rw [ih]
    exact (Nat.max_assoc _ _ _).symm
theorem lgX_pm (hp : us.Perm ws) : lgX s us = lgX s ws := by
  induction hp with
  | nil => rfl
  | cons x _ ih =>
    show Nat.max _ _ = Nat.max _ _
    rw [ih]
  | swap x y l =>
    show Nat.max _ (Nat.max _ _) = Nat.max _ (Nat.max _ _)
    exact Nat.max_left_comm _ _ _
  | trans _ _ h1 h2 => exact h1.trans h2
theorem mx_if (a b : Nat) : Nat.max a b = if a < b then b else a := by
  show (if a ≤ b then b else a) = _
  split <;> split <;> omega
theorem lgX_1 {u : List Nat × Nat} : lgX s (us ++ [u]) = if lcp u.1 s = u.1.length ∧ lgX s us < u.1.length then u.1.length else lgX s us := by
  rw [lgX_app]
  show Nat.max (lgX s us) (Nat.max (if lcp u.1 s = u.1.length then u.1.length else 0) 0) = _
  simp only [mx_if]
  grind
theorem lgX_le (h : ∀ u ∈ us, u.1.length ≤ 10) : lgX s us ≤ 10 ∧ lgX s us ≤ s.length := by
  induction us with
  | nil => exact ⟨Nat.zero_le _, Nat.zero_le _⟩
  | cons u us ih =>
    have k := ih (fun v hv => h v (List.mem_cons_of_mem _ hv))
    have := h u List.mem_cons_self
    have e2 := lcp_le2 u.1 s
    show Nat.max _ _ ≤ 10 ∧ Nat.max _ _ ≤ s.length
    simp only [mx_if]
    grind
/-- the most signs that a word has in common with t -/
def shX (t : List Nat) : wL → Nat
  | [] => 0
  | u :: us => Nat.max (lcp u.1 t) (shX t us)
theorem shX_app : shX t (us ++ vs) = Nat.max (shX t us) (shX t vs) := by
  induction us with
  | nil => show shX t vs = Nat.max 0 (shX t vs); exact (Nat.zero_max _).symm
  | cons u us ih =>
    show Nat.max _ (shX t (us ++ vs)) = Nat.max (Nat.max _ (shX t us)) (shX t vs)
    rw [ih]
    exact (Nat.max_assoc _ _ _).symm
theorem shX_pm (hp : us.Perm ws) : shX t us = shX t ws := by
  induction hp with
  | nil => rfl
  | cons x _ ih =>
    show Nat.max _ _ = Nat.max _ _
    rw [ih]
  | swap x y l =>
    show Nat.max _ (Nat.max _ _) = Nat.max _ (Nat.max _ _)
    exact Nat.max_left_comm _ _ _
  | trans _ _ h1 h2 => exact h1.trans h2
theorem shX_1 {u : List Nat × Nat} : shX t (us ++ [u]) = if shX t us < lcp u.1 t then lcp u.1 t else shX t us := by
  rw [shX_app, show shX t [u] = lcp u.1 t from Nat.max_zero _]
  exact mx_if _ _
theorem shX_le : shX t us ≤ t.length := by
  induction us with
  | nil => exact Nat.zero_le _
  | cons u us ih =>
    have := lcp_le2 u.1 t
    show Nat.max _ _ ≤ _
    rw [mx_if]
    split <;> omega
/-- the most signs that two words have in common -/
def twX : wL → Nat
  | [] => 0
  | u :: us => Nat.max (shX u.1 us) (twX us)
theorem shX_sw {a b : List Nat × Nat} {l : wL} : twX (a :: b :: l) = twX (b :: a :: l) := by
  show Nat.max (Nat.max (lcp b.1 a.1) (shX a.1 l)) (Nat.max (shX b.1 l) (twX l)) = Nat.max (Nat.max (lcp a.1 b.1) (shX b.1 l)) (Nat.max (shX a.1 l) (twX l))
  rw [lcp_sym b.1 a.1]
  simp only [mx_if]
  grind
theorem twX_pm (hp : us.Perm ws) : twX us = twX ws := by
  induction hp with
  | nil => rfl
  | cons x h ih =>
    show Nat.max _ _ = Nat.max _ _
    rw [ih, shX_pm h]
  | swap x y l => exact shX_sw
  | trans _ _ h1 h2 => exact h1.trans h2
theorem twX_1 {u : List Nat × Nat} : twX (us ++ [u]) = Nat.max (twX us) (shX u.1 us) := by
  have hp : (us ++ [u]).Perm (u :: us) := List.perm_append_comm
  rw [twX_pm hp]
  show Nat.max _ _ = Nat.max _ _
  exact Nat.max_comm _ _
theorem twX_le (h : ∀ u ∈ us, u.1.length ≤ 10) : twX us ≤ 10 := by
  induction us with
  | nil => exact Nat.zero_le _
  | cons u us ih =>
    have k := ih (fun v hv => h v (List.mem_cons_of_mem _ hv))
    have e := shX_le (t := u.1) (us := us)
    have := h u List.mem_cons_self
    show Nat.max _ _ ≤ _
    rw [mx_if]
    split <;> omega
theorem insS_pm0 {v : Nat} (h : ∀ w ∈ ws, w.1 ≠ t) : (insS t v ws).Perm ((t, v) :: ws) := by
  induction ws with
  | nil => exact List.Perm.refl _
  | cons w ws ih =>
    have k := ih (fun x hx => h x (List.mem_cons_of_mem _ hx))
    unfold insS
    split
    · exact (k.cons w).trans (List.Perm.swap _ _ _)
    · split
      · exact List.Perm.refl _
      · rename_i z1 z2
        exfalso
        rcases ll_tri w.1 t with z | z | z
        · exact z1 z
        · exact h w List.mem_cons_self z
        · exact z2 z
theorem er_p {α : Type} {l : List α} {n : Nat} (h : n < l.length) : (l[n] :: l.eraseIdx n).Perm l := by
  induction l generalizing n with
  | nil => exact absurd h (Nat.not_lt_zero _)
  | cons x l ih =>
    cases n with
    | zero => exact List.Perm.refl _
    | succ n =>
      have k := ih (n := n) (by rw [List.length_cons] at h; omega)
      exact (List.Perm.swap _ _ _).trans (k.cons x)
theorem set_p {α : Type} {l : List α} {n : Nat} {a : α} (h : n < l.length) : (l.set n a).Perm (a :: l.eraseIdx n) := by
  induction l generalizing n with
  | nil => exact absurd h (Nat.not_lt_zero _)
  | cons x l ih =>
    cases n with
    | zero => exact List.Perm.refl _
    | succ n =>
      have k := ih (n := n) (by rw [List.length_cons] at h; omega)
      exact (k.cons x).trans (List.Perm.swap _ _ _)
theorem gz_pm {w : Nat} (hw : w < us.length) : us.Perm ((kk us w, vv us w) :: gz us w) := by
  have hl : us.length - 1 < us.length := by omega
  have e1 : gz us w ++ [(kk us (us.length - 1), vv us (us.length - 1))] = us.set w (kk us (us.length - 1), vv us (us.length - 1)) := by
    have h2 := tk1 (us := us.set w (kk us (us.length - 1), vv us (us.length - 1))) (w := us.length - 1) (by rw [List.length_set]; exact hl)
    rw [List.take_of_length_le (by rw [List.length_set]; omega)] at h2
    have e3 : (kk (us.set w (kk us (us.length - 1), vv us (us.length - 1))) (us.length - 1), vv (us.set w (kk us (us.length - 1), vv us (us.length - 1))) (us.length - 1)) = (kk us (us.length - 1), vv us (us.length - 1)) := by
      rw [kk_q (ws := us.set _ _), vv_q (ws := us.set _ _), List.getElem?_set]
      by_cases z : w = us.length - 1
      · rw [if_pos z, if_pos hw]
        rfl
      · rw [if_neg z, ← kk_q, ← vv_q]
    rw [e3] at h2
    exact h2.symm
  have e2 : (us.set w (kk us (us.length - 1), vv us (us.length - 1))).Perm ((kk us (us.length - 1), vv us (us.length - 1)) :: us.eraseIdx w) := set_p hw
  have e4 : (us[w] :: us.eraseIdx w).Perm us := er_p hw
  have e5 : us[w] = (kk us w, vv us w) := by
    rw [kk_q, vv_q, List.getElem?_eq_getElem hw]
    rfl
  rw [e5] at e4
  rw [← e1] at e2
  have e6 : ((kk us (us.length - 1), vv us (us.length - 1)) :: gz us w).Perm ((kk us (us.length - 1), vv us (us.length - 1)) :: us.eraseIdx w) := List.perm_append_comm.trans e2
  exact e4.symm.trans ((List.Perm.cons_inv e6).symm.cons _)
theorem er_pm {i : Nat} (hi : i < ws.length) : ws.Perm ((kk ws i, vv ws i) :: ws.eraseIdx i) := by
  have e4 : (ws[i] :: ws.eraseIdx i).Perm ws := er_p hi
  have e5 : ws[i] = (kk ws i, vv ws i) := by
    rw [kk_q, vv_q, List.getElem?_eq_getElem hi]
    rfl
  rw [e5] at e4
  exact e4.symm
end GMD6
