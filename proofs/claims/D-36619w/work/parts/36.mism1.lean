/-! MISMATCH 1: aligned reads -/
section GM1
variable {l : Launch} {E : g_E} {st : g_St}
theorem mi_al7 : ∀ j : Nat, j < 16 → lg_cmp (Int64.ofNat (16 + 8 * j) &&& 7) 0 = 0 := by decide +kernel
theorem mi_al3 : ∀ j : Nat, j < 16 → lg_cmp (Int64.ofNat (16 + 8 * j) &&& 3) 0 = 0 := by decide +kernel
theorem mi_off : ∀ j : Nat, j < 16 → (nI 16).toInt64 + (((nI j).toInt64) <<< ((nI 3).toInt64 &&& 63)) = Int64.ofNat (16 + 8 * j) := by decide +kernel
theorem mi_div : ∀ n : Nat, n < 128 → nI n >>> ((nI 3 - nI 0) &&& 31) = nI (n / 8) := by decide +kernel
theorem mi_mul : ∀ j : Nat, j < 16 → nI j <<< ((nI 3 - nI 0) &&& 31) = nI (8 * j) := by decide +kernel
theorem mi_r8 : ∀ r : Nat, r < 64 → nI r >>> ((nI 3 + nI 0) &&& 31) = nI (r / 8) := by decide +kernel
theorem mi_4 : nI 1 <<< ((nI 2 - nI 0) &&& 31) = nI 4 := by decide +kernel
theorem mi_cmp {x y : Int64} (h : lg_cmp x y = 0) : x = y := by
  unfold lg_cmp at h
  split at h
  · exact absurd h (by decide)
  · split at h
    · assumption
    · exact absurd h (by decide)
theorem ct_J25_getLong {a v n j : Nat} {f : Nat → Int32} {Q : Int64 → g_St → Prop} (hu : some a = E.2.2.2.2.1 5) (h : g_ai st v 1 n f) (hj : j < 16) (hn : 8 * j + 8 ≤ n ∧ n < 2 ^ 31) (hq : Q (g_getLv f (8 * j)) st) : wp_J25_getLongUnaligned l E 0 0 [va_rf (some a), va_rf (some v), .long (Int64.ofNat (16 + 8 * j))] st Q := by
  refine wk_J25_getLongUnaligned ?_
  refine ⟨fun e => absurd (mi_al7 j hj) e, fun _ => ⟨v, rfl, n, f, 8 * j, h, hu, ⟨rfl, ⟨hn.1, by omega⟩, hn.2⟩, fun y e => ?_⟩⟩
  rw [e]
  exact hq
theorem ct_J25_getInt {a v n j : Nat} {f : Nat → Int32} {Q : Int32 → g_St → Prop} (hu : some a = E.2.2.2.2.1 5) (h : g_ai st v 1 n f) (hj : j < 16) (hn : 8 * j + 4 ≤ n ∧ 8 ≤ n ∧ n < 2 ^ 31) (hq : Q (g_getIv f (8 * j)) st) : wp_J25_getIntUnaligned l E 0 0 [va_rf (some a), va_rf (some v), .long (Int64.ofNat (16 + 8 * j))] st Q := by
  refine wk_J25_getIntUnaligned ?_
  refine ⟨fun e => absurd (mi_al3 j hj) e, fun _ => ⟨v, rfl, n, f, 8 * j, h, hu, ⟨rfl, ⟨hn.1, hn.2.1⟩, hn.2.2⟩, fun y e => ?_⟩⟩
  rw [e]
  exact hq
theorem mi_Lv (f : Nat → Int32) (j : Nat) : (g_getLv f j).toBitVec.toNat = g_pk f j 8 := by
  have h := gpk_lt f 8 j
  show ((g_pk f j 8).toUInt64).toNat = _
  rw [show (g_pk f j 8).toUInt64 = UInt64.ofNat (g_pk f j 8) from rfl, UInt64.toNat_ofNat', Nat.mod_eq_of_lt h]
theorem mi_Iv (f : Nat → Int32) (j : Nat) : (g_getIv f j).toBitVec.toNat = g_pk f j 4 := by
  have h := gpk_lt f 4 j
  show ((g_pk f j 4).toUInt32).toNat = _
  rw [show (g_pk f j 4).toUInt32 = UInt32.ofNat (g_pk f j 4) from rfl, UInt32.toNat_ofNat', Nat.mod_eq_of_lt h]
theorem mi_Leq {f g : Nat → Int32} {j j' : Nat} : g_getLv f j = g_getLv g j' ↔ g_pk f j 8 = g_pk g j' 8 := by
  rw [← mi_Lv, ← mi_Lv]
  exact ⟨fun h => by rw [h], fun h => Int64.toBitVec_inj.mp (BitVec.eq_of_toNat_eq h)⟩
theorem mi_Ieq {f g : Nat → Int32} {j j' : Nat} : g_getIv f j = g_getIv g j' ↔ g_pk f j 4 = g_pk g j' 4 := by
  rw [← mi_Iv, ← mi_Iv]
  exact ⟨fun h => by rw [h], fun h => Int32.toBitVec_inj.mp (BitVec.eq_of_toNat_eq h)⟩
theorem mi_Lx (f g : Nat → Int32) (j j' : Nat) : (g_getLv f j ^^^ g_getLv g j').toBitVec.toNat = g_pk f j 8 ^^^ g_pk g j' 8 := by
  rw [Int64.toBitVec_xor, BitVec.toNat_xor, mi_Lv, mi_Lv]
theorem mi_Ix (f g : Nat → Int32) (j j' : Nat) : (g_getIv f j ^^^ g_getIv g j').toBitVec.toNat = g_pk f j 4 ^^^ g_pk g j' 4 := by
  rw [Int32.toBitVec_xor, BitVec.toNat_xor, mi_Iv, mi_Iv]
end GM1
