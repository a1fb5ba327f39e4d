/-! BITS: the lowest bit that is set -/
section GBITS
/-- the number of trailing zeros, below N -/
theorem bt_low {x : Nat} (hx : x ≠ 0) : ∃ r q : Nat, x = 2 ^ r * (2 * q + 1) := by
  induction x using Nat.strongRecOn with
  | _ x ih =>
    rcases Nat.mod_two_eq_zero_or_one x with h | h
    · obtain ⟨r, q, e⟩ := ih (x / 2) (by omega) (by omega)
      refine ⟨r + 1, q, ?_⟩
      have : x = 2 * (x / 2) := by omega
      rw [this, e, Nat.pow_succ]
      rw [Nat.mul_comm (2 ^ r) 2, Nat.mul_assoc]
    · exact ⟨0, x / 2, by omega⟩
theorem bt_bit {r q j : Nat} : (2 ^ r * (2 * q + 1)).testBit j = (if j < r then false else (2 * q + 1).testBit (j - r)) := by
  have h := Nat.testBit_two_pow_mul_add (2 * q + 1) (Nat.two_pow_pos r) j
  rw [Nat.add_zero] at h
  rw [h]
  split <;> simp
theorem bt_pred {r q j : Nat} : (2 ^ r * (2 * q + 1) - 1).testBit j = (if j < r then true else (2 * q).testBit (j - r)) := by
  have hp := Nat.two_pow_pos r
  have e : 2 ^ r * (2 * q + 1) - 1 = 2 ^ r * (2 * q) + (2 ^ r - 1) := by
    rw [Nat.mul_add, Nat.mul_one]
    omega
  rw [e, Nat.testBit_two_pow_mul_add _ (by omega)]
  split
  · rename_i h
    rw [Nat.testBit_two_pow_sub_one]
    simp [h]
  · rfl
/-- ~x & (x - 1) -/
theorem bt_mask {r q : Nat} (h : 2 ^ r * (2 * q + 1) < 2 ^ 32) : (2 ^ 32 - 1 - 2 ^ r * (2 * q + 1)) &&& (2 ^ r * (2 * q + 1) - 1) = 2 ^ r - 1 := by
  refine Nat.eq_of_testBit_eq fun j => ?_
  rw [Nat.testBit_and, bt_pred, Nat.testBit_two_pow_sub_one]
  have hc : (2 ^ 32 - 1 - 2 ^ r * (2 * q + 1)).testBit j = (decide (j < 32) && !(2 ^ r * (2 * q + 1)).testBit j) := by
    rw [show 2 ^ 32 - 1 - 2 ^ r * (2 * q + 1) = 2 ^ 32 - (2 ^ r * (2 * q + 1) + 1) by omega]
    exact Nat.testBit_two_pow_sub_succ h j
  rw [hc, bt_bit]
  have hr : r < 32 := by
    rcases Nat.lt_or_ge r 32 with h' | h'
    · exact h'
    · have := Nat.pow_le_pow_right (show 0 < 2 by decide) h'
      have h2 : 2 ^ r * 1 ≤ 2 ^ r * (2 * q + 1) := Nat.mul_le_mul_left _ (by omega)
      omega
  by_cases hj : j < r
  · simp [hj, show j < 32 by omega]
  · rcases Nat.lt_or_ge r j with hj2 | hj2
    · obtain ⟨z, rfl⟩ : ∃ z, j = r + (z + 1) := ⟨j - r - 1, by omega⟩
      have e1 : (2 * q + 1).testBit (r + (z + 1) - r) = q.testBit z := by
        rw [show r + (z + 1) - r = z + 1 by omega, Nat.testBit_succ, show (2 * q + 1) / 2 = q by omega]
      have e2 : (2 * q).testBit (r + (z + 1) - r) = q.testBit z := by
        rw [show r + (z + 1) - r = z + 1 by omega, Nat.testBit_succ, show (2 * q) / 2 = q by omega]
      rw [if_neg hj, if_neg hj, e1, e2]
      cases q.testBit z <;> simp
      
    · have e : j = r := by omega
      subst e
      simp
end GBITS
