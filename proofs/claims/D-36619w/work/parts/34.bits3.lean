/-! BITS 3: Long.numberOfTrailingZeros -/
section GBITS3
variable {l : Launch} {E : g_E} {st : g_St}
theorem bt_odd {r r' q q' : Nat} (h : 2 ^ r * (2 * q + 1) = 2 ^ r' * (2 * q' + 1)) : r = r' := by
  rcases Nat.lt_trichotomy r r' with h1 | h1 | h1
  · obtain ⟨z, rfl⟩ : ∃ z, r' = r + (z + 1) := ⟨r' - r - 1, by omega⟩
    rw [Nat.pow_add, Nat.mul_assoc] at h
    have := Nat.eq_of_mul_eq_mul_left (Nat.two_pow_pos r) h
    rw [Nat.pow_succ, Nat.mul_comm (2 ^ z) 2, Nat.mul_assoc] at this
    omega
  · exact h1
  · obtain ⟨z, rfl⟩ : ∃ z, r = r' + (z + 1) := ⟨r - r' - 1, by omega⟩
    rw [Nat.pow_add, Nat.mul_assoc] at h
    have := Nat.eq_of_mul_eq_mul_left (Nat.two_pow_pos r') h
    rw [Nat.pow_succ, Nat.mul_comm (2 ^ z) 2, Nat.mul_assoc] at this
    omega
theorem bt_lo {r q : Nat} (hr : r < 32) : ∃ q', (2 ^ r * (2 * q + 1)) % 2 ^ 32 = 2 ^ r * (2 * q' + 1) := by
  obtain ⟨z, hz⟩ : ∃ z, 32 = r + (z + 1) := ⟨31 - r, by omega⟩
  refine ⟨q % 2 ^ z, ?_⟩
  rw [hz, Nat.pow_add, Nat.mul_mod_mul_left]
  congr 1
  rw [Nat.pow_succ, Nat.mul_comm (2 ^ z) 2]
  have h1 := Nat.mod_add_div q (2 ^ z)
  have h2 : q % 2 ^ z < 2 ^ z := Nat.mod_lt _ (Nat.two_pow_pos z)
  rw [show 2 * q + 1 = (2 * (q % 2 ^ z) + 1) + 2 * 2 ^ z * (q / 2 ^ z) by
    rw [Nat.mul_assoc]
    generalize hA : 2 ^ z * (q / 2 ^ z) = A at h1 ⊢
    omega]
  rw [Nat.add_mul_mod_self_left, Nat.mod_eq_of_lt (by omega)]
theorem bt_hi {r q : Nat} (hr : 32 ≤ r) : (2 ^ r * (2 * q + 1)) % 2 ^ 32 = 0 ∧ (2 ^ r * (2 * q + 1)) / 2 ^ 32 = 2 ^ (r - 32) * (2 * q + 1) := by
  obtain ⟨z, rfl⟩ : ∃ z, r = 32 + z := ⟨r - 32, by omega⟩
  rw [Nat.pow_add, Nat.mul_assoc]
  refine ⟨Nat.mul_mod_right _ _, ?_⟩
  rw [Nat.mul_div_cancel_left _ (Nat.two_pow_pos 32), show 32 + z - 32 = z by omega]
theorem bt_i32 (p : Int64) : p.toInt32.toBitVec.toNat = p.toBitVec.toNat % 2 ^ 32 := by
  rw [Int64.toBitVec_toInt32, BitVec.signExtend_eq_setWidth_of_le _ (by decide), BitVec.toNat_setWidth]
theorem bt_sh (p : Int64) : ((p.toUInt64 >>> ((nI 32).toInt64.toUInt64 &&& Int64.toUInt64 63)).toInt64).toBitVec.toNat = p.toBitVec.toNat / 2 ^ 32 := by
  have e : ((nI 32).toInt64.toUInt64 &&& Int64.toUInt64 63) = 32 := by decide
  rw [e]
  show (p.toUInt64 >>> 32).toNat = _
  rw [UInt64.toNat_shiftRight]
  show p.toUInt64.toNat >>> (32 % 64) = _
  rw [Nat.shiftRight_eq_div_pow]
  rfl
theorem ct_J26_ntz {p : Int64} {r q : Nat} {Q : Int32 → g_St → Prop} (h : p.toBitVec.toNat = 2 ^ r * (2 * q + 1)) (hr : r < 64) (hq : Q (nI r) st) : wp_J26_numberOfTrailingZeros l E 0 0 [.long p] st Q := by
  refine wk_J26_numberOfTrailingZeros ?_
  refine g_jn1_i (fun x => x = nI r) (fun x hx => by subst hx; exact hq) (fun K hK => ⟨fun h0 => ?_, fun h0 => ?_⟩)
  · rcases Nat.lt_or_ge r 32 with h1 | h1
    · obtain ⟨q', e⟩ := bt_lo (q := q) h1
      exact ct_J14_ntz (r := r) (q := q') (by rw [bt_i32, h, e]) h1 ⟨rfl, hK _ rfl⟩
    · refine absurd ?_ h0
      apply Int32.toBitVec_inj.mp
      apply BitVec.eq_of_toNat_eq
      rw [bt_i32, h, (bt_hi h1).1]
      rfl
  · have h1 : 32 ≤ r := by
      rcases Nat.lt_or_ge r 32 with h1 | h1
      · obtain ⟨q', e⟩ := bt_lo (q := q) h1
        have e2 : p.toInt32.toBitVec.toNat = 0 := by rw [h0]; rfl
        rw [bt_i32, h, e] at e2
        have := Nat.mul_pos (Nat.two_pow_pos r) (show 0 < 2 * q' + 1 by omega)
        omega
      · exact h1
    have hlt : p.toBitVec.toNat < 2 ^ 64 := p.toBitVec.isLt
    refine ct_J14_ntz (r := r - 32) (q := q) ?_ (by omega) ⟨rfl, hK _ ?_⟩
    · rw [bt_i32, bt_sh, Nat.mod_eq_of_lt (by omega), h, (bt_hi h1).2]
    · rw [nI_add, show 32 + (r - 32) = r by omega]
end GBITS3
