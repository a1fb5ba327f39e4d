/-! BITS 2: Integer.numberOfTrailingZeros -/
section GBITS2
variable {l : Launch} {E : g_E} {st : g_St}
theorem bt_y {p : Int32} {r q : Nat} (h : p.toBitVec.toNat = 2 ^ r * (2 * q + 1)) : (p ^^^ (-1)) &&& (p - nI 1) = nI (2 ^ r - 1) := by
  have hlt : p.toBitVec.toNat < 2 ^ 32 := p.toBitVec.isLt
  have h1 : 1 ≤ p.toBitVec.toNat := by
    rw [h]
    exact Nat.mul_pos (Nat.two_pow_pos r) (by omega)
  apply Int32.toBitVec_inj.mp
  apply BitVec.eq_of_toNat_eq
  have e1 : (p ^^^ (-1)).toBitVec.toNat = 2 ^ 32 - 1 - p.toBitVec.toNat := by
    have : (p ^^^ (-1)).toBitVec = ~~~ p.toBitVec := by
      rw [Int32.toBitVec_xor]
      rw [show (-1 : Int32).toBitVec = BitVec.allOnes 32 by decide]
      exact BitVec.xor_allOnes
    rw [this, BitVec.toNat_not]
  have e2 : (p - nI 1).toBitVec.toNat = p.toBitVec.toNat - 1 := by
    rw [Int32.toBitVec_sub, BitVec.toNat_sub, show (nI 1).toBitVec.toNat = 1 by decide]
    omega
  rw [Int32.toBitVec_and, BitVec.toNat_and, e1, e2, h, bt_mask (by rw [← h]; exact hlt)]
  show _ = (Int32.ofNat (2 ^ r - 1)).toBitVec.toNat
  have hr : 2 ^ r - 1 < 2 ^ 32 := by
    have h2 : 2 ^ r * 1 ≤ 2 ^ r * (2 * q + 1) := Nat.mul_le_mul_left _ (by omega)
    omega
  show 2 ^ r - 1 = (BitVec.ofNat 32 (2 ^ r - 1)).toNat
  rw [BitVec.toNat_ofNat, Nat.mod_eq_of_lt hr]
def bz (b s : Nat) (p : Int32 × Int32) : Int32 × Int32 := if p.1 ≤ nI b then p else ((p.1.toUInt32 >>> ((nI s).toUInt32 &&& Int32.toUInt32 31)).toInt32, p.2 + nI s)
theorem bz_all : ∀ r : Nat, r < 32 → 0 < nI (2 ^ r - 1) → (bz 4 2 (bz 16 4 (bz 256 8 (bz 65536 16 (nI (2 ^ r - 1), nI 1))))).2 + (((bz 4 2 (bz 16 4 (bz 256 8 (bz 65536 16 (nI (2 ^ r - 1), nI 1))))).1.toUInt32 >>> ((nI 1).toUInt32 &&& Int32.toUInt32 31)).toInt32) = nI r := by decide +kernel
theorem bz_0 : ∀ r : Nat, r < 32 → ¬ 0 < nI (2 ^ r - 1) → nI (2 ^ r - 1) &&& nI 32 = nI r := by decide +kernel
theorem ct_J14_ntz {p : Int32} {r q : Nat} {Q : Int32 → g_St → Prop} (h : p.toBitVec.toNat = 2 ^ r * (2 * q + 1)) (hr : r < 32) (hq : Q (nI r) st) : wp_J14_numberOfTrailingZeros l E 0 0 [.int p] st Q := by
  refine wk_J14_numberOfTrailingZeros ?_
  unfold vc_J14_numberOfTrailingZeros
  rw [bt_y h]
  have step : ∀ {b s : Nat} {a1 a2 : Int32} {J : Int32 → Int32 → Prop}, (∀ c1 c2 : Int32, (c1, c2) = bz b s (a1, a2) → J c1 c2) → g_jn2 (fun K => (a1 ≤ nI b → K a1 a2) ∧ (¬ a1 ≤ nI b → K ((a1.toUInt32 >>> ((nI s).toUInt32 &&& Int32.toUInt32 31)).toInt32) (a2 + nI s))) J := by
    intro b s a1 a2 J hJ
    refine g_jn2_i (fun c1 c2 => (c1, c2) = bz b s (a1, a2)) hJ fun K hK => ⟨fun hc => hK _ _ ?_, fun hc => hK _ _ ?_⟩
    · unfold bz; rw [if_pos hc]
    · unfold bz; rw [if_neg hc]
  refine ⟨fun h1 => ?_, fun h0 => ?_⟩
  · refine step (b := 65536) (s := 16) fun c1 c2 e1 => step (b := 256) (s := 8) fun d1 d2 e2 => step (b := 16) (s := 4) fun f1 f2 e3 => step (b := 4) (s := 2) fun k1 k2 e4 => ?_
    have hz := bz_all r hr h1
    rw [← e1, ← e2, ← e3, ← e4] at hz
    rw [hz]
    exact hq
  · rw [bz_0 r hr h0]
    exact hq
end GBITS2
