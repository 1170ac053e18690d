/-! THE LAW, 3: bits -/
set_option maxRecDepth 100000
theorem isIn_bit : ∀ n, n < 512 → ∀ k, k < 9 → ((fX0_isIn (nI n) (nI k) = 0) = (n.testBit k = false)) := by
  have h : ∀ n, n < 512 → ∀ k, k < 9 → decide (fX0_isIn (nI n) (nI k) = 0) = decide (n.testBit k = false) := by decide +kernel
  intro n hn k hk
  exact propext (decide_eq_decide.mp (h n hn k hk))
theorem ones_cnt : ∀ n, n < 512 → fX2_ones (nI n) = fJ10_bitCount (nI n) ∧ fJ10_bitCount (nI n) = nI (cnt (fun i => n.testBit i) 9) := by decide +kernel
theorem cnt8 : ∀ n, n < 256 → cnt (fun i => n.testBit i) 9 = cnt (fun i => n.testBit i) 8 := by decide +kernel
theorem nI_bits (n : Nat) (i : Nat) (hi : i < 32) : (nI n).toBitVec.getLsbD i = n.testBit i := by
  show (BitVec.ofNat 32 n).getLsbD i = n.testBit i
  rw [BitVec.getLsbD_ofNat]
  simp [hi]
theorem tb_hi {u i : Nat} (h : u < 256) (hi : 8 ≤ i) : u.testBit i = false := Nat.testBit_lt_two_pow (Nat.lt_of_lt_of_le h (show 2 ^ 8 ≤ 2 ^ i from Nat.pow_le_pow_right (by omega) hi))
theorem missed_eq {u r : Nat} (hu : u < 256) (hr : r < 256) : nI u &&& (nI r ^^^ (-1)) = nI (u &&& (255 ^^^ r)) := by
  apply Int32.toBitVec_inj.mp
  apply BitVec.eq_of_getLsbD_eq
  intro i hi
  rw [Int32.toBitVec_and, Int32.toBitVec_xor, BitVec.getLsbD_and, BitVec.getLsbD_xor, nI_bits _ _ hi, nI_bits _ _ hi, nI_bits _ _ hi, Nat.testBit_and, Nat.testBit_xor]
  have e : (Int32.toBitVec (-1)).getLsbD i = true := by
    rw [show Int32.toBitVec (-1) = BitVec.allOnes 32 by decide, BitVec.getLsbD_allOnes]
    simp [hi]
  rw [e]
  by_cases h : i < 8
  · have e2 : (255 : Nat).testBit i = true := by
      rw [show (255 : Nat) = 2 ^ 8 - 1 from rfl, Nat.testBit_two_pow_sub_one]
      simp [h]
    rw [e2]
    cases u.testBit i <;> cases r.testBit i <;> rfl
  · rw [tb_hi hu (by omega)]
    rfl
