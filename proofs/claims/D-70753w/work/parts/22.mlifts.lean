/-! MODEL: what its tests say -/
theorem in64_of {v lo hi : Int64} (h : ¬ fX2_in v lo hi = 0) : lo ≤ v ∧ v ≤ hi := by
  unfold fX2_in at h
  split at h
  · exact absurd nI_0 h
  · rename_i h1
    split at h
    · exact absurd nI_0 h
    · rename_i h2
      rw [lg_cmp_lt] at h1
      rw [lg_cmp_gt] at h2
      exact ⟨Int64.not_lt.mp h1, Int64.not_lt.mp h2⟩
theorem in64_no {v lo hi : Int64} (h : fX2_in v lo hi = 0) : v < lo ∨ hi < v := by
  unfold fX2_in at h
  split at h
  · rename_i h1
    exact Or.inl ((lg_cmp_lt _ _).mp h1)
  · split at h
    · rename_i h2
      exact Or.inr ((lg_cmp_gt _ _).mp h2)
    · exact absurd h (by decide)
theorem nI_lift {x : Int32} {n : Nat} (hn : n ≤ 2 ^ 31) (h0 : 0 ≤ x.toInt) (h1 : x.toInt < n) : ∃ j : Nat, j < n ∧ x = nI j := by
  refine ⟨x.toInt.toNat, by omega, ?_⟩
  rw [← Int32.toInt_inj, nI_toInt (by omega)]
  omega
/-- a number between 0 and a constant -/
theorem in64_lift {x : Int32} {k : Int64} {n : Nat} (hk : k.toInt + 1 = n) (hn : n ≤ 2 ^ 31) (h : ¬ fX2_in x.toInt64 0 k = 0) : ∃ j : Nat, j < n ∧ x = nI j := by
  obtain ⟨h1, h2⟩ := in64_of h
  rw [Int64.le_iff_toInt_le, Int32.toInt_toInt64] at h1 h2
  rw [show (0 : Int64).toInt = 0 from rfl] at h1
  exact nI_lift hn h1 (by omega)
theorem in64_liftN {x : Int32} {n : Nat} (hn : n < 2 ^ 30) (h : ¬ fX2_in x.toInt64 0 ((nI n - nI 1).toInt64) = 0) : ∃ j : Nat, j < n ∧ x = nI j := by
  obtain ⟨h1, h2⟩ := in64_of h
  rw [Int64.le_iff_toInt_le, Int32.toInt_toInt64] at h1 h2
  rw [show (0 : Int64).toInt = 0 from rfl] at h1
  rw [Int32.toInt_toInt64, pk_sub_toInt (by omega) (by omega)] at h2
  exact nI_lift (by omega) h1 (by omega)
theorem isPerson_lift {g : Nat → Nat} {x : Int32} (hg : g 3 ≤ 3) (h : ¬ fX2_isPerson g x = 0) : ∃ j : Nat, j < g 3 ∧ x = nI j := in64_liftN (by omega) h
theorem isPerson_lift3 {g : Nat → Nat} {x : Int32} (hg : g 3 ≤ 3) (h : ¬ fX2_isPerson g x = 0) : ∃ j : Nat, j < 3 ∧ x = nI j := by
  obtain ⟨j, h1, h2⟩ := isPerson_lift hg h
  exact ⟨j, by omega, h2⟩
theorem isStreet_lift {g : Nat → Nat} {x : Int32} (hg : g 4 ≤ 9) (h : ¬ fX2_isStreet g x = 0) : ∃ j : Nat, j < g 4 ∧ x = nI j := in64_liftN (by omega) h
theorem isCorner_lift {x : Int32} (h : ¬ fX2_isCorner x = 0) : ∃ j : Nat, j < 8 ∧ x = nI j := in64_lift (k := 7) rfl (by omega) h
theorem isDriver_lift {g : Nat → Nat} {x : Int32} (h : ¬ fX2_isDriver g x = 0) : ∃ j : Nat, j < 2 ∧ x = nI j := by
  unfold fX2_isDriver at h
  split at h
  · split at h
    · exact absurd nI_0 h
    · exact in64_lift (k := 1) rfl (by omega) (by assumption)
  · exact absurd nI_0 h
