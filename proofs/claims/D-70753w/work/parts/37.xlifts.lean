/-! CLASS: what its tests say -/
theorem in32_of {v lo hi : Int32} (h : ¬ fX0_in v lo hi = 0) : lo ≤ v ∧ v ≤ hi := by
  unfold fX0_in at h
  split at h
  · exact absurd nI_0 h
  · rename_i h1
    split at h
    · exact absurd nI_0 h
    · rename_i h2
      exact ⟨Int32.not_lt.mp h1, Int32.not_lt.mp h2⟩
theorem nI_lift2 {x : Int32} {n : Nat} (hn : n ≤ 2 ^ 31) (h0 : 0 ≤ x.toInt) (h1 : x.toInt < n) : ∃ j : Nat, j < n ∧ x = nI j := by
  refine ⟨x.toInt.toNat, by omega, ?_⟩
  rw [← Int32.toInt_inj, nI_toInt (by omega)]
  omega
theorem in32_lift {x : Int32} {k n : Nat} (hk : k + 1 = n) (hn : n < 2 ^ 31) (h : ¬ fX0_in x (nI 0) (nI k) = 0) : ∃ j : Nat, j < n ∧ x = nI j := by
  obtain ⟨h1, h2⟩ := in32_of h
  rw [Int32.le_iff_toInt_le] at h1 h2
  rw [nI_toInt (by omega)] at h1 h2
  exact nI_lift2 (by omega) (by omega) (by omega)
theorem in32_liftN {x : Int32} {n : Nat} (hn : n < 2 ^ 30) (h : ¬ fX0_in x (nI 0) (nI n - nI 1) = 0) : ∃ j : Nat, j < n ∧ x = nI j := by
  obtain ⟨h1, h2⟩ := in32_of h
  rw [Int32.le_iff_toInt_le] at h1 h2
  rw [nI_toInt (by omega)] at h1
  rw [pk_sub_toInt (by omega) (by omega)] at h2
  exact nI_lift2 (by omega) (by omega) (by omega)
theorem xPerson_lift {g : Nat → Nat → Nat} {x : Int32} (hg : g 0 1 ≤ 3) (h : ¬ fX0_isPerson g x = 0) : ∃ j : Nat, j < g 0 1 ∧ x = nI j := in32_liftN (by omega) h
theorem xPerson_lift3 {g : Nat → Nat → Nat} {x : Int32} (hg : g 0 1 ≤ 3) (h : ¬ fX0_isPerson g x = 0) : ∃ j : Nat, j < 3 ∧ x = nI j := by
  obtain ⟨j, h1, h2⟩ := xPerson_lift hg h
  exact ⟨j, by omega, h2⟩
theorem xStreet_lift {t : TW} {x : Int32} (hg : tn t ≤ 9) (h : ¬ fX0_isStreet t x = 0) : ∃ j : Nat, j < tn t ∧ x = nI j := in32_liftN (by omega) h
theorem xCorner_lift {x : Int32} (h : ¬ fX0_isCorner x = 0) : ∃ j : Nat, j < 8 ∧ x = nI j := in32_lift (k := 7) rfl (by omega) h
theorem xDriver_lift {g : Nat → Nat → Nat} {x : Int32} (h : ¬ fX0_isDriver g x = 0) : ∃ j : Nat, j < 2 ∧ x = nI j := by
  unfold fX0_isDriver at h
  split at h
  · exact absurd nI_0 h
  · split at h
    · exact absurd nI_0 h
    · exact in32_lift (k := 1) rfl (by omega) (by assumption)
