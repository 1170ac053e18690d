/-! THE LAW, 1: tests, sets of corners -/
set_option maxRecDepth 100000
theorem in_eq (v lo hi : Int32) : fX2_in v.toInt64 lo.toInt64 hi.toInt64 = fX0_in v lo hi := by
  unfold fX2_in fX0_in
  simp only [lg_cmp_lt, lg_cmp_gt]
  simp only [Int64.lt_iff_toInt_lt, Int32.toInt_toInt64, Int32.lt_iff_toInt_lt]
theorem l_person {g : Nat → Nat} {gx : Nat → Nat → Nat} (h : g 3 = gx 0 1) (p : Int32) : fX2_isPerson g p = fX0_isPerson gx p := by
  unfold fX2_isPerson fX0_isPerson
  rw [h]
  exact in_eq p (nI 0) _
theorem l_street {g : Nat → Nat} {t : TW} (h : g 4 = tn t) (p : Int32) : fX2_isStreet g p = fX0_isStreet t p := by
  unfold fX2_isStreet fX0_isStreet
  rw [h]
  exact in_eq p (nI 0) _
theorem l_corner (p : Int32) : fX2_isCorner p = fX0_isCorner p := in_eq p (nI 0) (nI 7)
theorem l_lacks {g : Nat → Nat} {gx : Nat → Nat → Nat} (h3 : g 3 = gx 0 1) (hg : g 3 ≤ 3) (h : g 4 = 0 ↔ g 3 = 0) : (fX2_lacks g = 0 ↔ ¬ fX0_isTown gx = 0) := by
  unfold fX2_lacks fX0_isTown
  rw [← h3]
  have e : (nI (g 3) ≤ 0) ↔ g 3 = 0 := by
    rw [← nI_0, nI_leI (by omega) (by omega)]
    omega
  by_cases z : g 4 = 0
  · rw [if_pos z, if_pos (e.mpr (h.mp z))]
    decide
  · rw [if_neg z, if_neg (fun q => z (h.mpr (e.mp q)))]
    decide
theorem l_driver {g : Nat → Nat} {gx : Nat → Nat → Nat} (h3 : g 3 = gx 0 1) (hg : g 3 ≤ 3) (h : g 4 = 0 ↔ g 3 = 0) (d : Int32) : fX2_isDriver g d = fX0_isDriver gx d := by
  have e := l_lacks h3 hg h
  unfold fX2_isDriver fX0_isDriver
  by_cases z : fX2_lacks g = 0
  · rw [if_pos z, if_neg (e.mp z), ← in_eq d (nI 0) (nI 1)]
    rfl
  · rw [if_neg z, if_pos (Classical.not_not.mp (fun q => z (e.mpr q)))]
theorem l_trip {g : Nat → Nat} {gx : Nat → Nat → Nat} (h3 : g 3 = gx 0 1) (p f o : Int32) : fX2_isTrip g p f o = fX0_isWay gx p f o := by
  unfold fX2_isTrip fX0_isWay
  rw [l_person h3, l_corner, l_corner]
theorem l_every {g : Nat → Nat} {t : TW} (h : g 4 = tn t) : fX2_everyStreet g = fX0_all t := by
  unfold fX2_everyStreet fX0_all
  rw [h]
/-! sets of corners -/
theorem bit_two : ∀ n, n < 256 → ∀ a, a < 8 → ∀ b, b < 8 → (nI n &&& ((nI 1 <<< (nI a &&& 31)) ||| (nI 1 <<< (nI b &&& 31))) = 0 ↔ (fX0_isIn (nI n) (nI a) = 0 ∧ fX0_isIn (nI n) (nI b) = 0)) := by decide +kernel
theorem bit_or : ∀ n, n < 256 → ∀ a, a < 8 → ∀ b, b < 8 → (nI n ||| ((nI 1 <<< (nI a &&& 31)) ||| (nI 1 <<< (nI b &&& 31)))) = nI (n ||| (1 <<< a ||| 1 <<< b)) := by decide +kernel
