/-! THE LAW, 18: what moves the state, 1 -/
set_option maxRecDepth 100000
theorem va_same {A : Type} (f : Nat → A) (k : Nat) : va_up f k (f k) = f := by
  funext i
  unfold va_up
  by_cases h : i = k
  · rw [if_pos h, h]
  · rw [if_neg h]
theorem up2_same {A : Type} (f : Nat → Nat → A) (o k : Nat) : up2 f o k (f o k) = f := by
  funext i j
  unfold up2
  by_cases h : i = o ∧ j = k
  · rw [if_pos h, h.1, h.2]
  · rw [if_neg h]
section MOV
variable {c e0 : Nat} {g g' : Nat → Nat} {a a' : Nat → Nat → Int32} {kt : Int32} {gx gx' : Nat → Nat → Nat} {ax ax' : Nat → Nat → Nat → Int32} {pg : Nat → Int32} {t : TW}
/-- only the current state moved -/
theorem Rel.cur (h : Rel c e0 g a kt gx ax pg t) (k1 : g' 1 = g 1 ∧ g' 3 = g 3 ∧ g' 4 = g 4 ∧ g' 6 = g 6 ∧ g' 21 = g 21 ∧ g' 22 = g 22) (k2 : a' 0 = a 0 ∧ a' 7 = a 7 ∧ a' 23 = a 23 ∧ a' 24 = a 24 ∧ a' 25 = a 25 ∧ a' 26 = a 26) (k3 : gx' 0 7 = gx 0 7 ∧ gx' 0 1 = gx 0 1 ∧ gx' 0 2 = gx 0 2 ∧ gx' (2 + 6) 9 = gx (2 + 6) 9 ∧ gx' 0 19 = gx 0 19 ∧ gx' 0 20 = gx 0 20) (k4 : ax' (2 + 6) = ax (2 + 6) ∧ ax' 0 21 = ax 0 21 ∧ ax' 0 22 = ax 0 22 ∧ ax' 0 23 = ax 0 23 ∧ ax' 0 24 = ax 0 24)
    (hp : partR (g 3) (a' 8) (a' 9) (a' 10) (a' 16) (g' 5) (g' 15) (ax' (0 + 6)) (gx' (0 + 6) 9) (gx' 0 12) (ax' 0 13) (ax' 0 14) (ax' 0 15) (ax' 0 16)) (hm : okM (8 * (c + 1)) (a' 8) (a' 9) (a' 10) (a' 16) (g' 5) (g' 15)) (hx : okX (ax' (0 + 6)) (gx' (0 + 6) 9)) : Rel (c + 1) e0 g' a' kt gx' ax' pg t := by
  obtain ⟨⟨b1, b2, b3⟩, ⟨c1, c2, c3, c4, c5⟩, ⟨⟨d1, d2⟩, d3, d4⟩, -, -, -, h7, h8, h9, h10⟩ := h
  obtain ⟨e1, e2, e3, e4, e5, e6⟩ := k1
  obtain ⟨f1, f2, f3, f4, f5, f6⟩ := k2
  obtain ⟨i1, i2, i3, i4, i5, i6⟩ := k3
  obtain ⟨j1, j2, j3, j4, j5⟩ := k4
  unfold Rel mTown
  rw [e1, e2, e3, e4, e5, e6, f1, f2, f3, f4, f5, f6, i1, i2, i3, i4, i5, i6, j1, j2, j3, j4, j5]
  exact ⟨⟨b1, b2, b3⟩, ⟨c1, c2, c3, c4, by omega⟩, ⟨⟨d1, d2⟩, d3, d4⟩, hp, hm, hx, h7.up (by omega), h8, h9, h10⟩
theorem s_tender (h : Rel c e0 g a kt gx ax pg t) (p v : Int32) : (fX2_tender g a p v).1 = (fX0_tender gx ax p v).1 ∧ Rel (c + 1) e0 g (va_up a 8 (fX2_tender g a p v).2) kt gx (up2 ax (0 + 6) 0 (fX0_tender gx ax p v).2) pg t := by
  unfold fX2_tender fX0_tender
  rw [l_person h.n3, in_eqN v 0 9 0 9 (by decide) (by decide)]
  by_cases z : fX0_isPerson gx p = 0
  · rw [if_pos z, if_pos z, va_same, up2_same]; exact ⟨rfl, h.up⟩
  · rw [if_neg z, if_neg z]
    by_cases z1 : fX0_in v (nI 0) (nI 9) = 0
    · rw [if_pos z1, if_pos z1, va_same, up2_same]; exact ⟨rfl, h.up⟩
    · rw [if_neg z1, if_neg z1]
      have h3 := h.le3
      have h31 := h.n3
      obtain ⟨j, hj, rfl⟩ := xPerson_lift (by omega) z
      obtain ⟨k, hk, rfl⟩ := in32_lift2' (by omega) (by omega) z1
      rw [show toN (nI j) = j from toN_nI (by omega)]
      obtain ⟨⟨r1, r2, r3, r4⟩, r5, r6⟩ := h.part
      obtain ⟨m1, m2, m3, m4, m5⟩ := h.om
      obtain ⟨x1, x2, x3, x4, x5⟩ := h.ox
      have u1 : ∀ q, upd (a 8) (5 * j) (nI k) q = if q = 5 * j then nI k else a 8 q := fun q => rfl
      refine ⟨(r1 j (by omega)).1, ?_⟩
      refine h.cur ⟨rfl, rfl, rfl, rfl, rfl, rfl⟩ ⟨rfl, rfl, rfl, rfl, rfl, rfl⟩ ⟨rfl, rfl, rfl, rfl, rfl, rfl⟩ ⟨rfl, rfl, rfl, rfl, rfl⟩ ⟨⟨fun p hp => ?_, r2, r3, r4⟩, r5, r6⟩ ⟨fun p hp => ?_, fun p hp => ?_, (h.om.up (show 8 * c ≤ 8 * (c + 1) by omega)).2.2.1, m4, m5⟩ ⟨fun p hp => ?_, x2, x3, x4, x5⟩
      · obtain ⟨q0, q1, q2, q3, q4⟩ := r1 p hp
        refine ⟨?_, ?_, ?_, ?_, ?_⟩
        · show upd (a 8) (5 * j) (nI k) (5 * p) = upd (ax (0 + 6) 0) j (nI k) p
          unfold upd
          by_cases w : p = j
          · rw [if_pos (by omega), if_pos w]
          · rw [if_neg (by omega), if_neg w]; exact q0
        · show upd (a 8) (5 * j) (nI k) (5 * p + 1) = ax (0 + 6) 2 p
          rw [u1, if_neg (by omega)]; exact q1
        · show upd (a 8) (5 * j) (nI k) (5 * p + 2) = ax (0 + 6) 3 p
          rw [u1, if_neg (by omega)]; exact q2
        · show upd (a 8) (5 * j) (nI k) (5 * p + 3) = ax (0 + 6) 4 p
          rw [u1, if_neg (by omega)]; exact q3
        · show upd (a 8) (5 * j) (nI k) (5 * p + 4) = ax (0 + 6) 5 p
          rw [u1, if_neg (by omega)]; exact q4
      · show ∃ n, n ≤ 9 ∧ upd (a 8) (5 * j) (nI k) (5 * p) = nI n
        rw [u1]
        by_cases w : 5 * p = 5 * j
        · rw [if_pos w]; exact ⟨k, hk, rfl⟩
        · rw [if_neg w]; exact m1 p hp
      · show ¬ upd (a 8) (5 * j) (nI k) (5 * p + 3) = (-1) → (∃ i, i < 8 ∧ upd (a 8) (5 * j) (nI k) (5 * p + 3) = nI i) ∧ ∃ i, i < 8 ∧ upd (a 8) (5 * j) (nI k) (5 * p + 4) = nI i
        rw [u1, u1, if_neg (by omega), if_neg (by omega)]
        exact m2 p hp
      · show ∃ n, n ≤ 9 ∧ upd (ax (0 + 6) 0) j (nI k) p = nI n
        unfold upd
        by_cases w : p = j
        · rw [if_pos w]; exact ⟨k, hk, rfl⟩
        · rw [if_neg w]; exact x1 p hp
theorem s_day (h : Rel c e0 g a kt gx ax pg t) : (fX2_day g).1 = (fX0_day gx).1 ∧ Rel (c + 1) e0 (va_up g 5 (fX2_day g).2) a kt (up2 gx (0 + 6) 9 (fX0_day gx).2) ax pg t := by
  have hl := l_lacks h.n3 h.le3 h.n40
  unfold fX2_day fX0_day
  rw [← h.n5]
  by_cases z : fX2_lacks g = 0
  · rw [if_pos z, if_neg (hl.mp z)]
    by_cases z1 : g 5 = 99
    · rw [if_pos z1]
      refine ⟨rfl, ?_⟩
      show Rel (c + 1) e0 (va_up g 5 (g 5)) a kt (up2 gx (0 + 6) 9 (g 5)) ax pg t
      rw [va_same, h.n5, up2_same]; exact h.up
    · rw [if_neg z1]
      refine ⟨rfl, ?_⟩
      obtain ⟨⟨r1, r2, r3, r4⟩, r5, r6⟩ := h.part
      obtain ⟨m1, m2, m3, m4, m5, m6⟩ := h.om
      obtain ⟨x1, x2, x3, x4, x5⟩ := h.ox
      exact h.cur ⟨rfl, rfl, rfl, rfl, rfl, rfl⟩ ⟨rfl, rfl, rfl, rfl, rfl, rfl⟩ ⟨rfl, rfl, rfl, rfl, rfl, rfl⟩ ⟨rfl, rfl, rfl, rfl, rfl⟩ ⟨⟨r1, r2, r3, rfl⟩, r5, r6⟩ ⟨m1, m2, (h.om.up (show 8 * c ≤ 8 * (c + 1) by omega)).2.2.1, m4, by show g 5 + 1 ≤ 99; omega, m6⟩ ⟨x1, x2, x3, x4, by show g 5 + 1 ≤ 99; omega⟩
  · rw [if_neg z, if_pos (Classical.not_not.mp (fun q => z (hl.mpr q)))]
    refine ⟨rfl, ?_⟩
    show Rel (c + 1) e0 (va_up g 5 (g 5)) a kt (up2 gx (0 + 6) 9 (g 5)) ax pg t
    rw [va_same, h.n5, up2_same]; exact h.up
end MOV
