/-! THE LAW, 10: people, streets, drivers are told alike -/
set_option maxRecDepth 100000
def seenRel (n : Nat) (f : Nat → Int32) (m : Nat) (w x y z : Nat → Int32) : Prop := n = m ∧ n ≤ 6 ∧ ∀ k, k < 6 → f (4 * k) = w k ∧ f (4 * k + 1) = x k ∧ f (4 * k + 2) = y k ∧ f (4 * k + 3) = z k
theorem l_tenders {g : Nat → Nat} {gx : Nat → Nat → Nat} {a : Nat → Nat → Int32} {ax : Nat → Nat → Nat → Int32} {t : TW} {of : Nat → Nat → Nat} (h4 : g 4 = tn t) (h5 : g 5 = gx (0 + 6) 9) (hs : seenRel (g 15) (a 16) (gx 0 12) (ax 0 13) (ax 0 14) (ax 0 15) (ax 0 16)) (p : Nat) : fX2_tendersOf g a t of p = fX0_tendersOf gx ax t of p := by
  obtain ⟨hn, h6, hs⟩ := hs
  unfold fX2_tendersOf fX0_tendersOf
  refine (it_cong (P := fun _ => True) (n := 10) (fun v S _ _ => ⟨?_, trivial⟩) 10 (Nat.le_refl _) _ trivial).1
  unfold fX2_tendersOf_b4 fX0_tendersOf_b4
  have e : it (fX2_tendersOf_b16 g a t of p v) (g 15) (nI 1) = it (fX0_tendersOf_b16 gx ax t of p v) (gx 0 12) (nI 1) := by
    rw [← hn]
    refine (it_cong (P := fun S => S = nI 0 ∨ S = nI 1) (n := g 15) (fun i S hi hS => ?_) (g 15) (Nat.le_refl _) _ (Or.inr rfl)).1
    obtain ⟨e1, e2, e3, e4⟩ := hs i (by omega)
    unfold fX2_tendersOf_b16 fX0_tendersOf_b16
    rw [e1, e2, e3, e4, l_first h4 h5]
    by_cases z : ax 0 13 i = nI p
    · rw [if_pos z, if_pos z]
      by_cases z2 : fX0_firstBy gx t of p v (toN (ax 0 14 i)) (toN (ax 0 15 i)) = ax 0 16 i
      · rw [if_pos z2, if_pos z2]
        rcases hS with q | q <;> subst q
        · exact ⟨by decide, Or.inl (by decide)⟩
        · exact ⟨by decide, Or.inr (by decide)⟩
      · rw [if_neg z2, if_neg z2]
        rcases hS with q | q <;> subst q
        · exact ⟨by decide, Or.inl (by decide)⟩
        · exact ⟨by decide, Or.inl (by decide)⟩
    · rw [if_neg z, if_neg z]
      rcases hS with q | q <;> subst q
      · exact ⟨by decide, Or.inl (by decide)⟩
      · exact ⟨by decide, Or.inr (by decide)⟩
  rw [e]
/-- what is kept of a state -/
def sRel (n : Nat) (f8 f9 f10 : Nat → Int32) (dy : Nat) (x : Nat → Nat → Int32) (dx : Nat) : Prop := (∀ p, p < n → f8 (5 * p) = x 0 p ∧ f8 (5 * p + 1) = x 2 p ∧ f8 (5 * p + 2) = x 3 p ∧ f8 (5 * p + 3) = x 4 p ∧ f8 (5 * p + 4) = x 5 p) ∧ (∀ k, k < 27 → f9 k = x 1 k) ∧ (∀ d, d < 2 → f10 (3 * d) = x 6 d ∧ f10 (3 * d + 1) = x 7 d ∧ f10 (3 * d + 2) = x 8 d) ∧ dy = dx
theorem l_person_told {g : Nat → Nat} {gx : Nat → Nat → Nat} {a : Nat → Nat → Int32} {ax : Nat → Nat → Nat → Int32} {t : TW} {of : Nat → Nat → Nat} (h4 : g 4 = tn t) (hr : sRel (g 3) (a 8) (a 9) (a 10) (g 5) (ax (0 + 6)) (gx (0 + 6) 9)) (hs : seenRel (g 15) (a 16) (gx 0 12) (ax 0 13) (ax 0 14) (ax 0 15) (ax 0 16)) {p : Nat} (hp : p < g 3) {w : Nat} (hw : w < 6) : fX2_tellPerson g a t of p (nI w) = fX0_personTold gx ax t of p (nI w) := by
  obtain ⟨e0, e1, e2, e3, e4⟩ := hr.1 p hp
  have e0 : a 8 (5 * p + 0) = ax (0 + 6) 0 p := e0
  unfold fX2_tellPerson fX0_personTold
  rw [l_tenders h4 hr.2.2.2 hs p, e0, e1, e2, show 5 * p + 4 - 1 = 5 * p + 3 by omega, show 5 * p + 5 - 1 = 5 * p + 4 by omega, e3, e4]
  rcases (show w = 0 ∨ w = 1 ∨ w = 2 ∨ w = 3 ∨ w = 4 ∨ w = 5 by omega) with q | q | q | q | q | q <;> subst q <;> rfl
theorem bit_small : ∀ n, n < 512 → ∀ k, k < 9 → ((nI n >>> (nI k &&& 31)) &&& nI 1) = if n.testBit k = true then nI 1 else nI 0 := by decide +kernel
theorem l_known {a : Nat → Nat → Int32} {ax : Nat → Nat → Nat → Int32} (h0 : a 10 1 = ax (0 + 6) 7 0) (h1 : a 10 4 = ax (0 + 6) 7 1) (b0 : ∃ n, n < 512 ∧ ax (0 + 6) 7 0 = nI n) (b1 : ∃ n, n < 512 ∧ ax (0 + 6) 7 1 = nI n) {s : Nat} (hs : s < 9) : fX2_knownBy a (nI s) = fX0_knownBy ax (nI s) := by
  obtain ⟨n0, l0, e0⟩ := b0
  obtain ⟨n1, l1, e1⟩ := b1
  have k0 := isIn_bit n0 l0 s hs
  have k1 := isIn_bit n1 l1 s hs
  unfold fX2_knownBy fX0_knownBy
  show _ = fX0_knownBy_b4 ax (nI s) 1 (fX0_knownBy_b4 ax (nI s) 0 (nI 0))
  unfold fX0_knownBy_b4
  rw [h0, h1, e0, e1, bit_small n0 l0 s hs, bit_small n1 l1 s hs]
  cases z0 : n0.testBit s <;> cases z1 : n1.testBit s
  · rw [if_pos (k0.mpr z0), if_pos (k1.mpr z1)]; decide
  · have q1 : ¬ fX0_isIn (nI n1) (nI s) = 0 := fun q => by rw [k1] at q; rw [z1] at q; cases q
    rw [if_pos (k0.mpr z0), if_neg q1]; decide
  · have q0 : ¬ fX0_isIn (nI n0) (nI s) = 0 := fun q => by rw [k0] at q; rw [z0] at q; cases q
    rw [if_neg q0, if_pos (k1.mpr z1)]; decide
  · have q0 : ¬ fX0_isIn (nI n0) (nI s) = 0 := fun q => by rw [k0] at q; rw [z0] at q; cases q
    have q1 : ¬ fX0_isIn (nI n1) (nI s) = 0 := fun q => by rw [k1] at q; rw [z1] at q; cases q
    rw [if_neg q0, if_neg q1]; decide
theorem l_street_told {g : Nat → Nat} {a : Nat → Nat → Int32} {ax : Nat → Nat → Nat → Int32} {t : TW} (ht : mTown g a t) (hk : ∀ s, s < 9 → fX2_knownBy a (nI s) = fX0_knownBy ax (nI s)) {s : Nat} (hs : s < tn t) (h9 : tn t ≤ 9) {w : Nat} (hw : w < 5) : fX2_tellStreet a s (nI w) = fX0_streetTold ax t s (nI w) := by
  obtain ⟨e0, e1, e2, e3⟩ := ht.2 s hs
  have e0 : a 7 (4 * s + 0) = nI (tk t s) := e0
  unfold fX2_tellStreet fX0_streetTold
  rw [hk s (by omega)]
  rcases (show w = 0 ∨ w = 1 ∨ w = 2 ∨ w = 3 ∨ w = 4 by omega) with q | q | q | q | q <;> subst q
  · rw [if_neg (show ¬ fX2_in (nI 0).toInt64 0 3 = 0 by decide), show toN (nI 0) = 0 from rfl, e0]; rfl
  · rw [if_neg (show ¬ fX2_in (nI 1).toInt64 0 3 = 0 by decide), show toN (nI 1) = 1 from rfl, e1]; rfl
  · rw [if_neg (show ¬ fX2_in (nI 2).toInt64 0 3 = 0 by decide), show toN (nI 2) = 2 from rfl, e2]; rfl
  · rw [if_neg (show ¬ fX2_in (nI 3).toInt64 0 3 = 0 by decide), show toN (nI 3) = 3 from rfl, e3]; rfl
  · rw [if_pos (show fX2_in (nI 4).toInt64 0 3 = 0 by decide)]; rfl
theorem l_driver_told {g : Nat → Nat} {a : Nat → Nat → Int32} {ax : Nat → Nat → Nat → Int32} {t : TW} (ok : tOK t) (ht : mTown g a t) (h10 : ∀ d, d < 2 → a 10 (3 * d) = ax (0 + 6) 6 d ∧ a 10 (3 * d + 1) = ax (0 + 6) 7 d ∧ a 10 (3 * d + 2) = ax (0 + 6) 8 d) (hat : ∀ d, d < 2 → ∃ j, j < 8 ∧ ax (0 + 6) 6 d = nI j) {d : Nat} (hd : d < 2) {w : Nat} (hw : w < 6) : fX2_tellDriver g a d (nI w) = fX0_driverTold ax t d (nI w) := by
  obtain ⟨e0, e1, e2⟩ := h10 d hd
  obtain ⟨j, hj, ej⟩ := hat d hd
  have e0' : a 10 (3 * d + 0) = ax (0 + 6) 6 d := e0
  unfold fX2_tellDriver fX0_driverTold
  rw [l_next ok ht e1, e0', e0, e1, e2, l_gaps ok ht, ej, (l_reach ok ht j hj _).1]
  rcases (show w = 0 ∨ w = 1 ∨ w = 2 ∨ w = 3 ∨ w = 4 ∨ w = 5 by omega) with q | q | q | q | q | q <;> subst q <;> rfl
theorem l_takes {g : Nat → Nat} {gx : Nat → Nat → Nat} {a : Nat → Nat → Int32} {ax : Nat → Nat → Nat → Int32} {t : TW} {td td' : Nat → Nat} {of : Nat → Nat → Nat} (ok : tOK t) (ht : mTown g a t) (hr : sRel (g 3) (a 8) (a 9) (a 10) (g 5) (ax (0 + 6)) (gx (0 + 6) 9)) (hat : ∀ d, d < 2 → ∃ j, j < 8 ∧ ax (0 + 6) 6 d = nI j) {d p : Nat} (hd : d < 2) (hp : p < g 3) (htd : td p = td' p) (hw : ¬ ax (0 + 6) 4 p = (-1) → ∃ j, j < 8 ∧ ax (0 + 6) 4 p = nI j) : fX2_takesBy g a t td of d p = fX0_hurtsBy gx ax t td' of d p := by
  obtain ⟨-, -, -, w3, w4⟩ := hr.1 p hp
  obtain ⟨d0, d1, d2⟩ := hr.2.2.1 d hd
  have hdt := l_driver_told ok ht hr.2.2.1 hat hd (show 5 < 6 by omega)
  have hdr : fX0_driverTold ax t d (nI 5) = fX1_reach t (ax (0 + 6) 6 d) (ax (0 + 6) 7 d) := rfl
  unfold fX2_takesBy fX0_hurtsBy
  rw [hdt, hdr, w3, w4, d1]
  by_cases z : ax (0 + 6) 4 p = (-1)
  · rw [if_pos z, if_pos z]
  · rw [if_neg z, if_neg z]
    obtain ⟨j, hj, ej⟩ := hw z
    obtain ⟨c, hc, ec⟩ := hat d hd
    obtain ⟨n, hn, hne, hb⟩ := reach_bits ok (ax (0 + 6) 7 d) hc
    rw [ec, ej, hne]
    have k1 := isIn_bit n (by omega) j (by omega)
    have k2 := bit01 n hn j hj
    by_cases z2 : n.testBit j = false
    · rw [if_pos (k2.mpr z2), if_pos (k1.mpr z2)]
    · have q1 : ¬ fX0_isIn (nI n) (nI j) = 0 := fun q => by rw [k1] at q; exact z2 q
      rw [if_neg (fun q => z2 (k2.mp q)), if_neg q1]
      unfold fX2_layWayS fX1_layWayS
      rw [hr.2.2.2, htd]
      have hl := cwl_le8 t (gx (0 + 6) 9) (td' p) (of p) (ax (0 + 6) 7 d) (toN (nI j)) (toN (ax (0 + 6) 5 p))
      by_cases z3 : cds t (gx (0 + 6) 9) (td' p) (of p) (ax (0 + 6) 7 d) (toN (ax (0 + 6) 5 p)) (toN (nI j)) < 1000000000
      · rw [if_pos z3, if_pos z3, if_neg (nI_m1 (by omega)), if_neg (show ¬ nI 1 = 0 by decide)]
      · rw [if_neg z3, if_neg z3, if_pos rfl, if_pos (show nI 0 = 0 from rfl)]
