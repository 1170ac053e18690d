/-! THE LAW, 17: answers of what is asked -/
set_option maxRecDepth 100000
theorem in_eqN (v : Int32) (lo hi : Nat) (l h : Int64) (h1 : l = (nI lo).toInt64) (h2 : h = (nI hi).toInt64) : fX2_in v.toInt64 l h = fX0_in v (nI lo) (nI hi) := by
  rw [h1, h2]
  exact in_eq v _ _
theorem okM.up {b b' : Nat} {f8 f9 f10 f16 : Nat → Int32} {dy sn : Nat} (h : okM b f8 f9 f10 f16 dy sn) (hb : b ≤ b') : okM b' f8 f9 f10 f16 dy sn := ⟨h.1, h.2.1, fun k hk => by
  obtain ⟨n, hn, e⟩ := h.2.2.1 k hk
  exact ⟨n, by omega, e⟩, h.2.2.2⟩
section ANS
variable {c e0 : Nat} {g : Nat → Nat} {a : Nat → Nat → Int32} {kt : Int32} {gx : Nat → Nat → Nat} {ax : Nat → Nat → Nat → Int32} {pg : Nat → Int32} {t : TW}
theorem Rel.up (h : Rel c e0 g a kt gx ax pg t) : Rel (c + 1) e0 g a kt gx ax pg t := by
  obtain ⟨h1, ⟨a1, a2, a3, a4, a5⟩, h3, h4, h5, h6, h7, h8, h9, h10⟩ := h
  exact ⟨h1, ⟨a1, a2, a3, a4, by omega⟩, h3, h4, h5.up (by omega), h6, h7.up (by omega), h8, h9, h10⟩
theorem trip_lift (h : Rel c e0 g a kt gx ax pg t) {p f o : Int32} (z : ¬ fX0_isWay gx p f o = 0) : (∃ j, j < g 3 ∧ p = nI j) ∧ (∃ j, j < 8 ∧ f = nI j) ∧ ∃ j, j < 8 ∧ o = nI j := by
  unfold fX0_isWay at z
  by_cases z1 : fX0_isPerson gx p = 0
  · rw [if_pos z1] at z; exact absurd rfl z
  · rw [if_neg z1] at z
    by_cases z2 : fX0_isCorner f = 0
    · rw [if_pos z2] at z; exact absurd rfl z
    · rw [if_neg z2] at z
      by_cases z3 : fX0_isCorner o = 0
      · rw [if_pos z3] at z; exact absurd rfl z
      · have h3 := h.n3
        obtain ⟨j, hj, e⟩ := xPerson_lift (by rw [← h3]; exact h.le3) z1
        exact ⟨⟨j, by omega, e⟩, xCorner_lift z2, xCorner_lift z3⟩
theorem a_way (h : Rel c e0 g a kt gx ax pg t) (hc : c ≤ 600) (p f o w : Int32) : fX2_way g t (tdM a) (ofM a) p f o w = fX0_way gx t (tdX ax) (ofM a) p f o w := by
  unfold fX2_way fX0_way
  rw [l_trip h.n3, in_eqN w 0 2 0 2 (by decide) (by decide), in_eqN w 10 16 10 16 (by decide) (by decide)]
  by_cases z : fX0_isWay gx p f o = 0
  · rw [if_pos z, if_pos z]
  · rw [if_neg z, if_neg z]
    obtain ⟨⟨j, hj, rfl⟩, -, -⟩ := trip_lift h z
    rw [show toN (nI j) = j from toN_nI (by have := h.le3; omega)]
    by_cases z1 : fX0_in w (nI 0) (nI 2) = 0
    · rw [if_pos z1, if_pos z1]
      by_cases z2 : fX0_in w (nI 10) (nI 16) = 0
      · rw [if_pos z2, if_pos z2]
      · rw [if_neg z2, if_neg z2]
        obtain ⟨k, hk, rfl⟩ := in32_lift2' (by omega) (by omega) z2
        have : 10 ≤ k := (nI_leI (by omega) (by omega)).mp (in32_of z2).1
        rw [show toN (nI k) = k from toN_nI (by omega)]
        exact l_tellWay h.n4 h.n5 (h.td j hj) (Or.inr this)
    · rw [if_neg z1, if_neg z1]
      obtain ⟨k, hk, rfl⟩ := in32_lift2' (by omega) (by omega) z1
      rw [show toN (nI k) = k from toN_nI (by omega)]
      exact l_tellWay h.n4 h.n5 (h.td j hj) (Or.inl hk)
theorem a_within (h : Rel c e0 g a kt gx ax pg t) (hc : c ≤ 600) (p f o w : Int32) : fX2_within g t (tdM a) (ofM a) p f o w = fX0_within gx t (tdX ax) (ofM a) p f o w := by
  unfold fX2_within fX0_within
  rw [l_trip h.n3, in_eqN w 0 81 0 81 (by decide) (by decide)]
  by_cases z : fX0_isWay gx p f o = 0
  · rw [if_pos z, if_pos z]
  · rw [if_neg z, if_neg z]
    obtain ⟨⟨j, hj, rfl⟩, ⟨x, hx, rfl⟩, ⟨y, hy, rfl⟩⟩ := trip_lift h z
    have h3 := h.le3
    have hm := h.mcore hc
    by_cases z1 : fX0_in w (nI 0) (nI 81) = 0
    · rw [if_pos z1, if_pos z1]
    · rw [if_neg z1, if_neg z1]
      obtain ⟨k, hk, rfl⟩ := in32_lift2' (by omega) (by omega) z1
      rw [show toN (nI j) = j from toN_nI (by omega), show toN (nI k) = k from toN_nI (by omega), show toN (nI x) = x from toN_nI (by omega), show toN (nI y) = y from toN_nI (by omega)]
      exact l_within h.ok h.n5 (h.td j hj) (hm.2.2.2.1 j (by omega)).2 (fun i hi => (hm.2.2.2.2 j (by omega) i hi).2) hy hk
theorem a_edge (h : Rel c e0 g a kt gx ax pg t) (hc : c ≤ 600) (p f o w : Int32) : fX2_edge g t (tdM a) (ofM a) p f o w = fX0_edge gx t (tdX ax) (ofM a) p f o w := by
  unfold fX2_edge fX0_edge
  rw [l_trip h.n3, in_eqN w 0 20 0 20 (by decide) (by decide)]
  by_cases z : fX0_isWay gx p f o = 0
  · rw [if_pos z, if_pos z]
  · rw [if_neg z, if_neg z]
    obtain ⟨⟨j, hj, rfl⟩, ⟨x, hx, rfl⟩, ⟨y, hy, rfl⟩⟩ := trip_lift h z
    have h3 := h.le3
    have hm := h.mcore hc
    rw [show toN (nI j) = j from toN_nI (by omega), show toN (nI x) = x from toN_nI (by omega), show toN (nI y) = y from toN_nI (by omega), l_edge h.ok h.n5 w (h.td j hj) (hm.2.2.2.1 j (by omega)).2 (fun i hi => (hm.2.2.2.2 j (by omega) i hi).2) hy]
theorem a_rail (h : Rel c e0 g a kt gx ax pg t) (hc : c ≤ 600) (p f o : Int32) : fX2_rail g t (tdM a) (ofM a) p f o = fX0_rail gx ax t p f o := by
  unfold fX2_rail fX0_rail
  rw [l_trip h.n3]
  by_cases z : fX0_isWay gx p f o = 0
  · rw [if_pos z, if_pos z]
  · rw [if_neg z, if_neg z]
    obtain ⟨⟨j, hj, rfl⟩, ⟨x, hx, rfl⟩, ⟨y, hy, rfl⟩⟩ := trip_lift h z
    have h3 := h.le3
    unfold fX2_railOfS
    rw [show toN (nI j) = j from toN_nI (by omega), show toN (nI x) = x from toN_nI (by omega), show toN (nI y) = y from toN_nI (by omega), l_rail (h.xcore hc) (show j < 3 by omega) hx hy, h.n5, h.td j hj]
theorem a_person (h : Rel c e0 g a kt gx ax pg t) (p w : Int32) : fX2_person g a t (ofM a) p w = fX0_person gx ax t (ofM a) p w := by
  unfold fX2_person fX0_person
  rw [l_person h.n3]
  by_cases z : fX0_isPerson gx p = 0
  · rw [if_pos z, if_pos z]
  · rw [if_neg z, if_neg z]
    have h3 := h.le3
    have h31 := h.n3
    obtain ⟨j, hj, rfl⟩ := xPerson_lift (by omega) z
    rw [show toN (nI j) = j from toN_nI (by omega)]
    by_cases z1 : fX0_in w (nI 0) (nI 5) = 0
    · rw [if_pos z1]
      have n : ∀ k, k < 6 → ¬ w = nI k := fun k hk q => by
        rw [q] at z1
        exact in32_intro ((nI_leI (by omega) (by omega)).mpr (by omega)) ((nI_leI (by omega) (by omega)).mpr (by omega)) z1
      unfold fX2_tellPerson
      rw [if_neg (n 0 (by omega)), if_neg (n 1 (by omega)), if_neg (n 2 (by omega)), if_neg (n 3 (by omega)), if_neg (n 4 (by omega)), if_neg (n 5 (by omega))]
    · rw [if_neg z1]
      obtain ⟨k, hk, rfl⟩ := in32_lift2' (by omega) (by omega) z1
      exact l_person_told h.n4 h.sr h.seen (by omega) (by omega)
theorem a_known (h : Rel c e0 g a kt gx ax pg t) : ∀ s, s < 9 → fX2_knownBy a (nI s) = fX0_knownBy ax (nI s) := fun s hs9 => l_known (h.sr.2.2.1 0 (by omega)).2.1 (h.sr.2.2.1 1 (by omega)).2.1 (h.ox.2.2.2.1 0 (by omega)) (h.ox.2.2.2.1 1 (by omega)) hs9
theorem a_street (h : Rel c e0 g a kt gx ax pg t) (s w : Int32) : fX2_street g a s w = fX0_street ax t s w := by
  unfold fX2_street fX0_street
  rw [l_street h.n4]
  by_cases z : fX0_isStreet t s = 0
  · rw [if_pos z, if_pos z]
  · rw [if_neg z, if_neg z]
    have h9 := h.ok.1
    obtain ⟨j, hj, rfl⟩ := xStreet_lift h9 z
    rw [show toN (nI j) = j from toN_nI (by omega)]
    by_cases z1 : fX0_in w (nI 0) (nI 4) = 0
    · rw [if_pos z1]
      have n4 : ¬ w = nI 4 := fun q => by rw [q] at z1; exact absurd z1 (by decide)
      have n3 : fX0_in w (nI 0) (nI 3) = 0 := Classical.byContradiction (fun q => by
        obtain ⟨k, hk, rfl⟩ := in32_lift2' (by omega) (by omega) q
        exact in32_intro (in32_of q).1 ((nI_leI (by omega) (by omega)).mpr (by omega)) z1)
      unfold fX2_tellStreet
      rw [in_eqN w 0 3 0 3 (by decide) (by decide), if_pos n3, if_neg n4]
    · rw [if_neg z1]
      obtain ⟨k, hk, rfl⟩ := in32_lift2' (by omega) (by omega) z1
      exact l_street_told h.town (a_known h) hj h9 (by omega)
theorem a_hurts (h : Rel c e0 g a kt gx ax pg t) (hc : c ≤ 600) (p s : Int32) : fX2_hurts g a p s = fX0_hurts gx ax t p s := by
  unfold fX2_hurts fX0_hurts
  rw [l_person h.n3, l_street h.n4]
  by_cases z : fX0_isPerson gx p = 0
  · rw [if_pos z, if_pos z]
  · rw [if_neg z, if_neg z]
    by_cases z1 : fX0_isStreet t s = 0
    · rw [if_pos z1, if_pos z1]
    · rw [if_neg z1, if_neg z1]
      have h3 := h.le3
      have h31 := h.n3
      have h9 := h.ok.1
      obtain ⟨j, hj, rfl⟩ := xPerson_lift (by omega) z
      obtain ⟨i, hi, rfl⟩ := xStreet_lift h9 z1
      rw [show toN (nI j) = j from toN_nI (by omega), show toN (nI i) = i from toN_nI (by omega)]
      exact l_hurt (h.mcore hc) (h.xcore hc) h.n5 (by omega) (h.td j (by omega)) hi
theorem a_driver (h : Rel c e0 g a kt gx ax pg t) (d w : Int32) : fX2_driver g a d w = fX0_driver gx ax t d w := by
  unfold fX2_driver fX0_driver
  rw [l_driver h.n3 h.le3 h.n40]
  by_cases z : fX0_isDriver gx d = 0
  · rw [if_pos z, if_pos z]
  · rw [if_neg z, if_neg z]
    obtain ⟨j, hj, rfl⟩ := xDriver_lift z
    rw [show toN (nI j) = j from toN_nI (by omega)]
    by_cases z1 : fX0_in w (nI 0) (nI 5) = 0
    · rw [if_pos z1]
      have n : ∀ k, k < 6 → ¬ w = nI k := fun k hk q => by
        rw [q] at z1
        exact in32_intro ((nI_leI (by omega) (by omega)).mpr (by omega)) ((nI_leI (by omega) (by omega)).mpr (by omega)) z1
      unfold fX2_tellDriver
      rw [if_neg (n 0 (by omega)), if_neg (n 1 (by omega)), if_neg (n 2 (by omega)), if_neg (n 3 (by omega)), if_neg (n 4 (by omega)), if_neg (n 5 (by omega))]
    · rw [if_neg z1]
      obtain ⟨k, hk, rfl⟩ := in32_lift2' (by omega) (by omega) z1
      exact l_driver_told h.ok h.town h.sr.2.2.1 h.ox.2.2.1 hj (by omega)
theorem a_takes (h : Rel c e0 g a kt gx ax pg t) : ∀ d, d < 2 → ∀ p, p < g 3 → fX2_takesBy g a t (tdM a) (ofM a) d p = fX0_hurtsBy gx ax t (tdX ax) (ofM a) d p := fun d hd p hp => l_takes h.ok h.town h.sr h.ox.2.2.1 hd hp (h.td p hp) (fun z => (h.ox.2.1 p (by have := h.le3; omega) z).1)
theorem a_match (h : Rel c e0 g a kt gx ax pg t) (w : Int32) (z0 : Nat → Int32) (y1 y2 : Int32) : fX2_match g a t (tdM a) (ofM a) w = (fX0_match gx ax t (tdX ax) (ofM a) w z0 y1 y2).1 := by
  have hl := l_lacks h.n3 h.le3 h.n40
  unfold fX2_match fX0_match
  rw [in_eqN w 0 1 0 1 (by decide) (by decide), in_eqN w 10 11 10 11 (by decide) (by decide)]
  have key : (¬ fX0_in w (nI 0) (nI 1) = 0 ∨ ¬ fX0_in w (nI 10) (nI 11) = 0) → fX2_matchOf g a t (tdM a) (ofM a) w = fX0_matchToldS ((fX0_layMatch gx ax t (tdX ax) (ofM a) z0).2.1) ((fX0_layMatch gx ax t (tdX ax) (ofM a) z0).1) ((fX0_layMatch gx ax t (tdX ax) (ofM a) z0).2.2) w := by
    intro q
    rcases x_match_in q with e | e | e | e <;> subst e
    · exact l_match (a_takes h) h.le3 h.n3 z0 (Or.inl rfl)
    · exact l_match (a_takes h) h.le3 h.n3 z0 (Or.inr (Or.inl rfl))
    · exact l_match (a_takes h) h.le3 h.n3 z0 (Or.inr (Or.inr (Or.inl rfl)))
    · exact l_match (a_takes h) h.le3 h.n3 z0 (Or.inr (Or.inr (Or.inr rfl)))
  by_cases z1 : fX0_in w (nI 0) (nI 1) = 0
  · rw [if_pos z1, if_pos z1]
    by_cases z2 : fX0_in w (nI 10) (nI 11) = 0
    · rw [if_pos z2, if_pos z2]
    · rw [if_neg z2, if_neg z2]
      by_cases z3 : fX2_lacks g = 0
      · rw [if_pos z3, if_neg (hl.mp z3)]; exact key (Or.inr z2)
      · rw [if_neg z3, if_pos (Classical.not_not.mp (fun q => z3 (hl.mpr q)))]
  · rw [if_neg z1, if_neg z1]
    by_cases z3 : fX2_lacks g = 0
    · rw [if_pos z3, if_neg (hl.mp z3)]; exact key (Or.inl z1)
    · rw [if_neg z3, if_pos (Classical.not_not.mp (fun q => z3 (hl.mpr q)))]
theorem a_watch (h : Rel c e0 g a kt gx ax pg t) (hc : c ≤ 600) (p f : Int32) (z1 z2 : Nat → Int32) : (fX2_watch g a t (ofM a) p f z1).1 = (fX0_watch gx ax t (ofM a) p f z2).1 := by
  unfold fX2_watch fX0_watch
  rw [l_person h.n3, l_corner]
  by_cases q : fX0_isPerson gx p = 0
  · rw [if_pos q, if_pos q]
  · rw [if_neg q, if_neg q]
    by_cases q2 : fX0_isCorner f = 0
    · rw [if_pos q2, if_pos q2]
    · rw [if_neg q2, if_neg q2]
      have h3 := h.le3
      have h31 := h.n3
      obtain ⟨j, hj, rfl⟩ := xPerson_lift (by omega) q
      obtain ⟨x, hx, rfl⟩ := xCorner_lift q2
      rw [show toN (nI j) = j from toN_nI (by omega), show toN (nI x) = x from toN_nI (by omega)]
      exact l_watch (h.mcore hc) h.n4 h.n5 h.seen (by omega) hx z1 z2
theorem a_count (h : Rel c e0 g a kt gx ax pg t) (w : Int32) : fX2_count g a w = fX0_count gx ax t w := l_count h.ok h.town h.page.1 h.n3 h.n6.1 h.sr h.seen h.part.2.1 h.ox.2.2.2.1 w
theorem a_digest (h : Rel c e0 g a kt gx ax pg t) (hc : c ≤ 600) (z0 : Nat → Int32) (y1 y2 : Int32) : (fX2_digest g a t (tdM a) (ofM a)).1 = (fX0_digest gx ax pg t (tdX ax) (ofM a) z0 y1 y2).1 := l_digest (h.mcore hc) (h.xcore hc) h.page.1 h.page.2.2 h.le3 h.n3 h.n40 h.n6.1 h.sr h.seen h.part.2.1 h.ox.2.2.2.1 h.ox.2.2.1 (fun p hp z => (h.ox.2.1 p hp z).1) h.td z0 y1 y2
end ANS
