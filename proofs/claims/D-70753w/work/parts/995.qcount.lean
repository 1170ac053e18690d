/-! THE LAW, 15: counts, the digest -/
set_option maxRecDepth 100000
theorem it_eqs {S : Type} {f h : Nat → S → S} {n : Nat} (e : ∀ i s, i < n → f i s = h i s) (s : S) : it f n s = it h n s := (it_cong (P := fun _ => True) (n := n) (fun i s hi _ => ⟨e i s hi, trivial⟩) n (Nat.le_refl _) s trivial).1
section CNT
variable {g : Nat → Nat} {gx : Nat → Nat → Nat} {a : Nat → Nat → Int32} {ax : Nat → Nat → Nat → Int32} {t : TW} {td td' : Nat → Nat} {of : Nat → Nat → Nat} {pg : Nat → Int32}
theorem l_count (ok : tOK t) (ht : mTown g a t) (h1 : g 1 = gx 0 7) (h31 : g 3 = gx 0 1) (h6 : g 6 = gx 0 2) (hr : sRel (g 3) (a 8) (a 9) (a 10) (g 5) (ax (0 + 6)) (gx (0 + 6) 9)) (hs : seenRel (g 15) (a 16) (gx 0 12) (ax 0 13) (ax 0 14) (ax 0 15) (ax 0 16)) (hrd : it (fun p S => S + ax (0 + 6) 2 p) (g 3) (nI 0) = a 10 2 + a 10 5) (hkn : ∀ d, d < 2 → ∃ n, n < 512 ∧ ax (0 + 6) 7 d = nI n) (wh : Int32) : fX2_countOf g a wh = fX0_countOf gx ax t wh := by
  have c2 : fX2_ones (fX2_cornersWithEnds g a) = fJ10_bitCount (fX0_cornersUsed t) := by
    obtain ⟨e, n, hn, hne⟩ := l_used ok ht
    rw [e, hne]
    exact (ones_cnt n (by omega)).1
  have c4 : a 10 2 + a 10 5 = fX0_sumOfPeople gx ax (nI 1) := by
    rw [← hrd]
    unfold fX0_sumOfPeople
    rw [← h31]
    refine it_eqs (fun i s _ => ?_) _
    show _ = s + (if nI 1 = nI 2 then _ else if nI 1 = nI 1 then _ else _)
    rw [if_neg (show ¬ nI 1 = nI 2 by decide), if_pos rfl]
  have c5 : fX2_hurtAll g a = fX0_sumOfPeople gx ax (nI 2) := by
    unfold fX2_hurtAll fX0_sumOfPeople
    rw [← h31]
    refine it_eqs (fun i s hi => ?_) _
    show s + a 8 (5 * i + 2) = s + (if nI 2 = nI 2 then _ else _)
    rw [if_pos rfl, (hr.1 i hi).2.2.1]
  have c6 : fX2_ones ((a 10 1) ||| (a 10 4)) = fJ10_bitCount ((ax (0 + 6) 7 0) ||| (ax (0 + 6) 7 1)) := by
    obtain ⟨n0, l0, e0⟩ := hkn 0 (by omega)
    obtain ⟨n1, l1, e1⟩ := hkn 1 (by omega)
    have q0 : a 10 1 = ax (0 + 6) 7 0 := (hr.2.2.1 0 (by omega)).2.1
    have q1 : a 10 4 = ax (0 + 6) 7 1 := (hr.2.2.1 1 (by omega)).2.1
    rw [q0, q1, e0, e1, nI_or]
    exact (ones_cnt _ (Nat.or_lt_two_pow (n := 9) l0 l1)).1
  have c7 : fX2_waiting g a = fX0_sumOfPeople gx ax (nI 4) := by
    unfold fX2_waiting fX0_sumOfPeople
    rw [← h31]
    refine it_eqs (fun i s hi => ?_) _
    show (if a 8 (5 * i + 3) = (-1) then s + nI 0 else s + nI 1) = s + (if nI 4 = nI 2 then _ else if nI 4 = nI 1 then _ else if ax (0 + 6) 4 i = (-1) then nI 0 else nI 1)
    rw [if_neg (show ¬ nI 4 = nI 2 by decide), if_neg (show ¬ nI 4 = nI 1 by decide), (hr.1 i hi).2.2.2.1]
    by_cases z : ax (0 + 6) 4 i = (-1)
    · rw [if_pos z, if_pos z]
    · rw [if_neg z, if_neg z]
  have c11 : fX2_lengthAll g a = fX0_lengths t := by
    unfold fX2_lengthAll fX0_lengths
    rw [ht.1]
    refine it_eqs (fun i s hi => ?_) _
    show s + a 7 (4 * i + 3) = s + nI (tl t i)
    rw [(ht.2 i hi).2.2.2]
  unfold fX2_countOf fX0_countOf
  rw [c2, c4, c5, c6, c7, c11, ht.1, h1, h31, h6, hs.1, hr.2.2.2]
theorem l_hurt (hm : mCore g a t td of) (hx : xCore gx ax t 0 td' of) (h5 : g 5 = gx (0 + 6) 9) {p i : Nat} (hp : p < 3) (htd : td p = td' p) (hi : i < tn t) : fX2_hurtsOf g a p i = fX1_hurts gx ax t 0 p i := by
  rw [m_hurtsOf hm hp hi, x_hurts hx hp hi, h5, htd]
theorem l_sayPerson (hm : mCore g a t td of) (hx : xCore gx ax t 0 td' of) (h3 : g 3 ≤ 3) (hr : sRel (g 3) (a 8) (a 9) (a 10) (g 5) (ax (0 + 6)) (gx (0 + 6) 9)) (hs : seenRel (g 15) (a 16) (gx 0 12) (ax 0 13) (ax 0 14) (ax 0 15) (ax 0 16)) {p : Nat} (hp : p < g 3) (htd : td p = td' p) (hh : Int64) : fX2_sayPerson g a hh t td of p = fX0_mixedPerson gx ax t td' of hh p := by
  have h4 : g 4 = tn t := hm.1.1
  have ok := hm.2.1
  have h5 := hr.2.2.2
  have htd9 : td p ≤ 9 := (hm.2.2.2.1 p (by omega)).2
  have hof : ∀ i, i < tn t → of p i ≤ 5000 := fun i hi => (hm.2.2.2.2 p (by omega) i hi).2
  unfold fX2_sayPerson fX0_mixedPerson
  rw [h4]
  rw [it_eqs (f := fX2_sayPerson_b2 g a t of p) (h := fX0_mixedPerson_b6 gx ax t of p) (n := 6) (fun i s hi => by
    unfold fX2_sayPerson_b2 fX0_mixedPerson_b6
    rw [l_person_told h4 hr hs hp hi]
    rfl)]
  rw [it_eqs (f := fX2_sayPerson_b27 g a p) (h := fX0_mixedPerson_b37 gx ax t p) (n := tn t) (fun i s hi => by
    unfold fX2_sayPerson_b27 fX0_mixedPerson_b37
    rw [l_hurt hm hx h5 (by omega) htd hi]
    rfl)]
  refine it_eqs (fun i s hi => ?_) _
  unfold fX2_sayPerson_b54 fX0_mixedPerson_b76
  rw [l_tellWay h4 h5 htd (show 0 ≤ 2 ∨ 10 ≤ 0 by omega), l_tellWay h4 h5 htd (show 1 ≤ 2 ∨ 10 ≤ 1 by omega), l_tellWay h4 h5 htd (show 2 ≤ 2 ∨ 10 ≤ 2 by omega), l_edge ok h5 (nI 0) htd htd9 hof (show i + 1 < 8 by omega), l_rail hx (show p < 3 by omega) (show 0 < 8 by omega) (show i + 1 < 8 by omega)]
  unfold fX2_railOfS
  rw [h5, htd]
  rfl
theorem l_digest (hm : mCore g a t td of) (hx : xCore gx ax t 0 td' of) (h1 : g 1 = gx 0 7) (hpg : ∀ i, i < g 1 → a 0 i = pg i) (h3 : g 3 ≤ 3) (h31 : g 3 = gx 0 1) (h40 : g 4 = 0 ↔ g 3 = 0) (h6 : g 6 = gx 0 2) (hr : sRel (g 3) (a 8) (a 9) (a 10) (g 5) (ax (0 + 6)) (gx (0 + 6) 9)) (hs : seenRel (g 15) (a 16) (gx 0 12) (ax 0 13) (ax 0 14) (ax 0 15) (ax 0 16)) (hrd : it (fun p S => S + ax (0 + 6) 2 p) (g 3) (nI 0) = a 10 2 + a 10 5) (hkn : ∀ d, d < 2 → ∃ n, n < 512 ∧ ax (0 + 6) 7 d = nI n) (hat : ∀ d, d < 2 → ∃ j, j < 8 ∧ ax (0 + 6) 6 d = nI j) (hw : ∀ p, p < 3 → ¬ ax (0 + 6) 4 p = (-1) → ∃ j, j < 8 ∧ ax (0 + 6) 4 p = nI j) (htd : ∀ p, p < g 3 → td p = td' p) (z0 : Nat → Int32) (y10 y9 : Int32) : (fX2_digest g a t td of).1 = (fX0_digest gx ax pg t td' of z0 y10 y9).1 := by
  have h4 : g 4 = tn t := hm.1.1
  have ok := hm.2.1
  have ht := hm.1
  have hT : ∀ d, d < 2 → ∀ p, p < g 3 → fX2_takesBy g a t td of d p = fX0_hurtsBy gx ax t td' of d p := fun d hd p hp => l_takes ok ht hr hat hd hp (htd p hp) (hw p (by omega))
  have hk : ∀ s, s < 9 → fX2_knownBy a (nI s) = fX0_knownBy ax (nI s) := fun s hs9 => l_known (hr.2.2.1 0 (by omega)).2.1 (hr.2.2.1 1 (by omega)).2.1 (hkn 0 (by omega)) (hkn 1 (by omega)) hs9
  have eP : it (fX2_digest_b9 g a t td of) (g 3) 1109 = it (fX0_digest_b6 gx ax t td' of) (gx 0 1) 1109 := by
    rw [← h31]
    refine it_eqs (fun p s hp => ?_) _
    exact l_sayPerson hm hx h3 hr hs hp (htd p hp) s
  have eS : ∀ u, it (fX2_digest_b30 a) (g 4) u = it (fX0_digest_b29 ax t) (tn t) u := by
    intro u
    rw [h4]
    refine it_eqs (fun i s hi => ?_) _
    unfold fX2_digest_b30 fX0_digest_b29
    refine it_eqs (fun w s hw5 => ?_) _
    unfold fX2_digest_b40 fX0_digest_b43
    rw [l_street_told ht hk hi ok.1 hw5]
    rfl
  have eT : ∀ u, fX2_sayTown g a u t td of = (fX0_mixedDrivers gx ax t td' of u z0).1 := by
    intro u
    unfold fX2_sayTown fX0_mixedDrivers
    dsimp only
    rw [l_match hT h3 h31 z0 (w := 0) (Or.inl rfl), l_match hT h3 h31 z0 (w := 1) (Or.inr (Or.inl rfl)), l_match hT h3 h31 z0 (w := 10) (Or.inr (Or.inr (Or.inl rfl))), l_match hT h3 h31 z0 (w := 11) (Or.inr (Or.inr (Or.inr rfl)))]
    rw [it_eqs (f := fX2_sayTown_b2 g a) (h := fX0_mixedDrivers_b5 ax t) (n := 2) (fun d s hd => by
      unfold fX2_sayTown_b2 fX0_mixedDrivers_b5
      refine it_eqs (fun w s hw6 => ?_) _
      unfold fX2_sayTown_b9 fX0_mixedDrivers_b14
      rw [l_driver_told ok ht hr.2.2.1 hat hd hw6]
      rfl)]
    rfl
  have eC : ∀ u, it (fX2_digest_b108 g a) 12 u = it (fX0_digest_b121 gx ax t) 12 u := by
    intro u
    refine it_eqs (fun i s _ => ?_) _
    unfold fX2_digest_b108 fX0_digest_b121
    rw [l_count ok ht h1 h31 h6 hr hs hrd hkn]
    rfl
  have eG : ∀ u, it (fX2_digest_b81 a) (g 1) u = it (fX0_digest_b93 pg) (gx 0 7) u := by
    intro u
    rw [← h1]
    refine it_eqs (fun i s hi => ?_) _
    unfold fX2_digest_b81 fX0_digest_b93
    rw [hpg i hi]
    rfl
  have hl := l_lacks h31 h3 h40
  unfold fX2_digest fX0_digest
  dsimp only
  rw [eC, eG, eP, eS]
  by_cases z : fX2_lacks g = 0
  · rw [if_pos z, if_neg (hl.mp z), eT]
  · rw [if_neg z, if_pos (Classical.not_not.mp (fun q => z (hl.mpr q)))]
end CNT
