/-! THE LAW, 8: fault and town -/
set_option maxRecDepth 100000
section PARSE2
variable {gx : Nat → Nat → Nat} {pg : Nat → Int32} {g : Nat → Nat} {a : Nat → Nat → Int32} {y : Nat → Int32}
theorem sl0 {i b : Nat} (h : b % 5 = 0) : fX2_isStreetLetter a i b = if fX2_kindBy (a 0 i) = -1 then nI 0 else nI 1 := by
  unfold fX2_isStreetLetter
  rw [if_pos h]
theorem sl1 {i b : Nat} (h : b % 5 = 1) : fX2_isStreetLetter a i b = fX0_in (a 0 i) (nI (48 + 0)) (nI (48 + 7)) := by
  unfold fX2_isStreetLetter
  rw [if_neg (by omega), if_pos h, in55]
theorem sl2 {i b : Nat} (h : b % 5 = 2) : fX2_isStreetLetter a i b = if fX0_in (a 0 i) (nI (48 + 0)) (nI (48 + 7)) = 0 then nI 0 else if a 0 i = a 0 (i - 1) then nI 0 else nI 1 := by
  unfold fX2_isStreetLetter
  rw [if_neg (by omega), if_neg (by omega), if_pos h, in55]
theorem sl3 {i b : Nat} (h : b % 5 = 3) : fX2_isStreetLetter a i b = fX0_in (a 0 i) (nI (48 + 1)) (nI (48 + 9)) := by
  unfold fX2_isStreetLetter
  rw [if_neg (by omega), if_neg (by omega), if_neg (by omega), if_pos h, in49]
theorem sl4 {i b : Nat} (h : b % 5 = 4) : fX2_isStreetLetter a i b = if a 0 i = nI 44 then if 44 ≤ b then nI 0 else nI 1 else nI 0 := by
  unfold fX2_isStreetLetter
  rw [if_neg (by omega), if_neg (by omega), if_neg (by omega), if_neg (by omega)]
theorem dgt_ne {p q d e lo hi lo' hi' : Nat} (h1 : dgt gx pg p lo hi d) (h2 : dgt gx pg q lo' hi' e) (hd : hi ≤ 9) (he : hi' ≤ 9) : pg p = pg q ↔ d = e := by
  obtain ⟨_, _, a2, a3⟩ := h1
  obtain ⟨_, _, b2, b3⟩ := h2
  rw [a3, b3, nI_eq (by omega) (by omega)]
  omega
/-- a street's letters -/
theorem up_kind {np j k : Nat} (hp : ∀ i, i < gx 0 7 → a 0 i = pg i) (hnp : np ≤ 3) (h : upto gx y a np (np + 5 * j + 1)) (hk : sKind gx pg (np + 5 * j + 1) k) : upto gx y a np (np + 5 * j + 1 + 1) := by
  have hN := kind_lt hk
  refine upto_st hnp (by omega) h hN ?_
  rw [sl0 (by omega), hp _ hN, kindBy_of hk, if_neg]
  · decide
  · rcases (show k = 0 ∨ k = 1 ∨ k = 2 ∨ k = 3 ∨ k = 4 by have := hk.1; omega) with q | q | q | q | q <;> subst q <;> decide
theorem up_one {np j d : Nat} (hp : ∀ i, i < gx 0 7 → a 0 i = pg i) (hnp : np ≤ 3) (h : upto gx y a np (np + 5 * j + 1 + 1)) (hd : dgt gx pg (np + 5 * j + 1 + 1) 0 7 d) : upto gx y a np (np + 5 * j + 1 + 1 + 1) := by
  refine upto_st hnp (by omega) h hd.1 ?_
  rw [sl1 (by omega), hp _ hd.1, dg_in (by omega) (by omega) hd.1]
  exact fun q => q (dgt_is hd)
theorem up_two {np j d e : Nat} (hp : ∀ i, i < gx 0 7 → a 0 i = pg i) (hnp : np ≤ 3) (h : upto gx y a np (np + 5 * j + 1 + 1 + 1)) (hd : dgt gx pg (np + 5 * j + 1 + 1) 0 7 d) (he : dgt gx pg (np + 5 * j + 1 + 1 + 1) 0 7 e) (hne : ¬ d = e) : upto gx y a np (np + 5 * j + 1 + 1 + 1 + 1) := by
  refine upto_st hnp (by omega) h he.1 ?_
  rw [sl2 (by omega), hp _ he.1, show np + 5 * j + 1 + 1 + 1 - 1 = np + 5 * j + 1 + 1 by omega, hp _ hd.1, if_neg, if_neg]
  · decide
  · exact fun q => hne ((dgt_ne he hd (by omega) (by omega)).mp q).symm
  · rw [dg_in (by omega) (by omega) he.1]
    exact fun q => q (dgt_is he)
theorem up_len {np j d : Nat} (hp : ∀ i, i < gx 0 7 → a 0 i = pg i) (hnp : np ≤ 3) (h : upto gx y a np (np + 5 * j + 1 + 1 + 1 + 1)) (hd : dgt gx pg (np + 5 * j + 1 + 1 + 1 + 1) 1 9 d) : upto gx y a np (np + 5 * j + 1 + 1 + 1 + 1 + 1) := by
  refine upto_st hnp (by omega) h hd.1 ?_
  rw [sl3 (by omega), hp _ hd.1, dg_in (by omega) (by omega) hd.1]
  exact fun q => q (dgt_is hd)
theorem up_sep {np j : Nat} (hp : ∀ i, i < gx 0 7 → a 0 i = pg i) (hnp : np ≤ 3) (h1 : 1 ≤ j) (h8 : j ≤ 8) (h : upto gx y a np (np + 5 * j)) (hd : nx gx pg (np + 5 * j) = nI 44) : upto gx y a np (np + 5 * j + 1) := by
  have hN := nx_lt (by decide) hd
  rw [nx_in hN] at hd
  refine upto_st hnp (by omega) h hN ?_
  rw [sl4 (by omega), hp _ hN, if_pos hd, if_neg (by omega)]
  decide
theorem up_street {np j k d e l : Nat} (hp : ∀ i, i < gx 0 7 → a 0 i = pg i) (hnp : np ≤ 3) (h : upto gx y a np (np + 5 * j + 1)) (hs : sOK gx pg (np + 5 * j + 1) k d e l) : upto gx y a np (np + 5 * (j + 1)) := by
  obtain ⟨h1, h2, h3, h4, h5⟩ := hs
  rw [show np + 5 * (j + 1) = np + 5 * j + 1 + 1 + 1 + 1 + 1 by omega]
  exact up_len hp hnp (up_two hp hnp (up_one hp hnp (up_kind hp hnp h h1) h2) h2 h3 h4) h5
theorem up_pre {np j : Nat} (hp : ∀ i, i < gx 0 7 → a 0 i = pg i) (h : prex gx pg np j) (hj : j ≤ 9) : ∀ k, 1 ≤ k → k ≤ j → upto gx y a np (np + 5 * k) := by
  intro k
  induction k with
  | zero => intro z; omega
  | succ k ih =>
    intro _ hk
    obtain ⟨_, _, _, _, hs⟩ := h.2.2.1 k (by omega)
    by_cases z : k = 0
    · subst z
      exact up_street hp h.1.2.1 (j := 0) (upto_semi hp h.1 h.2.1) hs
    · exact up_street hp h.1.2.1 (up_sep hp h.1.2.1 (by omega) (by omega) (ih (by omega) (by omega)) (h.2.2.2 k (by omega) (by omega))) hs
theorem up_next {np j : Nat} (hp : ∀ i, i < gx 0 7 → a 0 i = pg i) (h : prex gx pg np j) (hj : j ≤ 8) (hc : 1 ≤ j → nx gx pg (np + 5 * j) = nI 44) : upto gx y a np (np + 5 * j + 1) := by
  by_cases z : j = 0
  · subst z; exact upto_semi hp h.1 h.2.1
  · exact up_sep hp h.1.2.1 (by omega) hj (up_pre hp h (by omega) j (by omega) (Nat.le_refl _)) (hc (by omega))
/-- a street's fault -/
theorem bad_street {np j n : Nat} (hp : ∀ i, i < gx 0 7 → a 0 i = pg i) (hnp : np ≤ 3) (h : upto gx y a np (np + 5 * j + 1)) (hb : sBad gx pg (np + 5 * j + 1) n) : upto gx y a np n ∧ (n < gx 0 7 → (fX2_isGood (va_up y 2 (wE np n)) a n).1 = 0) ∧ np + 5 * j + 1 ≤ n ∧ n ≤ np + 5 * j + 4 := by
  rcases hb with ⟨rfl, hk⟩ | ⟨k, hk, rfl, hd⟩ | ⟨k, d, hk, hd, rfl, hq⟩ | ⟨k, d, e, hk, hd, he, hne, rfl, hq⟩
  · refine ⟨h, fun hN => bad_st hnp (by omega) ?_, by omega, by omega⟩
    rw [sl0 (by omega), hp _ hN, if_pos (kindBy_no hN hk)]
    rfl
  · refine ⟨up_kind hp hnp h hk, fun hN => bad_st hnp (by omega) ?_, by omega, by omega⟩
    rw [sl1 (by omega), hp _ hN]
    exact (dg_in (by omega) (by omega) hN).mpr hd
  · refine ⟨up_one hp hnp (up_kind hp hnp h hk) hd, fun hN => bad_st hnp (by omega) ?_, by omega, by omega⟩
    rw [sl2 (by omega), hp _ hN, show np + 5 * j + 1 + 1 + 1 - 1 = np + 5 * j + 1 + 1 by omega, hp _ hd.1]
    by_cases z : fX0_in (pg (np + 5 * j + 1 + 1 + 1)) (nI (48 + 0)) (nI (48 + 7)) = 0
    · rw [if_pos z]; rfl
    · rw [if_neg z, if_pos]
      · rfl
      · rcases hq with q | q
        · exact absurd ((dg_in (by omega) (by omega) hN).mpr q) z
        · rw [nx_in hN] at q
          rw [hd.2.2.2, ← Int32.sub_add_cancel (pg (np + 5 * j + 1 + 1 + 1)) (nI 48), q, nI_add, Nat.add_comm]
  · refine ⟨up_two hp hnp (up_one hp hnp (up_kind hp hnp h hk) hd) hd he hne, fun hN => bad_st hnp (by omega) ?_, by omega, by omega⟩
    rw [sl3 (by omega), hp _ hN]
    exact (dg_in (by omega) (by omega) hN).mpr hq
/-- where the class stops, the model stops; and then it's no town -/
theorem l_bad {n : Nat} (hp : ∀ i, i < gx 0 7 → a 0 i = pg i) (hg : g 1 = gx 0 7) (h : tBad gx pg n) : (fX2_faultOf g y a).1 = n ∧ (fX2_town g y a).1 = (-103) ∧ (fX2_town g y a).2 = (a 10, a 7, a 8, a 9, g 1, g 15, g 3, g 4, g 5, g 6, (fX2_faultOf g y a).2) := by
  have main : (fX2_faultOf g y a).1 = n ∧ (n = gx 0 7 → (fX2_faultOf g y a).2 = -1 ∨ ∃ np, np ≤ 3 ∧ (fX2_faultOf g y a).2 = nI np ∧ (gx 0 7 - np < 10 ∨ ¬ (gx 0 7 - np) % 5 = 0)) := by
    rcases h with ⟨rfl, hd⟩ | ⟨hd, hs⟩ | ⟨np, j, hx, hj, hc, hb⟩ | ⟨np, hx, rfl, hc⟩ | ⟨np, j, hx, h2, h9, hc, rfl, hN⟩
    · have u0 : upto gx y a 0 0 := fun i hi => absurd hi (by omega)
      have := fault_is hg u0 (fun hN => by
        rw [show wE 0 0 = -1 from if_pos (by omega)]
        exact good_bad (hp 0 hN) hN (Or.inl rfl) (Or.inr hd))
      refine ⟨this.1, fun z => Or.inl ?_⟩
      rw [this.2 z]
      exact if_pos (by omega)
    · have u0 : upto gx y a n n := upto_digs hp hd.2.2.1 hd.2.1 n (Nat.le_refl _)
      have := fault_is hg u0 (fun hN => by
        rw [show wE n n = -1 from if_pos (by omega)]
        refine good_bad (hp n hN) hN (Or.inr (fun q => hs (by rw [nx_in hN]; exact q))) ?_
        by_cases z : n < 3
        · exact Or.inr (hd.2.2.2 z)
        · exact Or.inl (by omega))
      refine ⟨this.1, fun z => Or.inl ?_⟩
      rw [this.2 z]
      exact if_pos (by omega)
    · obtain ⟨u1, u2, u3, u4⟩ := bad_street (y := y) hp hx.1.2.1 (up_next hp hx hj hc) hb
      have := fault_is hg u1 u2
      refine ⟨this.1, fun z => Or.inr ⟨np, hx.1.2.1, ?_, Or.inr (by omega)⟩⟩
      rw [this.2 z]
      exact if_neg (by omega)
    · have hnp := hx.1.2.1
      have := fault_is (y := y) hg (up_pre hp hx (by omega) 1 (by omega) (by omega)) (fun hN => by
        refine bad_st hnp (by omega) ?_
        rw [sl4 (by omega), hp _ hN, if_neg]
        · rfl
        · intro q; exact hc (by rw [nx_in hN]; exact q))
      refine ⟨this.1, fun z => Or.inr ⟨np, hnp, ?_, Or.inl (by omega)⟩⟩
      rw [this.2 z]
      exact if_neg (by omega)
    · have hnp := hx.1.2.1
      have := fault_is (y := y) hg (up_pre hp hx h9 j (by omega) (Nat.le_refl _)) (fun hN => by
        refine bad_st hnp (by omega) ?_
        rw [sl4 (by omega), hp _ hN]
        by_cases q : pg (np + 5 * j) = nI 44
        · rw [if_pos q, if_pos]
          · rfl
          · rcases hc with z | z
            · omega
            · exact absurd (by rw [nx_in hN]; exact q) z
        · rw [if_neg q]; rfl)
      exact ⟨this.1, fun z => absurd z hN⟩
  refine ⟨main.1, ?_⟩
  unfold fX2_town
  rw [main.1]
  by_cases z : n < g 1
  · rw [if_pos z]; exact ⟨rfl, rfl⟩
  · rw [if_neg z]
    have hle : n ≤ gx 0 7 := by
      have h0 : (fX2_faultOf g y a).1 ≤ g 1 := by
        have key : ∀ k, (it (fX2_faultOf_b7 y a) k ((0, (-1)), false)).1.1 ≤ k := by
          intro k
          induction k with
          | zero => exact Nat.le_refl _
          | succ k ih =>
            have step : ∀ S : (Nat × Int32) × Bool, S.1.1 ≤ k → (fX2_faultOf_b7 y a k S).1.1 ≤ k + 1 := by
              intro S hS
              unfold fX2_faultOf_b7
              split
              · omega
              · split
                · show k ≤ k + 1; omega
                · exact Nat.le_refl _
            exact step _ ih
        exact key (g 1)
      rw [main.1] at h0
      omega
    rcases main.2 (by omega) with q | ⟨np, h3, q, hq⟩
    · rw [if_pos q]; exact ⟨rfl, rfl⟩
    · have hne : ¬ nI np = (-1) := by
        rcases (show np = 0 ∨ np = 1 ∨ np = 2 ∨ np = 3 by omega) with z | z | z | z <;> subst z <;> decide
      rw [q, if_neg hne, show toN (nI np) = np from nI_clamp (by omega), hg]
      by_cases z1 : gx 0 7 - np < 10
      · rw [if_pos z1]; exact ⟨rfl, rfl⟩
      · rw [if_neg z1, if_neg (by omega)]; exact ⟨rfl, rfl⟩
/-- a whole town -/
theorem l_whole {np j : Nat} (hp : ∀ i, i < gx 0 7 → a 0 i = pg i) (hg : g 1 = gx 0 7) (hx : prex gx pg np j) (h2 : 2 ≤ j) (h9 : j ≤ 9) (hN : gx 0 7 = np + 5 * j) : fX2_faultOf g y a = (g 1, nI np) := by
  have := fault_is (y := y) hg (up_pre hp hx h9 j (by omega) (Nat.le_refl _)) (fun z => absurd z (by omega))
  refine Prod.ext (by rw [this.1, hg, hN]) ?_
  rw [this.2 hN.symm]
  exact if_neg (by omega)
theorem l_fault {n : Nat} (hp : ∀ i, i < gx 0 7 → a 0 i = pg i) (hg : g 1 = gx 0 7) (h : fAns gx pg n) : (fX2_faultOf g y a).1 = n := by
  rcases h with ⟨rfl, np, j, hx, h2, h9, hN⟩ | h
  · rw [l_whole hp hg hx h2 h9 hN, hg]
  · exact (l_bad hp hg h).1
end PARSE2
