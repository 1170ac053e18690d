/-! THE LAW, 9: ways, lengths, rails are told alike -/
set_option maxRecDepth 100000
theorem nI_m1 {n : Nat} (h : n < 2 ^ 31) : ¬ nI n = (-1) := by
  intro q
  rw [← Int32.toInt_inj, nI_toInt h] at q
  have : (-1 : Int32).toInt = -1 := by decide
  omega
theorem l_tellWay {g : Nat → Nat} {gx : Nat → Nat → Nat} {t : TW} {td td' : Nat → Nat} {of : Nat → Nat → Nat} (h4 : g 4 = tn t) (h5 : g 5 = gx (0 + 6) 9) {p fr to wh : Nat} (htd : td p = td' p) (hwh : wh ≤ 2 ∨ 10 ≤ wh) : fX2_tellWay g t td of p fr to wh = fX0_wayTold gx t td' of p fr to wh := by
  unfold fX2_tellWay fX0_wayTold fX2_layWayS fX1_layWayS
  rw [l_every h4, h5, htd]
  have hl := cwl_le8 t (gx (0 + 6) 9) (td' p) (of p) (fX0_all t) fr to
  by_cases z : cds t (gx (0 + 6) 9) (td' p) (of p) (fX0_all t) to fr < 1000000000
  · rw [if_pos z, if_pos z, if_neg (nI_m1 (by omega)), if_neg (show ¬ nI 1 = 0 by decide)]
    by_cases w : wh ≤ 9
    · rw [if_pos w]
      by_cases w0 : wh = 0
      · rw [if_pos w0, if_pos w0]
      · rw [if_neg w0, if_neg w0]
        by_cases w1 : wh = 1
        · rw [if_pos w1, if_pos w1]
        · rw [if_neg w1, if_neg w1, if_pos (by omega)]
    · rw [if_neg w, if_neg (show ¬ wh = 0 by omega), if_neg (show ¬ wh = 1 by omega), if_neg (show ¬ wh = 2 by omega)]
  · rw [if_neg z, if_neg z, if_pos rfl, if_pos (show nI 0 = 0 from rfl)]
/-- two words for far -/
def twoF (m n : Nat) : Prop := (m = 1000000000 ∧ n = 268435456) ∨ (m = n ∧ m < 268435456)
theorem cll_two {t : TW} (ok : tOK t) {dy td : Nat} {of : Nat → Nat} (htd : td ≤ 9) (hof : ∀ i, i < tn t → of i ≤ 5000) (fr : Nat) {k : Nat} (hk : k < 656) : twoF (cll t dy td of fr k) (clF t dy td of fr k) := by
  have h1 := clF_far ok (dy := dy) htd hof fr hk
  have h2 := cll_far t dy td of fr k
  unfold clF at *
  by_cases z : cll t dy td of fr k < 1000000000
  · rw [if_pos z] at *
    exact Or.inr ⟨rfl, h1.2 z⟩
  · rw [if_neg z]
    exact Or.inl ⟨by omega, rfl⟩
theorem l_within {g : Nat → Nat} {gx : Nat → Nat → Nat} {t : TW} {td td' : Nat → Nat} {of : Nat → Nat → Nat} (ok : tOK t) (h5 : g 5 = gx (0 + 6) 9) {p fr to len : Nat} (htd : td p = td' p) (h9 : td p ≤ 9) (hof : ∀ i, i < tn t → of p i ≤ 5000) (hto : to < 8) (hlen : len ≤ 81) : fX2_withinOf g t td of p fr to len = fX0_withinTold gx t td' of p fr to len := by
  have key : ∀ k, k ≤ 82 → ∃ m n, twoF m n ∧ it (fX2_withinOf_b13 g t td of p fr to) k (nI 1000000000) = nI m ∧ it (fX0_withinTold_b13 gx t td' of p fr to) k (nI 268435456) = nI n := by
    intro k
    induction k with
    | zero => intro _; exact ⟨1000000000, 268435456, Or.inl ⟨rfl, rfl⟩, rfl, rfl⟩
    | succ k ih =>
      intro hk
      obtain ⟨m, n, hmn, e1, e2⟩ := ih (by omega)
      have hc := cll_two ok (dy := gx (0 + 6) 9) h9 hof fr (show 8 * k + to < 656 by omega)
      have s1 : it (fX2_withinOf_b13 g t td of p fr to) (k + 1) (nI 1000000000) = fX2_withinOf_b13 g t td of p fr to k (nI m) := by rw [← e1]; rfl
      have s2 : it (fX0_withinTold_b13 gx t td' of p fr to) (k + 1) (nI 268435456) = fX0_withinTold_b13 gx t td' of p fr to k (nI n) := by rw [← e2]; rfl
      rw [s1, s2]
      unfold fX2_withinOf_b13 fX0_withinTold_b13 jmin
      rw [h5, ← htd]
      generalize cll t (gx (0 + 6) 9) (td p) (of p) fr (8 * k + to) = c at *
      generalize clF t (gx (0 + 6) 9) (td p) (of p) fr (8 * k + to) = c' at *
      have b1 : m < 2 ^ 31 := by rcases hmn with q | q <;> omega
      have b2 : n < 2 ^ 31 := by rcases hmn with q | q <;> omega
      have b3 : c < 2 ^ 31 := by rcases hc with q | q <;> omega
      have b4 : c' < 2 ^ 31 := by rcases hc with q | q <;> omega
      have e3 : nI m ≤ nI c ↔ m ≤ c := nI_leI b1 b3
      have e4 : nI c' < nI n ↔ c' < n := nI_ltI b4 b2
      by_cases z : m ≤ c
      · rw [if_pos (e3.mpr z)]
        by_cases z2 : c' < n
        · rw [if_pos (e4.mpr z2)]
          refine ⟨m, c', ?_, rfl, rfl⟩
          unfold twoF at *; omega
        · rw [if_neg (fun q => z2 (e4.mp q))]
          exact ⟨m, n, hmn, rfl, rfl⟩
      · rw [if_neg (fun q => z (e3.mp q))]
        by_cases z2 : c' < n
        · rw [if_pos (e4.mpr z2)]
          exact ⟨c, c', hc, rfl, rfl⟩
        · rw [if_neg (fun q => z2 (e4.mp q))]
          refine ⟨c, n, ?_, rfl, rfl⟩
          unfold twoF at *; omega
  obtain ⟨m, n, hmn, e1, e2⟩ := key (len + 1) (by omega)
  unfold fX2_withinOf fX0_withinTold
  rw [e1, e2]
  have e3 : nI m < nI 1000000000 ↔ m < 1000000000 := nI_ltI (by rcases hmn with q | q <;> omega) (by omega)
  have e4 : nI n < nI 268435456 ↔ n < 268435456 := nI_ltI (by rcases hmn with q | q <;> omega) (by omega)
  rcases hmn with ⟨q1, q2⟩ | ⟨q1, q2⟩
  · rw [if_neg (fun z => by have := e3.mp z; omega), if_neg (fun z => by have := e4.mp z; omega)]
  · rw [if_pos (e3.mpr (by omega)), if_pos (e4.mpr (by omega)), q1]
theorem l_edge {g : Nat → Nat} {gx : Nat → Nat → Nat} {t : TW} {td td' : Nat → Nat} {of : Nat → Nat → Nat} (ok : tOK t) (h5 : g 5 = gx (0 + 6) 9) {p fr to : Nat} (wh : Int32) (htd : td p = td' p) (h9 : td p ≤ 9) (hof : ∀ i, i < tn t → of p i ≤ 5000) (hto : to < 8) : fX2_edgeOf g t td of p fr to wh = fX0_edgeTold gx t td' of p fr to wh := by
  have key : ∀ k, k ≤ 82 → ∃ m n f c, twoF m n ∧ it (fX2_edgeOf_b19 g t td of p fr to wh) k ((-1), nI 0, nI 1000000000) = (f, c, nI m) ∧ it (fX0_edgeTold_b19 gx t td' of p fr to wh) k ((-1), nI 268435456, nI 0) = (f, nI n, c) := by
    intro k
    induction k with
    | zero => intro _; exact ⟨1000000000, 268435456, (-1), nI 0, Or.inl ⟨rfl, rfl⟩, rfl, rfl⟩
    | succ k ih =>
      intro hk
      obtain ⟨m, n, f, ct, hmn, e1, e2⟩ := ih (by omega)
      have hc := cll_two ok (dy := gx (0 + 6) 9) h9 hof fr (show 8 * k + to < 656 by omega)
      have s1 : it (fX2_edgeOf_b19 g t td of p fr to wh) (k + 1) ((-1), nI 0, nI 1000000000) = fX2_edgeOf_b19 g t td of p fr to wh k (f, ct, nI m) := by rw [← e1]; rfl
      have s2 : it (fX0_edgeTold_b19 gx t td' of p fr to wh) (k + 1) ((-1), nI 268435456, nI 0) = fX0_edgeTold_b19 gx t td' of p fr to wh k (f, nI n, ct) := by rw [← e2]; rfl
      rw [s1, s2]
      unfold fX2_edgeOf_b19 fX0_edgeTold_b19
      dsimp only
      rw [h5, ← htd]
      generalize cll t (gx (0 + 6) 9) (td p) (of p) fr (8 * k + to) = c at *
      generalize clF t (gx (0 + 6) 9) (td p) (of p) fr (8 * k + to) = c' at *
      have b1 : m < 2 ^ 31 := by rcases hmn with q | q <;> omega
      have b2 : n < 2 ^ 31 := by rcases hmn with q | q <;> omega
      have b3 : c < 2 ^ 31 := by rcases hc with q | q <;> omega
      have b4 : c' < 2 ^ 31 := by rcases hc with q | q <;> omega
      have e3 : nI m ≤ nI c ↔ m ≤ c := nI_leI b1 b3
      have e4 : nI n ≤ nI c' ↔ n ≤ c' := nI_leI b2 b4
      by_cases z : m ≤ c
      · have z4 : nI n ≤ nI c' := e4.mpr (by unfold twoF at *; omega)
        rw [if_pos (e3.mpr z), if_pos z4]
        exact ⟨m, n, f, ct, hmn, rfl, rfl⟩
      · have hcc : c = c' := by unfold twoF at *; omega
        have z3 : ¬ nI m ≤ nI c := fun q => z (e3.mp q)
        have z4 : ¬ nI n ≤ nI c' := fun q => by have := e4.mp q; unfold twoF at *; omega
        rw [if_neg z3, if_neg z4, hcc]
        rw [hcc] at hc
        by_cases z2 : ct + 1 = wh
        · rw [if_pos z2, if_pos z2]; exact ⟨c', c', _, _, hc, rfl, rfl⟩
        · rw [if_neg z2, if_neg z2]; exact ⟨c', c', _, _, hc, rfl, rfl⟩
  obtain ⟨m, n, f, ct, hmn, e1, e2⟩ := key 82 (Nat.le_refl _)
  unfold fX2_edgeOf fX0_edgeTold
  rw [e1, e2]
theorem l_first {g : Nat → Nat} {gx : Nat → Nat → Nat} {t : TW} {of : Nat → Nat → Nat} (h4 : g 4 = tn t) (h5 : g 5 = gx (0 + 6) 9) (p tv fr to : Nat) : fX2_firstBy g t of p tv fr to = fX0_firstBy gx t of p tv fr to := by
  unfold fX2_firstBy fX0_firstBy fX2_firstStreetS fX1_layWayS cfs
  rw [l_every h4, h5]
  by_cases z : cds t (gx (0 + 6) 9) tv (of p) (fX0_all t) to fr < 1000000000
  · rw [if_pos z, if_pos z, if_neg (show ¬ nI 1 = 0 by decide)]
  · rw [if_neg z, if_neg z, if_pos (show nI 0 = 0 from rfl)]
