/-! THE LAW, 6: rails -/
set_option maxRecDepth 100000
theorem nI_or (a b : Nat) : nI a ||| nI b = nI (a ||| b) := by
  apply Int32.toBitVec_inj.mp
  apply BitVec.eq_of_getLsbD_eq
  intro i hi
  rw [Int32.toBitVec_or, BitVec.getLsbD_or, nI_bits _ _ hi, nI_bits _ _ hi, nI_bits _ _ hi, Nat.testBit_or]
theorem one9 : ∀ c, c < 10 → (nI 1 <<< (nI c &&& 31)) = nI (1 <<< c) := by decide +kernel
theorem inB_bit {n : Nat} (hn : n < 512) {k : Nat} (hk : k < 9) : inB (nI n) k = n.testBit k := by
  have e := isIn_bit n hn k hk
  unfold inB
  rcases isIn_cases (nI n) (nI k) with ⟨q1, q2⟩ | ⟨q1, q2⟩
  · rw [q1] at e
    rw [decide_eq_true q2]
    cases z : n.testBit k with
    | true => rfl
    | false => rw [z] at e; exact absurd (e.mpr rfl) (by decide)
  · rw [q1] at e
    rw [decide_eq_false q2, e.mp rfl]
theorem x_hurts {g : Nat → Nat → Nat} {a : Nat → Nat → Nat → Int32} {t : TW} {td : Nat → Nat} {of : Nat → Nat → Nat} (hc : xCore g a t 0 td of) {p i : Nat} (hp : p < 3) (hi : i < tn t) : fX1_hurts g a t 0 p i = nI (huN t (g (0 + 6) 9) (td p) (of p) i) := by
  obtain ⟨ok, hd, h1, h2⟩ := hc
  unfold fX1_hurts huN
  rw [(h1 p hp).1, (h2 p hp i hi).1]
  exact x_kindhurts (ok.2.2 i hi).1 (h1 p hp).2 hd
theorem bst_congr {t : TW} {I J : Nat → Bool} (h : ∀ i, i < tn t → I i = J i) (c : Nat) : rB t I c = rB t J c := by
  unfold rB brs brd
  refine (it_cong (P := fun _ => True) (n := 8) (fun _ B _ _ => ⟨?_, trivial⟩) 8 (Nat.le_refl _) _ trivial).1
  refine (it_cong (P := fun _ => True) (n := tn t) (fun i B hi _ => ⟨?_, trivial⟩) (tn t) (Nat.le_refl _) _ trivial).1
  unfold bst
  rw [h i hi]
/-- the streets that hurt no more -/
theorem comes_set {g : Nat → Nat → Nat} {a : Nat → Nat → Nat → Int32} {t : TW} {td : Nat → Nat} {of : Nat → Nat → Nat} (hc : xCore g a t 0 td of) {p : Nat} (hp : p < 3) (m : Nat) (hm : m < 2 ^ 31) : ∀ k, k ≤ tn t → ∃ w, w < 2 ^ k ∧ it (fX0_comesBy_b6 g a t p (nI m)) k (nI 0) = nI w ∧ ∀ i, i < k → w.testBit i = decide (huN t (g (0 + 6) 9) (td p) (of p) i ≤ m) := by
  have h9 : tn t ≤ 9 := hc.1.1
  intro k
  induction k with
  | zero => intro _; exact ⟨0, by omega, rfl, fun i hi => absurd hi (by omega)⟩
  | succ k ih =>
    intro hk
    obtain ⟨w, hw, e, hb⟩ := ih (by omega)
    have hle : huN t (g (0 + 6) 9) (td p) (of p) k ≤ 5009 := huN_le (hc.2.2.1 p hp).2 (fun i hi => (hc.2.2.2 p hp i hi).2) k (by omega)
    have step : it (fX0_comesBy_b6 g a t p (nI m)) (k + 1) (nI 0) = fX0_comesBy_b6 g a t p (nI m) k (nI w) := by
      show fX0_comesBy_b6 g a t p (nI m) k (it (fX0_comesBy_b6 g a t p (nI m)) k (nI 0)) = _
      rw [e]
    rw [step]
    unfold fX0_comesBy_b6
    rw [x_hurts hc hp (by omega)]
    have hlt : nI m < nI (huN t (g (0 + 6) 9) (td p) (of p) k) ↔ m < huN t (g (0 + 6) 9) (td p) (of p) k := nI_ltI (by omega) (by omega)
    by_cases z : huN t (g (0 + 6) 9) (td p) (of p) k ≤ m
    · rw [if_neg (fun q => by have := hlt.mp q; omega), one9 k (by omega), nI_or]
      refine ⟨w ||| 1 <<< k, ?_, rfl, fun i hi => ?_⟩
      · exact Nat.or_lt_two_pow (Nat.lt_trans hw (Nat.pow_lt_pow_right (by omega) (by omega))) (by rw [Nat.one_shiftLeft]; exact Nat.pow_lt_pow_right (by omega) (by omega))
      · rw [Nat.testBit_or, tb_two]
        by_cases q : i = k
        · subst q
          simp [z]
        · rw [hb i (by omega)]
          simp [q]
    · rw [if_pos (hlt.mpr (by omega)), nI_or]
      refine ⟨w ||| 0, ?_, rfl, fun i hi => ?_⟩
      · rw [Nat.or_zero]; exact Nat.lt_trans hw (Nat.pow_lt_pow_right (by omega) (by omega))
      · rw [Nat.or_zero]
        by_cases q : i = k
        · subst q
          rw [Nat.testBit_lt_two_pow hw]
          simp [z]
        · exact hb i (by omega)
/-- whom one comes to by streets that hurt no more than m: the rails that are no more than m -/
theorem thr_step {t : TW} (ok : tOK t) (hu : Nat → Nat) (m : Nat) {i : Nat} (hi : i < tn t) (D : Nat → Nat) : (fun x => decide (rS t hu i D x ≤ m)) = bst t (fun i => decide (hu i ≤ m)) i (fun x => decide (D x ≤ m)) := by
  obtain ⟨-, -, -, hab, -⟩ := ok.2.2 i hi
  funext x
  unfold bst
  rw [Bool.eq_iff_iff]
  simp only [Bool.or_eq_true, Bool.and_eq_true, decide_eq_true_eq]
  unfold rS rlx nu
  by_cases h1 : x = tb t i
  · subst h1
    rw [if_pos rfl, if_neg (fun z => hab z.symm), if_pos rfl]
    omega
  · rw [if_neg h1]
    by_cases h2 : x = ta t i
    · subst h2
      rw [if_pos rfl]
      omega
    · rw [if_neg h2]
      omega
theorem thr_rT {t : TW} (ok : tOK t) (hu : Nat → Nat) {F m : Nat} (hm : m < F) (fr : Nat) : (fun x => decide (rT t hu F fr x ≤ m)) = rB t (fun i => decide (hu i ≤ m)) fr := by
  have inner : ∀ k, k ≤ tn t → ∀ D : Nat → Nat, (fun x => decide (it (rS t hu) k D x ≤ m)) = it (bst t (fun i => decide (hu i ≤ m))) k (fun x => decide (D x ≤ m)) := by
    intro k
    induction k with
    | zero => intro _ D; rfl
    | succ k ih =>
      intro hk D
      show (fun x => decide (rS t hu k (it (rS t hu) k D) x ≤ m)) = bst t _ k (it (bst t (fun i => decide (hu i ≤ m))) k (fun x => decide (D x ≤ m)))
      rw [thr_step ok hu m (by omega), ih (by omega)]
  have outer : ∀ k, (fun x => decide (it (fun _ D => it (rS t hu) (tn t) D) k (d0 F fr) x ≤ m)) = brs t (fun i => decide (hu i ≤ m)) k (fun x => decide (x = fr)) := by
    intro k
    induction k with
    | zero =>
      funext x
      show decide (d0 F fr x ≤ m) = decide (x = fr)
      unfold d0
      by_cases h : x = fr
      · rw [if_pos h]; simp [h]
      · rw [if_neg h]; simp [h]; omega
    | succ k ih =>
      show (fun x => decide (it (rS t hu) (tn t) (it (fun _ D => it (rS t hu) (tn t) D) k (d0 F fr)) x ≤ m)) = brd t _ (brs t _ k _)
      rw [inner (tn t) (Nat.le_refl _), ih]
      rfl
  exact outer 8
/-- a rail is one of the hurts -/
def rVal (t : TW) (hu : Nat → Nat) (F fr : Nat) (D : Nat → Nat) : Prop := ∀ x, D x = F ∨ (x = fr ∧ D x = 0) ∨ ∃ s, s < tn t ∧ D x = hu s
theorem rVal.rlx {t : TW} {hu : Nat → Nat} {F fr : Nat} {D : Nat → Nat} (h : rVal t hu F fr D) {i : Nat} (hi : i < tn t) (hF : hu i ≤ F) (a b : Nat) : rVal t hu F fr (rlx D a b (hu i)) := by
  intro x
  unfold Jvm.Pilot.CHurtStreetsLaw_law_r4884_2aa432.rlx nu
  by_cases hx : x = a
  · subst hx
    rw [if_pos rfl]
    rcases Nat.le_total (D x) (max (hu i) (D b)) with z | z
    · rw [Nat.min_eq_left z]; exact h x
    · rw [Nat.min_eq_right z]
      rcases Nat.le_total (hu i) (D b) with z2 | z2
      · rw [Nat.max_eq_right z2]
        rcases h b with q | ⟨q1, q2⟩ | q
        · exact Or.inl q
        · exact Or.inr (Or.inr ⟨i, hi, by omega⟩)
        · exact Or.inr (Or.inr q)
      · rw [Nat.max_eq_left z2]
        exact Or.inr (Or.inr ⟨i, hi, rfl⟩)
  · rw [if_neg hx]; exact h x
theorem rVal_rT {t : TW} {hu : Nat → Nat} {F fr : Nat} (hF : ∀ i, i < tn t → hu i ≤ F) : rVal t hu F fr (rT t hu F fr) := by
  have inner : ∀ k, k ≤ tn t → ∀ D : Nat → Nat, rVal t hu F fr D → rVal t hu F fr (it (rS t hu) k D) := by
    intro k
    induction k with
    | zero => intro _ D h; exact h
    | succ k ih => intro hk D h; exact ((ih (by omega) D h).rlx (by omega) (hF k (by omega)) _ _).rlx (by omega) (hF k (by omega)) _ _
  have outer : ∀ k, rVal t hu F fr (it (fun _ D => it (rS t hu) (tn t) D) k (d0 F fr)) := by
    intro k
    induction k with
    | zero =>
      intro x
      show d0 F fr x = F ∨ (x = fr ∧ d0 F fr x = 0) ∨ ∃ s, s < tn t ∧ d0 F fr x = hu s
      by_cases h : x = fr
      · exact Or.inr (Or.inl ⟨h, by unfold d0; rw [if_pos h]⟩)
      · exact Or.inl (by unfold d0; rw [if_neg h])
    | succ k ih => exact inner (tn t) (Nat.le_refl _) _ ih
  exact outer 8
theorem l_comes {g : Nat → Nat → Nat} {a : Nat → Nat → Nat → Int32} {t : TW} {td : Nat → Nat} {of : Nat → Nat → Nat} (hc : xCore g a t 0 td of) {p : Nat} (hp : p < 3) {fr to : Nat} (hfr : fr < 8) (hto : to < 8) {m : Nat} (hm : m < 1000000000) : (fX0_comesBy g a t p (nI fr) (nI to) (nI m) = 0 ↔ ¬ rT t (huN t (g (0 + 6) 9) (td p) (of p)) 1000000000 fr to ≤ m) := by
  obtain ⟨w, hw, e, hb⟩ := comes_set hc hp m (by omega) (tn t) (Nat.le_refl _)
  have h9 : tn t ≤ 9 := hc.1.1
  have hw9 : w < 512 := Nat.lt_of_lt_of_le hw (show 2 ^ tn t ≤ 2 ^ 9 from Nat.pow_le_pow_right (by omega) h9)
  unfold fX0_comesBy
  rw [e]
  obtain ⟨n, hn, hne, hbits⟩ := reach_bits hc.1 (nI w) hfr
  rw [hne, isIn_bit n (by omega) to (by omega), hbits to, bst_congr (J := fun i => decide (huN t (g (0 + 6) 9) (td p) (of p) i ≤ m)) (fun i hi => by rw [inB_bit hw9 (by omega), hb i hi]) fr, ← thr_rT hc.1 _ hm fr]
  simp
theorem l_rail {g : Nat → Nat → Nat} {a : Nat → Nat → Nat → Int32} {t : TW} {td : Nat → Nat} {of : Nat → Nat → Nat} (hc : xCore g a t 0 td of) {p : Nat} (hp : p < 3) {fr to : Nat} (hfr : fr < 8) (hto : to < 8) : fX0_railTold g a t p (nI fr) (nI to) = crail t (g (0 + 6) 9) (td p) (of p) fr to := by
  have hle : ∀ i, i < tn t → huN t (g (0 + 6) 9) (td p) (of p) i ≤ 5009 := huN_le (hc.2.2.1 p hp).2 (fun i hi => (hc.2.2.2 p hp i hi).2)
  have hv := rVal_rT (t := t) (hu := huN t (g (0 + 6) 9) (td p) (of p)) (F := 1000000000) (fr := fr) (fun i hi => by have := hle i hi; omega) to
  have h0 : rT t (huN t (g (0 + 6) 9) (td p) (of p)) 1000000000 fr fr = 0 := by
    have := congrFun (thr_rT hc.1 (huN t (g (0 + 6) 9) (td p) (of p)) (show 0 < 1000000000 by omega) fr) fr
    rw [rB_self] at this
    have := of_decide_eq_true this
    omega
  obtain ⟨D, hD⟩ : ∃ D, D = rT t (huN t (g (0 + 6) 9) (td p) (of p)) 1000000000 fr to := ⟨_, rfl⟩
  have hft : (nI fr = nI to) ↔ fr = to := nI_eq (by omega) (by omega)
  have key : ∀ k, k ≤ tn t → ∃ L, L ≤ 268435456 ∧ it (fX0_railTold_b16 g a t p (nI fr) (nI to)) k (if nI fr = nI to then nI 0 else nI 268435456) = nI L ∧ (D < 1000000000 → D ≤ L) ∧ (D = 1000000000 → L = 268435456) ∧ (fr = to → L = 0) ∧ ∀ s, s < k → D ≤ huN t (g (0 + 6) 9) (td p) (of p) s → L ≤ huN t (g (0 + 6) 9) (td p) (of p) s := by
    intro k
    induction k with
    | zero =>
      intro _
      by_cases z : fr = to
      · refine ⟨0, by omega, ?_, ?_, ?_, fun _ => rfl, fun s hs => absurd hs (by omega)⟩
        · show (if nI fr = nI to then nI 0 else nI 268435456) = nI 0
          rw [if_pos (hft.mpr z)]
        · intro _; rw [hD, ← z, h0]; omega
        · intro q; rw [hD, ← z, h0] at q; omega
      · refine ⟨268435456, by omega, ?_, ?_, fun _ => rfl, fun q => absurd q z, fun s hs => absurd hs (by omega)⟩
        · show (if nI fr = nI to then nI 0 else nI 268435456) = nI 268435456
          rw [if_neg (fun q => z (hft.mp q))]
        · intro q
          rw [← hD] at hv
          rcases hv with q2 | ⟨q1, q2⟩ | ⟨s, hs, q2⟩
          · omega
          · omega
          · have := hle s hs; omega
    | succ k ih =>
      intro hk
      obtain ⟨L, hL, e, c1, c2, c3, c4⟩ := ih (by omega)
      have hh := hle k (by omega)
      have step : it (fX0_railTold_b16 g a t p (nI fr) (nI to)) (k + 1) (if nI fr = nI to then nI 0 else nI 268435456) = fX0_railTold_b16 g a t p (nI fr) (nI to) k (nI L) := by
        show fX0_railTold_b16 g a t p (nI fr) (nI to) k (it (fX0_railTold_b16 g a t p (nI fr) (nI to)) k _) = _
        rw [e]
      rw [step]
      unfold fX0_railTold_b16
      rw [x_hurts hc hp (by omega)]
      have hcm := l_comes hc hp hfr hto (show huN t (g (0 + 6) 9) (td p) (of p) k < 1000000000 by omega)
      rw [← hD] at hcm
      have hle2 : nI L ≤ nI (huN t (g (0 + 6) 9) (td p) (of p) k) ↔ L ≤ huN t (g (0 + 6) 9) (td p) (of p) k := nI_leI (by omega) (by omega)
      by_cases z : L ≤ huN t (g (0 + 6) 9) (td p) (of p) k
      · rw [if_pos (hle2.mpr z)]
        refine ⟨L, hL, rfl, c1, c2, c3, fun s hs q => ?_⟩
        by_cases zs : s = k
        · subst zs; exact z
        · exact c4 s (by omega) q
      · rw [if_neg (fun q => z (hle2.mp q))]
        by_cases z2 : D ≤ huN t (g (0 + 6) 9) (td p) (of p) k
        · rw [if_neg (fun q => hcm.mp q z2)]
          refine ⟨_, by omega, rfl, fun _ => z2, fun q => by omega, fun q => by have := c3 q; omega, fun s hs q => ?_⟩
          by_cases zs : s = k
          · subst zs; omega
          · have := c4 s (by omega) q; omega
        · rw [if_pos (hcm.mpr z2)]
          refine ⟨L, hL, rfl, c1, c2, c3, fun s hs q => ?_⟩
          by_cases zs : s = k
          · subst zs; exact absurd q z2
          · exact c4 s (by omega) q
  obtain ⟨L, hL, e, c1, c2, c3, c4⟩ := key (tn t) (Nat.le_refl _)
  unfold fX0_railTold crail
  rw [e, ← hD]
  rw [← hD] at hv
  have hlt : nI L < nI 268435456 ↔ L < 268435456 := nI_ltI (by omega) (by omega)
  by_cases z : D < 1000000000
  · have hLD : L = D := by
      rcases hv with q | ⟨q1, q2⟩ | ⟨s, hs, q2⟩
      · omega
      · have := c3 q1.symm; omega
      · have := c4 s hs (by omega); have := c1 z; omega
    have : D < 268435456 := by
      rcases hv with q | ⟨q1, q2⟩ | ⟨s, hs, q2⟩
      · omega
      · omega
      · have := hle s hs; omega
    rw [if_pos z, if_pos (hlt.mpr (by omega)), hLD]
  · have hDF : D = 1000000000 := by
      have := rT_far t (huN t (g (0 + 6) 9) (td p) (of p)) 1000000000 fr to
      omega
    rw [if_neg z, if_neg (fun q => by have := hlt.mp q; have := c2 hDF; omega)]
