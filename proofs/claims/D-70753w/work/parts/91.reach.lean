/-! THE LAW, 2: what is reached -/
set_option maxRecDepth 100000
theorem it_cong {S : Type} {f h : Nat → S → S} {P : S → Prop} {n : Nat} (e : ∀ i s, i < n → P s → f i s = h i s ∧ P (h i s)) : ∀ (k : Nat), k ≤ n → ∀ (s : S), P s → it f k s = it h k s ∧ P (it h k s) := by
  intro k
  induction k with
  | zero => intro _ s hs; exact ⟨rfl, hs⟩
  | succ k ih =>
    intro hk s hs
    obtain ⟨h1, h2⟩ := ih (by omega) s hs
    show f k (it f k s) = h k (it h k s) ∧ P (h k (it h k s))
    rw [h1]
    exact e k _ (by omega) h2
def is8 (S : Int32) : Prop := ∃ n, n < 256 ∧ S = nI n
theorem is8_or {S : Int32} (h : is8 S) {a b : Nat} (ha : a < 8) (hb : b < 8) : is8 (S ||| ((nI 1 <<< (nI a &&& 31)) ||| (nI 1 <<< (nI b &&& 31)))) := by
  obtain ⟨n, hn, rfl⟩ := h
  refine ⟨n ||| (1 <<< a ||| 1 <<< b), ?_, bit_or n hn a ha b hb⟩
  have h1 : 1 <<< a ||| 1 <<< b < 2 ^ 8 := Nat.or_lt_two_pow (by rw [Nat.one_shiftLeft]; exact Nat.pow_lt_pow_right (by omega) ha) (by rw [Nat.one_shiftLeft]; exact Nat.pow_lt_pow_right (by omega) hb)
  exact Nat.or_lt_two_pow (n := 8) hn h1
theorem is8_or0 {S : Int32} (h : is8 S) : is8 (S ||| nI 0) := by
  rw [show (nI 0 : Int32) = 0 from rfl, Int32.or_zero]
  exact h
theorem isIn_cases (set k : Int32) : (fX0_isIn set k = nI 1 ∧ ((set >>> (k &&& 31)) &&& nI 1) = nI 1) ∨ (fX0_isIn set k = nI 0 ∧ ¬ ((set >>> (k &&& 31)) &&& nI 1) = nI 1) := by
  unfold fX0_isIn
  by_cases h : ((set >>> (k &&& 31)) &&& nI 1) = nI 1
  · rw [if_pos h]; exact Or.inl ⟨rfl, h⟩
  · rw [if_neg h]; exact Or.inr ⟨rfl, h⟩
theorem reach_step {a : Nat → Nat → Int32} {t : TW} (hok : tOK t) (hr : ∀ s, s < tn t → a 7 (4 * s) = nI (tk t s) ∧ a 7 (4 * s + 1) = nI (ta t s) ∧ a 7 (4 * s + 2) = nI (tb t s) ∧ a 7 (4 * s + 3) = nI (tl t s)) (set : Int32) (i : Nat) (S : Int32) (hi : i < tn t) (hS : is8 S) : fX2_reachOf_b17 a set i S = fX1_reach_b17 t set i S ∧ is8 (fX1_reach_b17 t set i S) := by
  obtain ⟨-, e1, e2, -⟩ := hr i hi
  obtain ⟨-, ha, hb, -⟩ := hok.2.2 i hi
  unfold fX2_reachOf_b17 fX1_reach_b17
  rw [e1, e2]
  obtain ⟨n, hn, rfl⟩ := hS
  have h2 := bit_two n hn _ ha _ hb
  rcases isIn_cases set (nI i) with ⟨q1, q2⟩ | ⟨q1, q2⟩
  · rw [if_pos q2, q1, if_neg (show ¬ nI 1 = 0 by decide)]
    by_cases z : fX0_isIn (nI n) (nI (ta t i)) = 0
    · rw [if_pos z]
      by_cases z2 : fX0_isIn (nI n) (nI (tb t i)) = 0
      · rw [if_pos z2, if_pos (h2.mpr ⟨z, z2⟩), if_pos (show nI 0 = 0 from rfl)]
        exact ⟨rfl, is8_or0 ⟨n, hn, rfl⟩⟩
      · rw [if_neg z2, if_neg (fun q => z2 (h2.mp q).2), if_neg (show ¬ nI 1 = 0 by decide)]
        exact ⟨rfl, is8_or ⟨n, hn, rfl⟩ ha hb⟩
    · rw [if_neg z, if_neg (fun q => z (h2.mp q).1), if_neg (show ¬ nI 1 = 0 by decide)]
      exact ⟨rfl, is8_or ⟨n, hn, rfl⟩ ha hb⟩
  · rw [if_neg q2, q1, if_pos (show nI 0 = 0 from rfl), if_pos (show nI 0 = 0 from rfl)]
    exact ⟨rfl, is8_or0 ⟨n, hn, rfl⟩⟩
theorem is8_one : ∀ c, c < 8 → (nI 1 <<< (nI c &&& 31)) = nI (1 <<< c) ∧ 1 <<< c < 256 := by decide +kernel
theorem l_reach {g : Nat → Nat} {a : Nat → Nat → Int32} {t : TW} (hok : tOK t) (ht : mTown g a t) (c : Nat) (hc : c < 8) (set : Int32) : fX2_reachOf g a (nI c) set = fX1_reach t (nI c) set ∧ is8 (fX1_reach t (nI c) set) := by
  unfold fX2_reachOf fX1_reach
  refine it_cong (P := is8) (n := 8) (fun i S _ hS => ?_) 8 (Nat.le_refl _) _ ⟨1 <<< c, (is8_one c hc).2, (is8_one c hc).1⟩
  unfold fX2_reachOf_b7 fX1_reach_b7
  rw [ht.1]
  exact it_cong (P := is8) (n := tn t) (fun i S hi hS => reach_step hok ht.2 set i S hi hS) (tn t) (Nat.le_refl _) S hS
theorem l_used {g : Nat → Nat} {a : Nat → Nat → Int32} {t : TW} (hok : tOK t) (ht : mTown g a t) : fX2_cornersWithEnds g a = fX0_cornersUsed t ∧ is8 (fX0_cornersUsed t) := by
  unfold fX2_cornersWithEnds fX0_cornersUsed
  rw [ht.1]
  refine it_cong (P := is8) (n := tn t) (fun i S hi hS => ?_) (tn t) (Nat.le_refl _) _ ⟨0, by omega, rfl⟩
  obtain ⟨-, e1, e2, -⟩ := ht.2 i hi
  obtain ⟨-, ha, hb, -⟩ := hok.2.2 i hi
  unfold fX2_cornersWithEnds_b4 fX0_cornersUsed_b4
  rw [e1, e2]
  exact ⟨rfl, is8_or hS ha hb⟩
