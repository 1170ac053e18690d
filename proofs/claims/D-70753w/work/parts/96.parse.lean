/-! THE LAW, 7: the page is read alike -/
set_option maxRecDepth 100000
theorem in48 (x : Int32) : fX2_in x.toInt64 48 57 = fX0_in x (nI (48 + 0)) (nI (48 + 9)) := by
  have := in_eq x (nI 48) (nI 57)
  rw [show (nI 48).toInt64 = 48 by decide, show (nI 57).toInt64 = 57 by decide] at this
  exact this
theorem in55 (x : Int32) : fX2_in x.toInt64 48 55 = fX0_in x (nI (48 + 0)) (nI (48 + 7)) := by
  have := in_eq x (nI 48) (nI 55)
  rw [show (nI 48).toInt64 = 48 by decide, show (nI 55).toInt64 = 55 by decide] at this
  exact this
theorem in49 (x : Int32) : fX2_in x.toInt64 49 57 = fX0_in x (nI (48 + 1)) (nI (48 + 9)) := by
  have := in_eq x (nI 49) (nI 57)
  rw [show (nI 49).toInt64 = 49 by decide, show (nI 57).toInt64 = 57 by decide] at this
  exact this
section PARSE
variable {gx : Nat → Nat → Nat} {pg : Nat → Int32} {g : Nat → Nat} {a : Nat → Nat → Int32} {y : Nat → Int32}
theorem dg_in {i lo hi : Nat} (hi9 : hi ≤ 9) (hlo : lo ≤ 9) (hN : i < gx 0 7) : fX0_in (pg i) (nI (48 + lo)) (nI (48 + hi)) = 0 ↔ ¬ isDg gx pg i lo hi := by
  constructor
  · rintro q ⟨_, d, h1, h2, h3⟩
    rw [h3] at q
    exact in32_intro ((nI_leI (by omega) (by omega)).mpr (by omega)) ((nI_leI (by omega) (by omega)).mpr (by omega)) q
  · intro q
    refine Classical.byContradiction (fun h => q ?_)
    obtain ⟨j, hj, e⟩ := in32_lift2' (by omega) (by omega) h
    rw [e] at h
    have h1 : 48 + lo ≤ j := (nI_leI (by omega) (by omega)).mp (in32_of h).1
    exact ⟨hN, j - 48, by omega, by omega, by rw [e, show 48 + (j - 48) = j by omega]⟩
theorem nx_in {i : Nat} (hN : i < gx 0 7) : nx gx pg i = pg i := by
  unfold nx
  rw [if_neg (by omega)]
theorem dg_59 {i lo hi : Nat} (h9 : hi ≤ 9) (h : isDg gx pg i lo hi) : ¬ pg i = nI 59 := by
  obtain ⟨_, d, h1, h2, h3⟩ := h
  rw [h3]
  exact nI_eqI (by omega) (by omega) (by omega)
theorem kind_lt {i k : Nat} (h : sKind gx pg i k) : i < gx 0 7 := by
  obtain ⟨h5, h⟩ := h
  unfold nx at h
  by_cases z : gx 0 7 ≤ i
  · rw [if_pos z] at h
    rcases (show k = 0 ∨ k = 1 ∨ k = 2 ∨ k = 3 ∨ k = 4 by omega) with q | q | q | q | q <;> subst q <;> exact absurd h (by decide)
  · omega
theorem nx_lt {i c : Nat} (hc : ¬ nI 0 = nI c) (h : nx gx pg i = nI c) : i < gx 0 7 := by
  unfold nx at h
  by_cases z : gx 0 7 ≤ i
  · rw [if_pos z] at h; exact absurd h hc
  · omega
theorem kindBy_of {i k : Nat} (h : sKind gx pg i k) : fX2_kindBy (pg i) = nI k := by
  have hN := kind_lt h
  obtain ⟨h5, h⟩ := h
  rw [nx_in hN] at h
  rw [h]
  rcases (show k = 0 ∨ k = 1 ∨ k = 2 ∨ k = 3 ∨ k = 4 by omega) with q | q | q | q | q <;> subst q <;> decide
theorem kindBy_no {i : Nat} (hN : i < gx 0 7) (h : ∀ k, ¬ sKind gx pg i k) : fX2_kindBy (pg i) = -1 := by
  have n : ∀ k, k < 5 → ¬ pg i = nI (kc k) := fun k hk q => h k ⟨hk, by rw [nx_in hN]; exact q⟩
  unfold fX2_kindBy
  have n0 : ¬ pg i = nI 115 := n 0 (by omega)
  have n1 : ¬ pg i = nI 108 := n 1 (by omega)
  have n2 : ¬ pg i = nI 113 := n 2 (by omega)
  have n3 : ¬ pg i = nI 106 := n 3 (by omega)
  have n4 : ¬ pg i = nI 103 := n 4 (by omega)
  rw [if_neg n4, if_neg n3, if_neg n1, if_neg n2, if_neg n0]
theorem up_2 (y : Nat → Int32) (v : Int32) : va_up y 2 v 2 = v := by unfold va_up; rw [if_pos rfl]
theorem good_pre {i : Nat} (hp : a 0 i = pg i) (h3 : i < 3) (hd : isDg gx pg i 0 9) : fX2_isGood (va_up y 2 (-1)) a i = (nI 1, -1) := by
  unfold fX2_isGood
  rw [up_2, if_pos rfl, hp, if_neg (dg_59 (by omega) hd), if_neg (by omega), if_neg]
  rw [in48, dg_in (by omega) (by omega) hd.1]
  exact fun q => q hd
theorem good_semi {i : Nat} (hp : a 0 i = pg i) (h1 : 1 ≤ i) (h3 : i ≤ 3) (hd : pg i = nI 59) : fX2_isGood (va_up y 2 (-1)) a i = (nI 1, nI i) := by
  unfold fX2_isGood
  rw [up_2, if_pos rfl, hp, if_pos hd, if_neg]
  rw [← nI_0, nI_leI (by omega) (by omega)]
  omega
theorem good_bad {i : Nat} (hp : a 0 i = pg i) (hN : i < gx 0 7) (h59 : i = 0 ∨ ¬ pg i = nI 59) (hd : 3 ≤ i ∨ ¬ isDg gx pg i 0 9) : (fX2_isGood (va_up y 2 (-1)) a i).1 = 0 := by
  have key : (if 3 ≤ i then ((nI 0, va_up y 2 (-1) 2) : Int32 × Int32) else if (fX2_in ((pg i).toInt64) 48 57) = 0 then (nI 0, va_up y 2 (-1) 2) else (nI 1, va_up y 2 (-1) 2)).1 = 0 := by
    by_cases h3 : 3 ≤ i
    · rw [if_pos h3]; rfl
    · rw [if_neg h3, if_pos]
      · rfl
      · rw [in48, dg_in (by omega) (by omega) hN]
        rcases hd with q | q
        · omega
        · exact q
  unfold fX2_isGood
  rw [hp]
  have h2 : va_up y 2 (-1) 2 = -1 := up_2 y _
  rw [if_pos h2]
  by_cases z : pg i = nI 59
  · rw [if_pos z, if_pos]
    · exact key
    · rcases h59 with q | q
      · subst q; decide
      · exact absurd z q
  · rw [if_neg z]; exact key
theorem good_st {np i : Nat} (hnp : np ≤ 3) : fX2_isGood (va_up y 2 (nI np)) a i = (fX2_isStreetLetter a i (i - np - 1), nI np) := by
  unfold fX2_isGood
  rw [up_2, if_neg, show toN (nI np) = np from nI_clamp (by omega)]
  rcases (show np = 0 ∨ np = 1 ∨ np = 2 ∨ np = 3 by omega) with q | q | q | q <;> subst q <;> decide
/-- where the semicolon is kept -/
def wE (np k : Nat) : Int32 := if k ≤ np then (-1) else nI np
def upto (gx : Nat → Nat → Nat) (y : Nat → Int32) (a : Nat → Nat → Int32) (np n : Nat) : Prop := ∀ i, i < n → i < gx 0 7 ∧ (¬ (fX2_isGood (va_up y 2 (wE np i)) a i).1 = 0) ∧ (fX2_isGood (va_up y 2 (wE np i)) a i).2 = wE np (i + 1)
theorem upto.step {np n : Nat} (h : upto gx y a np n) (hN : n < gx 0 7) (h1 : ¬ (fX2_isGood (va_up y 2 (wE np n)) a n).1 = 0) (h2 : (fX2_isGood (va_up y 2 (wE np n)) a n).2 = wE np (n + 1)) : upto gx y a np (n + 1) := by
  intro i hi
  by_cases z : i = n
  · subst z; exact ⟨hN, h1, h2⟩
  · exact h i (by omega)
theorem upto.le {np n : Nat} (h : upto gx y a np n) : n ≤ gx 0 7 := by
  rcases Nat.eq_zero_or_pos n with z | z
  · omega
  · have := (h (n - 1) (by omega)).1; omega
/-- the model's loop -/
theorem fault_upto {np n : Nat} (h : upto gx y a np n) : it (fX2_faultOf_b7 y a) n ((0, (-1)), false) = ((n, wE np n), false) := by
  induction n with
  | zero =>
    show ((0, (-1)), false) = ((0, wE np 0), false)
    rw [show wE np 0 = -1 from if_pos (by omega)]
  | succ n ih =>
    show fX2_faultOf_b7 y a n (it (fX2_faultOf_b7 y a) n ((0, (-1)), false)) = _
    rw [ih (fun i hi => h i (by omega))]
    obtain ⟨-, h1, h2⟩ := h n (by omega)
    unfold fX2_faultOf_b7
    rw [if_neg (show ¬ false = true by decide)]
    dsimp only
    rw [if_neg h1, h2]
theorem fault_stop {np n : Nat} (h : upto gx y a np n) (hb : (fX2_isGood (va_up y 2 (wE np n)) a n).1 = 0) : ∀ k, ∃ w, it (fX2_faultOf_b7 y a) (n + 1 + k) ((0, (-1)), false) = ((n, w), true) := by
  intro k
  induction k with
  | zero =>
    refine ⟨(fX2_isGood (va_up y 2 (wE np n)) a n).2, ?_⟩
    show fX2_faultOf_b7 y a n (it (fX2_faultOf_b7 y a) n ((0, (-1)), false)) = _
    rw [fault_upto h]
    unfold fX2_faultOf_b7
    rw [if_neg (show ¬ false = true by decide)]
    dsimp only
    rw [if_pos hb]
  | succ k ih =>
    obtain ⟨w, e⟩ := ih
    refine ⟨w, ?_⟩
    show fX2_faultOf_b7 y a (n + 1 + k) (it (fX2_faultOf_b7 y a) (n + 1 + k) ((0, (-1)), false)) = _
    rw [e]
    unfold fX2_faultOf_b7
    rw [if_pos rfl]
theorem fault_is {np n : Nat} (hg : g 1 = gx 0 7) (h : upto gx y a np n) (hb : n < gx 0 7 → (fX2_isGood (va_up y 2 (wE np n)) a n).1 = 0) : (fX2_faultOf g y a).1 = n ∧ (n = gx 0 7 → (fX2_faultOf g y a).2 = wE np n) := by
  unfold fX2_faultOf
  rw [hg]
  have hle := h.le
  by_cases z : n = gx 0 7
  · rw [← z, fault_upto h]
    exact ⟨rfl, fun _ => rfl⟩
  · obtain ⟨w, e⟩ := fault_stop h (hb (by omega)) (gx 0 7 - n - 1)
    rw [show n + 1 + (gx 0 7 - n - 1) = gx 0 7 by omega] at e
    rw [e]
    exact ⟨rfl, fun q => absurd q z⟩
/-! what is good goes on -/
theorem upto_digs {np : Nat} (hp : ∀ i, i < gx 0 7 → a 0 i = pg i) (h : ∀ i, i < np → isDg gx pg i 0 9) (h3 : np ≤ 3) : ∀ n, n ≤ np → upto gx y a np n := by
  intro n
  induction n with
  | zero => intro _ i hi; omega
  | succ n ih =>
    intro hn
    have hd := h n (by omega)
    have e := good_pre (y := y) (hp n hd.1) (by omega) hd
    have w1 : wE np n = -1 := if_pos (by omega)
    have w2 : wE np (n + 1) = -1 := if_pos (by omega)
    refine (ih (by omega)).step hd.1 ?_ ?_
    · rw [w1, e]; decide
    · rw [w1, w2, e]
theorem upto_semi {np : Nat} (hp : ∀ i, i < gx 0 7 → a 0 i = pg i) (h : digs gx pg np) (hs : nx gx pg np = nI 59) : upto gx y a np (np + 1) := by
  have hN := nx_lt (by decide) hs
  rw [nx_in hN] at hs
  have e := good_semi (y := y) (hp np hN) h.1 h.2.1 hs
  have w1 : wE np np = -1 := if_pos (by omega)
  have w2 : wE np (np + 1) = nI np := if_neg (by omega)
  refine (upto_digs hp h.2.2.1 h.2.1 np (Nat.le_refl _)).step hN ?_ ?_
  · rw [w1, e]; exact (show ¬ nI 1 = 0 by decide)
  · rw [w1, w2, e]
theorem upto_st {np n : Nat} (hnp : np ≤ 3) (hn : np < n) (h : upto gx y a np n) (hN : n < gx 0 7) (hl : ¬ fX2_isStreetLetter a n (n - np - 1) = 0) : upto gx y a np (n + 1) := by
  have w1 : wE np n = nI np := if_neg (by omega)
  have w2 : wE np (n + 1) = nI np := if_neg (by omega)
  refine h.step hN ?_ ?_
  · rw [w1, good_st hnp]; exact hl
  · rw [w1, w2, good_st hnp]
theorem bad_st {np n : Nat} (hnp : np ≤ 3) (hn : np < n) (hl : fX2_isStreetLetter a n (n - np - 1) = 0) : (fX2_isGood (va_up y 2 (wE np n)) a n).1 = 0 := by
  have w1 : wE np n = nI np := if_neg (by omega)
  rw [w1, good_st hnp]; exact hl
end PARSE
