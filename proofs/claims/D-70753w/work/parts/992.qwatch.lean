/-! THE LAW, 12: the watch -/
set_option maxRecDepth 100000
theorem bit10 : ∀ n, n < 1024 → ∀ k, k < 10 → ((nI n >>> (nI k &&& 31)) &&& nI 1) = if n.testBit k = true then nI 1 else nI 0 := by decide +kernel
/-- the greatest class so far -/
def wmax (b : Nat → Bool) (f : Nat → Nat) : Nat → Nat
  | 0 => 0
  | v + 1 => max (wmax b f v) (cnt (fun k => b k && decide (f k = f v)) (v + 1))
def smax (b : Nat → Bool) (f : Nat → Nat) : Nat → Nat
  | 0 => 0
  | v + 1 => max (smax b f v) (if b v = true then cnt (fun k => b k && decide (f k = f v)) 10 else 0)
theorem cnt_last {P : Nat → Bool} : ∀ n, 0 < cnt P n → ∃ w, w < n ∧ P w = true ∧ cnt P (w + 1) = cnt P n
  | 0, h => absurd h (by show ¬ 0 < 0; omega)
  | n + 1, h => by
    by_cases z : P n = true
    · exact ⟨n, by omega, z, rfl⟩
    · have e : cnt P (n + 1) = cnt P n := by show cnt P n + (if P n = true then 1 else 0) = cnt P n; rw [if_neg z]; omega
      rw [e] at h
      obtain ⟨w, h1, h2, h3⟩ := cnt_last n h
      exact ⟨w, by omega, h2, by rw [e]; exact h3⟩
theorem cnt_grow (P : Nat → Bool) {m : Nat} : ∀ n, m ≤ n → cnt P m ≤ cnt P n := by
  intro n
  induction n with
  | zero => intro h; rw [show m = 0 by omega]; exact Nat.le_refl _
  | succ n ih =>
    intro h
    by_cases z : m = n + 1
    · rw [z]; exact Nat.le_refl _
    · have := ih (by omega)
      show cnt P m ≤ cnt P n + (if P n = true then 1 else 0)
      omega
theorem wmax_ge (b : Nat → Bool) (f : Nat → Nat) {v : Nat} : ∀ n, v < n → cnt (fun k => b k && decide (f k = f v)) (v + 1) ≤ wmax b f n := by
  intro n
  induction n with
  | zero => intro h; omega
  | succ n ih =>
    intro h
    by_cases z : v = n
    · subst z; exact Nat.le_max_right _ _
    · exact Nat.le_trans (ih (by omega)) (Nat.le_max_left _ _)
theorem smax_ge (b : Nat → Bool) (f : Nat → Nat) {v : Nat} (hv : b v = true) : ∀ n, v < n → cnt (fun k => b k && decide (f k = f v)) 10 ≤ smax b f n := by
  intro n
  induction n with
  | zero => intro h; omega
  | succ n ih =>
    intro h
    by_cases z : v = n
    · subst z
      refine Nat.le_trans ?_ (Nat.le_max_right _ _)
      rw [if_pos hv]
      exact Nat.le_refl _
    · exact Nat.le_trans (ih (by omega)) (Nat.le_max_left _ _)
theorem max_eq (b : Nat → Bool) (f : Nat → Nat) : wmax b f 10 = smax b f 10 := by
  apply Nat.le_antisymm
  · have key : ∀ n, n ≤ 10 → wmax b f n ≤ smax b f 10 := by
      intro n
      induction n with
      | zero => intro _; exact Nat.zero_le _
      | succ n ih =>
        intro h
        refine Nat.max_le.mpr ⟨ih (by omega), ?_⟩
        rcases Nat.eq_zero_or_pos (cnt (fun k => b k && decide (f k = f n)) (n + 1)) with z | z
        · omega
        · obtain ⟨w, h1, h2, -⟩ := cnt_last _ z
          simp only [Bool.and_eq_true, decide_eq_true_eq] at h2
          have h3 := smax_ge b f h2.1 10 (show w < 10 by omega)
          rw [h2.2] at h3
          exact Nat.le_trans (cnt_grow _ 10 (by omega)) h3
    exact key 10 (Nat.le_refl _)
  · have key : ∀ n, n ≤ 10 → smax b f n ≤ wmax b f 10 := by
      intro n
      induction n with
      | zero => intro _; exact Nat.zero_le _
      | succ n ih =>
        intro h
        refine Nat.max_le.mpr ⟨ih (by omega), ?_⟩
        by_cases z : b n = true
        · rw [if_pos z]
          have hp : 0 < cnt (fun k => b k && decide (f k = f n)) 10 := cnt_pos (show n < 10 by omega) (by simp [z])
          obtain ⟨w, h1, h2, h3⟩ := cnt_last _ hp
          simp only [Bool.and_eq_true, decide_eq_true_eq] at h2
          rw [← h3, ← h2.2]
          exact wmax_ge b f 10 h1
        · rw [if_neg z]; exact Nat.zero_le _
    exact key 10 (Nat.le_refl _)
theorem wmax_le (b : Nat → Bool) (f : Nat → Nat) : ∀ n, wmax b f n ≤ n := by
  intro n
  induction n with
  | zero => exact Nat.le_refl _
  | succ n ih => exact Nat.max_le.mpr ⟨by omega, cnt_le _ _⟩
section WT2
variable {g : Nat → Nat} {gx : Nat → Nat → Nat} {a : Nat → Nat → Int32} {ax : Nat → Nat → Nat → Int32} {t : TW} {of : Nat → Nat → Nat}
theorem tenders_lt (p : Nat) : ∃ n, n < 1024 ∧ fX0_tendersOf gx ax t of p = nI n := by
  have key : ∀ k, k ≤ 10 → ∃ n, n < 2 ^ k ∧ it (fX0_tendersOf_b4 gx ax t of p) k (nI 0) = nI n := by
    intro k
    induction k with
    | zero => intro _; exact ⟨0, by omega, rfl⟩
    | succ k ih =>
      intro hk
      obtain ⟨n, hn, e⟩ := ih (by omega)
      have s : it (fX0_tendersOf_b4 gx ax t of p) (k + 1) (nI 0) = fX0_tendersOf_b4 gx ax t of p k (nI n) := by rw [← e]; rfl
      rw [s]
      unfold fX0_tendersOf_b4
      split
      · exact ⟨n ||| 0, by rw [Nat.or_zero]; exact Nat.lt_trans hn (Nat.pow_lt_pow_right (by omega) (by omega)), nI_or n 0⟩
      · rw [one9 k (by omega), nI_or]
        exact ⟨n ||| 1 <<< k, Nat.or_lt_two_pow (Nat.lt_trans hn (Nat.pow_lt_pow_right (by omega) (by omega))) (by rw [Nat.one_shiftLeft]; exact Nat.pow_lt_pow_right (by omega) (by omega)), rfl⟩
  obtain ⟨n, h1, h2⟩ := key 10 (Nat.le_refl _)
  exact ⟨n, h1, h2⟩
/-- the model's worst, of one corner -/
theorem m_worst {p fr to n : Nat} (hn : n < 1024) (hft : ¬ to = fr) {f : Nat → Nat} (hf : ∀ v, v < 10 → f v < 10 ∧ fX2_firstBy g t of p v fr to + nI 1 = nI (f v)) (z : Nat → Int32) : (it (fX2_watchOf_b57 g t of p fr (nI n) to) 10 ((nI 0, (it fX2_watchOf_b30 10 z)), false)).1.1 = nI (wmax (fun k => n.testBit k) f 10) := by
  have z0 : ∀ x, x < 10 → it fX2_watchOf_b30 10 z x = nI 0 := fun x hx => fill_at (c := nI 0) (h := z) 10 x hx
  have key : ∀ V, V ≤ 10 → ∃ P : Nat → Int32, it (fX2_watchOf_b57 g t of p fr (nI n) to) V ((nI 0, (it fX2_watchOf_b30 10 z)), false) = ((nI (wmax (fun k => n.testBit k) f V), P), false) ∧ ∀ x, x < 10 → P x = nI (cnt (fun k => n.testBit k && decide (f k = x)) V) := by
    intro V
    induction V with
    | zero => intro _; exact ⟨_, rfl, z0⟩
    | succ V ih =>
      intro hV
      obtain ⟨P, e, hP⟩ := ih (by omega)
      obtain ⟨hf1, hf2⟩ := hf V (by omega)
      have s : it (fX2_watchOf_b57 g t of p fr (nI n) to) (V + 1) ((nI 0, (it fX2_watchOf_b30 10 z)), false) = fX2_watchOf_b57 g t of p fr (nI n) to V ((nI (wmax (fun k => n.testBit k) f V), P), false) := by rw [← e]; rfl
      rw [s]
      unfold fX2_watchOf_b57
      rw [hf2, show toN (nI (f V)) = f V from nI_clamp (by omega), bit10 n hn V (by omega)]
      have e1 : P (f V) + (if n.testBit V = true then nI 1 else nI 0) = nI (cnt (fun k => n.testBit k && decide (f k = f V)) (V + 1)) := by
        rw [hP _ hf1]
        show _ = nI (cnt _ V + (if (n.testBit V && decide (f V = f V)) = true then 1 else 0))
        cases n.testBit V
        · rw [if_neg (by decide), nI_add]; simp
        · rw [if_pos rfl, nI_add]; simp
      have e2 : upd P (f V) (P (f V) + (if n.testBit V = true then nI 1 else nI 0)) (f V) = nI (cnt (fun k => n.testBit k && decide (f k = f V)) (V + 1)) := by
        rw [e1]; unfold upd; rw [if_pos rfl]
      have hP' : ∀ x, x < 10 → upd P (f V) (P (f V) + (if n.testBit V = true then nI 1 else nI 0)) x = nI (cnt (fun k => n.testBit k && decide (f k = x)) (V + 1)) := by
        intro x hx
        by_cases q : x = f V
        · subst q; exact e2
        · unfold upd
          rw [if_neg q, hP x hx]
          show _ = nI (cnt _ V + (if (n.testBit V && decide (f V = x)) = true then 1 else 0))
          rw [if_neg (by simp; intro _ z; exact q z.symm)]
          rfl
      rw [if_neg (show ¬ false = true by decide), if_neg hft, e2]
      dsimp only
      have b1 := cnt_le (fun k => n.testBit k && decide (f k = f V)) (V + 1)
      have b2 := wmax_le (fun k => n.testBit k) f V
      have e3 : nI (cnt (fun k => n.testBit k && decide (f k = f V)) (V + 1)) ≤ nI (wmax (fun k => n.testBit k) f V) ↔ cnt (fun k => n.testBit k && decide (f k = f V)) (V + 1) ≤ wmax (fun k => n.testBit k) f V := nI_leI (by omega) (by omega)
      by_cases q : cnt (fun k => n.testBit k && decide (f k = f V)) (V + 1) ≤ wmax (fun k => n.testBit k) f V
      · rw [if_pos (e3.mpr q)]
        refine ⟨_, ?_, hP'⟩
        rw [show wmax (fun k => n.testBit k) f (V + 1) = wmax (fun k => n.testBit k) f V from Nat.max_eq_left q]
      · rw [if_neg (fun z => q (e3.mp z))]
        refine ⟨_, ?_, hP'⟩
        rw [show wmax (fun k => n.testBit k) f (V + 1) = cnt (fun k => n.testBit k && decide (f k = f V)) (V + 1) from Nat.max_eq_right (Nat.le_of_lt (Nat.lt_of_not_le q))]
  obtain ⟨P, e, -⟩ := key 10 (Nat.le_refl _)
  rw [e]
theorem isIn10 {n : Nat} (hn : n < 1024) {k : Nat} (hk : k < 10) : (fX0_isIn (nI n) (nI k) = 0 ↔ n.testBit k = false) := by
  unfold fX0_isIn
  rw [bit10 n hn k hk]
  cases n.testBit k <;> decide
/-- the class's worst -/
theorem x_worst {p fr to n : Nat} (hn : n < 1024) {f : Nat → Nat} (hf : ∀ v, v < 10 → f v < 10 ∧ fX0_firstBy gx t of p v fr to + nI 1 = nI (f v)) (z : Nat → Int32) : (fX0_worstTo gx t of p (nI n) fr to z).1 = nI (smax (fun k => n.testBit k) f 10) := by
  have hw : ∀ V, V ≤ 10 → ∀ v, v < V → it (fX0_worstTo_b3 gx t of p fr to) V z v = fX0_firstBy gx t of p v fr to := by
    intro V
    induction V with
    | zero => intro _ v hv; omega
    | succ V ih =>
      intro hV v hv
      show upd (it (fX0_worstTo_b3 gx t of p fr to) V z) V (fX0_firstBy gx t of p V fr to) v = _
      unfold upd
      by_cases q : v = V
      · rw [if_pos q, q]
      · rw [if_neg q]; exact ih (by omega) v (by omega)
  have hw := hw 10 (Nat.le_refl _)
  have heq : ∀ v, v < 10 → ∀ k, k < 10 → (it (fX0_worstTo_b3 gx t of p fr to) 10 z v = it (fX0_worstTo_b3 gx t of p fr to) 10 z k ↔ f k = f v) := by
    intro v hv k hk
    rw [hw v hv, hw k hk]
    have h1 := (hf v hv)
    have h2 := (hf k hk)
    constructor
    · intro q
      have : nI (f v) = nI (f k) := by rw [← h1.2, ← h2.2, q]
      exact ((nI_eq (by omega) (by omega)).mp this).symm
    · intro q
      have : fX0_firstBy gx t of p v fr to + nI 1 = fX0_firstBy gx t of p k fr to + nI 1 := by rw [h1.2, h2.2, q]
      have h3 := congrArg (fun x => x - nI 1) this
      simp only [Int32.add_sub_cancel] at h3
      exact h3
  show it (fX0_worstTo_b39 (nI n) (it (fX0_worstTo_b3 gx t of p fr to) 10 z)) 10 (nI 0) = _
  generalize it (fX0_worstTo_b3 gx t of p fr to) 10 z = w at *
  have inner : ∀ v, v < 10 → it (fX0_worstTo_b52 (nI n) w v) 10 (nI 0) = nI (if n.testBit v = true then cnt (fun k => n.testBit k && decide (f k = f v)) 10 else 0) := by
    intro v hv
    have key : ∀ K, K ≤ 10 → it (fX0_worstTo_b52 (nI n) w v) K (nI 0) = nI (if n.testBit v = true then cnt (fun k => n.testBit k && decide (f k = f v)) K else 0) := by
      intro K
      induction K with
      | zero => intro _; cases n.testBit v <;> rfl
      | succ K ih =>
        intro hK
        show fX0_worstTo_b52 (nI n) w v K (it (fX0_worstTo_b52 (nI n) w v) K (nI 0)) = _
        rw [ih (by omega)]
        unfold fX0_worstTo_b52
        have i1 := isIn10 hn hv
        have i2 := isIn10 hn (show K < 10 by omega)
        have i3 := heq v hv K (by omega)
        have ec : cnt (fun k => n.testBit k && decide (f k = f v)) (K + 1) = cnt (fun k => n.testBit k && decide (f k = f v)) K + (if (n.testBit K && decide (f K = f v)) = true then 1 else 0) := rfl
        rw [ec]
        cases z1 : n.testBit v
        · rw [if_pos (i1.mpr z1), nI_add]; rfl
        · rw [if_neg (fun q => by rw [i1.mp q] at z1; cases z1)]
          cases z2 : n.testBit K
          · rw [if_pos (i2.mpr z2), nI_add]; rfl
          · rw [if_neg (fun q => by rw [i2.mp q] at z2; cases z2)]
            by_cases z3 : f K = f v
            · rw [if_pos (i3.mpr z3), nI_add]; simp [z3]
            · rw [if_neg (fun q => z3 (i3.mp q)), nI_add]; simp [z3]
    exact key 10 (Nat.le_refl _)
  have outer : ∀ V, V ≤ 10 → it (fX0_worstTo_b39 (nI n) w) V (nI 0) = nI (smax (fun k => n.testBit k) f V) ∧ smax (fun k => n.testBit k) f V ≤ 10 := by
    intro V
    induction V with
    | zero => intro _; exact ⟨rfl, Nat.zero_le _⟩
    | succ V ih =>
      intro hV
      obtain ⟨e, hle⟩ := ih (by omega)
      have hc := cnt_le (fun k => n.testBit k && decide (f k = f V)) 10
      have hb : (if n.testBit V = true then cnt (fun k => n.testBit k && decide (f k = f V)) 10 else 0) ≤ 10 := by
        split <;> omega
      refine ⟨?_, Nat.max_le.mpr ⟨hle, hb⟩⟩
      show fX0_worstTo_b39 (nI n) w V (it (fX0_worstTo_b39 (nI n) w) V (nI 0)) = nI (max (smax (fun k => n.testBit k) f V) (if n.testBit V = true then cnt (fun k => n.testBit k && decide (f k = f V)) 10 else 0))
      rw [e]
      unfold fX0_worstTo_b39 jmax
      rw [inner V (by omega)]
      generalize (if n.testBit V = true then cnt (fun k => n.testBit k && decide (f k = f V)) 10 else 0) = x at *
      have e3 : nI (smax (fun k => n.testBit k) f V) < nI x ↔ smax (fun k => n.testBit k) f V < x := nI_ltI (by omega) (by omega)
      by_cases q : smax (fun k => n.testBit k) f V < x
      · rw [if_pos (e3.mpr q), Nat.max_eq_right (by omega)]
      · rw [if_neg (fun z => q (e3.mp z)), Nat.max_eq_left (by omega)]
  exact (outer 10 (Nat.le_refl _)).1
end WT2
