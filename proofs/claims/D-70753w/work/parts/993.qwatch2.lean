/-! THE LAW, 13: the watch, told -/
set_option maxRecDepth 100000
section WT3
variable {g : Nat → Nat} {gx : Nat → Nat → Nat} {a : Nat → Nat → Int32} {ax : Nat → Nat → Nat → Int32} {t : TW} {td : Nat → Nat} {of : Nat → Nat → Nat}
/-- the least so far: 11 and far are the same -/
def elF (m n : Nat) : Prop := (m = 11 ∧ n = 268435456) ∨ (m = n ∧ m ≤ 10)
theorem l_watch (hc : mCore g a t td of) (h4 : g 4 = tn t) (h5 : g 5 = gx (0 + 6) 9) (hs : seenRel (g 15) (a 16) (gx 0 12) (ax 0 13) (ax 0 14) (ax 0 15) (ax 0 16)) {p fr : Nat} (hp : p < 3) (hfr : fr < 8) (z1 z2 : Nat → Int32) : (fX2_watchOf g a t of p fr z1).1 = (fX0_watchFrom gx ax t of p fr z2).1 := by
  obtain ⟨n, hn, hne⟩ := tenders_lt (gx := gx) (ax := ax) (t := t) (of := of) p
  have ht := l_tenders (of := of) h4 h5 hs p
  unfold fX2_watchOf fX0_watchFrom
  rw [ht, hne]
  dsimp only
  -- of each corner the worst is the same
  have worst : ∀ to, to < 8 → ¬ to = fr → ∃ w, w ≤ 10 ∧ (∀ z, (it (fX2_watchOf_b57 g t of p fr (nI n) to) 10 ((nI 0, (it fX2_watchOf_b30 10 z)), false)).1.1 = nI w) ∧ ∀ z, (fX0_worstTo gx t of p (nI n) fr to z).1 = nI w := by
    intro to hto hft
    have hj : ∀ v, v < 10 → ∃ j, j < 10 ∧ fX2_firstBy g t of p v fr to + nI 1 = nI j := fun v hv => fX2_firstBy_lift hc hp (by omega) hfr hto (fun q => hft q.symm)
    obtain ⟨f, hf⟩ : ∃ f : Nat → Nat, ∀ v, v < 10 → f v < 10 ∧ fX2_firstBy g t of p v fr to + nI 1 = nI (f v) := ⟨fun v => if h : v < 10 then Classical.choose (hj v h) else 0, fun v hv => by
      dsimp only
      rw [dif_pos hv]
      exact Classical.choose_spec (hj v hv)⟩
    refine ⟨wmax (fun k => n.testBit k) f 10, wmax_le _ _ 10, fun z => m_worst hn hft hf z, fun z => ?_⟩
    rw [max_eq]
    exact x_worst hn (fun v hv => by rw [← l_first h4 h5]; exact hf v hv) z
  have hz : nI n = 0 ↔ n = 0 := by rw [← nI_0]; exact nI_eq (by omega) (by omega)
  by_cases q0 : n = 0
  · -- no tenders: neither looks
    subst q0
    have m1 : ∀ k, ∃ z, it (fX2_watchOf_b16 g t of p fr (nI 0)) (k + 1) ((nI 11, (-1), z1), false) = ((nI 11, (-1), z), true) := by
      intro k
      induction k with
      | zero =>
        refine ⟨z1, ?_⟩
        show fX2_watchOf_b16 g t of p fr (nI 0) 0 ((nI 11, (-1), z1), false) = _
        unfold fX2_watchOf_b16
        rw [if_neg (show ¬ false = true by decide), if_pos (show nI 0 = 0 from rfl)]
      | succ k ih =>
        obtain ⟨z, e⟩ := ih
        refine ⟨z, ?_⟩
        show fX2_watchOf_b16 g t of p fr (nI 0) (k + 1) (it (fX2_watchOf_b16 g t of p fr (nI 0)) (k + 1) ((nI 11, (-1), z1), false)) = _
        rw [e]
        unfold fX2_watchOf_b16
        rw [if_pos rfl]
    obtain ⟨z, e⟩ := m1 7
    rw [e, if_pos (show nI 0 = 0 from rfl)]
    have x1 : ∀ k, k ≤ 8 → ∃ z, it (fX0_watchFrom_b24 gx t of p fr (nI 0)) k (nI 0, (-1), z2) = (nI 0, (-1), z) := by
      intro k
      induction k with
      | zero => intro _; exact ⟨z2, rfl⟩
      | succ k ih =>
        intro hk
        obtain ⟨z, e⟩ := ih (by omega)
        have s : it (fX0_watchFrom_b24 gx t of p fr (nI 0)) (k + 1) (nI 0, (-1), z2) = fX0_watchFrom_b24 gx t of p fr (nI 0) k (nI 0, (-1), z) := by rw [← e]; rfl
        rw [s]
        unfold fX0_watchFrom_b24
        dsimp only
        obtain ⟨w, hw, ew⟩ : ∃ w, w < 2 ^ 31 ∧ (if k = fr then nI 268435456 else (fX0_worstTo gx t of p (nI 0) fr k z).1) = nI w := by
          by_cases hk2 : k = fr
          · exact ⟨268435456, by omega, by rw [if_pos hk2]⟩
          · obtain ⟨w, h1, -, h3⟩ := worst k (by omega) hk2
            exact ⟨w, by omega, by rw [if_neg hk2, h3]⟩
        rw [ew]
        have e3 : nI 0 ≤ nI w := (nI_leI (by omega) hw).mpr (Nat.zero_le _)
        rw [if_pos e3]
        unfold jmin
        rw [if_neg (Int32.not_lt.mpr e3)]
        exact ⟨_, rfl⟩
    obtain ⟨z, e⟩ := x1 8 (Nat.le_refl _)
    rw [e]
  · rw [if_neg (fun q => q0 (hz.mp q))]
    have key : ∀ k, k ≤ 8 → ∃ m l b y1 y2, elF m l ∧ it (fX2_watchOf_b16 g t of p fr (nI n)) k ((nI 11, (-1), z1), false) = ((nI m, b, y1), false) ∧ it (fX0_watchFrom_b24 gx t of p fr (nI n)) k (nI 268435456, (-1), z2) = (nI l, b, y2) := by
      intro k
      induction k with
      | zero => intro _; exact ⟨11, 268435456, (-1), z1, z2, Or.inl ⟨rfl, rfl⟩, rfl, rfl⟩
      | succ k ih =>
        intro hk
        obtain ⟨m, l, b, y1, y2, hml, e1, e2⟩ := ih (by omega)
        have s1 : it (fX2_watchOf_b16 g t of p fr (nI n)) (k + 1) ((nI 11, (-1), z1), false) = fX2_watchOf_b16 g t of p fr (nI n) k ((nI m, b, y1), false) := by rw [← e1]; rfl
        have s2 : it (fX0_watchFrom_b24 gx t of p fr (nI n)) (k + 1) (nI 268435456, (-1), z2) = fX0_watchFrom_b24 gx t of p fr (nI n) k (nI l, b, y2) := by rw [← e2]; rfl
        rw [s1, s2]
        unfold fX2_watchOf_b16 fX0_watchFrom_b24
        rw [if_neg (show ¬ false = true by decide), if_neg (fun q => q0 (hz.mp q))]
        dsimp only
        have bm : m < 2 ^ 31 := by rcases hml with q | q <;> omega
        have bl : l ≤ 268435456 := by rcases hml with q | q <;> omega
        by_cases hk2 : k = fr
        · rw [if_pos hk2, if_pos hk2, if_pos hk2, if_pos hk2]
          have e3 : nI l ≤ nI 268435456 := (nI_leI (by omega) (by omega)).mpr bl
          rw [if_pos e3]
          unfold jmin
          rw [if_neg (Int32.not_lt.mpr e3)]
          exact ⟨m, l, b, _, _, hml, rfl, rfl⟩
        · obtain ⟨w, hw, h1, h2⟩ := worst k (by omega) hk2
          rw [if_neg hk2, if_neg hk2, if_neg hk2, if_neg hk2, h1, h2]
          have e3 : nI m ≤ nI w ↔ m ≤ w := nI_leI bm (by omega)
          have e4 : nI l ≤ nI w ↔ l ≤ w := nI_leI (by omega) (by omega)
          by_cases q : m ≤ w
          · have q2 : nI l ≤ nI w := e4.mpr (by unfold elF at hml; omega)
            rw [if_pos (e3.mpr q), if_pos (e3.mpr q), if_pos q2]
            unfold jmin
            rw [if_neg (Int32.not_lt.mpr q2)]
            exact ⟨m, l, b, _, _, hml, rfl, rfl⟩
          · have q1 : ¬ nI m ≤ nI w := fun z => q (e3.mp z)
            have q2 : ¬ nI l ≤ nI w := fun z => by have := e4.mp z; unfold elF at hml; omega
            rw [if_neg q1, if_neg q1, if_neg q2]
            unfold jmin
            rw [if_pos (Int32.not_le.mp q2)]
            exact ⟨w, w, nI k, _, _, Or.inr ⟨rfl, hw⟩, rfl, rfl⟩
    obtain ⟨m, l, b, y1, y2, -, e1, e2⟩ := key 8 (Nat.le_refl _)
    rw [e1, e2]
end WT3
