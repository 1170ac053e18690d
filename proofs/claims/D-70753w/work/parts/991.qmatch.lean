/-! THE LAW, 11: the match -/
set_option maxRecDepth 100000
/-- the model's and the class's match, one pair -/
def mtR (M : Int32 × Int32 × Int32 × Int32) (X : Int32 × Int32 × (Nat → Int32)) : Prop := X.1 = M.2.2.1 ∧ X.2.1 = M.2.2.2 ∧ X.2.2 0 = M.2.1 ∧ X.2.2 1 = M.1
section MT
variable {g : Nat → Nat} {gx : Nat → Nat → Nat} {a : Nat → Nat → Int32} {ax : Nat → Nat → Nat → Int32} {t : TW} {td td' : Nat → Nat} {of : Nat → Nat → Nat}
theorem m1_at (i : Nat) (h : i < 2 ^ 31) : (nI i - 1 = (-1)) ↔ i = 0 := by
  constructor
  · intro q
    have : nI i = 0 := by
      have h2 := congrArg (fun x => x + 1) q
      simp only [Int32.sub_add_cancel] at h2
      rw [h2]; decide
    exact (nI_eq h (by omega)).mp (this.trans nI_0.symm)
  · intro q; subst q; decide
theorem mt_step (hT : ∀ d, d < 2 → ∀ p, p < g 3 → fX2_takesBy g a t td of d p = fX0_hurtsBy gx ax t td' of d p) (h3 : g 3 ≤ 3) {i j : Nat} (hi : i ≤ g 3) (hj : j ≤ g 3) {M : Int32 × Int32 × Int32 × Int32} {X : Int32 × Int32 × (Nat → Int32)} (h : mtR M X) : mtR (fX2_matchOf_b25 g a t td of i j M) (fX0_layMatch_b23 gx ax t td' of i j X) := by
  have e0 : (if (nI i - 1) = (-1) then nI 0 else (fX2_takesBy g a t td of 0 (i - 1))) = (if (nI i - 1) = (-1) then nI 0 else (fX0_hurtsBy gx ax t td' of 0 (i - 1))) := by
    by_cases z : (nI i - 1) = (-1)
    · rw [if_pos z, if_pos z]
    · rw [if_neg z, if_neg z, hT 0 (by omega) (i - 1) (by have : ¬ i = 0 := fun q => z ((m1_at i (by omega)).mpr q); omega)]
  have e1 : (if (nI j - 1) = (-1) then nI 0 else (fX2_takesBy g a t td of 1 (j - 1))) = (if (nI j - 1) = (-1) then nI 0 else (fX0_hurtsBy gx ax t td' of 1 (j - 1))) := by
    by_cases z : (nI j - 1) = (-1)
    · rw [if_pos z, if_pos z]
    · rw [if_neg z, if_neg z, hT 1 (by omega) (j - 1) (by have : ¬ j = 0 := fun q => z ((m1_at j (by omega)).mpr q); omega)]
  obtain ⟨h1, h2, h4, h5⟩ := h
  unfold fX2_matchOf_b25 fX0_layMatch_b23
  rw [e0, e1, h1, h2]
  generalize (if (nI i - 1) = (-1) then nI 0 else (fX0_hurtsBy gx ax t td' of 0 (i - 1))) = o
  generalize (if (nI j - 1) = (-1) then nI 0 else (fX0_hurtsBy gx ax t td' of 1 (j - 1))) = w
  generalize ((if (nI i - 1) = (-1) then nI 0 else nI 1) + (if (nI j - 1) = (-1) then nI 0 else nI 1)) = mn
  have e2 : (if o = (-1) then nI 0 else if w = (-1) then nI 0 else if (nI i - 1) = (nI j - 1) then if (nI i - 1) = (-1) then nI 1 else nI 0 else nI 1) = (if o = (-1) then nI 0 else if w = (-1) then nI 0 else if (nI i - 1) = (-1) then nI 1 else if (nI i - 1) = (nI j - 1) then nI 0 else nI 1) := by
    by_cases z1 : o = (-1)
    · rw [if_pos z1, if_pos z1]
    · rw [if_neg z1, if_neg z1]
      by_cases z2 : w = (-1)
      · rw [if_pos z2, if_pos z2]
      · rw [if_neg z2, if_neg z2]
        by_cases z3 : (nI i - 1) = (-1)
        · rw [if_pos z3, if_pos z3]
          by_cases z4 : (nI i - 1) = (nI j - 1)
          · rw [if_pos z4]
          · rw [if_neg z4]
        · rw [if_neg z3, if_neg z3]
  rw [e2]
  generalize (if o = (-1) then nI 0 else if w = (-1) then nI 0 else if (nI i - 1) = (-1) then nI 1 else if (nI i - 1) = (nI j - 1) then nI 0 else nI 1) = may
  have keep : mtR (M.1, M.2.1, M.2.2.1, M.2.2.2) (M.2.2.1, M.2.2.2, X.2.2) := ⟨rfl, rfl, h4, h5⟩
  have take : mtR (nI j - 1, nI i - 1, o + w, mn) (o + w, mn, upd (upd X.2.2 0 (nI i - 1)) 1 (nI j - 1)) := ⟨rfl, rfl, rfl, rfl⟩
  by_cases z1 : may = 0
  · rw [if_pos z1, if_pos z1]; exact keep
  · rw [if_neg z1, if_neg z1]
    by_cases z2 : M.2.2.2 < mn
    · rw [if_pos z2, if_pos z2]; exact take
    · rw [if_neg z2, if_neg z2]
      by_cases z3 : mn = M.2.2.2
      · rw [if_pos z3, if_pos z3]
        by_cases z4 : M.2.2.1 ≤ o + w
        · rw [if_pos z4, if_pos z4]; exact keep
        · rw [if_neg z4, if_neg z4]; exact take
      · rw [if_neg z3, if_neg z3]; exact keep
theorem itR {A B : Type} {f : Nat → A → A} {h : Nat → B → B} {P : A → B → Prop} {n : Nat} (e : ∀ i u v, i < n → P u v → P (f i u) (h i v)) : ∀ k, k ≤ n → ∀ u v, P u v → P (it f k u) (it h k v)
  | 0, _, _, _, p => p
  | k + 1, hk, u, v, p => e k _ _ (by omega) (itR e k (by omega) u v p)
theorem it_head {A : Type} (f : Nat → A → A) : ∀ k s, it f (k + 1) s = it (fun i => f (i + 1)) k (f 0 s)
  | 0, _ => rfl
  | k + 1, s => by
    show f (k + 1) (it f (k + 1) s) = f (k + 1) (it (fun i => f (i + 1)) k (f 0 s))
    rw [it_head f k s]
theorem mt_inner (hT : ∀ d, d < 2 → ∀ p, p < g 3 → fX2_takesBy g a t td of d p = fX0_hurtsBy gx ax t td' of d p) (h3 : g 3 ≤ 3) (h31 : g 3 = gx 0 1) {i : Nat} (hi : i ≤ g 3) {M : Int32 × Int32 × Int32 × Int32} {X : Int32 × Int32 × (Nat → Int32)} (h : mtR M (X.2.1, X.1, X.2.2)) : mtR (fX2_matchOf_b13 g a t td of i M) (((fX0_layMatch_b13 gx ax t td' of i X).2.1, (fX0_layMatch_b13 gx ax t td' of i X).1, (fX0_layMatch_b13 gx ax t td' of i X).2.2)) := by
  unfold fX2_matchOf_b13 fX0_layMatch_b13
  rw [← h31]
  have := itR (P := mtR) (n := g 3 + 1) (fun j u v hj p => mt_step hT h3 hi (show j ≤ g 3 by omega) p) (g 3 + 1) (Nat.le_refl _) _ _ h
  exact this
theorem l_match (hT : ∀ d, d < 2 → ∀ p, p < g 3 → fX2_takesBy g a t td of d p = fX0_hurtsBy gx ax t td' of d p) (h3 : g 3 ≤ 3) (h31 : g 3 = gx 0 1) (z0 : Nat → Int32) {w : Nat} (hw : w = 0 ∨ w = 1 ∨ w = 10 ∨ w = 11) : fX2_matchOf g a t td of (nI w) = fX0_matchToldS ((fX0_layMatch gx ax t td' of z0).2.1) ((fX0_layMatch gx ax t td' of z0).1) ((fX0_layMatch gx ax t td' of z0).2.2) (nI w) := by
  -- behind the first pair both are alike
  have first : mtR (fX2_matchOf_b25 g a t td of 0 0 ((-1), (-1), nI 0, nI 0)) (fX0_layMatch_b23 gx ax t td' of 0 0 (nI 268435456, (-1), z0)) := by
    have e1 : fX2_matchOf_b25 g a t td of 0 0 ((-1), (-1), nI 0, nI 0) = ((-1), (-1), nI 0, nI 0) := by
      unfold fX2_matchOf_b25
      rw [if_pos (show nI 0 - 1 = (-1) by decide), if_pos (show nI 0 - 1 = (-1) by decide)]
      rfl
    have e2 : fX0_layMatch_b23 gx ax t td' of 0 0 (nI 268435456, (-1), z0) = (nI 0 + nI 0, nI 0 + nI 0, upd (upd z0 0 (nI 0 - 1)) 1 (nI 0 - 1)) := by
      unfold fX0_layMatch_b23
      rw [if_pos (show nI 0 - 1 = (-1) by decide), if_pos (show nI 0 - 1 = (-1) by decide)]
      rfl
    rw [e1, e2]
    exact ⟨by show nI 0 + nI 0 = nI 0; decide, by show nI 0 + nI 0 = nI 0; decide, by show nI 0 - 1 = (-1); decide, by show nI 0 - 1 = (-1); decide⟩
  have row0 : mtR (fX2_matchOf_b13 g a t td of 0 ((-1), (-1), nI 0, nI 0)) ((fX0_layMatch_b13 gx ax t td' of 0 ((-1), nI 268435456, z0)).2.1, (fX0_layMatch_b13 gx ax t td' of 0 ((-1), nI 268435456, z0)).1, (fX0_layMatch_b13 gx ax t td' of 0 ((-1), nI 268435456, z0)).2.2) := by
    unfold fX2_matchOf_b13 fX0_layMatch_b13
    rw [← h31]
    dsimp only
    rw [it_head (fX2_matchOf_b25 g a t td of 0), it_head (fX0_layMatch_b23 gx ax t td' of 0)]
    have := itR (P := mtR) (n := g 3) (fun j u v hj p => mt_step (i := 0) hT h3 (by omega) (show j + 1 ≤ g 3 by omega) p) (g 3) (Nat.le_refl _) _ _ first
    exact this
  have all : mtR (it (fX2_matchOf_b13 g a t td of) (g 3 + 1) ((-1), (-1), nI 0, nI 0)) ((it (fX0_layMatch_b13 gx ax t td' of) (gx 0 1 + 1) ((-1), nI 268435456, z0)).2.1, (it (fX0_layMatch_b13 gx ax t td' of) (gx 0 1 + 1) ((-1), nI 268435456, z0)).1, (it (fX0_layMatch_b13 gx ax t td' of) (gx 0 1 + 1) ((-1), nI 268435456, z0)).2.2) := by
    rw [← h31, it_head (fX2_matchOf_b13 g a t td of), it_head (fX0_layMatch_b13 gx ax t td' of)]
    exact itR (P := fun M (X : Int32 × Int32 × (Nat → Int32)) => mtR M (X.2.1, X.1, X.2.2)) (n := g 3) (fun j u v hj p => mt_inner hT h3 h31 (show j + 1 ≤ g 3 by omega) p) (g 3) (Nat.le_refl _) _ _ row0
  obtain ⟨c1, c2, c3, c4⟩ := all
  unfold fX2_matchOf fX0_layMatch fX0_matchToldS
  rcases hw with q | q | q | q <;> subst q
  · rw [if_pos (show nI 0 = 0 from rfl), if_pos (show nI 0 = 0 from rfl)]; exact c2.symm
  · rw [if_neg (show ¬ nI 1 = 0 by decide), if_pos rfl, if_neg (show ¬ nI 1 = 0 by decide), if_pos rfl]; exact c1.symm
  · rw [if_neg (show ¬ nI 10 = 0 by decide), if_neg (show ¬ nI 10 = nI 1 by decide), if_pos rfl, if_neg (show ¬ nI 10 = 0 by decide), if_neg (show ¬ nI 10 = nI 1 by decide)]; exact c3.symm
  · rw [if_neg (show ¬ nI 11 = 0 by decide), if_neg (show ¬ nI 11 = nI 1 by decide), if_neg (show ¬ nI 11 = nI 10 by decide), if_neg (show ¬ nI 11 = 0 by decide), if_neg (show ¬ nI 11 = nI 1 by decide)]; exact c4.symm
end MT
