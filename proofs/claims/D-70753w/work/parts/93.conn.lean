/-! THE LAW, 4: what hangs together -/
set_option maxRecDepth 100000
/-- one street: who is at one end is at both -/
def bst (t : TW) (I : Nat → Bool) (i : Nat) (B : Nat → Bool) : Nat → Bool := fun x => B x || (I i && (B (ta t i) || B (tb t i)) && (decide (x = ta t i) || decide (x = tb t i)))
def brd (t : TW) (I : Nat → Bool) (B : Nat → Bool) : Nat → Bool := it (bst t I) (tn t) B
def brs (t : TW) (I : Nat → Bool) (k : Nat) (B : Nat → Bool) : Nat → Bool := it (fun _ B => brd t I B) k B
def rB (t : TW) (I : Nat → Bool) (c : Nat) : Nat → Bool := brs t I 8 (fun x => decide (x = c))
def bcl (t : TW) (I : Nat → Bool) (B : Nat → Bool) : Prop := ∀ i, i < tn t → I i = true → (B (ta t i) = true ↔ B (tb t i) = true)
theorem bst_sub {t : TW} {I : Nat → Bool} {i : Nat} {B : Nat → Bool} {x : Nat} (h : B x = true) : bst t I i B x = true := by
  unfold bst
  rw [h]
  rfl
theorem itb_sub {t : TW} {I : Nat → Bool} {B : Nat → Bool} {x : Nat} (h : B x = true) : ∀ k, it (bst t I) k B x = true
  | 0 => h
  | k + 1 => bst_sub (itb_sub h k)
theorem brd_sub {t : TW} {I : Nat → Bool} {B : Nat → Bool} {x : Nat} (h : B x = true) : brd t I B x = true := itb_sub h _
theorem brs_sub {t : TW} {I : Nat → Bool} {B : Nat → Bool} {x : Nat} (h : B x = true) : ∀ k, brs t I k B x = true
  | 0 => h
  | k + 1 => brd_sub (brs_sub h k)
theorem rB_self (t : TW) (I : Nat → Bool) (c : Nat) : rB t I c c = true := brs_sub (by simp) 8
/-- it is the least one -/
theorem bst_in {t : TW} {I : Nat → Bool} {i : Nat} (hi : i < tn t) {B X : Nat → Bool} (hX : bcl t I X) (h : ∀ x, B x = true → X x = true) : ∀ x, bst t I i B x = true → X x = true := by
  intro x hx
  unfold bst at hx
  simp only [Bool.or_eq_true, Bool.and_eq_true, decide_eq_true_eq] at hx
  rcases hx with hx | ⟨⟨h1, h2⟩, h3⟩
  · exact h x hx
  · have e := hX i hi h1
    have both : X (ta t i) = true ∧ X (tb t i) = true := by
      rcases h2 with q | q
      · exact ⟨h _ q, e.mp (h _ q)⟩
      · exact ⟨e.mpr (h _ q), h _ q⟩
    rcases h3 with q | q
    · rw [q]; exact both.1
    · rw [q]; exact both.2
theorem itb_in {t : TW} {I : Nat → Bool} {B X : Nat → Bool} (hX : bcl t I X) (h : ∀ x, B x = true → X x = true) : ∀ k, k ≤ tn t → ∀ x, it (bst t I) k B x = true → X x = true
  | 0, _ => h
  | k + 1, hk => bst_in (by omega) hX (itb_in hX h k (by omega))
theorem brs_in {t : TW} {I : Nat → Bool} {B X : Nat → Bool} (hX : bcl t I X) (h : ∀ x, B x = true → X x = true) : ∀ k, ∀ x, brs t I k B x = true → X x = true
  | 0 => h
  | k + 1 => itb_in hX (brs_in hX h k) (tn t) (Nat.le_refl _)
theorem rB_in {t : TW} {I : Nat → Bool} {c : Nat} {X : Nat → Bool} (hX : bcl t I X) (hc : X c = true) : ∀ x, rB t I c x = true → X x = true := brs_in hX (fun x hx => by rw [of_decide_eq_true hx]; exact hc) 8
/-- a round that adds nothing ends it -/
theorem brd_ends {t : TW} {I : Nat → Bool} {B : Nat → Bool} {i : Nat} (hi : i < tn t) (hI : I i = true) (h : B (ta t i) = true ∨ B (tb t i) = true) : brd t I B (ta t i) = true ∧ brd t I B (tb t i) = true := by
  have key : ∀ k, i < k → it (bst t I) k B (ta t i) = true ∧ it (bst t I) k B (tb t i) = true := by
    intro k
    induction k with
    | zero => intro z; omega
    | succ k ih =>
      intro z
      by_cases q : i = k
      · subst q
        have hh : it (bst t I) i B (ta t i) = true ∨ it (bst t I) i B (tb t i) = true := by
          rcases h with h | h
          · exact Or.inl (itb_sub h i)
          · exact Or.inr (itb_sub h i)
        have hb : (it (bst t I) i B (ta t i) || it (bst t I) i B (tb t i)) = true := by
          rcases hh with h | h <;> simp [h]
        constructor
        · show (it (bst t I) i B (ta t i) || (I i && (it (bst t I) i B (ta t i) || it (bst t I) i B (tb t i)) && (decide (ta t i = ta t i) || decide (ta t i = tb t i)))) = true
          rw [hI, hb]; simp
        · show (it (bst t I) i B (tb t i) || (I i && (it (bst t I) i B (ta t i) || it (bst t I) i B (tb t i)) && (decide (tb t i = ta t i) || decide (tb t i = tb t i)))) = true
          rw [hI, hb]; simp
      · obtain ⟨h1, h2⟩ := ih (by omega)
        exact ⟨bst_sub h1, bst_sub h2⟩
  exact key (tn t) hi
theorem bcl_of {t : TW} (ok : tOK t) {I : Nat → Bool} {B : Nat → Bool} (h : ∀ x, x < 8 → brd t I B x = true → B x = true) : bcl t I B := by
  intro i hi hI
  obtain ⟨-, ha, hb, -⟩ := ok.2.2 i hi
  exact ⟨fun q => h _ hb (brd_ends hi hI (Or.inl q)).2, fun q => h _ ha (brd_ends hi hI (Or.inr q)).1⟩
theorem bst_id {t : TW} {I : Nat → Bool} {i : Nat} (hi : i < tn t) {B : Nat → Bool} (h : bcl t I B) : bst t I i B = B := by
  funext x
  have hh := bst_in hi h (fun _ z => z) x
  cases hb : B x with
  | true => exact bst_sub hb
  | false =>
    cases hc : bst t I i B x with
    | true => rw [hh hc] at hb; cases hb
    | false => rfl
theorem itb_id {t : TW} {I : Nat → Bool} {B : Nat → Bool} (h : bcl t I B) : ∀ k, k ≤ tn t → it (bst t I) k B = B
  | 0, _ => rfl
  | k + 1, hk => by
    show bst t I k (it (bst t I) k B) = B
    rw [itb_id h k (by omega), bst_id (by omega) h]
theorem brs_id {t : TW} {I : Nat → Bool} {B : Nat → Bool} (h : bcl t I B) : ∀ k, brs t I k B = B
  | 0 => rfl
  | k + 1 => by
    show brd t I (brs t I k B) = B
    rw [brs_id h k]
    exact itb_id h (tn t) (Nat.le_refl _)
theorem brs_add {t : TW} {I : Nat → Bool} {B : Nat → Bool} (j : Nat) : ∀ k, brs t I (j + k) B = brs t I k (brs t I j B)
  | 0 => rfl
  | k + 1 => by
    show brd t I (brs t I (j + k) B) = brd t I (brs t I k (brs t I j B))
    rw [brs_add j k]
theorem rB_cl {t : TW} (ok : tOK t) (I : Nat → Bool) {c : Nat} (hc : c < 8) : bcl t I (rB t I c) := by
  have key : ∀ k, bcl t I (brs t I k (fun x => decide (x = c))) ∨ k + 1 ≤ cnt (brs t I k (fun x => decide (x = c))) 8 := by
    intro k
    induction k with
    | zero => exact Or.inr (cnt_pos hc (by show decide (c = c) = true; simp))
    | succ k ih =>
      rcases ih with h | h
      · left
        show bcl t I (brd t I (brs t I k _))
        have : brd t I (brs t I k (fun x => decide (x = c))) = brs t I k (fun x => decide (x = c)) := itb_id h (tn t) (Nat.le_refl _)
        rw [this]; exact h
      · by_cases q : ∀ x, x < 8 → brd t I (brs t I k (fun x => decide (x = c))) x = true → brs t I k (fun x => decide (x = c)) x = true
        · left
          have hcl := bcl_of ok q
          show bcl t I (brd t I (brs t I k _))
          have : brd t I (brs t I k (fun x => decide (x = c))) = brs t I k (fun x => decide (x = c)) := itb_id hcl (tn t) (Nat.le_refl _)
          rw [this]; exact hcl
        · right
          have ⟨x, hx⟩ := Classical.not_forall.mp q
          have ⟨hx8, hx2⟩ := Classical.not_imp.mp hx
          have ⟨h1, h2⟩ := Classical.not_imp.mp hx2
          have : cnt (brs t I k (fun x => decide (x = c))) 8 < cnt (brs t I (k + 1) (fun x => decide (x = c))) 8 := cnt_lt 8 (fun y _ hy => brd_sub hy) ⟨x, hx8, by cases z : brs t I k (fun x => decide (x = c)) x with
            | true => exact absurd z h2
            | false => rfl, h1⟩
          omega
  rcases key 8 with h | h
  · exact h
  · have := cnt_le (brs t I 8 (fun x => decide (x = c))) 8
    omega
theorem rB_sym {t : TW} (ok : tOK t) (I : Nat → Bool) {a b : Nat} (ha : a < 8) (hb : b < 8) : rB t I a b = true → rB t I b a = true := by
  intro h
  have hX : bcl t I (fun x => decide (x < 8) && rB t I x a) := by
    intro i hi hI
    obtain ⟨-, h1, h2, -⟩ := ok.2.2 i hi
    have mono : ∀ x y, x < 8 → y < 8 → rB t I y x = true → rB t I x a = true → rB t I y a = true := fun x y hx hy hyx hxa => rB_in (rB_cl ok I hy) hyx a hxa
    have e1 : rB t I (ta t i) (tb t i) = true := (rB_cl ok I h1 i hi hI).mp (rB_self t I _)
    have e2 : rB t I (tb t i) (ta t i) = true := (rB_cl ok I h2 i hi hI).mpr (rB_self t I _)
    simp only [Bool.and_eq_true, decide_eq_true_eq]
    exact ⟨fun q => ⟨h2, mono _ _ h1 h2 e2 q.2⟩, fun q => ⟨h1, mono _ _ h2 h1 e1 q.2⟩⟩
  have := rB_in hX (c := a) (by simp [ha, rB_self]) b h
  simp only [Bool.and_eq_true, decide_eq_true_eq] at this
  exact this.2
