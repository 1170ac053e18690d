/-! SHORTEST WAYS over plain numbers: rounds of relaxing settle after seven -/
def cnt (P : Nat → Bool) : Nat → Nat
  | 0 => 0
  | n + 1 => cnt P n + (if P n then 1 else 0)
theorem cnt_le (P : Nat → Bool) : ∀ n, cnt P n ≤ n
  | 0 => Nat.le_refl _
  | n + 1 => by have := cnt_le P n; simp only [cnt]; split <;> omega
theorem cnt_mono {P Q : Nat → Bool} : ∀ n, (∀ x, x < n → P x = true → Q x = true) → cnt P n ≤ cnt Q n
  | 0, _ => Nat.le_refl _
  | n + 1, h => by
    have := cnt_mono n fun x hx => h x (by omega)
    have h1 := h n (by omega)
    simp only [cnt]
    cases hp : P n <;> cases hq : Q n <;> simp_all <;> omega
theorem cnt_lt {P Q : Nat → Bool} : ∀ n, (∀ x, x < n → P x = true → Q x = true) → (∃ x, x < n ∧ P x = false ∧ Q x = true) → cnt P n < cnt Q n
  | 0, _, h => by obtain ⟨x, hx, -⟩ := h; omega
  | n + 1, h, ⟨x, hx, hp, hq⟩ => by
    have h0 := cnt_mono n fun x hx => h x (by omega)
    have h1 := h n (by omega)
    simp only [cnt]
    by_cases hn : x = n
    · subst hn; simp [hp, hq]; omega
    · have := cnt_lt n (fun x hx => h x (by omega)) ⟨x, by omega, hp, hq⟩
      cases hp : P n <;> cases hq : Q n <;> simp_all <;> omega
theorem cnt_pos {P : Nat → Bool} {n x : Nat} (hx : x < n) (h : P x = true) : 0 < cnt P n := by
  have := cnt_lt (P := fun _ => false) (Q := P) n (fun _ _ h => by cases h) ⟨x, hx, rfl, h⟩
  omega
theorem cnt_congr {P Q : Nat → Bool} (n : Nat) (h : ∀ x, x < n → P x = Q x) : cnt P n = cnt Q n :=
  Nat.le_antisymm (cnt_mono n fun x hx e => (h x hx) ▸ e) (cnt_mono n fun x hx e => (h x hx) ▸ e)

/-- a town's streets for one person: how many, their ends, their costs, which may be used -/
def Net : Type := Nat × (Nat → Nat) × (Nat → Nat) × (Nat → Nat) × (Nat → Bool)
def Net.n (N : Net) : Nat := N.1
def Net.A (N : Net) : Nat → Nat := N.2.1
def Net.B (N : Net) : Nat → Nat := N.2.2.1
def Net.c (N : Net) : Nat → Nat := N.2.2.2.1
def Net.I (N : Net) : Nat → Bool := N.2.2.2.2
def Net.ok (N : Net) (C : Nat) : Prop := ∀ i, i < N.n → N.A i < 8 ∧ N.B i < 8 ∧ N.A i ≠ N.B i ∧ 1 ≤ N.c i ∧ N.c i ≤ C
def Net.joins (N : Net) (i x y : Nat) : Prop := i < N.n ∧ N.I i = true ∧ ((N.A i = x ∧ N.B i = y) ∨ (N.A i = y ∧ N.B i = x))
def nu (D : Nat → Nat) (k v : Nat) : Nat → Nat := fun j => if j = k then v else D j
def rl (D : Nat → Nat) (x y c : Nat) : Nat → Nat := nu D x (min (D x) (D y + c))
def Net.st (N : Net) (i : Nat) (D : Nat → Nat) : Nat → Nat := if N.I i = true then rl (rl D (N.A i) (N.B i) (N.c i)) (N.B i) (N.A i) (N.c i) else D
def Net.rd (N : Net) (D : Nat → Nat) : Nat → Nat := it N.st N.n D
def Net.rds (N : Net) (k : Nat) (D : Nat → Nat) : Nat → Nat := it (fun _ => N.rd) k D
def d0 (F to : Nat) : Nat → Nat := fun x => if x = to then 0 else F
def Net.ds (N : Net) (F to : Nat) : Nat → Nat := N.rds 8 (d0 F to)

theorem rl_le (D : Nat → Nat) (x y c z : Nat) : rl D x y c z ≤ D z := by unfold rl nu; split <;> first | (subst_vars; omega) | omega
theorem rl_self (D : Nat → Nat) (x y c : Nat) : rl D x y c x = min (D x) (D y + c) := by simp [rl, nu]
theorem rl_other (D : Nat → Nat) {x z : Nat} (y c : Nat) (h : z ≠ x) : rl D x y c z = D z := by simp [rl, nu, h]

/-- what every array of distances is, while it is laid -/
def Net.Inv (N : Net) (F to C : Nat) (D : Nat → Nat) : Prop :=
  D to = 0 ∧ (∀ x, D x ≤ F) ∧ (∀ x, x < 8 → x ≠ to → D x < F → ∃ i y, N.joins i x y ∧ D y + N.c i ≤ D x) ∧ (∀ x, x < 8 → D x < F → D x + C ≤ cnt (fun x => decide (D x < F)) 8 * C)
theorem Net.Inv.zero {N : Net} {F to C : Nat} {D : Nat → Nat} (h : N.Inv F to C D) : D to = 0 := h.1
theorem Net.Inv.far {N : Net} {F to C : Nat} {D : Nat → Nat} (h : N.Inv F to C D) : ∀ x, D x ≤ F := h.2.1
theorem Net.Inv.edge {N : Net} {F to C : Nat} {D : Nat → Nat} (h : N.Inv F to C D) : ∀ x, x < 8 → x ≠ to → D x < F → ∃ i y, N.joins i x y ∧ D y + N.c i ≤ D x := h.2.2.1
theorem Net.Inv.small {N : Net} {F to C : Nat} {D : Nat → Nat} (h : N.Inv F to C D) : ∀ x, x < 8 → D x < F → D x + C ≤ cnt (fun x => decide (D x < F)) 8 * C := h.2.2.2

theorem Net.joins_lt {N : Net} {C : Nat} (ok : N.ok C) {i x y : Nat} (h : N.joins i x y) : x < 8 ∧ y < 8 ∧ x ≠ y ∧ 1 ≤ N.c i ∧ N.c i ≤ C := by
  obtain ⟨h1, -, h2⟩ := h
  obtain ⟨a, b, c, d, e⟩ := ok i h1
  rcases h2 with ⟨rfl, rfl⟩ | ⟨rfl, rfl⟩
  · exact ⟨a, b, c, d, e⟩
  · exact ⟨b, a, c.symm, d, e⟩

theorem Net.Inv.relax {N : Net} {F to C : Nat} (ok : N.ok C) {D : Nat → Nat} (h : N.Inv F to C D) {i x y : Nat} (hj : N.joins i x y) : N.Inv F to C (rl D x y (N.c i)) := by
  obtain ⟨hx, hy, hxy, hc1, hc2⟩ := Net.joins_lt ok hj
  refine ⟨?_, fun z => Nat.le_trans (rl_le D x y _ z) (h.far z), ?_, ?_⟩
  · have := rl_le D x y (N.c i) to; have := h.zero; omega
  · intro z hz hzt hzf
    by_cases hzx : z = x
    · subst hzx
      rw [rl_self] at hzf ⊢
      by_cases hlt : D y + N.c i ≤ D z
      · exact ⟨i, y, hj, by rw [rl_other _ _ _ hxy.symm]; omega⟩
      · obtain ⟨i', y', h1, h2⟩ := h.edge z hz hzt (by omega)
        exact ⟨i', y', h1, by have := rl_le D z y (N.c i) y'; omega⟩
    · rw [rl_other _ _ _ hzx] at hzf ⊢
      obtain ⟨i', y', h1, h2⟩ := h.edge z hz hzt hzf
      exact ⟨i', y', h1, by have := rl_le D x y (N.c i) y'; omega⟩
  · intro z hz hzf
    have hm : cnt (fun x => decide (D x < F)) 8 ≤ cnt (fun z => decide (rl D x y (N.c i) z < F)) 8 := cnt_mono 8 fun w _ hw => by
      have := rl_le D x y (N.c i) w
      simp only [decide_eq_true_eq] at hw ⊢; omega
    have hm2 := Nat.mul_le_mul_right C hm
    by_cases hDz : D z < F
    · have := h.small z hz hDz
      have := rl_le D x y (N.c i) z
      omega
    · have hzx : z = x := Classical.byContradiction fun hne => by rw [rl_other _ _ _ hne] at hzf; exact hDz hzf
      subst hzx
      have hs : rl D z y (N.c i) z = D y + N.c i := by rw [rl_self] at hzf ⊢; omega
      have hl : cnt (fun x => decide (D x < F)) 8 < cnt (fun w => decide (rl D z y (N.c i) w < F)) 8 := cnt_lt 8 (fun w _ hw => by
        have := rl_le D z y (N.c i) w
        simp only [decide_eq_true_eq] at hw ⊢; omega) ⟨z, hz, by simp; omega, by simp; omega⟩
      have h1 := h.small y hy (by omega)
      have h2 := Nat.mul_le_mul_right C hl
      rw [Nat.succ_mul] at h2
      rw [hs]; omega

theorem Net.joins_ab {N : Net} {i : Nat} (h : i < N.n) (hI : N.I i = true) : N.joins i (N.A i) (N.B i) ∧ N.joins i (N.B i) (N.A i) := ⟨⟨h, hI, .inl ⟨rfl, rfl⟩⟩, ⟨h, hI, .inr ⟨rfl, rfl⟩⟩⟩

theorem Net.st_le (N : Net) (i : Nat) (D : Nat → Nat) (x : Nat) : N.st i D x ≤ D x := by
  unfold Net.st; split
  · exact Nat.le_trans (rl_le _ _ _ _ _) (rl_le _ _ _ _ _)
  · exact Nat.le_refl _
theorem Net.itst_le (N : Net) (D : Nat → Nat) (x : Nat) : ∀ k, it N.st k D x ≤ D x
  | 0 => Nat.le_refl _
  | k + 1 => Nat.le_trans (N.st_le k _ x) (Net.itst_le N D x k)
theorem Net.itst_anti (N : Net) (D : Nat → Nat) (x : Nat) (k : Nat) : ∀ m, it N.st (k + m) D x ≤ it N.st k D x
  | 0 => Nat.le_refl _
  | m + 1 => Nat.le_trans (N.st_le (k + m) _ x) (Net.itst_anti N D x k m)
theorem Net.rd_le (N : Net) (D : Nat → Nat) (x : Nat) : N.rd D x ≤ D x := N.itst_le D x N.n
theorem Net.rds_anti (N : Net) (D : Nat → Nat) (x k : Nat) : ∀ m, N.rds (k + m) D x ≤ N.rds k D x
  | 0 => Nat.le_refl _
  | m + 1 => Nat.le_trans (N.rd_le (N.rds (k + m) D) x) (Net.rds_anti N D x k m)

theorem Net.Inv.st {N : Net} {F to C : Nat} (ok : N.ok C) {D : Nat → Nat} (h : N.Inv F to C D) {i : Nat} (hi : i < N.n) : N.Inv F to C (N.st i D) := by
  unfold Net.st; split
  · rename_i hI
    exact Net.Inv.relax ok (Net.Inv.relax ok h (Net.joins_ab hi hI).1) (Net.joins_ab hi hI).2
  · exact h
theorem Net.Inv.its {N : Net} {F to C : Nat} (ok : N.ok C) {D : Nat → Nat} (h : N.Inv F to C D) : ∀ k, k ≤ N.n → N.Inv F to C (it N.st k D)
  | 0, _ => h
  | k + 1, hk => Net.Inv.st ok (Net.Inv.its ok h k (by omega)) (by omega)
theorem Net.Inv.rd {N : Net} {F to C : Nat} (ok : N.ok C) {D : Nat → Nat} (h : N.Inv F to C D) : N.Inv F to C (N.rd D) := h.its ok N.n (Nat.le_refl _)
theorem Net.Inv.rds {N : Net} {F to C : Nat} (ok : N.ok C) {D : Nat → Nat} (h : N.Inv F to C D) : ∀ k, N.Inv F to C (N.rds k D)
  | 0 => h
  | k + 1 => Net.Inv.rd ok (Net.Inv.rds ok h k)
theorem Net.Inv.init (N : Net) {F to C : Nat} (hF : 0 < F) (ht : to < 8) : N.Inv F to C (d0 F to) := by
  refine ⟨by simp [d0], fun x => by unfold d0; split <;> omega, fun x hx hxt h => by simp [d0, hxt] at h, fun x hx h => ?_⟩
  have hxt : x = to := Classical.byContradiction fun hne => by simp [d0, hne] at h
  have := cnt_pos (P := fun x => decide (d0 F to x < F)) (n := 8) hx (by simpa using h)
  have := Nat.mul_le_mul_right C this
  subst hxt
  simp only [d0, if_true] at *
  omega

/-- after a round, the relaxing of each street has been done once -/
theorem Net.rd_edge (N : Net) (C : Nat) (ok : N.ok C) (D : Nat → Nat) {i x y : Nat} (hj : N.joins i x y) : N.rd D x ≤ D y + N.c i := by
  obtain ⟨hx, hy, hxy, -, -⟩ := Net.joins_lt ok hj
  obtain ⟨hi, hI, h⟩ := hj
  have h1 : N.rd D x ≤ it N.st (i + 1) D x := by
    have := N.itst_anti D x (i + 1) (N.n - (i + 1))
    rw [show i + 1 + (N.n - (i + 1)) = N.n by omega] at this
    exact this
  have h2 : it N.st (i + 1) D x ≤ it N.st i D y + N.c i := by
    show N.st i (it N.st i D) x ≤ _
    generalize it N.st i D = E
    unfold Net.st
    rw [if_pos hI]
    rcases h with ⟨rfl, rfl⟩ | ⟨rfl, rfl⟩
    · refine Nat.le_trans (rl_le _ _ _ _ _) ?_
      rw [rl_self]; omega
    · rw [rl_self]
      have := rl_le E (N.A i) (N.B i) (N.c i) (N.A i)
      omega
  have h3 := N.itst_le D y i
  omega

def Net.fixd (N : Net) (D : Nat → Nat) : Prop := ∀ i x y, N.joins i x y → D x ≤ D y + N.c i
theorem rl_id {D : Nat → Nat} {x y c : Nat} (h : D x ≤ D y + c) : rl D x y c = D := by
  funext z
  by_cases hz : z = x
  · subst hz; rw [rl_self]; omega
  · rw [rl_other _ _ _ hz]
theorem Net.fixd.st {N : Net} {D : Nat → Nat} (h : N.fixd D) {i : Nat} (hi : i < N.n) : N.st i D = D := by
  unfold Net.st; split
  · rename_i hI
    rw [rl_id (h i _ _ (Net.joins_ab hi hI).1), rl_id (h i _ _ (Net.joins_ab hi hI).2)]
  · rfl
theorem Net.fixd.its {N : Net} {D : Nat → Nat} (h : N.fixd D) : ∀ k, k ≤ N.n → it N.st k D = D
  | 0, _ => rfl
  | k + 1, hk => by show N.st k (it N.st k D) = D; rw [Net.fixd.its h k (by omega)]; exact h.st (by omega)
theorem Net.fixd.rd {N : Net} {D : Nat → Nat} (h : N.fixd D) : N.rd D = D := h.its N.n (Nat.le_refl _)
theorem Net.fixd.rds {N : Net} {D : Nat → Nat} (h : N.fixd D) : ∀ k, N.rds k D = D
  | 0 => rfl
  | k + 1 => by show N.rd (N.rds k D) = D; rw [h.rds k, h.rd]
theorem Net.rds_add (N : Net) (k : Nat) (D : Nat → Nat) : ∀ m, N.rds (k + m) D = N.rds m (N.rds k D)
  | 0 => rfl
  | m + 1 => by show N.rd (N.rds (k + m) D) = N.rd (N.rds m (N.rds k D)); rw [N.rds_add k D m]
theorem Net.fixd_of (N : Net) (C : Nat) (ok : N.ok C) {D : Nat → Nat} (h : ∀ x, x < 8 → N.rd D x = D x) : N.fixd D := fun i x y hj => by
  have := N.rd_edge C ok D hj
  rw [h x (Net.joins_lt ok hj).1] at this
  exact this

def sum8 (D : Nat → Nat) : Nat := D 0 + D 1 + D 2 + D 3 + D 4 + D 5 + D 6 + D 7
theorem Net.settles (N : Net) (C : Nat) (ok : N.ok C) : ∀ (b : Nat) (D : Nat → Nat), sum8 D ≤ b → ∃ k, N.fixd (N.rds k D) := by
  intro b
  induction b with
  | zero =>
    intro D h
    refine ⟨0, N.fixd_of C ok fun x hx => ?_⟩
    have := N.rd_le D x
    show N.rd D x = D x
    have : D x = 0 := by
      unfold sum8 at h
      rcases x with _|_|_|_|_|_|_|_|x <;> first | omega | (simp only [Nat.zero_add, Nat.reduceAdd]; omega) | (exfalso; omega)
    omega
  | succ b ih =>
    intro D h
    by_cases hf : ∀ x, x < 8 → N.rd D x = D x
    · exact ⟨0, N.fixd_of C ok hf⟩
    · have hlt : sum8 (N.rd D) < sum8 D := by
        have hle := N.rd_le D
        have h0 := hle 0; have h1 := hle 1; have h2 := hle 2; have h3 := hle 3; have h4 := hle 4; have h5 := hle 5; have h6 := hle 6; have h7 := hle 7
        unfold sum8
        apply Classical.byContradiction
        intro hn
        apply hf
        intro x hx
        rcases x with _|_|_|_|_|_|_|_|x <;> first | omega | (simp only [Nat.zero_add, Nat.reduceAdd]; omega) | (exfalso; omega)
      obtain ⟨k, hk⟩ := ih (N.rd D) (by omega)
      refine ⟨1 + k, ?_⟩
      rw [N.rds_add 1 D k]
      exact hk

/-- seven rounds settle -/
theorem Net.settled7 (N : Net) {F to C : Nat} (ok : N.ok C) (ht : to < 8) {D : Nat → Nat} (h : N.Inv F to C D) : N.fixd (N.rds 7 D) := by
  obtain ⟨K, hK⟩ := N.settles C ok _ D (Nat.le_refl _)
  have hfix : ∀ k, K ≤ k → N.rds k D = N.rds K D := fun k hk => by
    have := N.rds_add K D (k - K)
    rw [show K + (k - K) = k by omega] at this
    rw [this, hK.rds]
  have hlow : ∀ k x, N.rds K D x ≤ N.rds k D x := fun k x => by
    by_cases hk : K ≤ k
    · rw [hfix k hk]; exact Nat.le_refl _
    · have := N.rds_anti D x k (K - k)
      rw [show k + (K - k) = K by omega] at this
      exact this
  have hinv := h.rds ok K
  have key : ∀ k, (∀ x, x < 8 → N.rds k D x = N.rds K D x) ∨ k + 1 ≤ cnt (fun x => decide (N.rds k D x = N.rds K D x)) 8 := by
    intro k
    induction k with
    | zero =>
      refine .inr (cnt_pos (x := to) ht ?_)
      have := h.zero
      have := hinv.zero
      simp only [decide_eq_true_eq]
      show D to = _
      omega
    | succ k ih =>
      have hmono : ∀ x, N.rds k D x = N.rds K D x → N.rds (k + 1) D x = N.rds K D x := fun x hx => by
        have := N.rds_anti D x k 1
        have := hlow (k + 1) x
        omega
      rcases ih with ih | ih
      · exact .inl fun x hx => hmono x (ih x hx)
      · by_cases hall : ∀ x, x < 8 → N.rds k D x = N.rds K D x
        · exact .inl fun x hx => hmono x (hall x hx)
        · refine .inr ?_
          -- the nearest corner that is not settled
          have hex : ∃ v x, x < 8 ∧ N.rds k D x ≠ N.rds K D x ∧ N.rds K D x = v := by
            apply Classical.byContradiction
            intro hn
            apply hall
            intro x hx
            apply Classical.byContradiction
            intro hne
            exact hn ⟨_, x, hx, hne, rfl⟩
          have hmin : ∃ x, x < 8 ∧ N.rds k D x ≠ N.rds K D x ∧ ∀ z, z < 8 → N.rds k D z ≠ N.rds K D z → N.rds K D x ≤ N.rds K D z := by
            obtain ⟨v, hv⟩ := hex
            induction v using Nat.strongRecOn with
            | ind v ihv =>
              obtain ⟨x, hx, hne, hxv⟩ := hv
              by_cases hz : ∃ z, z < 8 ∧ N.rds k D z ≠ N.rds K D z ∧ N.rds K D z < v
              · obtain ⟨z, hz1, hz2, hz3⟩ := hz
                exact ihv _ hz3 ⟨z, hz1, hz2, rfl⟩
              · refine ⟨x, hx, hne, fun z hz1 hz2 => ?_⟩
                apply Classical.byContradiction
                intro hlt
                exact hz ⟨z, hz1, hz2, by omega⟩
          obtain ⟨x, hx, hne, hmn⟩ := hmin
          have hxl := hlow k x
          have hxF : N.rds K D x < F := by have := (h.rds ok k).far x; omega
          have hxt : x ≠ to := fun he => by
            subst he
            have := (h.rds ok k).zero
            have := hinv.zero
            omega
          obtain ⟨i, y, hj, hy⟩ := hinv.edge x hx hxt hxF
          obtain ⟨-, hy8, -, hc1, -⟩ := Net.joins_lt ok hj
          have hys : N.rds k D y = N.rds K D y := by
            apply Classical.byContradiction
            intro hn
            have := hmn y hy8 hn
            omega
          have hnew : N.rds (k + 1) D x = N.rds K D x := by
            have h1 := N.rd_edge C ok (N.rds k D) hj
            have h2 := hlow (k + 1) x
            have h3 : N.rds (k + 1) D x = N.rd (N.rds k D) x := rfl
            omega
          have := cnt_lt (P := fun x => decide (N.rds k D x = N.rds K D x)) (Q := fun x => decide (N.rds (k + 1) D x = N.rds K D x)) 8 (fun z _ hz => by
            simp only [decide_eq_true_eq] at hz ⊢; exact hmono z hz) ⟨x, hx, by simpa using hne, by simpa using hnew⟩
          omega
  have hall : ∀ x, x < 8 → N.rds 7 D x = N.rds K D x := by
    rcases key 7 with h7 | h7
    · exact h7
    · intro x hx
      apply Classical.byContradiction
      intro hne
      have := cnt_lt (P := fun x => decide (N.rds 7 D x = N.rds K D x)) (Q := fun _ => true) 8 (fun _ _ _ => rfl) ⟨x, hx, by simpa using hne, rfl⟩
      have := cnt_le (fun _ => true) 8
      omega
  intro i x y hj
  obtain ⟨hx, hy, -⟩ := Net.joins_lt ok hj
  rw [hall x hx, hall y hy]
  exact hK i x y hj

theorem Net.ds_inv (N : Net) {F to C : Nat} (ok : N.ok C) (hF : 0 < F) (ht : to < 8) : N.Inv F to C (N.ds F to) := (Net.Inv.init N hF ht).rds ok 8
theorem Net.ds_fix (N : Net) {F to C : Nat} (ok : N.ok C) (hF : 0 < F) (ht : to < 8) : N.fixd (N.ds F to) := by
  have h := N.settled7 ok ht (Net.Inv.init (F := F) (C := C) N hF ht)
  have : N.ds F to = N.rds 7 (d0 F to) := by show N.rd (N.rds 7 (d0 F to)) = _; exact h.rd
  rw [this]; exact h
theorem Net.ds_from (N : Net) {F to C : Nat} (ok : N.ok C) (hF : 0 < F) (ht : to < 8) {k : Nat} (h : N.fixd (N.rds k (d0 F to))) : N.rds k (d0 F to) = N.ds F to := by
  by_cases hk : k ≤ 8
  · have h1 := N.rds_add k (d0 F to) (8 - k)
    rw [show k + (8 - k) = 8 by omega, h.rds] at h1
    exact h1.symm
  · have h1 := N.rds_add 8 (d0 F to) (k - 8)
    rw [show 8 + (k - 8) = k by omega] at h1
    rw [h1]
    exact (N.ds_fix ok hF ht).rds _
theorem Net.Inv.le7 {N : Net} {F to C : Nat} {D : Nat → Nat} (h : N.Inv F to C D) {x : Nat} (hx : x < 8) (hf : D x < F) : D x ≤ 7 * C := by
  have h1 := h.small x hx hf
  have h2 := Nat.mul_le_mul_right C (cnt_le (fun x => decide (D x < F)) 8)
  omega

/-- two words for 'far': the arrays differ at the far corners alone -/
def twoFar (F G : Nat) (D E : Nat → Nat) : Prop := ∀ x, x < 8 → (D x = F ∧ E x = G) ∨ (D x = E x ∧ D x < F)
theorem twoFar.relax {N : Net} {F G to C : Nat} (ok : N.ok C) (hFG : F ≤ G) (hC : 7 * C + C < F) {D E : Nat → Nat} (hD : N.Inv F to C D) (h : twoFar F G D E) {i x y : Nat} (hj : N.joins i x y) : twoFar F G (rl D x y (N.c i)) (rl E x y (N.c i)) := by
  obtain ⟨hx, hy, hxy, hc1, hc2⟩ := Net.joins_lt ok hj
  intro z hz
  by_cases hzx : z = x
  · subst hzx
    rw [rl_self, rl_self]
    rcases h z hz with ⟨h1, h2⟩ | ⟨h1, h2⟩ <;> rcases h y hy with ⟨h3, h4⟩ | ⟨h3, h4⟩
    · left; omega
    · have := hD.le7 hy h4
      right; omega
    · right; omega
    · right; omega
  · rw [rl_other _ _ _ hzx, rl_other _ _ _ hzx]; exact h z hz
theorem twoFar.st {N : Net} {F G to C : Nat} (ok : N.ok C) (hFG : F ≤ G) (hC : 7 * C + C < F) {D E : Nat → Nat} (hD : N.Inv F to C D) (h : twoFar F G D E) {i : Nat} (hi : i < N.n) : twoFar F G (N.st i D) (N.st i E) := by
  unfold Net.st; split
  · rename_i hI
    exact (h.relax ok hFG hC hD (Net.joins_ab hi hI).1).relax ok hFG hC (hD.relax ok (Net.joins_ab hi hI).1) (Net.joins_ab hi hI).2
  · exact h
theorem twoFar.its {N : Net} {F G to C : Nat} (ok : N.ok C) (hFG : F ≤ G) (hC : 7 * C + C < F) {D E : Nat → Nat} (hD : N.Inv F to C D) (h : twoFar F G D E) : ∀ k, k ≤ N.n → twoFar F G (it N.st k D) (it N.st k E)
  | 0, _ => h
  | k + 1, hk => (twoFar.its ok hFG hC hD h k (by omega)).st ok hFG hC (hD.its ok k (by omega)) (by omega)
theorem twoFar.rds {N : Net} {F G to C : Nat} (ok : N.ok C) (hFG : F ≤ G) (hC : 7 * C + C < F) {D E : Nat → Nat} (hD : N.Inv F to C D) (h : twoFar F G D E) : ∀ k, twoFar F G (N.rds k D) (N.rds k E)
  | 0 => h
  | k + 1 => twoFar.its ok hFG hC (hD.rds ok k) (twoFar.rds ok hFG hC hD h k) N.n (Nat.le_refl _)
theorem Net.ds_two (N : Net) {F G to C : Nat} (ok : N.ok C) (hFG : F ≤ G) (hC : 7 * C + C < F) (ht : to < 8) : twoFar F G (N.ds F to) (N.ds G to) := by
  refine twoFar.rds ok hFG hC (Net.Inv.init N (by omega) ht) (fun x hx => ?_) 8
  unfold d0
  by_cases h : x = to
  · simp [h]; omega
  · simp [h]

/-- the least number below n that passes, else n -/
def least (P : Nat → Bool) : Nat → Nat
  | 0 => 0
  | n + 1 => if least P n < n then least P n else if P n then n else n + 1
theorem least_le (P : Nat → Bool) : ∀ n, least P n ≤ n
  | 0 => Nat.le_refl _
  | n + 1 => by have := least_le P n; simp only [least]; split <;> (try split) <;> omega
theorem least_spec (P : Nat → Bool) : ∀ n, least P n < n → P (least P n) = true
  | 0, h => by omega
  | n + 1, h => by
    have ih := least_spec P n
    simp only [least] at h ⊢
    by_cases h1 : least P n < n
    · rw [if_pos h1]; exact ih h1
    · rw [if_neg h1] at h ⊢
      by_cases h2 : P n = true
      · rw [if_pos h2]; exact h2
      · rw [if_neg h2] at h; omega
theorem least_min (P : Nat → Bool) : ∀ n j, j < least P n → P j = false
  | 0, j, h => by simp [least] at h
  | n + 1, j, h => by
    have ih := least_min P n
    have hl := least_le P n
    simp only [least] at h
    by_cases h1 : least P n < n
    · rw [if_pos h1] at h; exact ih j h
    · rw [if_neg h1] at h
      by_cases h2 : P n = true
      · rw [if_pos h2] at h; exact ih j (by omega)
      · rw [if_neg h2] at h
        by_cases hj : j < n
        · exact ih j (by omega)
        · have : j = n := by omega
          subst this; simpa using h2
theorem least_lt {P : Nat → Bool} {n j : Nat} (hj : j < n) (h : P j = true) : least P n ≤ j := by
  apply Classical.byContradiction
  intro hn
  have := least_min P n j (by omega)
  rw [h] at this; cases this
theorem least_eq {P : Nat → Bool} {n j : Nat} (hj : j < n) (h : P j = true) (hm : ∀ k, k < j → P k = false) : least P n = j := by
  have h1 := least_lt hj h
  apply Classical.byContradiction
  intro hn
  have h2 := least_spec P n (by omega)
  have h3 := hm (least P n) (by omega)
  rw [h2] at h3; cases h3
theorem least_none {P : Nat → Bool} {n : Nat} (hm : ∀ k, k < n → P k = false) : least P n = n := by
  have h1 := least_le P n
  apply Classical.byContradiction
  intro hn
  have h2 := least_spec P n (by omega)
  have h3 := hm (least P n) (by omega)
  rw [h2] at h3; cases h3
theorem least_congr {P Q : Nat → Bool} {n : Nat} (h : ∀ i, i < n → P i = Q i) : least P n = least Q n := by
  by_cases h1 : least Q n < n
  · exact least_eq h1 (by rw [h _ h1]; exact least_spec Q n h1) fun k hk => by rw [h k (by omega)]; exact least_min Q n k hk
  · have h2 := least_le Q n
    rw [show least Q n = n by omega]
    exact least_none fun k hk => by rw [h k hk]; exact least_min Q n k (by omega)

def Net.oth (N : Net) (i x : Nat) : Nat := if N.A i = x then N.B i else N.A i
def Net.ends (N : Net) (i x : Nat) : Bool := decide (N.A i = x) || decide (N.B i = x)
/-- a street that a shortest way takes out of x -/
def Net.tight (N : Net) (D : Nat → Nat) (x i : Nat) : Bool := N.I i && N.ends i x && decide (D (N.oth i x) + N.c i = D x)
def Net.fs (N : Net) (D : Nat → Nat) (x : Nat) : Nat := least (N.tight D x) N.n
def Net.nx (N : Net) (D : Nat → Nat) (x : Nat) : Nat := N.oth (N.fs D x) x
def Net.cs (N : Net) (D : Nat → Nat) (fr k : Nat) : Nat := it (fun _ => N.nx D) k fr
/-- how many streets a way has -/
def Net.wl (N : Net) (D : Nat → Nat) (to fr : Nat) : Nat := least (fun k => decide (N.cs D fr k = to)) 8
def sumTo (f : Nat → Nat) : Nat → Nat
  | 0 => 0
  | n + 1 => sumTo f n + f n
theorem Net.joins_oth {N : Net} {i x : Nat} (h : i < N.n) (hI : N.I i = true) (he : N.ends i x = true) : N.joins i x (N.oth i x) := by
  refine ⟨h, hI, ?_⟩
  unfold Net.oth
  simp only [Net.ends, Bool.or_eq_true, decide_eq_true_eq] at he
  by_cases h1 : N.A i = x
  · rw [if_pos h1]; exact .inl ⟨h1, rfl⟩
  · rw [if_neg h1]; exact .inr ⟨rfl, he.resolve_left h1⟩
theorem Net.oth_of {N : Net} {C : Nat} (ok : N.ok C) {i x y : Nat} (hj : N.joins i x y) : N.ends i x = true ∧ N.oth i x = y := by
  obtain ⟨-, -, hxy, -⟩ := Net.joins_lt ok hj
  obtain ⟨hi, -, h⟩ := hj
  unfold Net.oth Net.ends
  rcases h with ⟨rfl, rfl⟩ | ⟨rfl, rfl⟩
  · simp
  · simp [hxy.symm]
theorem Net.fs_lt {N : Net} {F to C : Nat} (ok : N.ok C) {D : Nat → Nat} (h : N.Inv F to C D) (hfx : N.fixd D) {x : Nat} (hx : x < 8) (hxt : x ≠ to) (hf : D x < F) :
    N.fs D x < N.n ∧ N.joins (N.fs D x) x (N.nx D x) ∧ D (N.nx D x) + N.c (N.fs D x) = D x := by
  obtain ⟨i, y, hj, hle⟩ := h.edge x hx hxt hf
  have hge := hfx i x y hj
  obtain ⟨h1, h2⟩ := Net.oth_of ok hj
  have ht : N.tight D x i = true := by
    unfold Net.tight
    rw [hj.2.1, h1, h2]
    simp; omega
  have hlt : N.fs D x < N.n := Nat.lt_of_le_of_lt (least_lt hj.1 ht) hj.1
  have hs := least_spec _ _ hlt
  simp only [Net.tight, Bool.and_eq_true, decide_eq_true_eq] at hs
  exact ⟨hlt, Net.joins_oth hlt hs.1.1 hs.1.2, hs.2⟩

/-- the way comes there, within seven streets -/
theorem Net.way {N : Net} {F to C : Nat} (ok : N.ok C) (ht : to < 8) {D : Nat → Nat} (h : N.Inv F to C D) (hfx : N.fixd D) {fr : Nat} (hfr : fr < 8) (hf : D fr < F) :
    N.wl D to fr < 8 ∧ N.cs D fr (N.wl D to fr) = to ∧
    ∀ k, k ≤ N.wl D to fr → N.cs D fr k < 8 ∧ D (N.cs D fr k) < F ∧ (k < N.wl D to fr → N.cs D fr k ≠ to ∧ N.fs D (N.cs D fr k) < N.n ∧ N.joins (N.fs D (N.cs D fr k)) (N.cs D fr k) (N.cs D fr (k + 1)) ∧ D (N.cs D fr (k + 1)) + N.c (N.fs D (N.cs D fr k)) = D (N.cs D fr k)) := by
  have key : ∀ k, k ≤ 8 → (∀ j, j < k → N.cs D fr j ≠ to) → N.cs D fr k < 8 ∧ D (N.cs D fr k) < F ∧ cnt (fun y => decide (D y < D (N.cs D fr k))) 8 + k ≤ 7 := by
    intro k
    induction k with
    | zero =>
      intro _ _
      refine ⟨hfr, hf, ?_⟩
      have := cnt_lt (P := fun y => decide (D y < D (N.cs D fr 0))) (Q := fun _ => true) 8 (fun _ _ _ => rfl) ⟨fr, hfr, by show decide (D fr < D fr) = false; simp, rfl⟩
      have := cnt_le (fun _ => true) 8
      omega
    | succ k ih =>
      intro hk hne
      obtain ⟨h1, h2, h3⟩ := ih (by omega) fun j hj => hne j (by omega)
      obtain ⟨-, hj, he⟩ := Net.fs_lt ok h hfx h1 (hne k (by omega)) h2
      obtain ⟨-, hy, -, hc, -⟩ := Net.joins_lt ok hj
      have e : N.cs D fr (k + 1) = N.nx D (N.cs D fr k) := rfl
      rw [e]
      refine ⟨hy, by omega, ?_⟩
      have := cnt_lt (P := fun y => decide (D y < D (N.nx D (N.cs D fr k)))) (Q := fun y => decide (D y < D (N.cs D fr k))) 8 (fun z _ hz => by
        simp only [decide_eq_true_eq] at hz ⊢; omega) ⟨_, hy, by simp, by simp; omega⟩
      omega
  have hw : N.wl D to fr < 8 := by
    apply Classical.byContradiction
    intro hn
    have hne : ∀ j, j < 8 → N.cs D fr j ≠ to := fun j hj => by
      have := least_min (fun k => decide (N.cs D fr k = to)) 8 j (by unfold Net.wl at hn; omega)
      simpa using this
    obtain ⟨-, -, h8⟩ := key 8 (Nat.le_refl _) hne
    omega
  have hmin : ∀ j, j < N.wl D to fr → N.cs D fr j ≠ to := fun j hj => by
    have := least_min (fun k => decide (N.cs D fr k = to)) 8 j hj
    simpa using this
  refine ⟨hw, of_decide_eq_true (least_spec (fun k => decide (N.cs D fr k = to)) 8 hw), fun k hk => ?_⟩
  obtain ⟨h1, h2, -⟩ := key k (by omega) fun j hj => hmin j (by omega)
  refine ⟨h1, h2, fun hlt => ?_⟩
  obtain ⟨a, b, c⟩ := Net.fs_lt ok h hfx h1 (hmin k hlt) h2
  exact ⟨hmin k hlt, a, b, c⟩

/-- what the way's streets cost, together -/
theorem Net.way_sum {N : Net} {F to C : Nat} (ok : N.ok C) (ht : to < 8) {D : Nat → Nat} (h : N.Inv F to C D) (hfx : N.fixd D) {fr : Nat} (hfr : fr < 8) (hf : D fr < F) :
    ∀ k, k ≤ N.wl D to fr → sumTo (fun j => N.c (N.fs D (N.cs D fr j))) k + D (N.cs D fr k) = D fr
  | 0, _ => by show 0 + D fr = D fr; omega
  | k + 1, hk => by
    have ih := Net.way_sum ok ht h hfx hfr hf k (by omega)
    obtain ⟨-, -, hw⟩ := Net.way ok ht h hfx hfr hf
    obtain ⟨-, -, -, he⟩ := (hw k (by omega)).2.2 (by omega)
    simp only [sumTo]
    omega
theorem sumTo_split (f g c : Nat → Nat) (a : Nat) : ∀ n, (∀ j, j < n → c j = a * f j + g j) → sumTo c n = a * sumTo f n + sumTo g n
  | 0, _ => by simp [sumTo]
  | n + 1, h => by
    have := sumTo_split f g c a n fun j hj => h j (by omega)
    simp only [sumTo, this, h n (by omega), Nat.mul_add]
    omega
theorem sumTo_le (f : Nat → Nat) (b : Nat) : ∀ n, (∀ j, j < n → f j ≤ b) → sumTo f n ≤ b * n
  | 0, _ => by simp [sumTo]
  | n + 1, h => by
    have := sumTo_le f b n fun j hj => h j (by omega)
    have := h n (by omega)
    simp only [sumTo, Nat.mul_add]
    omega
/-- hurt and length of the way, out of what it costs -/
theorem Net.way_parts {N : Net} {F to C : Nat} (ok : N.ok C) (ht : to < 8) {D : Nat → Nat} (h : N.Inv F to C D) (hfx : N.fixd D) {fr : Nat} (hfr : fr < 8) (hf : D fr < F)
    (hu le : Nat → Nat) (hc : ∀ i, i < N.n → N.c i = 1000 * hu i + le i ∧ le i ≤ 9) :
    sumTo (fun j => hu (N.fs D (N.cs D fr j))) (N.wl D to fr) = D fr / 1000 ∧ sumTo (fun j => le (N.fs D (N.cs D fr j))) (N.wl D to fr) = D fr % 1000 := by
  obtain ⟨h1, h2, h3⟩ := Net.way ok ht h hfx hfr hf
  have hs := Net.way_sum ok ht h hfx hfr hf _ (Nat.le_refl _)
  rw [h2, h.zero] at hs
  have hlt : ∀ j, j < N.wl D to fr → N.fs D (N.cs D fr j) < N.n := fun j hj => ((h3 j (by omega)).2.2 hj).2.1
  have h4 := sumTo_split (fun j => hu (N.fs D (N.cs D fr j))) (fun j => le (N.fs D (N.cs D fr j))) (fun j => N.c (N.fs D (N.cs D fr j))) 1000 (N.wl D to fr) fun j hj => (hc _ (hlt j hj)).1
  have h5 := sumTo_le (fun j => le (N.fs D (N.cs D fr j))) 9 (N.wl D to fr) fun j hj => (hc _ (hlt j hj)).2
  omega
