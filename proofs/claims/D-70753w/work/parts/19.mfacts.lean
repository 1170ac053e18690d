/-! MODEL: what its arrays hold, as the walks need it -/
def mRows (n : Nat) (rows : Nat → Int32) : Prop := n ≤ 9 ∧ (∀ s e : Nat, s < n → 1 ≤ e → e ≤ 2 → ∃ j, j < 8 ∧ rows (4 * s + e) = nI j) ∧ ∀ s : Nat, s < n → ∃ j, j < 10 ∧ rows (4 * s + 3) = nI j
theorem mRows.e1 {n : Nat} {rows : Nat → Int32} (h : mRows n rows) {s e : Nat} (hs : s < n) (h1 : 1 ≤ e) (h2 : e ≤ 2) : ∃ j, j < 8 ∧ rows (4 * s + e) = nI j := h.2.1 s e hs h1 h2
theorem mRows.e2 {n : Nat} {rows : Nat → Int32} (h : mRows n rows) {s e : Nat} (hs : s < n) (h1 : 1 ≤ e) (h2 : e ≤ 2) : ∃ j, j < 8 ∧ rows (4 * s + 3 - e) = nI j := by
  have := h.2.1 s (3 - e) hs (by omega) (by omega)
  rwa [show 4 * s + (3 - e) = 4 * s + 3 - e by omega] at this
theorem mRows.len {n : Nat} {rows : Nat → Int32} (h : mRows n rows) {s : Nat} (hs : s < n) : ∃ j, j < 10 ∧ rows (4 * s + 3) = nI j := h.2.2 s hs
