/-! THE LAW, 16: the two states -/
set_option maxRecDepth 100000
/-- bounds of the model's and of the class's state; b: how often streets were taken at most -/
def okM (b : Nat) (f8 f9 f10 f16 : Nat → Int32) (dy sn : Nat) : Prop := (∀ p, p < 3 → ∃ n, n ≤ 9 ∧ f8 (5 * p) = nI n) ∧ (∀ p, p < 3 → ¬ f8 (5 * p + 3) = (-1) → (∃ j, j < 8 ∧ f8 (5 * p + 3) = nI j) ∧ ∃ j, j < 8 ∧ f8 (5 * p + 4) = nI j) ∧ (∀ k, k < 27 → ∃ n, n ≤ b ∧ f9 k = nI n) ∧ (∀ d, d < 2 → ∃ j, j < 8 ∧ f10 (3 * d) = nI j) ∧ dy ≤ 99 ∧ sn ≤ 6 ∧ ∀ k, k < sn → (∃ j, j < 8 ∧ f16 (4 * k + 1) = nI j) ∧ (∃ j, j < 8 ∧ f16 (4 * k + 2) = nI j) ∧ ¬ f16 (4 * k + 1) = f16 (4 * k + 2)
def okX (x : Nat → Nat → Int32) (dx : Nat) : Prop := (∀ p, p < 3 → ∃ n, n ≤ 9 ∧ x 0 p = nI n) ∧ (∀ p, p < 3 → ¬ x 4 p = (-1) → (∃ j, j < 8 ∧ x 4 p = nI j) ∧ ∃ j, j < 8 ∧ x 5 p = nI j) ∧ (∀ d, d < 2 → ∃ j, j < 8 ∧ x 6 d = nI j) ∧ (∀ d, d < 2 → ∃ n, n < 512 ∧ x 7 d = nI n) ∧ dx ≤ 99
/-- people, drivers, what is seen: the same on both sides -/
def partR (n : Nat) (f8 f9 f10 f16 : Nat → Int32) (dy sn : Nat) (x : Nat → Nat → Int32) (dx sx : Nat) (w0 w1 w2 w3 : Nat → Int32) : Prop := sRel n f8 f9 f10 dy x dx ∧ it (fun p S => S + x 2 p) n (nI 0) = f10 2 + f10 5 ∧ seenRel sn f16 sx w0 w1 w2 w3
/-- the relation behind c calls -/
def Rel (c e0 : Nat) (g : Nat → Nat) (a : Nat → Nat → Int32) (kt : Int32) (gx : Nat → Nat → Nat) (ax : Nat → Nat → Nat → Int32) (pg : Nat → Int32) (t : TW) : Prop :=
  (g 1 = gx 0 7 ∧ g 1 ≤ 50 ∧ ∀ i, i < g 1 → a 0 i = pg i) ∧ (g 3 = gx 0 1 ∧ g 3 ≤ 3 ∧ (g 4 = 0 ↔ g 3 = 0) ∧ g 6 = gx 0 2 ∧ g 6 ≤ c) ∧ (mTown g a t ∧ tOK t ∧ (town t = false → ted t = e0)) ∧
  partR (g 3) (a 8) (a 9) (a 10) (a 16) (g 5) (g 15) (ax (0 + 6)) (gx (0 + 6) 9) (gx 0 12) (ax 0 13) (ax 0 14) (ax 0 15) (ax 0 16) ∧ okM (8 * c) (a 8) (a 9) (a 10) (a 16) (g 5) (g 15) ∧ okX (ax (0 + 6)) (gx (0 + 6) 9) ∧
  okM (8 * c) (a 23) (a 24) (a 25) (a 26) (g 21) (g 22) ∧ okX (ax (2 + 6)) (gx (2 + 6) 9) ∧ ((kt = (-1) ∧ gx 0 19 = 0) ∨ (kt = nI (gx 0 19) ∧ 1 ≤ gx 0 19 ∧ gx 0 19 ≤ g 6)) ∧
  (gx 0 19 = g 6 → 1 ≤ gx 0 19 → partR (g 3) (a 23) (a 24) (a 25) (a 26) (g 21) (g 22) (ax (2 + 6)) (gx (2 + 6) 9) (gx 0 20) (ax 0 21) (ax 0 22) (ax 0 23) (ax 0 24))
def tdM (a : Nat → Nat → Int32) : Nat → Nat := fun p => toN (a 8 (5 * p))
def tdX (ax : Nat → Nat → Nat → Int32) : Nat → Nat := fun p => toN (ax (0 + 6) 0 p)
def ofM (a : Nat → Nat → Int32) : Nat → Nat → Nat := fun p s => toN (a 9 (9 * p + s))
section REL
variable {c e0 : Nat} {g : Nat → Nat} {a : Nat → Nat → Int32} {kt : Int32} {gx : Nat → Nat → Nat} {ax : Nat → Nat → Nat → Int32} {pg : Nat → Int32} {t : TW}
theorem Rel.page (h : Rel c e0 g a kt gx ax pg t) : g 1 = gx 0 7 ∧ g 1 ≤ 50 ∧ ∀ i, i < g 1 → a 0 i = pg i := h.1
theorem Rel.n3 (h : Rel c e0 g a kt gx ax pg t) : g 3 = gx 0 1 := h.2.1.1
theorem Rel.le3 (h : Rel c e0 g a kt gx ax pg t) : g 3 ≤ 3 := h.2.1.2.1
theorem Rel.n40 (h : Rel c e0 g a kt gx ax pg t) : g 4 = 0 ↔ g 3 = 0 := h.2.1.2.2.1
theorem Rel.n6 (h : Rel c e0 g a kt gx ax pg t) : g 6 = gx 0 2 ∧ g 6 ≤ c := h.2.1.2.2.2
theorem Rel.town (h : Rel c e0 g a kt gx ax pg t) : mTown g a t := h.2.2.1.1
theorem Rel.ok (h : Rel c e0 g a kt gx ax pg t) : tOK t := h.2.2.1.2.1
theorem Rel.n4 (h : Rel c e0 g a kt gx ax pg t) : g 4 = tn t := h.town.1
theorem Rel.part (h : Rel c e0 g a kt gx ax pg t) : partR (g 3) (a 8) (a 9) (a 10) (a 16) (g 5) (g 15) (ax (0 + 6)) (gx (0 + 6) 9) (gx 0 12) (ax 0 13) (ax 0 14) (ax 0 15) (ax 0 16) := h.2.2.2.1
theorem Rel.sr (h : Rel c e0 g a kt gx ax pg t) : sRel (g 3) (a 8) (a 9) (a 10) (g 5) (ax (0 + 6)) (gx (0 + 6) 9) := h.part.1
theorem Rel.seen (h : Rel c e0 g a kt gx ax pg t) : seenRel (g 15) (a 16) (gx 0 12) (ax 0 13) (ax 0 14) (ax 0 15) (ax 0 16) := h.part.2.2
theorem Rel.n5 (h : Rel c e0 g a kt gx ax pg t) : g 5 = gx (0 + 6) 9 := h.sr.2.2.2
theorem Rel.om (h : Rel c e0 g a kt gx ax pg t) : okM (8 * c) (a 8) (a 9) (a 10) (a 16) (g 5) (g 15) := h.2.2.2.2.1
theorem Rel.ox (h : Rel c e0 g a kt gx ax pg t) : okX (ax (0 + 6)) (gx (0 + 6) 9) := h.2.2.2.2.2.1
theorem Rel.td (h : Rel c e0 g a kt gx ax pg t) : ∀ p, p < g 3 → tdM a p = tdX ax p := fun p hp => by
  unfold tdM tdX
  rw [(h.sr.1 p hp).1]
theorem Rel.mcore (h : Rel c e0 g a kt gx ax pg t) (hc : c ≤ 600) : mCore g a t (tdM a) (ofM a) := by
  have h9 := h.ok.1
  refine ⟨h.town, h.ok, by have := h.om.2.2.2.2.1; omega, fun p hp => ?_, fun p hp s hs => ?_⟩
  · obtain ⟨n, hn, e⟩ := h.om.1 p hp
    unfold tdM
    rw [e, toN_nI (by omega)]
    exact ⟨rfl, hn⟩
  · obtain ⟨n, hn, e⟩ := h.om.2.2.1 (9 * p + s) (by omega)
    unfold ofM
    rw [e, toN_nI (by omega)]
    exact ⟨rfl, by omega⟩
theorem Rel.xcore (h : Rel c e0 g a kt gx ax pg t) (hc : c ≤ 600) : xCore gx ax t 0 (tdX ax) (ofM a) := by
  have h9 := h.ok.1
  refine ⟨h.ok, by have := h.ox.2.2.2.2; omega, fun p hp => ?_, fun p hp s hs => ?_⟩
  · obtain ⟨n, hn, e⟩ := h.ox.1 p hp
    unfold tdX
    rw [e, toN_nI (by omega)]
    exact ⟨rfl, hn⟩
  · obtain ⟨n, hn, e⟩ := h.om.2.2.1 (9 * p + s) (by omega)
    rw [← h.sr.2.1 (9 * p + s) (by omega)]
    unfold ofM
    rw [e, toN_nI (by omega)]
    exact ⟨rfl, by omega⟩
theorem Rel.mside (h : Rel c e0 g a kt gx ax pg t) : mSide g a := ⟨h.le3, h.om.2.2.2.2.2.1, fun z => by have := h.n40; omega, h.om.2.2.2.1, h.om.2.1, h.om.2.2.2.2.2.2⟩
theorem Rel.xside (h : Rel c e0 g a kt gx ax pg t) : xSide gx ax := by
  have hs := h.seen
  refine ⟨by rw [← h.n3]; exact h.le3, by rw [← hs.1]; exact hs.2.1, by rw [← h.page.1]; exact h.page.2.1, h.ox.2.2.1, h.ox.2.1, fun k hk => ?_⟩
  obtain ⟨-, e1, e2, -⟩ := hs.2.2 k (by have := hs.1; have := hs.2.1; omega)
  have := h.om.2.2.2.2.2.2 k (by rw [hs.1]; exact hk)
  rw [← e1, ← e2]
  exact this
end REL
