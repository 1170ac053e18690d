/-! RAILS: the least of what hurts most on a way, by rounds -/
def rlx (D : Nat → Nat) (x y c : Nat) : Nat → Nat := nu D x (min (D x) (max c (D y)))
def rS (t : TW) (hu : Nat → Nat) (i : Nat) (D : Nat → Nat) : Nat → Nat := rlx (rlx D (ta t i) (tb t i) (hu i)) (tb t i) (ta t i) (hu i)
def rT (t : TW) (hu : Nat → Nat) (F fr : Nat) : Nat → Nat := it (fun _ D => it (rS t hu) (tn t) D) 8 (d0 F fr)
theorem rlx_far {D : Nat → Nat} {F : Nat} (h : ∀ k, D k ≤ F) (x y c : Nat) : ∀ k, rlx D x y c k ≤ F := by
  intro k
  have := h k
  have := h x
  show (if k = x then min (D x) (max c (D y)) else D k) ≤ F
  split <;> omega
theorem rS_far {t : TW} {hu : Nat → Nat} {i : Nat} {D : Nat → Nat} {F : Nat} (h : ∀ k, D k ≤ F) : ∀ k, rS t hu i D k ≤ F := rlx_far (rlx_far h _ _ _) _ _ _
theorem d0_far (F fr : Nat) : ∀ k, d0 F fr k ≤ F := by
  intro k
  show (if k = fr then 0 else F) ≤ F
  split <;> omega
theorem rT_far (t : TW) (hu : Nat → Nat) (F fr : Nat) : ∀ k, rT t hu F fr k ≤ F := by
  have h1 : ∀ j D, (∀ k, D k ≤ F) → ∀ k, it (rS t hu) j D k ≤ F := by
    intro j
    induction j with
    | zero => intro D h; exact h
    | succ j ih => intro D h; exact rS_far (ih D h)
  have h2 : ∀ m, ∀ k, it (fun _ D => it (rS t hu) (tn t) D) m (d0 F fr) k ≤ F := by
    intro m
    induction m with
    | zero => exact d0_far F fr
    | succ m ih => exact h1 _ _ ih
  exact h2 8
theorem m_max {p q : Nat} (hp : p < 2 ^ 31) (hq : q < 2 ^ 31) : (if nI p ≤ nI q then nI q else nI p) = nI (max p q) := by
  by_cases h : p ≤ q
  · rw [if_pos ((nI_leI hp hq).mpr h), Nat.max_eq_right h]
  · rw [if_neg (fun z => h ((nI_leI hp hq).mp z)), Nat.max_eq_left (by omega)]
def crail (t : TW) (dy td : Nat) (of : Nat → Nat) (fr to : Nat) : Int32 := if rT t (huN t dy td of) 1000000000 fr to < 1000000000 then nI (rT t (huN t dy td of) 1000000000 fr to) else (-1)
theorem m_rails {g : Nat → Nat} {a z : Nat → Nat → Int32} {t : TW} {td : Nat → Nat} {of : Nat → Nat → Nat} (hc : mCore g a t td of) {pn fr : Nat} (hpn : pn < 3) : holdsN 8 (it (fX2_railOf_b38 g a pn) 8 (it (fX2_railOf_b3 fr) 8 (z 14))) (rT t (huN t (g 5) (td pn) (of pn)) 1000000000 fr) := by
  have h0 : holdsN 8 (it (fX2_railOf_b3 fr) 8 (z 14)) (d0 1000000000 fr) := holds8_init (fun i S => rfl)
  refine (holdsN_its (n := 8) (b := fX2_railOf_b38 g a pn) (d := fun _ D => it (rS t (huN t (g 5) (td pn) (of pn))) (tn t) D) (F := 1000000000) (N := 8) (fun l S D hl q1 q2 => ?_) 8 (Nat.le_refl _) h0 (d0_far _ _)).1
  unfold fX2_railOf_b38
  rw [hc.1.1]
  refine holdsN_its (n := tn t) (F := 1000000000) (N := 8) (fun i S D hi hS hD => ⟨?_, rS_far hD⟩) (tn t) (Nat.le_refl _) q1 q2
  obtain ⟨-, hA, hB, -, hL1, hL9⟩ := hc.2.1.2.2 i hi
  obtain ⟨-, e1, e2, e3⟩ := hc.1.2 i hi
  have hh := m_hurtsOf hc hpn hi
  have hu9 := huN_le (t := t) (dy := g 5) (hc.2.2.2.1 pn hpn).2 (fun j hj => (hc.2.2.2.2 pn hpn j hj).2) i hi
  have s0 : ∀ (i60 x y : Nat) (S : Nat → Int32) (D : Nat → Nat), holdsN 8 S D → (∀ k, D k ≤ 1000000000) → x < 8 → y < 8 → toN (a 7 (4 * i + (i60 + 1))) = x → toN (a 7 (4 * i + 3 - (i60 + 1))) = y → holdsN 8 (fX2_railOf_b60 g a pn i i60 S) (rlx D x y (huN t (g 5) (td pn) (of pn) i)) := by
    intro i60 x y S D hS hD hx hy ex ey
    unfold fX2_railOf_b60
    rw [ex, ey, hh]
    have d1 := hD x
    have d2 := hD y
    simp only [hS x hx, hS y hy]
    rw [m_max (by omega) (by omega), m_minif (by omega) (by omega)]
    exact hS.up rfl
  unfold fX2_railOf_b48 rS
  rw [it_succ, it_succ, it_zero]
  refine s0 1 (tb t i) (ta t i) _ _ (s0 0 (ta t i) (tb t i) S D hS hD hA hB ?_ ?_) (rlx_far hD _ _ _) hB hA ?_ ?_
  · show toN (a 7 (4 * i + 1)) = _; rw [e1, toN_nI (by omega)]
  · show toN (a 7 (4 * i + 2)) = _; rw [e2, toN_nI (by omega)]
  · show toN (a 7 (4 * i + 2)) = _; rw [e2, toN_nI (by omega)]
  · show toN (a 7 (4 * i + 1)) = _; rw [e1, toN_nI (by omega)]
def fX2_railOfS (g : Nat → Nat) (t : TW) (td : Nat → Nat) (of : Nat → Nat → Nat) (pn fr to : Nat) : Int32 := crail t (g 5) (td pn) (of pn) fr to
theorem kX2_railOfS (l : Launch) (ω : OM) (g : Nat → Nat) (y : Nat → Int32) (a z : Nat → Nat → Int32) (kt : Int32) (hs : Int64) (t : TW) (td : Nat → Nat) (of : Nat → Nat → Nat) (hc : mCore g a t td of) (pn fr to : Nat) (hpn : pn < 3) (hfr : fr < 8) (hto : to < 8) :
    Met l yX2_railOf (ws_ yX2_railOf cX2_railOf 10 (some .int)) rmX2_railOf (va_Pc [.ref (ω.2.1 0 99), .int (nI pn), .int (nI fr), .int (nI to)] (fun U => mK ω U ∧ mH ω (g, y, a, z, kt, hs) U.heap)) (va_Qi (fun (r : Int32) (u : MS) => ∃ (q0 : Nat → Int32), r = fX2_railOfS g t td of pn fr to ∧ u = (g, y, a, va_up z 14 q0, kt, hs)) (fun u t => mH ω u t.heap) ω.2.2.1) 0 0 ω.2.2.1 := by
  refine Met.weak (kX2_railOf l ω g y a z kt hs pn fr to hpn hfr hto hc.rows) (va_Qi.imp ?_)
  rintro r u ⟨o0, he, rfl⟩
  refine ⟨o0, ?_, rfl⟩
  unfold fX2_railOf at he
  have hz := m_rails (z := z) (fr := fr) hc hpn to hto
  have hf := rT_far t (huN t (g 5) (td pn) (of pn)) 1000000000 fr to
  unfold fX2_railOfS crail
  generalize it (fX2_railOf_b38 g a pn) 8 (it (fX2_railOf_b3 fr) 8 (z 14)) = S at he hz
  have hiff : S to < nI 1000000000 ↔ rT t (huN t (g 5) (td pn) (of pn)) 1000000000 fr to < 1000000000 := by
    rw [hz]
    exact nI_ltI (by omega) (by omega)
  by_cases q : rT t (huN t (g 5) (td pn) (of pn)) 1000000000 fr to < 1000000000
  · rw [if_pos (hiff.mpr q)] at he
    rw [if_pos q, ← hz]
    exact (Prod.mk.inj he).1
  · rw [if_neg (fun w => q (hiff.mp w))] at he
    rw [if_neg q]
    exact (Prod.mk.inj he).1
theorem hdX2_railOfS : yX2_railOf.cls = RX2 ∧ yX2_railOf.cls ≠ "java/lang/invoke/MethodHandle" ∧ yX2_railOf.cls ≠ "java/lang/invoke/VarHandle" ∧ (parseMethodDescriptor yX2_railOf.desc).map (fun d => d.parameters.length) = some 3 := hdX2_railOf
