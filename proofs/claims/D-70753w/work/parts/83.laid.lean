/-! lay: the class's world when the reader's streets are its own -/
set_option maxRecDepth 100000
/-- all but the reader and its row of tenders -/
def aR (ω : OM) (σ : RA) : Nat → Prop := fun q => ω.2.2.1 q ∧ q ≠ σ.1 ∧ q ≠ σ.2.1
def oR (ω : OM) (σ : RA) : OM := (ω.1, ω.2.1, aR ω σ, ω.2.2.2)
def tnew (rt : TW) (ed : Nat) (mo : Int32) : TW := (tn rt, tk rt, ta rt, tb rt, tl rt, tsa rt, ed, true, mo)
theorem xH.wide {ω : OM} {σ : RA} {u : XS} {H : Heap} (h : xH (oR ω σ) u H) : xH ω u H := ⟨h.1, ⟨h.2.1.1, fun o k hi => (h.2.1.2 o k hi).1⟩, h.2.2⟩
section LAID
variable {ω : OM} {σ : RA} {g : Nat → Nat → Nat} {y : Nat → Nat → Int32} {a z : Nat → Nat → Nat → Int32} {dr : Int64} {pg : Nat → Int32} {t : TW} {pl pp : Nat} {tf : Nat → Int32} {rt : TW} {cu : CU} {so : SO} {H0 H : Heap}
/-- where a cell of the new class's world stood -/
theorem laid_key {ed : Nat} {mo : Int32} (h9 : tn rt ≤ 9) : ∀ o k, xI (tnew rt ed mo) o k = true → (o = 1 ∧ (k = 99 ∨ k = 0)) ∨ (¬ o = 1 ∧ ¬ o = 3 ∧ ¬ o = 4 ∧ ¬ o = 5 ∧ yI t (pl, pp, tf, rt, cu, so) (if o = 2 then 5 else o) k = true ∧ xad ω (tnew rt ed mo) o k = yad ω σ t (pl, pp, tf, rt, cu, so) (if o = 2 then 5 else o) k ∧ xE ω (g, y, a, z, dr, pg, tnew rt ed mo) o k = yE ω σ (g, y, a, z, dr, pg, t) (pl, pp, tf, rt, cu, so) (if o = 2 then 5 else o) k) := by
  intro o k hi
  match o, hi with
  | 0, hi => exact Or.inr ⟨by omega, by omega, by omega, by omega, hi, rfl, rfl⟩
  | 1, hi =>
    have : (k == 99 || (k == 0 && true)) = true := hi
    simp only [Bool.and_true, Bool.or_eq_true, beq_iff_eq] at this
    exact Or.inl ⟨rfl, this⟩
  | 2, hi =>
    have hk : k < tn rt := of_decide_eq_true hi
    refine Or.inr ⟨by omega, by omega, by omega, by omega, ?_, ?_, ?_⟩
    · show (decide (k < tn rt) || _) = true
      simp [hk]
    · show tsa rt k = (if k = 50 then _ else if k = 51 then _ else tsa rt k)
      rw [if_neg (by omega), if_neg (by omega)]
    · show (.inr (5 + tk rt k, [.int (nI (ta rt k)), .int (nI (tb rt k)), .int (nI (tl rt k))]) : va_E) = (if k = 50 then _ else if k = 51 then _ else .inr (5 + tk rt k, [.int (nI (ta rt k)), .int (nI (tb rt k)), .int (nI (tl rt k))]))
      rw [if_neg (by omega), if_neg (by omega)]
  | 3, hi => cases hi
  | 4, hi => cases hi
  | 5, hi => cases hi
  | j + 6, hi =>
    refine Or.inr ⟨by omega, by omega, by omega, by omega, ?_, ?_, ?_⟩
    · rw [if_neg (by omega)]; exact hi
    · rw [if_neg (by omega)]; rfl
    · rw [if_neg (by omega)]; rfl
theorem yI_99 : yI t (pl, pp, tf, rt, cu, so) 1 99 = true := rfl
theorem yI_10 (h : town t = true) : yI t (pl, pp, tf, rt, cu, so) 1 0 = true := by simp [yI, xI, h]
theorem yH.laid {ed : Nat} {mo : Int32} (h : yH ω σ (g, y, a, z, dr, pg, t) (pl, pp, tf, rt, cu, so) H0) (hkept : ∀ x : Nat, x < H0.size → x ≠ ω.2.1 1 99 → (town t = true → x ≠ ted t) → H[x]? = H0[x]?) (hP : va_P ω.1 vwCl (lw1 ω (ω.2.1 1 99) ed mo (tn rt) (trefs rt)) H) (hle : ω.2.1 1 99 ≠ ed) (hAe : aR ω σ ed) (hed : (town t = true ∧ ed = ted t) ∨ H0.size ≤ ed) : xH (oR ω σ) (g, y, a, z, dr, pg, tnew rt ed mo) H := by
  have h9 : tn rt ≤ 9 := h.2.2.2.1.1
  have ha : ∀ o k, ω.2.2.1 (yad ω σ t (pl, pp, tf, rt, cu, so) o k) → yI t (pl, pp, tf, rt, cu, so) o k = true → ¬ o = 3 → aR ω σ (yad ω σ t (pl, pp, tf, rt, cu, so) o k) := fun o k hA hi ho => ⟨hA, fun q => ho (h.2.1.1 o k 3 99 hi rfl q).1, fun q => ho (h.2.1.1 o k 3 2 hi rfl q).1⟩
  have hne1 : ∀ o k, yI t (pl, pp, tf, rt, cu, so) o k = true → ¬ o = 1 → yad ω σ t (pl, pp, tf, rt, cu, so) o k ≠ ω.2.1 1 99 := fun o k hi ho q => ho (h.2.1.1 o k 1 99 hi rfl q).1
  have hne2 : ∀ o k, yI t (pl, pp, tf, rt, cu, so) o k = true → ¬ o = 1 → yad ω σ t (pl, pp, tf, rt, cu, so) o k ≠ ed := by
    intro o k hi ho q
    rcases hed with ⟨ht, he⟩ | he
    · exact ho (h.2.1.1 o k 1 0 hi (yI_10 ht) (q.trans he)).1
    · have h2 : yad ω σ t (pl, pp, tf, rt, cu, so) o k < H0.size := h.1.lt hi
      omega
  refine ⟨fun o k hi => ?_, ⟨fun o k o' k' hi hi' q => ?_, fun o k hi => ?_⟩, ?_⟩
  · rcases laid_key (σ := σ) (t := t) (ω := ω) (g := g) (y := y) (a := a) (z := z) (dr := dr) (pg := pg) (pl := pl) (pp := pp) (tf := tf) (cu := cu) (so := so) h9 o k hi with ⟨ho, hk⟩ | ⟨ho, _, _, _, h1, h2, h3⟩
    · subst ho
      rcases hk with hk | hk <;> subst hk
      · exact hP 0 _ rfl
      · exact hP 1 _ rfl
    · have hx : ¬ (if o = 2 then 5 else o) = 1 := by
        by_cases z : o = 2
        · rw [if_pos z]; omega
        · rw [if_neg z]; exact ho
      have key := h.1 _ _ h1
      show va_at ω.1 vwCl (xad ω (tnew rt ed mo) o k, xE ω (g, y, a, z, dr, pg, tnew rt ed mo) o k) H
      rw [h2, h3]
      refine key.kept (hkept _ (h.1.lt h1) (hne1 _ _ h1 hx) (fun ht q => ?_))
      exact hx (h.2.1.1 _ _ 1 0 h1 (yI_10 ht) q).1
  · have q : xad ω (tnew rt ed mo) o k = xad ω (tnew rt ed mo) o' k' := q
    rcases laid_key (σ := σ) (t := t) (ω := ω) (g := g) (y := y) (a := a) (z := z) (dr := dr) (pg := pg) (pl := pl) (pp := pp) (tf := tf) (cu := cu) (so := so) h9 o k hi with ⟨ho, hk⟩ | ⟨ho, hb3, hb4, hb5, h1, h2, h3⟩ <;> rcases laid_key (σ := σ) (t := t) (ω := ω) (g := g) (y := y) (a := a) (z := z) (dr := dr) (pg := pg) (pl := pl) (pp := pp) (tf := tf) (cu := cu) (so := so) h9 o' k' hi' with ⟨ho', hk'⟩ | ⟨ho', hb3', hb4', hb5', h1', h2', h3'⟩
    · subst ho; subst ho'
      rcases hk with hk | hk <;> subst hk <;> rcases hk' with hk' | hk' <;> subst hk'
      · exact ⟨rfl, rfl⟩
      · exact absurd q hle
      · exact absurd q.symm hle
      · exact ⟨rfl, rfl⟩
    · exfalso
      have hx : ¬ (if o' = 2 then 5 else o') = 1 := by
        by_cases z : o' = 2
        · rw [if_pos z]; omega
        · rw [if_neg z]; exact ho'
      rw [h2'] at q
      subst ho
      rcases hk with hk | hk <;> subst hk
      · exact hne1 _ _ h1' hx q.symm
      · exact hne2 _ _ h1' hx q.symm
    · exfalso
      have hx : ¬ (if o = 2 then 5 else o) = 1 := by
        by_cases z : o = 2
        · rw [if_pos z]; omega
        · rw [if_neg z]; exact ho
      rw [h2] at q
      subst ho'
      rcases hk' with hk | hk <;> subst hk
      · exact hne1 _ _ h1 hx q
      · exact hne2 _ _ h1 hx q
    · rw [h2, h2'] at q
      obtain ⟨q1, q2⟩ := h.2.1.1 _ _ _ _ h1 h1' q
      refine ⟨?_, q2⟩
      by_cases z : o = 2 <;> by_cases z' : o' = 2
      · omega
      · rw [if_pos z, if_neg z'] at q1; omega
      · rw [if_neg z, if_pos z'] at q1; omega
      · rw [if_neg z, if_neg z'] at q1; exact q1
  · rcases laid_key (σ := σ) (t := t) (ω := ω) (g := g) (y := y) (a := a) (z := z) (dr := dr) (pg := pg) (pl := pl) (pp := pp) (tf := tf) (cu := cu) (so := so) h9 o k hi with ⟨ho, hk⟩ | ⟨ho, hb3, hb4, hb5, h1, h2, h3⟩
    · subst ho
      rcases hk with hk | hk <;> subst hk
      · exact ha 1 99 (h.2.1.2 1 99 rfl) rfl (by omega)
      · exact hAe
    · show aR ω σ (xad ω (tnew rt ed mo) o k)
      rw [h2]
      refine ha _ _ (h.2.1.2 _ _ h1) h1 ?_
      by_cases z : o = 2
      · rw [if_pos z]; omega
      · rw [if_neg z]; exact hb3
  · exact ⟨h9, fun _ => rfl, h.2.2.2.1.2.2⟩
end LAID
