/-! THE READER: a street is put behind the list's others -/
set_option maxRecDepth 100000
def tpush (rt : TW) (k a b l q ed : Nat) : TW := (tn rt + 1, va_up (tk rt) (tn rt) k, va_up (ta rt) (tn rt) a, va_up (tb rt) (tn rt) b, va_up (tl rt) (tn rt) l, va_up (tsa rt) (tn rt) q, ed, true, tmod rt + nI 1)
def trefs (t : TW) : Nat → Option Nat := fun i => if i < tn t then some (tsa t i) else none
theorem trefs_push (rt : TW) (k a b l q ed : Nat) : trefs (tpush rt k a b l q ed) = rpush (trefs rt) (tn rt) q := by
  funext i
  show (if i < tn rt + 1 then some (va_up (tsa rt) (tn rt) q i) else none) = (if i = tn rt then some q else if i < tn rt then some (tsa rt i) else none)
  by_cases h : i = tn rt
  · rw [if_pos (by omega), if_pos h]
    show some (if i = tn rt then q else tsa rt i) = some q
    rw [if_pos h]
  · rw [if_neg h]
    by_cases h2 : i < tn rt
    · rw [if_pos (by omega), if_pos h2]
      show some (if i = tn rt then q else tsa rt i) = _
      rw [if_neg h]
    · rw [if_neg (by omega), if_neg h2]
theorem tOK_push {rt : TW} (h : tOK rt) (h8 : tn rt ≤ 8) {k a b l q ed : Nat} (hk : k < 5) (ha : a < 8) (hb : b < 8) (hab : ¬ a = b) (hl : 1 ≤ l) (hl9 : l ≤ 9) : tOK (tpush rt k a b l q ed) := by
  refine ⟨by show tn rt + 1 ≤ 9; omega, fun _ => rfl, fun s hs => ?_⟩
  have hs : s < tn rt + 1 := hs
  show (if s = tn rt then k else tk rt s) < 5 ∧ (if s = tn rt then a else ta rt s) < 8 ∧ (if s = tn rt then b else tb rt s) < 8 ∧ ¬ (if s = tn rt then a else ta rt s) = (if s = tn rt then b else tb rt s) ∧ 1 ≤ (if s = tn rt then l else tl rt s) ∧ (if s = tn rt then l else tl rt s) ≤ 9
  by_cases hq : s = tn rt
  · simp only [if_pos hq]
    exact ⟨hk, ha, hb, hab, hl, hl9⟩
  · simp only [if_neg hq]
    exact h.2.2 s (by omega)
section YA
variable {ω : OM} {σ : RA} {u : XS} {pl pp : Nat} {tf : Nat → Int32} {rt : TW} {ca ck c1 c2 c3 b2 b3 : Nat}
/-- the world behind it -/
theorem yH.added {H H1 : Heap} {ed : Nat} (h : yH ω σ u (pl, pp, tf, rt, (true, ca, ck, c1, c2, c3), (false, b2, b3)) H) (h8 : tn rt ≤ 8) (ha : c1 < 8) (hb : c2 < 8) (hab : ¬ c1 = c2) (hl : 1 ≤ c3) (hl9 : c3 ≤ 9)
    (hL : va_at ω.1 vwCl (σ.2.2, .inr (10, [.int (tmod rt + nI 1), .ref ed, .int (nI (tn rt + 1))])) H1) (hEd : va_at ω.1 vwCl (ed, .inl (ω.2.2.2.2.2, 10, .inr (.inr (.inr (.inr (rpush (trefs rt) (tn rt) ca)))))) H1)
    (hk : ∀ o k, yI u.2.2.2.2.2.2 (pl, pp, tf, rt, (true, ca, ck, c1, c2, c3), (false, b2, b3)) o k = true → ¬ o = 4 → H1[yad ω σ u.2.2.2.2.2.2 (pl, pp, tf, rt, (true, ca, ck, c1, c2, c3), (false, b2, b3)) o k]? = H[yad ω σ u.2.2.2.2.2.2 (pl, pp, tf, rt, (true, ca, ck, c1, c2, c3), (false, b2, b3)) o k]?)
    (hne : ∀ o k, yI u.2.2.2.2.2.2 (pl, pp, tf, rt, (true, ca, ck, c1, c2, c3), (false, b2, b3)) o k = true → ¬ (o = 4 ∧ k = 0) → yad ω σ u.2.2.2.2.2.2 (pl, pp, tf, rt, (true, ca, ck, c1, c2, c3), (false, b2, b3)) o k ≠ ed) (hA : ω.2.2.1 ed) : yH ω σ u (pl, pp, tf, tpush rt ck c1 c2 c3 ca ed, (false, 0, 0, 0, 0, 0), (false, b2, b3)) H1 := by
  -- each place of the new world: an old one, or the elements
  have key : ∀ o k, yI u.2.2.2.2.2.2 (pl, pp, tf, tpush rt ck c1 c2 c3 ca ed, (false, 0, 0, 0, 0, 0), (false, b2, b3)) o k = true → (o = 4 ∧ k = 0) ∨ (¬ (o = 4 ∧ k = 0) ∧ ∃ k', yI u.2.2.2.2.2.2 (pl, pp, tf, rt, (true, ca, ck, c1, c2, c3), (false, b2, b3)) o k' = true ∧ ¬ (o = 4 ∧ k' = 0) ∧ yad ω σ u.2.2.2.2.2.2 (pl, pp, tf, tpush rt ck c1 c2 c3 ca ed, (false, 0, 0, 0, 0, 0), (false, b2, b3)) o k = yad ω σ u.2.2.2.2.2.2 (pl, pp, tf, rt, (true, ca, ck, c1, c2, c3), (false, b2, b3)) o k' ∧ (¬ o = 4 → yE ω σ u (pl, pp, tf, tpush rt ck c1 c2 c3 ca ed, (false, 0, 0, 0, 0, 0), (false, b2, b3)) o k = yE ω σ u (pl, pp, tf, rt, (true, ca, ck, c1, c2, c3), (false, b2, b3)) o k') ∧ (k' = k ∨ (o = 5 ∧ k = tn rt ∧ k' = 50))) := by
    intro o k hi
    by_cases hx : o = 4 ∧ k = 0
    · exact Or.inl hx
    · refine Or.inr ⟨hx, ?_⟩
      match o, hx, hi with
      | 0, hx, hi => exact ⟨k, hi, hx, rfl, fun _ => rfl, Or.inl rfl⟩
      | 1, hx, hi => exact ⟨k, hi, hx, rfl, fun _ => rfl, Or.inl rfl⟩
      | 2, hx, hi => exact ⟨k, hi, hx, rfl, fun _ => rfl, Or.inl rfl⟩
      | 3, hx, hi => exact ⟨k, hi, hx, rfl, fun _ => rfl, Or.inl rfl⟩
      | 4, hx, hi =>
        have hk9 : k = 99 := by
          have q : (k == 99 || (k == 0 && true)) = true := hi
          simp only [Bool.and_true, Bool.or_eq_true, beq_iff_eq] at q
          rcases q with q | q
          · exact q
          · exact absurd ⟨rfl, q⟩ hx
        subst hk9
        exact ⟨99, rfl, hx, rfl, fun z => absurd rfl z, Or.inl rfl⟩
      | 5, hx, hi =>
        have hlt : k < tn rt + 1 := by
          have q : (decide (k < tn rt + 1) || ((k == 50 && false) || (k == 51 && false))) = true := hi
          simpa using q
        have hk50 : ¬ k = 50 := by omega
        have hk51 : ¬ k = 51 := by omega
        by_cases hkn : k = tn rt
        · refine ⟨50, by simp [yI], fun z => absurd z.1 (by omega), ?_, fun _ => ?_, Or.inr ⟨rfl, hkn, rfl⟩⟩
          · show (if k = 50 then _ else if k = 51 then _ else (if k = tn rt then ca else tsa rt k)) = ca
            rw [if_neg hk50, if_neg hk51, if_pos hkn]
          · show (if k = 50 then _ else if k = 51 then _ else (.inr (5 + (if k = tn rt then ck else tk rt k), [.int (nI (if k = tn rt then c1 else ta rt k)), .int (nI (if k = tn rt then c2 else tb rt k)), .int (nI (if k = tn rt then c3 else tl rt k))]) : va_E)) = .inr (5 + ck, [.int (nI c1), .int (nI c2), .int (nI c3)])
            rw [if_neg hk50, if_neg hk51]
            simp only [if_pos hkn]
        · refine ⟨k, ?_, fun z => absurd z.1 (by omega), ?_, fun _ => ?_, Or.inl rfl⟩
          · have : k < tn rt := by omega
            simp [yI, this]
          · show (if k = 50 then _ else if k = 51 then _ else (if k = tn rt then ca else tsa rt k)) = (if k = 50 then _ else if k = 51 then _ else tsa rt k)
            rw [if_neg hk50, if_neg hk51, if_neg hkn, if_neg hk50, if_neg hk51]
          · show (if k = 50 then _ else if k = 51 then _ else (.inr (5 + (if k = tn rt then ck else tk rt k), [.int (nI (if k = tn rt then c1 else ta rt k)), .int (nI (if k = tn rt then c2 else tb rt k)), .int (nI (if k = tn rt then c3 else tl rt k))]) : va_E)) = (if k = 50 then _ else if k = 51 then _ else .inr (5 + tk rt k, [.int (nI (ta rt k)), .int (nI (tb rt k)), .int (nI (tl rt k))]))
            rw [if_neg hk50, if_neg hk51, if_neg hk50, if_neg hk51]
            simp only [if_neg hkn]
      | j + 6, hx, hi => exact ⟨k, hi, hx, rfl, fun _ => rfl, Or.inl rfl⟩
  refine ⟨fun o k hi => ?_, ⟨fun o k o' k' hi hi' hxy => ?_, fun o k hi => ?_⟩, h.2.2.1, tOK_push h.2.2.2.1 h8 h.2.2.2.2 ha hb hab hl hl9, by show 0 < 5; omega⟩
  · rcases key o k hi with ⟨rfl, rfl⟩ | ⟨hn, k', h1, h2, h3, h4, -⟩
    · show va_at ω.1 vwCl (ed, .inl (ω.2.2.2.2.2, 10, .inr (.inr (.inr (.inr (trefs (tpush rt ck c1 c2 c3 ca ed))))))) H1
      rw [trefs_push]
      exact hEd
    · by_cases ho : o = 4
      · subst ho
        have hk9 : k = 99 := by
          have q : (k == 99 || (k == 0 && true)) = true := hi
          simp only [Bool.and_true, Bool.or_eq_true, beq_iff_eq] at q
          rcases q with q | q
          · exact q
          · exact absurd ⟨rfl, q⟩ hn
        subst hk9
        exact hL
      · rw [h3, h4 ho]
        exact (h.1 o k' h1).kept (hk o k' h1 ho)
  · rcases key o k hi with ⟨rfl, rfl⟩ | ⟨hn, j, h1, h2, h3, -, h5⟩ <;> rcases key o' k' hi' with ⟨rfl, rfl⟩ | ⟨hn', j', h1', h2', h3', -, h5'⟩
    · exact ⟨rfl, rfl⟩
    · rw [h3'] at hxy
      exact absurd hxy.symm (hne o' j' h1' h2')
    · rw [h3] at hxy
      exact absurd hxy (hne o j h1 h2)
    · rw [h3, h3'] at hxy
      obtain ⟨q1, q2⟩ := h.2.1.1 o j o' j' h1 h1' hxy
      subst q1
      refine ⟨rfl, ?_⟩
      subst q2
      rcases h5 with z | ⟨z1, z2, z3⟩ <;> rcases h5' with w | ⟨w1, w2, w3⟩
      · omega
      · exfalso
        subst w1
        have q : (decide (k < tn rt + 1) || ((k == 50 && false) || (k == 51 && false))) = true := hi
        simp at q
        omega
      · exfalso
        subst z1
        have q : (decide (k' < tn rt + 1) || ((k' == 50 && false) || (k' == 51 && false))) = true := hi'
        simp at q
        omega
      · omega
  · rcases key o k hi with ⟨rfl, rfl⟩ | ⟨hn, j, h1, h2, h3, -, -⟩
    · exact hA
    · rw [h3]; exact h.2.1.2 o j h1
end YA
