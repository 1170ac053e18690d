/-! THE READER: add on its list -/
set_option maxRecDepth 100000
theorem o_any {ω : OM} {U : State} {C : String} {v ci : Nat} {fs : List Value} {r : vw_C} (hK : mK ω U) (hP : va_P ω.1 vwCl [(v, .inr (ci, fs))] U.heap) (hc : vwCl[ci]? = some r) (hca : va_Nw (.castable r.1 "java/lang/Object") U) : anyK v U := by
  obtain ⟨c0, t1, f1, f2, f3⟩ := Cond.castable_spec (va_Nw.use (A := #[]) rfl hca)
  refine ⟨va_rAny hK hP (q0 := 0) rfl hc (fun comp c1 h1 h2 => ?_), t1, f2⟩
  cases f2.symm.trans h1
  cases f1.symm.trans h2
  exact f3
theorem y_any {ω : OM} {σ : RA} {e0 : Nat} {v1 v2 : Value} {u : XS} {pl pp : Nat} {tf : Nat → Int32} {rt : TW} {ca ck c1 c2 c3 : Nat} {so : SO} {U : State} (hK : yK ω e0 v1 v2 U) (hH : yH ω σ u (pl, pp, tf, rt, (true, ca, ck, c1, c2, c3), so) U.heap) : anyK ca U := by
  have hO := hK.2.2.2.2.1.2
  rcases y_kind hH with h | h | h | h | h
  · exact o_any (C := RX5) hK.1.1 (y_cu hH h) rfl hO.1
  · exact o_any (C := RX6) hK.1.1 (y_cu hH h) rfl hO.2.1
  · exact o_any (C := RX7) hK.1.1 (y_cu hH h) rfl hO.2.2.1
  · exact o_any (C := RX8) hK.1.1 (y_cu hH h) rfl hO.2.2.2.1
  · exact o_any (C := RX9) hK.1.1 (y_cu hH h) rfl hO.2.2.2.2
section YB
variable {p : Program} {l : Launch} {e : Env} {R : Room} {s : State} {m : MethodId} {args : Array Value} {below : List Frame} {meth : Method} {c : Code} {H : Heap} {locs : List Loc} {cells slots : Nat} {Q : State → Prop} {cc : ByteArray} {pc nL : Nat} {ls : Array Slot} {rest : List Value} {ω : OM} {σ : RA} {u : XS} {e0 : Nat} {v1 v2 : Value} {pl pp : Nat} {tf : Nat → Int32} {rt : TW} {ca ck c1 c2 c3 b2 b3 : Nat}
theorem y_add (hF : CallFix p m c cc nL s args lw_all RX3) (hK : yK ω e0 v1 v2 s) (hte : town rt = false → ted rt = e0) (hH : yH ω σ u (pl, pp, tf, rt, (true, ca, ck, c1, c2, c3), (false, b2, b3)) H) (hS : va_S ω.2.2.1 s.heap H locs) (h8 : tn rt ≤ 8) (ha : c1 < 8) (hb : c2 < 8) (hab : ¬ c1 = c2) (hl1 : 1 ≤ c3) (hl9 : c3 ≤ 9) (hR : rmJ2_add.frames + 1 ≤ R.frames ∧ 8 + (2 + 11) + rmJ2_add.locals ≤ R.locals) (hls : ls.size = nL) (hW : (rest.map fun v => v.category).sum ≤ 8) (hdg : decode cc pc = .ok (.invokevirtual 77, 3)) (hcap : cells + 1 ≤ R.cells ∧ slots + 10 ≤ R.slots)
    (kk : ∀ (ed : Nat) (H : Heap) (locs : List Loc), yH ω σ u (pl, pp, tf, tpush rt ck c1 c2 c3 ca ed, (false, 0, 0, 0, 0, 0), (false, b2, b3)) H → va_S ω.2.2.1 s.heap H locs → W p l e R s m args below meth c H locs (cells + 1) (slots + 10) Q (F0 m (pc + 3) ls (.int (nI 1) :: rest))) : W p l e R s m args below meth c H locs cells slots Q (F0 m pc ls (.ref ca :: .ref σ.2.2 :: rest)) := by
  obtain ⟨ρ, hρ⟩ : ∃ ρ : RD, ρ = (pl, pp, tf, rt, (true, ca, ck, c1, c2, c3), (false, b2, b3)) := ⟨_, rfl⟩
  have i99 : yI u.2.2.2.2.2.2 ρ 4 99 = true := by rw [hρ]; rfl
  have i50 : yI u.2.2.2.2.2.2 ρ 5 50 = true := by rw [hρ]; simp [yI]
  have hH' : yH ω σ u ρ H := by rw [hρ]; exact hH
  have aL : yad ω σ u.2.2.2.2.2.2 ρ 4 99 = σ.2.2 := by rw [hρ]; rfl
  have aC : yad ω σ u.2.2.2.2.2.2 ρ 5 50 = ca := by rw [hρ]; rfl
  have hcL : ca ≠ σ.2.2 := fun q => by
    have := (hH'.2.1.1 5 50 4 99 i50 i99 (by rw [aC, aL, q])).1
    omega
  have cL : va_at ω.1 vwCl (σ.2.2, .inr (10, [.int (tmod rt), .ref (ted rt), .int (nI (tn rt))])) H := by
    have := hH'.1 4 99 i99
    rw [aL, hρ] at this
    exact this
  have hAL : ω.2.2.1 σ.2.2 := by rw [← aL]; exact hH'.2.1.2 4 99 i99
  cases hto : town rt with
  | false =>
    have hn0 : tn rt = 0 := by
      rcases Nat.eq_zero_or_pos (tn rt) with z | z
      · exact z
      · have := hH.2.2.2.1.2.1 z
        rw [show town (pl, pp, tf, rt, (true, ca, ck, c1, c2, c3), (false, b2, b3)).2.2.2.1 = town rt from rfl, hto] at this
        cases this
    have hed : ted rt = e0 := hte hto
    have hP0 : va_P ω.1 vwCl (lw0 σ.2.2 e0 (tmod rt) 0) H := by
      intro k q hq
      have hz : k < 1 := (List.getElem?_eq_some_iff.mp hq).1
      rw [show k = 0 by omega] at hq
      cases hq
      rw [hed, hn0] at cL
      exact cL
    have hfr : ∀ q, va_A (lw0 σ.2.2 e0 (tmod rt) 0) H.size q → ω.2.2.1 q := by
      rintro q (⟨k, e1, h⟩ | h)
      · have hz : k < 1 := (List.getElem?_eq_some_iff.mp h).1
        rw [show k = 0 by omega] at h
        cases h
        exact hAL
      · exact hK.2.2.2.2.2 q (Nat.le_trans hS.1 h)
    refine g_vLi (As := [.ref ca]) (rest := rest) hF (kJ2_add_0 l ω e0 _ σ.2.2 ca (tmod rt) hcL) (lw_V q495 q496 q497 q95 q498) 1 hdJ2_add rfl rfl hR (fun a U g mk h => ⟨h.1.call, h.2.call⟩) (fun U hU hW => ?_) (l_recv hK.1.1 hP0 rfl) hP0 hS hfr rfl hls rfl hW hdg hcap (fun w H1 locs hP1 hD1 hs1 hk1 hS1 => ?_)
    · have hKU := hK.to (U := U) (by rw [hU]; exact hS) hW
      exact ⟨⟨hKU.1.1, hKU.2.1.to (locs := []) (U := U) ⟨Nat.le_refl _, fun _ _ _ => rfl, fun q h => by cases h⟩ (State.WarmedH.refl U) hfr, hKU.2.2.1.narrow hfr, hKU.2.2.2.2.1.1⟩, y_any hKU (by rw [hU]; exact hH)⟩
    · refine kk w H1 locs (hH.added (ed := w) h8 ha hb hab hl1 hl9 ?_ ?_ ?_ ?_ ?_) hS1
      · rw [hn0]; exact hP1 0 _ rfl
      · have := hP1 1 _ rfl
        rw [hn0]
        have et : trefs rt = (fun _ => none) := by funext i; show (if i < tn rt then _ else none) = none; rw [if_neg (by omega)]
        rw [et]
        exact this
      · intro o k hi ho
        refine hk1 _ (hH.1.lt hi) (va_A_not0 (fun q => ?_) (hH.1.lt hi))
        have := (hH.2.1.1 o k 4 99 hi (by rw [← hρ]; exact i99) (by rw [q, ← hρ, aL])).1
        exact ho this
      · intro o k hi _
        have hw : H.size ≤ w := by
          have h2 : va_A (lw0 σ.2.2 e0 (tmod rt) 0) H.size w := hD1.2 1 _ rfl
          rcases h2 with ⟨k, e1, h⟩ | h
          · exfalso
            have hz : k < 1 := (List.getElem?_eq_some_iff.mp h).1
            rw [show k = 0 by omega] at h
            cases h
            have := hD1.1 0 1 _ _ rfl rfl rfl
            omega
          · exact h
        have := hH.1.lt hi
        omega
      · exact hfr w (hD1.2 1 _ rfl)
  | true =>
    have i0 : yI u.2.2.2.2.2.2 ρ 4 0 = true := by rw [hρ]; simp [yI, hto]
    have aE : yad ω σ u.2.2.2.2.2.2 ρ 4 0 = ted rt := by rw [hρ]; rfl
    have hLE : σ.2.2 ≠ ted rt := fun q => by
      have := (hH'.2.1.1 4 99 4 0 i99 i0 (by rw [aL, aE, q])).2
      omega
    have hcE : ca ≠ ted rt := fun q => by
      have := (hH'.2.1.1 5 50 4 0 i50 i0 (by rw [aC, aE, q])).1
      omega
    have cE : va_at ω.1 vwCl (ted rt, .inl (ω.2.2.2.2.2, 10, .inr (.inr (.inr (.inr (trefs rt)))))) H := by
      have := hH'.1 4 0 i0
      rw [aE, hρ] at this
      exact this
    have hAE : ω.2.2.1 (ted rt) := by rw [← aE]; exact hH'.2.1.2 4 0 i0
    have hP0 : va_P ω.1 vwCl (lw1 ω σ.2.2 (ted rt) (tmod rt) (tn rt) (trefs rt)) H := by
      intro k q hq
      have hz : k < 2 := (List.getElem?_eq_some_iff.mp hq).1
      rcases (show k = 0 ∨ k = 1 by omega) with z | z <;> subst z <;> cases hq
      · exact cL
      · exact cE
    have hfr : ∀ q, va_A (lw1 ω σ.2.2 (ted rt) (tmod rt) (tn rt) (trefs rt)) H.size q → ω.2.2.1 q := by
      rintro q (⟨k, e1, h⟩ | h)
      · have hz : k < 2 := (List.getElem?_eq_some_iff.mp h).1
        rcases (show k = 0 ∨ k = 1 by omega) with z | z <;> subst z <;> cases h
        · exact hAL
        · exact hAE
      · exact hK.2.2.2.2.2 q (Nat.le_trans hS.1 h)
    refine g_vLi (As := [.ref ca]) (rest := rest) hF (kJ2_add_1 l ω _ σ.2.2 (ted rt) (tn rt) ca (tmod rt) (trefs rt) (by omega) hLE hcL hcE) (lw_V q495 q496 q497 q95 q498) 1 hdJ2_add rfl rfl hR (fun a U g mk h => ⟨va_K.moved (u := U) (U := U.calling g mk a) (Vm.Alike.refl U.vm) h.1, h.2.call⟩) (fun U hU hW => ?_) (l_recv hK.1.1 hP0 rfl) hP0 hS hfr rfl hls rfl hW hdg hcap (fun w H1 locs hP1 hD1 hs1 hk1 hS1 => ?_)
    · have hKU := hK.to (U := U) (by rw [hU]; exact hS) hW
      exact ⟨hKU.1.1, y_any hKU (by rw [hU]; exact hH)⟩
    · refine kk (ted rt) H1 locs (hH.added (ed := ted rt) h8 ha hb hab hl1 hl9 (hP1 0 _ rfl) (hP1 1 _ rfl) ?_ ?_ hAE) hS1
      · intro o k hi ho
        refine hk1 _ (hH.1.lt hi) (va_A_not1 (fun q => ?_) (fun q => ?_) (hH.1.lt hi))
        · exact ho (hH.2.1.1 o k 4 99 hi (by rw [← hρ]; exact i99) (by rw [q, ← hρ, aL])).1
        · exact ho (hH.2.1.1 o k 4 0 hi (by rw [← hρ]; exact i0) (by rw [q, ← hρ, aE])).1
      · intro o k hi hn q
        obtain ⟨z1, z2⟩ := hH.2.1.1 o k 4 0 hi (by rw [← hρ]; exact i0) (by rw [q, ← hρ, aE])
        exact hn ⟨z1, z2⟩
end YB
