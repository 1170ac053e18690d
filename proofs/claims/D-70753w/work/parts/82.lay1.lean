/-! THE LIST: rows for add and clear, over the list's cells alone -/
set_option maxRecDepth 100000
def lws (ω : OM) (ow : Bool) (la ed : Nat) (mo : Int32) (n : Nat) (f : Nat → Option Nat) : va_W := if ow = true then lw1 ω la ed mo n f else lw0 la ed mo n
theorem S_mono {A B : Nat → Prop} {H0 H : Heap} {locs : List Loc} (h : va_S A H0 H locs) (hAB : ∀ q, A q → B q) : va_S B H0 H locs := ⟨h.1, fun q h1 h2 => h.2.1 q h1 (fun z => h2 (hAB q z)), fun q hq => hAB _ (h.2.2 q hq)⟩
theorem va_A_in0 {a sz : Nat} {e1 : va_E} {A : Nat → Prop} (h1 : A a) (h2 : ∀ x, sz ≤ x → A x) : ∀ q, va_A [(a, e1)] sz q → A q := by
  rintro q (⟨k, e, h⟩ | h)
  · have hz : k < 1 := (List.getElem?_eq_some_iff.mp h).1
    rw [show k = 0 by omega] at h
    cases h
    exact h1
  · exact h2 q h
theorem va_A_in1 {a b sz : Nat} {e1 e2 : va_E} {A : Nat → Prop} (h1 : A a) (h1' : A b) (h2 : ∀ x, sz ≤ x → A x) : ∀ q, va_A [(a, e1), (b, e2)] sz q → A q := by
  rintro q (⟨k, e, h⟩ | h)
  · have hz : k < 2 := (List.getElem?_eq_some_iff.mp h).1
    rcases (show k = 0 ∨ k = 1 by omega) with z | z <;> subst z <;> cases h
    · exact h1
    · exact h1'
  · exact h2 q h
section LADD
variable {p : Program} {l : Launch} {e : Env} {R : Room} {s : State} {m : MethodId} {args : Array Value} {below : List Frame} {meth : Method} {c : Code} {H : Heap} {locs : List Loc} {cells slots : Nat} {Q : State → Prop} {cc : ByteArray} {pc nL index : Nat} {ls : Array Slot} {rest : List Value} {ω : OM} {e0 : Nat} {v1 v2 : Value} {own : String} {A : Nat → Prop} {la ed n v : Nat} {mo : Int32} {f : Nat → Option Nat} {ow : Bool}
theorem l_add (hF : CallFix p m c cc nL s args lw_all own) (hG : GoodIn lw_all (wsV own index RJ2 yJ2_add (ws_ yJ2_add cJ2_add 2 (some .boolean)))) (hK : yK ω e0 v1 v2 s) (hAA : ∀ q, A q → ω.2.2.1 q) (hfr : ∀ x, s.heap.size ≤ x → A x) (hP : va_P ω.1 vwCl (lws ω ow la ed mo n f) H) (how : ow = false → ed = e0 ∧ n = 0 ∧ f = fun _ => none) (h8 : n ≤ 8) (hle : ow = true → la ≠ ed) (hv : v ≠ la) (hv2 : ow = true → v ≠ ed) (hany : ∀ U : State, U.heap = H → s.WarmedH U.vm → anyK v U) (hS : va_S A s.heap H locs) (hA1 : A la) (hA2 : ow = true → A ed) (hR : rmJ2_add.frames + 1 ≤ R.frames ∧ 8 + (2 + 11) + rmJ2_add.locals ≤ R.locals) (hls : ls.size = nL) (hW : (rest.map fun v => v.category).sum ≤ 8) (hdg : decode cc pc = .ok (.invokevirtual index, 3)) (hcap : cells + 1 ≤ R.cells ∧ slots + 10 ≤ R.slots)
    (kk : ∀ (ed' : Nat) (H1 : Heap) (locs : List Loc), va_P ω.1 vwCl (lw1 ω la ed' (mo + nI 1) (n + 1) (rpush f n v)) H1 → la ≠ ed' → A ed' → ((ow = true ∧ ed' = ed) ∨ (ow = false ∧ H.size ≤ ed')) → H.size ≤ H1.size → (∀ x : Nat, x < H.size → x ≠ la → (ow = true → x ≠ ed) → H1[x]? = H[x]?) → va_S A s.heap H1 locs → W p l e R s m args below meth c H1 locs (cells + 1) (slots + 10) Q (F0 m (pc + 3) ls (.int (nI 1) :: rest))) : W p l e R s m args below meth c H locs cells slots Q (F0 m pc ls (.ref v :: .ref la :: rest)) := by
  have hSω : va_S ω.2.2.1 s.heap H locs := S_mono hS hAA
  have hfH : ∀ x, H.size ≤ x → A x := fun x h => hfr x (Nat.le_trans hS.1 h)
  cases ow with
  | false =>
    obtain ⟨h1, h2, h3⟩ := how rfl
    subst h1; subst h2; subst h3
    have hP0 : va_P ω.1 vwCl (lw0 la ed mo 0) H := hP
    have hin : ∀ q, va_A (lw0 la ed mo 0) H.size q → A q := va_A_in0 hA1 hfH
    refine g_vLi (As := [.ref v]) (rest := rest) hF (kJ2_add_0 l ω ed _ la v mo hv) hG 1 hdJ2_add rfl rfl hR (fun a U g mk h => ⟨h.1.call, h.2.call⟩) (fun U hU hW => ?_) (l_recv hK.1.1 hP0 rfl) hP0 hS hin rfl hls rfl hW hdg hcap (fun w H1 locs hP1 hD1 hs1 hk1 hS1 => ?_)
    · have hKU := hK.to (U := U) (by rw [hU]; exact hSω) hW
      have hin' : ∀ q, va_A (lw0 la ed mo 0) H.size q → ω.2.2.1 q := fun q z => hAA q (hin q z)
      exact ⟨⟨hKU.1.1, hKU.2.1.to (locs := []) (U := U) ⟨Nat.le_refl _, fun _ _ _ => rfl, fun q h => by cases h⟩ (State.WarmedH.refl U) hin', hKU.2.2.1.narrow hin', hKU.2.2.2.2.1.1⟩, hany U hU hW⟩
    · have hlw : la ≠ w := fun q => by
        have := hD1.1 0 1 _ _ rfl rfl q
        omega
      have hw : H.size ≤ w := by
        have h2 : va_A (lw0 la ed mo 0) H.size w := hD1.2 1 _ rfl
        rcases h2 with ⟨k, e1, h⟩ | h
        · exfalso
          have hz : k < 1 := (List.getElem?_eq_some_iff.mp h).1
          rw [show k = 0 by omega] at h
          cases h
          exact hlw rfl
        · exact h
      exact kk w H1 locs hP1 hlw (hin w (hD1.2 1 _ rfl)) (Or.inr ⟨rfl, hw⟩) hs1 (fun x hx hxa _ => hk1 x hx (va_A_not0 hxa hx)) hS1
  | true =>
    have hP0 : va_P ω.1 vwCl (lw1 ω la ed mo n f) H := hP
    have hin : ∀ q, va_A (lw1 ω la ed mo n f) H.size q → A q := va_A_in1 hA1 (hA2 rfl) hfH
    refine g_vLi (As := [.ref v]) (rest := rest) hF (kJ2_add_1 l ω _ la ed n v mo f (by omega) (hle rfl) hv (hv2 rfl)) hG 1 hdJ2_add rfl rfl hR (fun a U g mk h => ⟨va_K.moved (u := U) (U := U.calling g mk a) (Vm.Alike.refl U.vm) h.1, h.2.call⟩) (fun U hU hW => ⟨(hK.1.warm hW).1, hany U hU hW⟩) (l_recv hK.1.1 hP0 rfl) hP0 hS hin rfl hls rfl hW hdg hcap (fun w H1 locs hP1 hD1 hs1 hk1 hS1 => ?_)
    exact kk ed H1 locs hP1 (hle rfl) (hA2 rfl) (Or.inl ⟨rfl, rfl⟩) hs1 (fun x hx hxa hxe => hk1 x hx (va_A_not1 hxa (hxe rfl) hx)) hS1
theorem l_clear (hF : CallFix p m c cc nL s args lw_all own) (hG : GoodIn lw_all (wsV own index RJ2 yJ2_clear (ws_ yJ2_clear cJ2_clear 4 none))) (hK : mK ω s) (hfr : ∀ x, s.heap.size ≤ x → A x) (hP : va_P ω.1 vwCl (lws ω ow la ed mo n f) H) (how : ow = false → n = 0 ∧ f = fun _ => none) (h9 : n ≤ 9) (hf : ∀ i, n ≤ i → f i = none) (hle : ow = true → la ≠ ed) (hS : va_S A s.heap H locs) (hA1 : A la) (hA2 : ow = true → A ed) (hR : rmJ2_clear.frames + 1 ≤ R.frames ∧ 8 + (4 + 11) + rmJ2_clear.locals ≤ R.locals) (hls : ls.size = nL) (hW : (rest.map fun v => v.category).sum ≤ 8) (hdg : decode cc pc = .ok (.invokevirtual index, 3)) (hcap : cells + 0 ≤ R.cells ∧ slots + 0 ≤ R.slots)
    (kk : ∀ (H1 : Heap) (locs : List Loc), va_P ω.1 vwCl (lws ω ow la ed (mo + nI 1) 0 (fun _ => none)) H1 → H.size ≤ H1.size → (∀ x : Nat, x < H.size → x ≠ la → (ow = true → x ≠ ed) → H1[x]? = H[x]?) → va_S A s.heap H1 locs → W p l e R s m args below meth c H1 locs (cells + 0) (slots + 0) Q (F0 m (pc + 3) ls rest)) : W p l e R s m args below meth c H locs cells slots Q (F0 m pc ls (.ref la :: rest)) := by
  have hfH : ∀ x, H.size ≤ x → A x := fun x h => hfr x (Nat.le_trans hS.1 h)
  cases ow with
  | false =>
    obtain ⟨h2, h3⟩ := how rfl
    subst h2; subst h3
    have hP0 : va_P ω.1 vwCl (lw0 la ed mo 0) H := hP
    have hin : ∀ q, va_A (lw0 la ed mo 0) H.size q → A q := va_A_in0 hA1 hfH
    refine g_vLv (As := []) (rest := rest) hF (kJ2_clear_0 l ω ed _ la mo) hG 0 hdJ2_clear rfl rfl hR (fun a U g mk h => va_K.moved (u := U) (U := U.calling g mk a) (Vm.Alike.refl U.vm) h) (fun U hU hW => hK.warm hW) (l_recv hK hP0 rfl) hP0 hS hin rfl hls rfl hW hdg hcap (fun w H1 locs hP1 hD1 hs1 hk1 hS1 => ?_)
    exact kk H1 locs hP1 hs1 (fun x hx hxa _ => hk1 x hx (va_A_not0 hxa hx)) hS1
  | true =>
    have hP0 : va_P ω.1 vwCl (lw1 ω la ed mo n f) H := hP
    have hin : ∀ q, va_A (lw1 ω la ed mo n f) H.size q → A q := va_A_in1 hA1 (hA2 rfl) hfH
    refine g_vLv (As := []) (rest := rest) hF (kJ2_clear_1 l ω _ la ed n mo f h9 (hle rfl)) hG 0 hdJ2_clear rfl rfl hR (fun a U g mk h => va_K.moved (u := U) (U := U.calling g mk a) (Vm.Alike.refl U.vm) h) (fun U hU hW => hK.warm hW) (l_recv hK hP0 rfl) hP0 hS hin rfl hls rfl hW hdg hcap (fun w H1 locs hP1 hD1 hs1 hk1 hS1 => ?_)
    have ef : clr f n = fun _ => none := by
      funext i
      unfold clr
      by_cases h : i < n
      · rw [if_pos h]
      · rw [if_neg h, hf i (by omega)]
    rw [ef] at hP1
    exact kk H1 locs hP1 hs1 (fun x hx hxa hxe => hk1 x hx (va_A_not1 hxa (hxe rfl) hx)) hS1
end LADD
