/-! CLASS: ways by the same plain numbers as the model's (one word for far) -/
section
variable {N : Net} {F G to C : Nat} {D E : Nat → Nat}
theorem twoFar.fs (nok : N.ok C) (hFG : F ≤ G) (h : twoFar F G D E) {x : Nat} (hx : x < 8) (hf : D x < F) : N.fs D x = N.fs E x := by
  refine least_congr fun i hi => ?_
  obtain ⟨n1, n2, n3, n4, n5⟩ := nok i hi
  have ho : N.oth i x < 8 := by unfold Net.oth; split <;> assumption
  have hxx : D x = E x := by rcases h x hx with q | q <;> omega
  have hd : decide (D (N.oth i x) + N.c i = D x) = decide (E (N.oth i x) + N.c i = E x) := by
    rw [decide_eq_decide]
    rcases h _ ho with q | q <;> omega
  unfold Net.tight
  rw [hd]
theorem twoFar.cs (nok : N.ok C) (hFG : F ≤ G) (h : twoFar F G D E) (ht : to < 8) (hD : N.Inv F to C D) (hfx : N.fixd D) {fr : Nat} (hfr : fr < 8) (hf : D fr < F) : ∀ k, k ≤ N.wl D to fr → N.cs D fr k = N.cs E fr k := by
  obtain ⟨w1, w2, w3⟩ := Net.way nok ht hD hfx hfr hf
  intro k
  induction k with
  | zero => intro _; rfl
  | succ k ih =>
    intro hk
    obtain ⟨c1, c2, c3⟩ := w3 k (by omega)
    have e := ih (by omega)
    show N.nx D (N.cs D fr k) = N.nx E (N.cs E fr k)
    rw [← e]
    unfold Net.nx
    rw [h.fs nok hFG c1 c2]
theorem twoFar.wl (nok : N.ok C) (hFG : F ≤ G) (h : twoFar F G D E) (ht : to < 8) (hD : N.Inv F to C D) (hfx : N.fixd D) {fr : Nat} (hfr : fr < 8) (hf : D fr < F) : N.wl E to fr = N.wl D to fr := by
  obtain ⟨w1, w2, w3⟩ := Net.way nok ht hD hfx hfr hf
  have hc := h.cs nok hFG ht hD hfx hfr hf
  refine least_eq w1 ?_ fun k hk => ?_
  · rw [← hc _ (Nat.le_refl _), w2]; exact decide_eq_true rfl
  · rw [← hc k (by omega)]
    exact decide_eq_false ((w3 k (by omega)).2.2 hk).1
theorem twoFar.fsk (nok : N.ok C) (hFG : F ≤ G) (h : twoFar F G D E) (ht : to < 8) (hD : N.Inv F to C D) (hfx : N.fixd D) {fr : Nat} (hfr : fr < 8) (hf : D fr < F) {k : Nat} (hk : k < N.wl D to fr) : N.fs D (N.cs D fr k) = N.fs E (N.cs E fr k) := by
  obtain ⟨w1, w2, w3⟩ := Net.way nok ht hD hfx hfr hf
  rw [← h.cs nok hFG ht hD hfx hfr hf k (by omega)]
  exact h.fs nok hFG (w3 k (by omega)).1 (w3 k (by omega)).2.1
end
/-- the class's state j by plain numbers -/
def xCore (g : Nat → Nat → Nat) (a : Nat → Nat → Nat → Int32) (t : TW) (j : Nat) (td : Nat → Nat) (of : Nat → Nat → Nat) : Prop :=
  tOK t ∧ g (j + 6) 9 ≤ 1000000 ∧ (∀ p, p < 3 → a (j + 6) 0 p = nI (td p) ∧ td p ≤ 9) ∧ ∀ p, p < 3 → ∀ s, s < tn t → a (j + 6) 1 (9 * p + s) = nI (of p s) ∧ of p s ≤ 5000
/-- what layTo leaves: far is 2^28 here -/
def holdsF (S : Nat → Int32) (D : Nat → Nat) : Prop := ∀ x, x < 8 → S x = nI (if D x < 1000000000 then D x else 268435456) ∧ (D x < 1000000000 → D x < 268435456)
theorem holdsF.of {S : Nat → Int32} {D E : Nat → Nat} (h : holds8 S D) (h2 : twoFar 268435456 1000000000 D E) : holdsF S E := by
  intro x hx
  rw [h x hx]
  rcases h2 x hx with ⟨q1, q2⟩ | ⟨q1, q2⟩
  · rw [if_neg (by omega), q1]; exact ⟨rfl, by omega⟩
  · rw [if_pos (by omega), q1]; exact ⟨rfl, by omega⟩
/-- what layWay leaves -/
def xwayR (t : TW) (dy td : Nat) (of : Nat → Nat) (N : Net) (D : Nat → Nat) (fr to : Nat) (r o0 o1 o2 : Int32) (o3 o4 : Nat → Int32) : Prop :=
  holdsF o3 D ∧ (D fr < 1000000000 → r = nI 1 ∧ o0 = nI (N.wl D to fr) ∧ o1 = nI (D fr / 1000) ∧ o2 = nI (D fr % 1000) ∧ ∀ j, j < N.wl D to fr → o4 j = nI (N.fs D (N.cs D fr j))) ∧ (¬ D fr < 1000000000 → r = nI 0 ∧ o0 = nI 0 ∧ o1 = nI 0 ∧ o2 = nI 0)
section
variable (l : Launch) (ω : OM) (g : Nat → Nat → Nat) (y : Nat → Nat → Int32) (a z : Nat → Nat → Nat → Int32) (dr : Int64) (pg : Nat → Int32) (t : TW) (j : Nat)
theorem sX1_layTo (hj : j < 3) (pn : Nat) (to : Nat) (set : Int32) (hpn : pn < 3) (hto : to < 8) {td : Nat → Nat} {of : Nat → Nat → Nat} (hc : xCore g a t j td of) :
    Met l yX1_layTo (ws_ yX1_layTo cX1_layTo 8 none) rmX1_layTo (va_Pc [.ref (ω.2.1 (j + 6) 99), .int (nI pn), .int (nI to), .int set] (fun U => xK ω U ∧ xH ω (g, y, a, z, dr, pg, t) U.heap)) (va_Qv (fun (u : XS) => ∃ (o0 : Nat → Int32), holdsF o0 ((netT t (g (j + 6) 9) (td pn) (of pn) set).ds 1000000000 to) ∧ u = (g, y, a, up2 z (j + 6) 10 o0, dr, pg, t)) (fun u t => xH ω u t.heap) ω.2.2.1) 0 0 ω.2.2.1 := by
  obtain ⟨h2, h3, h4, h5⟩ := hc
  have nok := netT_ok h2 (g (j + 6) 9) (h4 pn hpn).2 (fun s hs => (h5 pn hpn s hs).2) set
  have hl := x_layTo (z := z) (set := set) h2 hto (h4 pn hpn).2 (h4 pn hpn).1 h3 (h5 pn hpn)
  refine Met.weak (kX1_layTo l ω g y a z dr pg t j hj pn to set hpn hto hl.1) (va_Qv.imp ?_)
  rintro u ⟨o0, rfl, rfl⟩
  exact ⟨_, holdsF.of hl.2 (Net.ds_two _ nok (by decide) (by decide) hto), rfl⟩
end
section
variable (l : Launch) (ω : OM) (g : Nat → Nat → Nat) (y : Nat → Nat → Int32) (a z : Nat → Nat → Nat → Int32) (dr : Int64) (pg : Nat → Int32) (t : TW) (j : Nat)
theorem sumTo_congr {f h : Nat → Nat} : ∀ n, (∀ i, i < n → f i = h i) → sumTo f n = sumTo h n
  | 0, _ => rfl
  | n + 1, q => by simp only [sumTo]; rw [sumTo_congr n fun i hi => q i (by omega), q n (by omega)]
theorem sX1_layWay (hj : j < 3) (pn : Nat) (fr : Nat) (to : Nat) (set : Int32) (hpn : pn < 3) (hfr : fr < 8) (hto : to < 8) {td : Nat → Nat} {of : Nat → Nat → Nat} (hc : xCore g a t j td of) :
    Met l yX1_layWay (ws_ yX1_layWay cX1_layWay 7 (some .boolean)) rmX1_layWay (va_Pc [.ref (ω.2.1 (j + 6) 99), .int (nI pn), .int (nI fr), .int (nI to), .int set] (fun U => xK ω U ∧ xH ω (g, y, a, z, dr, pg, t) U.heap)) (va_Qi (fun (r : Int32) (u : XS) => ∃ (o0 : Int32) (o1 : Int32) (o2 : Int32) (o3 : Nat → Int32) (o4 : Nat → Int32), xwayR t (g (j + 6) 9) (td pn) (of pn) (netT t (g (j + 6) 9) (td pn) (of pn) set) ((netT t (g (j + 6) 9) (td pn) (of pn) set).ds 1000000000 to) fr to r o0 o1 o2 o3 o4 ∧ u = (g, up2 (up2 (up2 y (j + 6) 12 o0) (j + 6) 13 o1) (j + 6) 14 o2, a, up2 (up2 z (j + 6) 10 o3) (j + 6) 11 o4, dr, pg, t)) (fun u t => xH ω u t.heap) ω.2.2.1) 0 0 ω.2.2.1 := by
  obtain ⟨h2, h3, h4, h5⟩ := hc
  obtain ⟨N, hN⟩ : ∃ N, N = netT t (g (j + 6) 9) (td pn) (of pn) set := ⟨_, rfl⟩
  rw [← hN]
  have nok : N.ok 5009009 := by rw [hN]; exact netT_ok h2 (g (j + 6) 9) (h4 pn hpn).2 (fun s hs => (h5 pn hpn s hs).2) set
  have hl := x_layTo (z := z) (set := set) h2 hto (h4 pn hpn).2 (h4 pn hpn).1 h3 (h5 pn hpn)
  rw [← hN] at hl
  have hD := N.ds_inv nok (F := 268435456) (by decide) hto
  have hfx := N.ds_fix nok (F := 268435456) (by decide) hto
  have hE := N.ds_inv nok (F := 1000000000) (by decide) hto
  have hfxE := N.ds_fix nok (F := 1000000000) (by decide) hto
  have h2F := N.ds_two (F := 268435456) (G := 1000000000) nok (by decide) (by decide) hto
  have hw : xWayOK g y a z t j pn fr to set (fX1_layTo g a z t j pn to set) := x_wayOK h2 hfr hto (h4 pn hpn).2 (h4 pn hpn).1 h3 (h5 pn hpn) hl.2 hN hD hfx
  refine Met.weak (kX1_layWay l ω g y a z dr pg t j hj pn fr to set hpn hfr hto hl.1 hw) (va_Qi.imp ?_)
  rintro r u ⟨o0, o1, o2, o3, o4, he, rfl⟩
  refine ⟨o0, o1, o2, o3, o4, ?_, rfl⟩
  have hhF := holdsF.of hl.2 h2F
  unfold fX1_layWay at he
  have hz := hl.2
  generalize N.ds 1000000000 to = E at hE hfxE h2F hhF ⊢
  generalize N.ds 268435456 to = D at hz hD hfx h2F
  generalize fX1_layTo g a z t j pn to set = ct at hz he hw hhF
  have hfar := hD.far fr
  have hiff : ct fr < nI 268435456 ↔ D fr < 268435456 := by
    rw [hz fr hfr]
    exact nI_ltI (by omega) (by omega)
  have hiffE : D fr < 268435456 ↔ E fr < 1000000000 := by rcases h2F fr hfr with q | q <;> omega
  by_cases hf : D fr < 268435456
  · rw [if_pos (hiff.mpr hf)] at he
    obtain ⟨w1, w2, w3⟩ := Net.way nok hto hD hfx hfr hf
    have key := x_way_it (z := z) (set := set) h2 hfr hto (h4 pn hpn).2 (h4 pn hpn).1 h3 (h5 pn hpn) hz hN hD hfx hf 8
    rw [if_neg (by omega)] at key
    rw [key] at he
    dsimp only at he
    simp only [Prod.mk.injEq] at he
    obtain ⟨e1, e2, e3, e4, e5, e6⟩ := he
    have hparts := Net.way_parts nok hto hD hfx hfr hf (huN t (g (j + 6) 9) (td pn) (of pn)) (tl t) (fun i hi => by
      rw [hN] at hi ⊢
      exact ⟨rfl, (h2.2.2 i hi).2.2.2.2.2⟩)
    rw [hparts.1] at e3
    rw [hparts.2] at e4
    have hDE : D fr = E fr := by rcases h2F fr hfr with q | q <;> omega
    rw [hDE] at e3 e4
    have hwl := h2F.wl nok (by decide) hto hD hfx hfr hf
    rw [e1, e2, e3, e4, e5, e6]
    refine ⟨hhF, fun _ => ⟨Eq.refl _, by rw [hwl], Eq.refl _, Eq.refl _, fun k hk => ?_⟩, fun q => absurd (hiffE.mp hf) q⟩
    rw [hwl] at hk
    rw [wrow_at N D fr _ _ k hk, h2F.fsk nok (by decide) hto hD hfx hfr hf hk]
  · rw [if_neg (fun q => hf (hiff.mp q))] at he
    simp only [Prod.mk.injEq] at he
    obtain ⟨e1, e2, e3, e4, e5, e6⟩ := he
    rw [e1, e2, e3, e4, e5, e6]
    exact ⟨hhF, fun q => absurd (hiffE.mpr q) hf, fun _ => ⟨Eq.refl _, Eq.refl _, Eq.refl _, Eq.refl _⟩⟩
end
