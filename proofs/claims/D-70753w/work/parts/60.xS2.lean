/-! CLASS: ways, as the walker's calls take them: the answer by the core alone -/
theorem xCore.ok {g : Nat → Nat → Nat} {a : Nat → Nat → Nat → Int32} {t : TW} {j : Nat} {td : Nat → Nat} {of : Nat → Nat → Nat} (hc : xCore g a t j td of) : tOK t := hc.1
theorem xCore.td9 {g : Nat → Nat → Nat} {a : Nat → Nat → Nat → Int32} {t : TW} {j : Nat} {td : Nat → Nat} {of : Nat → Nat → Nat} (hc : xCore g a t j td of) {pn : Nat} (hpn : pn < 3) : td pn ≤ 9 := (hc.2.2.1 pn hpn).2
theorem xCore.of5 {g : Nat → Nat → Nat} {a : Nat → Nat → Nat → Int32} {t : TW} {j : Nat} {td : Nat → Nat} {of : Nat → Nat → Nat} (hc : xCore g a t j td of) {pn : Nat} (hpn : pn < 3) : ∀ i, i < tn t → of pn i ≤ 5000 := fun i hi => (hc.2.2.2 pn hpn i hi).2
/-- what is needed of one person -/
def xP (g : Nat → Nat → Nat) (a : Nat → Nat → Nat → Int32) (t : TW) (j pn tv : Nat) (ov : Nat → Nat) : Prop := ∃ td of, xCore g a t j td of ∧ pn < 3 ∧ td pn = tv ∧ of pn = ov
theorem xP.td9 {g : Nat → Nat → Nat} {a : Nat → Nat → Nat → Int32} {t : TW} {j pn tv : Nat} {ov : Nat → Nat} (h : xP g a t j pn tv ov) : tv ≤ 9 := by
  obtain ⟨td, of, hc, hp, rfl, rfl⟩ := h
  exact hc.td9 hp
theorem xP.of5 {g : Nat → Nat → Nat} {a : Nat → Nat → Nat → Int32} {t : TW} {j pn tv : Nat} {ov : Nat → Nat} (h : xP g a t j pn tv ov) : ∀ i, i < tn t → ov i ≤ 5000 := by
  obtain ⟨td, of, hc, hp, rfl, rfl⟩ := h
  exact hc.of5 hp
theorem xP.ok {g : Nat → Nat → Nat} {a : Nat → Nat → Nat → Int32} {t : TW} {j pn tv : Nat} {ov : Nat → Nat} (h : xP g a t j pn tv ov) : tOK t := by
  obtain ⟨td, of, hc, hp, rfl, rfl⟩ := h
  exact hc.1
theorem xCore.P {g : Nat → Nat → Nat} {a : Nat → Nat → Nat → Int32} {t : TW} {j : Nat} {td : Nat → Nat} {of : Nat → Nat → Nat} (hc : xCore g a t j td of) {pn : Nat} (hpn : pn < 3) : xP g a t j pn (td pn) (of pn) := ⟨td, of, hc, hpn, rfl, rfl⟩
def fX1_layWayS (t : TW) (dy tv : Nat) (ov : Nat → Nat) (fr to : Nat) (set : Int32) : Int32 := if cds t dy tv ov set to fr < 1000000000 then nI 1 else nI 0
theorem kX1_layWayS (l : Launch) (ω : OM) (g : Nat → Nat → Nat) (y : Nat → Nat → Int32) (a z : Nat → Nat → Nat → Int32) (dr : Int64) (pg : Nat → Int32) (t : TW) (j : Nat) (hj : j < 3) (pn fr to : Nat) (set : Int32) (tv : Nat) (ov : Nat → Nat) (hP : xP g a t j pn tv ov) (hfr : fr < 8) (hto : to < 8) :
    Met l yX1_layWay (ws_ yX1_layWay cX1_layWay 7 (some .boolean)) rmX1_layWay (va_Pc [.ref (ω.2.1 (j + 6) 99), .int (nI pn), .int (nI fr), .int (nI to), .int set] (fun U => xK ω U ∧ xH ω (g, y, a, z, dr, pg, t) U.heap)) (va_Qi (fun (r : Int32) (u : XS) => ∃ (q0 : Int32) (q1 : Int32) (q2 : Int32) (q3 : Nat → Int32) (q4 : Nat → Int32), r = fX1_layWayS t (g (j + 6) 9) tv ov fr to set ∧ (cds t (g (j + 6) 9) tv ov set to fr < 1000000000 → q0 = nI (cwl t (g (j + 6) 9) tv ov set fr to) ∧ q1 = nI (cds t (g (j + 6) 9) tv ov set to fr / 1000) ∧ q2 = nI (cds t (g (j + 6) 9) tv ov set to fr % 1000) ∧ ∀ k, k < cwl t (g (j + 6) 9) tv ov set fr to → q4 k = nI (cws t (g (j + 6) 9) tv ov set fr to k)) ∧ u = (g, up2 (up2 (up2 y (j + 6) 12 q0) (j + 6) 13 q1) (j + 6) 14 q2, a, up2 (up2 z (j + 6) 10 q3) (j + 6) 11 q4, dr, pg, t)) (fun u t => xH ω u t.heap) ω.2.2.1) 0 0 ω.2.2.1 := by
  obtain ⟨td, of, hc, hpn, rfl, rfl⟩ := hP
  refine Met.weak (sX1_layWay l ω g y a z dr pg t j hj pn fr to set hpn hfr hto hc) (va_Qi.imp ?_)
  rintro r u ⟨o0, o1, o2, o3, o4, ⟨h1, h2, h3⟩, rfl⟩
  refine ⟨o0, o1, o2, o3, o4, ?_, fun hf => (h2 hf).2, rfl⟩
  unfold fX1_layWayS
  by_cases hf : cds t (g (j + 6) 9) (td pn) (of pn) set to fr < 1000000000
  · rw [if_pos hf]; exact (h2 hf).1
  · rw [if_neg hf]; exact (h3 hf).1
theorem hdX1_layWayS : yX1_layWay.cls = RX1 ∧ yX1_layWay.cls ≠ "java/lang/invoke/MethodHandle" ∧ yX1_layWay.cls ≠ "java/lang/invoke/VarHandle" ∧ (parseMethodDescriptor yX1_layWay.desc).map (fun d => d.parameters.length) = some 4 := hdX1_layWay
theorem fX1_layWayS_lift {t : TW} {dy tv : Nat} {ov : Nat → Nat} {fr to : Nat} {set : Int32} (h : ¬ fX1_layWayS t dy tv ov fr to set = 0) : cds t dy tv ov set to fr < 1000000000 := by
  unfold fX1_layWayS at h
  split at h
  · assumption
  · exact absurd nI_0 h
def fX1_takeS (f : Nat → Int32) (pn many : Nat) (ws : Nat → Nat) : Nat → Int32 := takeW f pn ws many
theorem kX1_takeS (l : Launch) (ω : OM) (g : Nat → Nat → Nat) (y : Nat → Nat → Int32) (a z : Nat → Nat → Nat → Int32) (dr : Int64) (pg : Nat → Int32) (t : TW) (j : Nat) (hj : j < 3) (pn many : Nat) (ws : Nat → Nat) (hpn : pn < 3) (hn9 : tn t ≤ 9) (hmany : many < 8) (hy : y (j + 6) 12 = nI many) (hrow : ∀ k, k < many → z (j + 6) 11 k = nI (ws k)) (hws : ∀ k, k < many → ws k < tn t) :
    Met l yX1_take (ws_ yX1_take cX1_take 3 none) rmX1_take (va_Pc [.ref (ω.2.1 (j + 6) 99), .int (nI pn)] (fun U => xK ω U ∧ xH ω (g, y, a, z, dr, pg, t) U.heap)) (va_Qv (fun (u : XS) => ∃ (o0 : Nat → Int32), o0 = (fX1_takeS (a (j + 6) 1) pn many ws) ∧ u = (g, y, up2 a (j + 6) 1 o0, z, dr, pg, t)) (fun u t => xH ω u t.heap) ω.2.2.1) 0 0 ω.2.2.1 := by
  have hm : toN (y (j + 6) 12) = many := by rw [hy, toN_nI (by omega)]
  refine Met.weak (kX1_take l ω g y a z dr pg t j hj pn hpn ⟨many, by omega, hy⟩ (by rw [hm]; exact fun k hk => ⟨ws k, by have := hws k hk; omega, hrow k hk⟩)) (va_Qv.imp ?_)
  rintro u ⟨o0, rfl, rfl⟩
  refine ⟨_, ?_, rfl⟩
  unfold fX1_take fX1_takeS takeW
  rw [hm]
  refine it_congr many _ (fun i S hi => ?_)
  unfold fX1_take_b2
  rw [hrow i hi, toN_nI (by have := hws i hi; omega)]
theorem hdX1_takeS : yX1_take.cls = RX1 ∧ yX1_take.cls ≠ "java/lang/invoke/MethodHandle" ∧ yX1_take.cls ≠ "java/lang/invoke/VarHandle" ∧ (parseMethodDescriptor yX1_take.desc).map (fun d => d.parameters.length) = some 1 := hdX1_take
/-- the other places of the class, as its methods need them -/
def xSide (g : Nat → Nat → Nat) (a : Nat → Nat → Nat → Int32) : Prop := g 0 1 ≤ 3 ∧ g 0 12 ≤ 6 ∧ g 0 7 ≤ 50 ∧ (∀ d, d < 2 → ∃ j, j < 8 ∧ a (0 + 6) 6 d = nI j) ∧ (∀ p, p < 3 → ¬ a (0 + 6) 4 p = (-1) → (∃ j, j < 8 ∧ a (0 + 6) 4 p = nI j) ∧ ∃ j, j < 8 ∧ a (0 + 6) 5 p = nI j) ∧ ∀ k, k < g 0 12 → (∃ j, j < 8 ∧ a 0 14 k = nI j) ∧ (∃ j, j < 8 ∧ a 0 15 k = nI j) ∧ ¬ a 0 14 k = a 0 15 k
theorem xWayF {g : Nat → Nat → Nat} {pn fr to : Int32} (h : ¬ fX0_isWay g pn fr to = 0) : ∃ j : Nat, j < 8 ∧ fr = nI j := xCorner_lift (xWay_of h).2.1
theorem xWayT {g : Nat → Nat → Nat} {pn fr to : Int32} (h : ¬ fX0_isWay g pn fr to = 0) : ∃ j : Nat, j < 8 ∧ to = nI j := xCorner_lift (xWay_of h).2.2
theorem in32_lift2 {x : Int32} {m k n : Nat} (hk : k + 1 = n) (hn : n < 2 ^ 30) (hm : m < 2 ^ 30) (h : ¬ fX0_in x (nI m) (nI k) = 0) : ∃ j : Nat, j < n ∧ x = nI j := by
  obtain ⟨h1, h2⟩ := in32_of h
  rw [Int32.le_iff_toInt_le] at h1 h2
  rw [nI_toInt (by omega)] at h1 h2
  exact nI_lift2 (by omega) (by omega) (by omega)
theorem in32_low {x : Int32} {m k : Nat} (hk : k < 2 ^ 29) (hm : m < 2 ^ 30) (h : ¬ fX0_in x (nI m) (nI k) = 0) : m ≤ toN x := by
  obtain ⟨j, hj, e⟩ := in32_lift2 (n := k + 1) rfl (by omega) hm h
  have h1 := (in32_of h).1
  rw [e] at h1 ⊢
  rw [toN_nI (by omega)]
  exact (nI_leI (by omega) (by omega)).mp h1
/-- a person by another tender -/
theorem xCore.tend {g : Nat → Nat → Nat} {a : Nat → Nat → Nat → Int32} {t : TW} {td : Nat → Nat} {of : Nat → Nat → Nat} (hc : xCore g a t 0 td of) {pn tv : Nat} (hpn : pn < 3) (htv : tv ≤ 9) : xP g (up2 a (0 + 6) 0 (upd (a (0 + 6) 0) pn (nI tv))) t 0 pn tv (of pn) := by
  obtain ⟨h1, h2, h3, h4⟩ := hc
  refine ⟨fun q => if q = pn then tv else td q, of, ⟨h1, h2, fun p hp => ?_, fun p hp s hs => ?_⟩, hpn, if_pos rfl, rfl⟩
  · show upd (a (0 + 6) 0) pn (nI tv) p = nI (if p = pn then tv else td p) ∧ (if p = pn then tv else td p) ≤ 9
    unfold upd
    split
    · exact ⟨rfl, htv⟩
    · exact h3 p hp
  · exact h4 p hp s hs
theorem upd_back (f : Nat → Int32) (k : Nat) (v : Int32) : upd (upd f k v) k (f k) = f := by
  funext j
  unfold upd
  split
  · rename_i h; rw [h]
  · rfl
theorem fX0_draw_lift (dr : Int64) {of : Nat} (h0 : 0 < of) (h9 : of < 9) : ∃ j, j < of ∧ (fX0_draw dr of).1 = nI j := by
  unfold fX0_draw
  dsimp only
  generalize (1103515245 * dr + 12345) = x
  obtain ⟨n, hn, e⟩ := drawn_nat x
  rw [e, draw_mod hn h0 h9]
  exact ⟨_, Nat.mod_lt _ h0, rfl⟩
theorem x_match_in {wh : Int32} (h : ¬ fX0_in wh (nI 0) (nI 1) = 0 ∨ ¬ fX0_in wh (nI 10) (nI 11) = 0) : wh = nI 0 ∨ wh = nI 1 ∨ wh = nI 10 ∨ wh = nI 11 := by
  rcases h with h | h
  · obtain ⟨j, hj, e⟩ := in32_lift2 (n := 2) rfl (by omega) (by omega) h
    rcases (show j = 0 ∨ j = 1 by omega) with q | q
    · exact Or.inl (by rw [e, q])
    · exact Or.inr (Or.inl (by rw [e, q]))
  · obtain ⟨j, hj, e⟩ := in32_lift2 (n := 12) rfl (by omega) (by omega) h
    have hl := in32_low (by omega) (by omega) h
    rw [e, toN_nI (by omega)] at hl
    rcases (show j = 10 ∨ j = 11 by omega) with q | q
    · exact Or.inr (Or.inr (Or.inl (by rw [e, q])))
    · exact Or.inr (Or.inr (Or.inr (by rw [e, q])))
def fX0_matchToldS (ym yh : Int32) (zm : Nat → Int32) (wh : Int32) : Int32 := if wh = 0 then ym else if wh = (nI 1) then yh else zm (toN (wh - (nI 10)))
theorem kX0_matchToldS (l : Launch) (ω : OM) (g : Nat → Nat → Nat) (y : Nat → Nat → Int32) (a z : Nat → Nat → Nat → Int32) (dr : Int64) (pg : Nat → Int32) (t : TW) (wh : Int32) (hwh : wh = nI 0 ∨ wh = nI 1 ∨ wh = nI 10 ∨ wh = nI 11) : Met l yX0_matchTold (ws_ yX0_matchTold cX0_matchTold 2 (some .int)) rmX0_matchTold (va_Pc [.ref (ω.2.1 0 99), .int wh] (fun U => xK ω U ∧ xH ω (g, y, a, z, dr, pg, t) U.heap)) (vp_Si (fun r => r = (fX0_matchToldS (y 0 9) (y 0 10) (z 0 11) wh))) 0 0 (fun _ => False) := kX0_matchTold l ω g y a z dr pg t wh hwh
theorem hdX0_matchToldS : yX0_matchTold.cls = RX0 ∧ yX0_matchTold.cls ≠ "java/lang/invoke/MethodHandle" ∧ yX0_matchTold.cls ≠ "java/lang/invoke/VarHandle" ∧ (parseMethodDescriptor yX0_matchTold.desc).map (fun d => d.parameters.length) = some 1 := hdX0_matchTold
theorem fX0_isTown_yes {g : Nat → Nat → Nat} (h : ¬ fX0_isTown g = 0) : 0 < g 0 1 := by
  unfold fX0_isTown at h
  rcases Nat.eq_zero_or_pos (g 0 1) with z | z
  · exfalso
    rw [z] at h
    revert h
    decide
  · exact z
theorem cpy_at {f h : Nat → Int32} : ∀ n k, k < n → it (fun i S => upd S i (f i)) n h k = f k := by
  intro n
  induction n with
  | zero => intro k hk; omega
  | succ n ih =>
    intro k hk
    rw [it_succ]
    unfold upd
    by_cases q : k = n
    · rw [if_pos q, q]
    · rw [if_neg q]; exact ih k (by omega)
theorem fX1_become10_1 (g : Nat → Nat → Nat) (a : Nat → Nat → Nat → Int32) (k : Nat) (hk : k < 27) : (fX1_become_1_0 g a).2.1 k = a (0 + 6) 1 k := cpy_at (f := a (0 + 6) 1) 27 k hk
theorem it_fst {α β : Type} {b : Nat → α × β → α × β} {c : Nat → α → α} (h : ∀ i S, (b i S).1 = c i S.1) (n : Nat) (S : α × β) : (it b n S).1 = it c n S.1 := by
  induction n with
  | zero => rfl
  | succ n ih => rw [it_succ, it_succ, h, ih]
theorem fX1_become10_0 (g : Nat → Nat → Nat) (a : Nat → Nat → Nat → Int32) (p : Nat) (hp : p < 3) : (fX1_become_1_0 g a).1 p = a (0 + 6) 0 p := by
  show (it (fX1_become_1_0_b28 a) 3 _).1 p = _
  rw [it_fst (c := fun i S => upd S i (a (0 + 6) 0 i)) (fun i S => rfl)]
  exact cpy_at 3 p hp
theorem xCore.at1 {g g' : Nat → Nat → Nat} {a a' : Nat → Nat → Nat → Int32} {t : TW} {td : Nat → Nat} {of : Nat → Nat → Nat} (hc : xCore g a t 0 td of) {w : Nat → Int32} (hg : g' (1 + 6) 9 ≤ 1000000) (h0 : ∀ p, p < 3 → a' (1 + 6) 0 p = a (0 + 6) 0 p) (h1 : a' (1 + 6) 1 = w) (hw : ofLe t w 5000) : xCore g' a' t 1 td (fun p s => toN (w (9 * p + s))) := by
  refine ⟨hc.1, hg, fun p hp => ?_, fun p hp s hs => ?_⟩
  · rw [h0 p hp]; exact hc.2.2.1 p hp
  · obtain ⟨n, hn, e⟩ := hw p hp s hs
    rw [h1]
    dsimp only
    rw [e, toN_nI (by omega)]
    exact ⟨rfl, hn⟩
/-- the class's table of lengths -/
theorem x_hurtsN {g : Nat → Nat → Nat} {a : Nat → Nat → Nat → Int32} {t : TW} {j : Nat} {td : Nat → Nat} {of : Nat → Nat → Nat} (hc : xCore g a t j td of) {pn i : Nat} (hpn : pn < 3) (hi : i < tn t) : fX1_hurts g a t j pn i = nI (huN t (g (j + 6) 9) (td pn) (of pn) i) := by
  unfold fX1_hurts
  rw [(hc.2.2.1 pn hpn).1, (hc.2.2.2 pn hpn i hi).1, x_kindhurts (hc.1.2.2 i hi).1 (hc.2.2.1 pn hpn).2 hc.2.1]
  rfl
theorem x_layLengths {g : Nat → Nat → Nat} {a z : Nat → Nat → Nat → Int32} {t : TW} {td : Nat → Nat} {of : Nat → Nat → Nat} (hc : xCore g a t 0 td of) {pn fr : Nat} (hpn : pn < 3) : holdsN 656 (fX0_layLengths g a z t pn fr) (lT t (huN t (g (0 + 6) 9) (td pn) (of pn)) 268435456 fr) := by
  refine lT_holds (b0 := fX0_layLengths_b2) (b1 := fX0_layLengths_b41 g a z t pn) rfl (fun l S => rfl) ?_
  intro l i S D hl hi hS hD
  obtain ⟨-, hA, hB, -, hL1, hL9⟩ := hc.1.2.2 i hi
  have hh := x_hurtsN hc hpn hi
  have hu9 := huN_le (t := t) (dy := g (0 + 6) 9) (hc.td9 hpn) (hc.of5 hpn) i hi
  have be : ∀ (S : Nat → Int32) (len cn : Nat) (v : Int32), fX0_better (up2 z 0 8 S) len cn v = upd S (8 * len + cn) (jmin (S (8 * len + cn)) v) := by
    intro S len cn v
    unfold fX0_better
    rw [up2_self]
  have s0 : ∀ (x y : Nat) (S : Nat → Int32) (D : Nat → Nat), holdsN 656 S D → (∀ k, D k ≤ 268435456) → x < 8 → y < 8 → tl t i ≤ l + 1 → holdsN 656 (upd S (8 * (l + 1) + x) (jmin (S (8 * (l + 1) + x)) (S (8 * (l + 1 - tl t i) + y) + nI (huN t (g (0 + 6) 9) (td pn) (of pn) i)))) (rl D (8 * (l + 1) + x) (8 * (l + 1 - tl t i) + y) (huN t (g (0 + 6) 9) (td pn) (of pn) i)) := by
    intro x y S D hS hD hx hy hlt
    have d1 := hD (8 * (l + 1) + x)
    have d2 := hD (8 * (l + 1 - tl t i) + y)
    refine hS.relax ?_
    rw [hS (8 * (l + 1) + x) (by omega), hS (8 * (l + 1 - tl t i) + y) (by omega), nI_add, j_min (by omega) (by omega)]
  unfold fX0_layLengths_b41 ltS
  rw [hh, be, be]
  by_cases hlt : tl t i ≤ l + 1
  · rw [if_pos hlt, if_neg (by rw [nI_sub hlt (by omega)]; exact nI_pos (by omega))]
    exact s0 _ _ _ _ (s0 _ _ _ _ hS hD hA hB hlt) (rl_far hD _ _ _) hB hA hlt
  · rw [if_neg hlt, if_pos (Int32.not_le.mp (nI_subneg (by omega) (by omega)))]
    exact hS
theorem kX0_layLengthsS (l : Launch) (ω : OM) (g : Nat → Nat → Nat) (y : Nat → Nat → Int32) (a z : Nat → Nat → Nat → Int32) (dr : Int64) (pg : Nat → Int32) (t : TW) (td : Nat → Nat) (of : Nat → Nat → Nat) (hc : xCore g a t 0 td of) (pn fr : Nat) (hpn : pn < 3) (hfr : fr < 8) :
    Met l yX0_layLengths (ws_ yX0_layLengths cX0_layLengths 7 none) rmX0_layLengths (va_Pc [.ref (ω.2.1 0 99), .int (nI pn), .int (nI fr)] (fun U => xK ω U ∧ xH ω (g, y, a, z, dr, pg, t) U.heap)) (va_Qv (fun (u : XS) => ∃ (q0 : Nat → Int32), (∀ k, k < 656 → q0 k = nI (clF t (g (0 + 6) 9) (td pn) (of pn) fr k)) ∧ u = (g, y, a, up2 z 0 8 q0, dr, pg, t)) (fun u t => xH ω u t.heap) ω.2.2.1) 0 0 ω.2.2.1 := by
  refine Met.weak (kX0_layLengths l ω g y a z dr pg t pn fr hpn hfr) (va_Qv.imp ?_)
  rintro u ⟨o0, rfl, rfl⟩
  exact ⟨_, fun k hk => by rw [x_layLengths hc hpn k hk, clF_eq hc.ok (hc.td9 hpn) (hc.of5 hpn) fr hk], rfl⟩
theorem hdX0_layLengthsS : yX0_layLengths.cls = RX0 ∧ yX0_layLengths.cls ≠ "java/lang/invoke/MethodHandle" ∧ yX0_layLengths.cls ≠ "java/lang/invoke/VarHandle" ∧ (parseMethodDescriptor yX0_layLengths.desc).map (fun d => d.parameters.length) = some 2 := hdX0_layLengths
