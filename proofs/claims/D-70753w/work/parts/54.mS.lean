/-! MODEL: ways, as the walker's calls take them: the answer by the core alone; what the scratch holds behind the answer -/
/-- how far it is from fr to to (far: 10^9) -/
def cds (t : TW) (dy td : Nat) (of : Nat → Nat) (set : Int32) (to fr : Nat) : Nat := (netT t dy td of set).ds 1000000000 to fr
/-- of the way there: how many streets; street k -/
def cwl (t : TW) (dy td : Nat) (of : Nat → Nat) (set : Int32) (fr to : Nat) : Nat := (netT t dy td of set).wl ((netT t dy td of set).ds 1000000000 to) to fr
def cws (t : TW) (dy td : Nat) (of : Nat → Nat) (set : Int32) (fr to k : Nat) : Nat := (netT t dy td of set).fs ((netT t dy td of set).ds 1000000000 to) ((netT t dy td of set).cs ((netT t dy td of set).ds 1000000000 to) fr k)
theorem cds_far {t : TW} (ok : tOK t) {dy td : Nat} (htd : td ≤ 9) {of : Nat → Nat} (hof : ∀ i, i < tn t → of i ≤ 5000) (set : Int32) {to fr : Nat} (ht : to < 8) : cds t dy td of set to fr ≤ 1000000000 := (Net.ds_inv (netT t dy td of set) (netT_ok ok dy htd hof set) (by decide) ht).far fr
theorem cwl_lt {t : TW} (ok : tOK t) {dy td : Nat} (htd : td ≤ 9) {of : Nat → Nat} (hof : ∀ i, i < tn t → of i ≤ 5000) (set : Int32) {to fr : Nat} (ht : to < 8) (hfr : fr < 8) (hf : cds t dy td of set to fr < 1000000000) : cwl t dy td of set fr to < 8 ∧ ∀ k, k < cwl t dy td of set fr to → cws t dy td of set fr to k < tn t := by
  have nok := netT_ok ok dy htd hof set
  obtain ⟨h1, h2, h3⟩ := Net.way nok ht (Net.ds_inv (netT t dy td of set) nok (F := 1000000000) (by decide) ht) (Net.ds_fix (netT t dy td of set) nok (F := 1000000000) (by decide) ht) hfr hf
  exact ⟨h1, fun k hk => ((h3 k (Nat.le_of_lt hk)).2.2 hk).2.1⟩
def fX2_layWayS (g : Nat → Nat) (t : TW) (td : Nat → Nat) (of : Nat → Nat → Nat) (pn fr to : Nat) (set : Int32) : Int32 := if cds t (g 5) (td pn) (of pn) set to fr < 1000000000 then nI (cwl t (g 5) (td pn) (of pn) set fr to) else (-1)
theorem kX2_layWayS (l : Launch) (ω : OM) (g : Nat → Nat) (y : Nat → Int32) (a z : Nat → Nat → Int32) (kt : Int32) (hs : Int64) (t : TW) (td : Nat → Nat) (of : Nat → Nat → Nat) (hc : mCore g a t td of) (pn fr to : Nat) (set : Int32) (hpn : pn < 3) (hfr : fr < 8) (hto : to < 8) :
    Met l yX2_layWay (ws_ yX2_layWay cX2_layWay 8 (some .int)) rmX2_layWay (va_Pc [.ref (ω.2.1 0 99), .int (nI pn), .int (nI fr), .int (nI to), .int set] (fun U => mK ω U ∧ mH ω (g, y, a, z, kt, hs) U.heap)) (va_Qi (fun (r : Int32) (u : MS) => ∃ (q0 q1 : Nat → Int32), r = fX2_layWayS g t td of pn fr to set ∧ (∀ x, x < 8 → q0 x = nI (cds t (g 5) (td pn) (of pn) set to x)) ∧ (cds t (g 5) (td pn) (of pn) set to fr < 1000000000 → ∀ k, k < cwl t (g 5) (td pn) (of pn) set fr to → q1 k = nI (cws t (g 5) (td pn) (of pn) set fr to k)) ∧ u = (g, y, a, va_up (va_up z 11 q0) 12 q1, kt, hs)) (fun u t => mH ω u t.heap) ω.2.2.1) 0 0 ω.2.2.1 := by
  refine Met.weak (sX2_layWay l ω g y a z kt hs pn fr to set hpn hfr hto hc) (va_Qi.imp ?_)
  rintro r u ⟨o0, o1, ⟨h1, h2, h3⟩, rfl⟩
  refine ⟨o0, o1, ?_, h1, fun hf => (h2 hf).2, rfl⟩
  unfold fX2_layWayS
  by_cases hf : cds t (g 5) (td pn) (of pn) set to fr < 1000000000
  · rw [if_pos hf]; exact (h2 hf).1
  · rw [if_neg hf]; exact h3 hf
theorem hdX2_layWayS : yX2_layWay.cls = RX2 ∧ yX2_layWay.cls ≠ "java/lang/invoke/MethodHandle" ∧ yX2_layWay.cls ≠ "java/lang/invoke/VarHandle" ∧ (parseMethodDescriptor yX2_layWay.desc).map (fun d => d.parameters.length) = some 4 := hdX2_layWay
theorem mCore.ok {g : Nat → Nat} {a : Nat → Nat → Int32} {t : TW} {td : Nat → Nat} {of : Nat → Nat → Nat} (hc : mCore g a t td of) : tOK t := hc.2.1
theorem mCore.rows {g : Nat → Nat} {a : Nat → Nat → Int32} {t : TW} {td : Nat → Nat} {of : Nat → Nat → Nat} (hc : mCore g a t td of) : mRows (g 4) (a 7) := hc.1.rows hc.2.1
theorem mCore.td9 {g : Nat → Nat} {a : Nat → Nat → Int32} {t : TW} {td : Nat → Nat} {of : Nat → Nat → Nat} (hc : mCore g a t td of) {pn : Nat} (hpn : pn < 3) : td pn ≤ 9 := (hc.2.2.2.1 pn hpn).2
theorem mCore.of5 {g : Nat → Nat} {a : Nat → Nat → Int32} {t : TW} {td : Nat → Nat} {of : Nat → Nat → Nat} (hc : mCore g a t td of) {pn : Nat} (hpn : pn < 3) : ∀ i, i < tn t → of pn i ≤ 5000 := fun i hi => (hc.2.2.2.2 pn hpn i hi).2
theorem mds_far {g : Nat → Nat} {a : Nat → Nat → Int32} {t : TW} {td : Nat → Nat} {of : Nat → Nat → Nat} (hc : mCore g a t td of) {pn : Nat} (hpn : pn < 3) (set : Int32) {to : Nat} (hto : to < 8) (fr : Nat) : cds t (g 5) (td pn) (of pn) set to fr ≤ 1000000000 := cds_far hc.ok (hc.td9 hpn) (hc.of5 hpn) set hto
theorem mwl_lt {g : Nat → Nat} {a : Nat → Nat → Int32} {t : TW} {td : Nat → Nat} {of : Nat → Nat → Nat} (hc : mCore g a t td of) {pn : Nat} (hpn : pn < 3) {set : Int32} {to fr : Nat} (hto : to < 8) (hfr : fr < 8) (hf : cds t (g 5) (td pn) (of pn) set to fr < 1000000000) : cwl t (g 5) (td pn) (of pn) set fr to < 8 ∧ ∀ k, k < cwl t (g 5) (td pn) (of pn) set fr to → cws t (g 5) (td pn) (of pn) set fr to k < tn t := cwl_lt hc.ok (hc.td9 hpn) (hc.of5 hpn) set hto hfr hf
theorem fX2_layWayS_lift {g : Nat → Nat} {t : TW} {td : Nat → Nat} {of : Nat → Nat → Nat} {pn fr to : Nat} {set : Int32} (h : ¬ fX2_layWayS g t td of pn fr to set = (-1)) : cds t (g 5) (td pn) (of pn) set to fr < 1000000000 ∧ fX2_layWayS g t td of pn fr to set = nI (cwl t (g 5) (td pn) (of pn) set fr to) := by
  unfold fX2_layWayS at *
  split at h
  · rename_i q
    exact ⟨q, if_pos q⟩
  · exact absurd rfl h
/-- layAway, as the walker takes it -/
theorem kX2_layAwayS (l : Launch) (ω : OM) (g : Nat → Nat) (y : Nat → Int32) (a z : Nat → Nat → Int32) (kt : Int32) (hs : Int64) (t : TW) (td : Nat → Nat) (of : Nat → Nat → Nat) (hc : mCore g a t td of) (pn tv to : Nat) (set : Int32) (hpn : pn < 3) (hto : to < 8) (htv : tv ≤ 9) :
    Met l yX2_layAway (ws_ yX2_layAway cX2_layAway 10 none) rmX2_layAway (va_Pc [.ref (ω.2.1 0 99), .int (nI pn), .int (nI tv), .int (nI to), .int set] (fun U => mK ω U ∧ mH ω (g, y, a, z, kt, hs) U.heap)) (va_Qv (fun (u : MS) => ∃ (q0 : Nat → Int32), (∀ x, x < 8 → q0 x = nI (cds t (g 5) tv (of pn) set to x)) ∧ u = (g, y, a, va_up z 11 q0, kt, hs)) (fun u t => mH ω u t.heap) ω.2.2.1) 0 0 ω.2.2.1 := sX2_layAway l ω g y a z kt hs pn tv to set hpn hto htv hc
theorem hdX2_layAwayS : yX2_layAway.cls = RX2 ∧ yX2_layAway.cls ≠ "java/lang/invoke/MethodHandle" ∧ yX2_layAway.cls ≠ "java/lang/invoke/VarHandle" ∧ (parseMethodDescriptor yX2_layAway.desc).map (fun d => d.parameters.length) = some 4 := hdX2_layAway
/-- the first street of a way -/
def cfs (t : TW) (dy tv : Nat) (of : Nat → Nat) (set : Int32) (fr to : Nat) : Int32 := if cds t dy tv of set to fr < 1000000000 then nI (cws t dy tv of set fr to 0) else (-1)
def fX2_firstStreetS (g : Nat → Nat) (t : TW) (of : Nat → Nat → Nat) (pn tv cn to : Nat) (set : Int32) : Int32 := cfs t (g 5) tv (of pn) set cn to
theorem m_firstFar {g : Nat → Nat} {a z : Nat → Nat → Int32} {pn x : Nat} {td set : Int32} (h : nI 1000000000 ≤ z 11 x) : fX2_firstStreet g a z pn td x set = (-1) := by
  unfold fX2_firstStreet
  have : ∀ n, it (fX2_firstStreet_b11 g a z pn td x set) n (-1) = (-1) := by
    intro n
    induction n with
    | zero => rfl
    | succ n ih =>
      rw [it_succ, ih]
      unfold fX2_firstStreet_b11
      (repeat' split) <;> first | rfl | exact absurd h (by assumption)
  exact this _
theorem kX2_firstStreetS (l : Launch) (ω : OM) (g : Nat → Nat) (y : Nat → Int32) (a z : Nat → Nat → Int32) (kt : Int32) (hs : Int64) (t : TW) (td : Nat → Nat) (of : Nat → Nat → Nat) (hc : mCore g a t td of) (pn tv cn : Nat) (set : Int32) (to : Nat) (hpn : pn < 3) (hcn : cn < 8) (hto : to < 8) (htv : tv ≤ 9) (hct : ¬ cn = to) (hz : ∀ x, x < 8 → z 11 x = nI (cds t (g 5) tv (of pn) set to x)) :
    Met l yX2_firstStreet (ws_ yX2_firstStreet cX2_firstStreet 8 (some .int)) rmX2_firstStreet (va_Pc [.ref (ω.2.1 0 99), .int (nI pn), .int (nI tv), .int (nI cn), .int set] (fun U => mK ω U ∧ mH ω (g, y, a, z, kt, hs) U.heap)) (vp_Si (fun r => r = (fX2_firstStreetS g t of pn tv cn to set))) 0 0 (fun _ => False) := by
  have hk := kX2_firstStreet l ω g y a z kt hs pn (nI tv) cn set hpn hcn hc.rows
  have nok := netT_ok hc.ok (g 5) htv (hc.of5 hpn) set
  have hD := Net.ds_inv (netT t (g 5) tv (of pn) set) nok (F := 1000000000) (by decide) hto
  have hfx := Net.ds_fix (netT t (g 5) tv (of pn) set) nok (F := 1000000000) (by decide) hto
  have e : fX2_firstStreet g a z pn (nI tv) cn set = fX2_firstStreetS g t of pn tv cn to set := by
    unfold fX2_firstStreetS cfs
    by_cases hf : cds t (g 5) tv (of pn) set to cn < 1000000000
    · rw [if_pos hf, m_firstStreet hc.1 hc.ok hcn htv hc.2.2.1 (hc.2.2.2.2 pn hpn) set (D := (netT t (g 5) tv (of pn) set).ds 1000000000 to) hz hD hf, if_pos (show (netT t (g 5) tv (of pn) set).fs ((netT t (g 5) tv (of pn) set).ds 1000000000 to) cn < tn t from (Net.fs_lt nok hD hfx hcn hct hf).1)]
      rfl
    · rw [if_neg hf]
      refine m_firstFar ?_
      have hfar : cds t (g 5) tv (of pn) set to cn ≤ 1000000000 := hD.far cn
      rw [hz cn hcn]
      exact (nI_leI (by omega) (by omega)).mpr (by omega)
  rw [← e]
  exact hk
theorem hdX2_firstStreetS : yX2_firstStreet.cls = RX2 ∧ yX2_firstStreet.cls ≠ "java/lang/invoke/MethodHandle" ∧ yX2_firstStreet.cls ≠ "java/lang/invoke/VarHandle" ∧ (parseMethodDescriptor yX2_firstStreet.desc).map (fun d => d.parameters.length) = some 4 := hdX2_firstStreet
/-- one is taken through the streets of a way -/
def takeW (f : Nat → Int32) (pn : Nat) (ws : Nat → Nat) (many : Nat) : Nat → Int32 := it (fun i S => upd S (9 * pn + ws i) (S (9 * pn + ws i) + nI 1)) many f
def fX2_takeThroughS (a : Nat → Nat → Int32) (pn many : Nat) (ws : Nat → Nat) : Nat → Int32 := takeW (a 9) pn ws many
theorem it_congr {α : Type} {f h : Nat → α → α} : ∀ (n : Nat) (S : α), (∀ i S, i < n → f i S = h i S) → it f n S = it h n S
  | 0, _, _ => rfl
  | n + 1, S, q => by rw [it_succ, it_succ, it_congr n S (fun i S hi => q i S (by omega)), q n _ (by omega)]
theorem kX2_takeThroughS (l : Launch) (ω : OM) (g : Nat → Nat) (y : Nat → Int32) (a z : Nat → Nat → Int32) (kt : Int32) (hs : Int64) (t : TW) (td : Nat → Nat) (of : Nat → Nat → Nat) (hc : mCore g a t td of) (pn many : Nat) (ws : Nat → Nat) (hpn : pn < 3) (hmany : many ≤ 8) (hrow : ∀ k, k < many → z 12 k = nI (ws k)) (hws : ∀ k, k < many → ws k < tn t) :
    Met l yX2_takeThrough (ws_ yX2_takeThrough cX2_takeThrough 4 none) rmX2_takeThrough (va_Pc [.ref (ω.2.1 0 99), .int (nI pn), .int (nI many)] (fun U => mK ω U ∧ mH ω (g, y, a, z, kt, hs) U.heap)) (va_Qv (fun (u : MS) => ∃ (o0 : Nat → Int32), o0 = (fX2_takeThroughS a pn many ws) ∧ u = (g, y, va_up a 9 o0, z, kt, hs)) (fun u t => mH ω u t.heap) ω.2.2.1) 0 0 ω.2.2.1 := by
  have hn9 := hc.ok.1
  refine Met.weak (kX2_takeThrough l ω g y a z kt hs pn many hpn hmany (fun k hk => ⟨ws k, by have := hws k hk; omega, hrow k hk⟩)) (va_Qv.imp ?_)
  rintro u ⟨o0, rfl, rfl⟩
  refine ⟨_, ?_, rfl⟩
  unfold fX2_takeThrough fX2_takeThroughS takeW
  refine it_congr many _ (fun i S hi => ?_)
  unfold fX2_takeThrough_b2
  rw [hrow i hi, toN_nI (by have := hws i hi; omega)]
theorem hdX2_takeThroughS : yX2_takeThrough.cls = RX2 ∧ yX2_takeThrough.cls ≠ "java/lang/invoke/MethodHandle" ∧ yX2_takeThrough.cls ≠ "java/lang/invoke/VarHandle" ∧ (parseMethodDescriptor yX2_takeThrough.desc).map (fun d => d.parameters.length) = some 2 := hdX2_takeThrough
/-- the other places of the model, as its methods need them -/
def mSide (g : Nat → Nat) (a : Nat → Nat → Int32) : Prop := g 3 ≤ 3 ∧ g 15 ≤ 6 ∧ (¬ g 4 = 0 → 0 < g 3) ∧ (∀ d, d < 2 → ∃ j, j < 8 ∧ a 10 (3 * d) = nI j) ∧ (∀ p, p < 3 → ¬ a 8 (5 * p + 3) = (-1) → (∃ j, j < 8 ∧ a 8 (5 * p + 3) = nI j) ∧ ∃ j, j < 8 ∧ a 8 (5 * p + 4) = nI j) ∧ ∀ k, k < g 15 → (∃ j, j < 8 ∧ a 16 (4 * k + 1) = nI j) ∧ (∃ j, j < 8 ∧ a 16 (4 * k + 2) = nI j) ∧ ¬ a 16 (4 * k + 1) = a 16 (4 * k + 2)
theorem mTrip_of {g : Nat → Nat} {pn fr to : Int32} (h : ¬ fX2_isTrip g pn fr to = 0) : ¬ fX2_isPerson g pn = 0 ∧ ¬ fX2_isCorner fr = 0 ∧ ¬ fX2_isCorner to = 0 := by
  unfold fX2_isTrip at h
  split at h
  · exact absurd nI_0 h
  · split at h
    · exact absurd nI_0 h
    · split at h
      · exact absurd nI_0 h
      · exact ⟨by assumption, by assumption, by assumption⟩
theorem mTripP {g : Nat → Nat} {pn fr to : Int32} (hg : g 3 ≤ 3) (h : ¬ fX2_isTrip g pn fr to = 0) : ∃ j, j < 3 ∧ pn = nI j := isPerson_lift3 hg (mTrip_of h).1
theorem mTripF {g : Nat → Nat} {pn fr to : Int32} (h : ¬ fX2_isTrip g pn fr to = 0) : ∃ j, j < 8 ∧ fr = nI j := isCorner_lift (mTrip_of h).2.1
theorem mTripT {g : Nat → Nat} {pn fr to : Int32} (h : ¬ fX2_isTrip g pn fr to = 0) : ∃ j, j < 8 ∧ to = nI j := isCorner_lift (mTrip_of h).2.2
/-- a number between two constants -/
theorem in64_lift2 {x : Int32} {lo hi : Int64} {m n : Nat} (hl : lo.toInt = m) (hk : hi.toInt + 1 = n) (hn : n ≤ 2 ^ 31) (h : ¬ fX2_in x.toInt64 lo hi = 0) : ∃ j : Nat, j < n ∧ x = nI j := by
  obtain ⟨h1, h2⟩ := in64_of h
  rw [Int64.le_iff_toInt_le, Int32.toInt_toInt64] at h1 h2
  exact nI_lift hn (by omega) (by omega)
theorem up_lift {i : Nat} (hi : i < 2 ^ 30) (h : ¬ nI i - 1 = (-1)) : 1 ≤ i ∧ nI i - 1 = nI (i - 1) := by
  rcases Nat.eq_zero_or_pos i with z | z
  · subst z; exact absurd (by decide) h
  · exact ⟨z, nI_sub (a := i) (b := 1) z hi⟩
theorem st_step (n i : Nat) : nI (n * i) + Int32.ofInt n = nI (n * (i + 1)) := by
  rw [show n * (i + 1) = n * i + n by rw [Nat.mul_add, Nat.mul_one], ← nI_add]
  rfl
theorem toN_ne {x y : Int32} (hx : ∃ j, j < 8 ∧ x = nI j) (hy : ∃ j, j < 8 ∧ y = nI j) (h : ¬ x = y) : ¬ toN x = toN y := by
  obtain ⟨i, hi, rfl⟩ := hx
  obtain ⟨j, hj, rfl⟩ := hy
  rw [toN_nI (by omega), toN_nI (by omega)]
  exact fun q => h (by rw [q])
theorem cwl_pos {t : TW} (ok : tOK t) {dy tv : Nat} (htv : tv ≤ 9) {of : Nat → Nat} (hof : ∀ i, i < tn t → of i ≤ 5000) (set : Int32) {to fr : Nat} (ht : to < 8) (hfr : fr < 8) (hf : cds t dy tv of set to fr < 1000000000) (hct : ¬ fr = to) : 0 < cwl t dy tv of set fr to ∧ cws t dy tv of set fr to 0 < tn t := by
  have h1 := cwl_lt ok htv hof set ht hfr hf (dy := dy)
  have h0 : 0 < cwl t dy tv of set fr to := by
    rcases Nat.eq_zero_or_pos (cwl t dy tv of set fr to) with z | z
    · exfalso
      have q := least_spec (fun k => decide ((netT t dy tv of set).cs ((netT t dy tv of set).ds 1000000000 to) fr k = to)) 8 (show cwl t dy tv of set fr to < 8 from h1.1)
      have q2 : least (fun k => decide ((netT t dy tv of set).cs ((netT t dy tv of set).ds 1000000000 to) fr k = to)) 8 = 0 := z
      rw [q2] at q
      exact hct (of_decide_eq_true q)
    · exact z
  exact ⟨h0, h1.2 0 h0⟩
/-- longs that are natural numbers -/
theorem l_toInt {n : Nat} (h : n < 2 ^ 63) : (Int64.ofNat n).toInt = n := by
  rw [Int64.toInt_ofNat_of_lt h]
theorem drawn_nat (x : Int64) : ∃ n : Nat, n < 2 ^ 31 ∧ (x &&& 2147483647) = Int64.ofNat n := by
  refine ⟨x.toBitVec.toNat % 2 ^ 31, Nat.mod_lt _ (by decide), ?_⟩
  apply Int64.toBitVec_inj.mp
  apply BitVec.eq_of_toNat_eq
  rw [Int64.toBitVec_and, BitVec.toNat_and]
  show x.toBitVec.toNat &&& (2 ^ 31 - 1) = (BitVec.ofNat 64 (x.toBitVec.toNat % 2 ^ 31)).toNat
  rw [Nat.and_two_pow_sub_one_eq_mod, BitVec.toNat_ofNat]
  omega
theorem l_div {a b : Nat} (ha : a < 2 ^ 62) (hb : b < 2 ^ 62) : Int64.ofNat a / Int64.ofNat b = Int64.ofNat (a / b) := by
  have hq : a / b ≤ a := Nat.div_le_self a b
  rw [← Int64.toInt_inj, Int64.toInt_div_of_ne_left, l_toInt (by omega), l_toInt (by omega), l_toInt (by omega)]
  · exact (Int.ofNat_tdiv a b).symm
  · intro q
    rw [← Int64.toInt_inj, l_toInt (by omega)] at q
    have : Int64.minValue.toInt = -2 ^ 63 := rfl
    omega
theorem l_mul {a b : Nat} (h : a * b < 2 ^ 63) : Int64.ofNat a * Int64.ofNat b = Int64.ofNat (a * b) := (Int64.ofNat_mul a b).symm
theorem l_sub {a b : Nat} (h : b ≤ a) : Int64.ofNat a - Int64.ofNat b = Int64.ofNat (a - b) := (Int64.ofNat_sub a b h).symm
theorem nI_toL {n : Nat} (h : n < 2 ^ 31) : (nI n).toInt64 = Int64.ofNat n := by
  rw [← Int64.toInt_inj, Int32.toInt_toInt64, nI_toInt h, l_toInt (by omega)]
theorem l_toI {n : Nat} (h : n < 2 ^ 31) : (Int64.ofNat n).toInt32 = nI n := by
  rw [← nI_toL h]
  exact Int32.toInt32_toInt64 _
/-- a draw from a drawn number -/
theorem draw_mod {n of : Nat} (hn : n < 2 ^ 31) (h0 : 0 < of) (h9 : of < 9) : ((Int64.ofNat n / 65536) - (Int64.ofNat n / 65536) / ((nI of).toInt64) * ((nI of).toInt64)).toInt32 = nI (n / 65536 % of) := by
  have e1 : Int64.ofNat n / 65536 = Int64.ofNat (n / 65536) := l_div (a := n) (b := 65536) (by omega) (by omega)
  have hq : n / 65536 / of * of ≤ n / 65536 := Nat.div_mul_le_self _ _
  rw [e1, nI_toL (by omega), l_div (by omega) (by omega), l_mul (by omega), l_sub hq, l_toI (by omega)]
  congr 1
  rw [Nat.mod_eq_sub_div_mul]
theorem fX2_draw_lift (y : Nat → Int32) {of : Nat} (h0 : 0 < of) (h9 : of < 9) : ∃ j, j < of ∧ (fX2_draw y of).1 = nI j := by
  unfold fX2_draw
  dsimp only
  obtain ⟨n, hn, e⟩ := drawn_nat (1103515245 * (y 18).toInt64 + 12345)
  rw [e, l_toI hn, pk_div hn (by omega) (by omega), pk_rem (by omega) h0 (by omega)]
  exact ⟨_, Nat.mod_lt _ h0, rfl⟩
/-- the core when streets were taken more often -/
theorem mCore.at9 {g : Nat → Nat} {a : Nat → Nat → Int32} {t : TW} {td : Nat → Nat} {of : Nat → Nat → Nat} (hc : mCore g a t td of) {w : Nat → Int32} (hw : ∀ p, p < 3 → ∀ s, s < tn t → ∃ n, n ≤ 5000 ∧ w (9 * p + s) = nI n) : mCore g (va_up a 9 w) t td (fun p s => toN (w (9 * p + s))) := by
  obtain ⟨h1, h2, h3, h4, h5⟩ := hc
  refine ⟨h1, h2, h3, h4, fun p hp s hs => ?_⟩
  obtain ⟨n, hn, e⟩ := hw p hp s hs
  show w (9 * p + s) = nI (toN (w (9 * p + s))) ∧ toN (w (9 * p + s)) ≤ 5000
  rw [e, toN_nI (by omega)]
  exact ⟨rfl, hn⟩
/-- what is taken grows by one at most at a step -/
def ofLe (t : TW) (w : Nat → Int32) (b : Nat) : Prop := ∀ p, p < 3 → ∀ s, s < tn t → ∃ n, n ≤ b ∧ w (9 * p + s) = nI n
theorem ofLe.take {t : TW} {w : Nat → Int32} {b : Nat} (h : ofLe t w b) (pn : Nat) (ws : Nat → Nat) : ∀ many, ofLe t (takeW w pn ws many) (b + many) := by
  intro many
  induction many with
  | zero => exact h
  | succ m ih =>
    intro p hp s hs
    show ∃ n, n ≤ b + (m + 1) ∧ upd (takeW w pn ws m) (9 * pn + ws m) (takeW w pn ws m (9 * pn + ws m) + nI 1) (9 * p + s) = nI n
    obtain ⟨n, hn, e⟩ := ih p hp s hs
    by_cases hq : 9 * p + s = 9 * pn + ws m
    · unfold upd
      rw [if_pos hq, ← hq, e]
      exact ⟨n + 1, by omega, by rw [nI_add]⟩
    · unfold upd
      rw [if_neg hq]
      exact ⟨n, by omega, e⟩
theorem ofLe.mono {t : TW} {w : Nat → Int32} {b b' : Nat} (h : ofLe t w b) (hb : b ≤ b') : ofLe t w b' := fun p hp s hs => by
  obtain ⟨n, hn, e⟩ := h p hp s hs
  exact ⟨n, by omega, e⟩
theorem fX2_lacks_no {g : Nat → Nat} (h : fX2_lacks g = 0) : ¬ g 4 = 0 := fun q => by
  unfold fX2_lacks at h
  rw [if_pos q] at h
  exact absurd h (by decide)
theorem up_end {n : Nat} (hn : n < 2 ^ 29) : nI n ≤ nI (n + 1) - 1 := by
  have e : nI (n + 1) - nI 1 = nI (n + 1 - 1) := nI_sub (Nat.le_add_left 1 n) (by omega)
  rw [Nat.add_sub_cancel] at e
  rw [show nI (n + 1) - 1 = nI n from e]
  exact Int32.le_refl _
theorem up_not {n i : Nat} (hn : n < 2 ^ 30) (h : i ≤ n) : ¬ nI n ≤ nI i - 1 := by
  rcases Nat.eq_zero_or_pos i with z | z
  · subst z
    rw [show nI 0 - 1 = (-1 : Int32) from by decide, Int32.le_iff_toInt_le, nI_toInt (by omega)]
    have : (-1 : Int32).toInt = -1 := rfl
    omega
  · have e : nI i - nI 1 = nI (i - 1) := nI_sub z (by omega)
    rw [show nI i - 1 = nI (i - 1) from e, nI_leI (by omega) (by omega)]
    omega
theorem cwl_le8 (t : TW) (dy tv : Nat) (of : Nat → Nat) (set : Int32) (fr to : Nat) : cwl t dy tv of set fr to ≤ 8 := least_le _ 8
