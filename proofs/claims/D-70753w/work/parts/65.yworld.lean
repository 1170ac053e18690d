/-! THE READER's WORLD: the class's world, and beside it (3, 99) a reader, (3, 2) its row of tenders, (4, 99) its list, (4, 0) the list's elements, (5, i) the list's streets, (5, 50) a street that is being made, (5, 51) a Stop -/
set_option maxRecDepth 100000
abbrev RA : Type := Nat × Nat × Nat
abbrev CU : Type := Bool × Nat × Nat × Nat × Nat × Nat
abbrev SO : Type := Bool × Nat × Nat
/-- place, people, tenders, streets, the street being made (address, kind, one, other, length), the Stop (address, place) -/
abbrev RD : Type := Nat × Nat × (Nat → Int32) × TW × CU × SO
def yI (t : TW) (ρ : RD) : Nat → Nat → Bool := fun o k => match o with
  | 0 => xI t 0 k
  | 1 => xI t 1 k
  | 2 => xI t 2 k
  | 3 => k == 99 || k == 2
  | 4 => k == 99 || (k == 0 && town ρ.2.2.2.1)
  | 5 => decide (k < tn ρ.2.2.2.1) || ((k == 50 && ρ.2.2.2.2.1.1) || (k == 51 && ρ.2.2.2.2.2.1))
  | j + 6 => xI t (j + 6) k
def yad (ω : OM) (σ : RA) (t : TW) (ρ : RD) : Nat → Nat → Nat := fun o k => match o with
  | 0 => xad ω t 0 k
  | 1 => xad ω t 1 k
  | 2 => xad ω t 2 k
  | 3 => if k = 99 then σ.1 else σ.2.1
  | 4 => if k = 99 then σ.2.2 else ted ρ.2.2.2.1
  | 5 => if k = 50 then ρ.2.2.2.2.1.2.1 else if k = 51 then ρ.2.2.2.2.2.2.1 else tsa ρ.2.2.2.1 k
  | j + 6 => xad ω t (j + 6) k
def rF (ω : OM) (σ : RA) (ρ : RD) : List Value := [.int (nI ρ.1), .int (nI ρ.2.1), .ref σ.2.1, .ref σ.2.2, .ref (ω.2.1 0 99)]
def soF (n : Nat) : List Value := [.null, .null, .null, .null, .null, .int 0, .int (nI n)]
def yE (ω : OM) (σ : RA) (u : XS) (ρ : RD) : Nat → Nat → va_E := fun o k => match o with
  | 0 => xE ω u 0 k
  | 1 => xE ω u 1 k
  | 2 => xE ω u 2 k
  | 3 => if k = 99 then .inr (3, rF ω σ ρ) else .inl (ω.2.2.2.1, 3, .inl ρ.2.2.1)
  | 4 => if k = 99 then .inr (10, [.int (tmod ρ.2.2.2.1), .ref (ted ρ.2.2.2.1), .int (nI (tn ρ.2.2.2.1))]) else .inl (ω.2.2.2.2.2, 10, .inr (.inr (.inr (.inr (fun i => if i < tn ρ.2.2.2.1 then some (tsa ρ.2.2.2.1 i) else none)))))
  | 5 => if k = 50 then .inr (5 + ρ.2.2.2.2.1.2.2.1, [.int (nI ρ.2.2.2.2.1.2.2.2.1), .int (nI ρ.2.2.2.2.1.2.2.2.2.1), .int (nI ρ.2.2.2.2.1.2.2.2.2.2)]) else if k = 51 then .inr (4, soF ρ.2.2.2.2.2.2.2) else .inr (5 + tk ρ.2.2.2.1 k, [.int (nI (ta ρ.2.2.2.1 k)), .int (nI (tb ρ.2.2.2.1 k)), .int (nI (tl ρ.2.2.2.1 k))])
  | j + 6 => xE ω u (j + 6) k
def rOK (ρ : RD) : Prop := tOK ρ.2.2.2.1 ∧ ρ.2.2.2.2.1.2.2.1 < 5
def yH (ω : OM) (σ : RA) (u : XS) (ρ : RD) (H : Heap) : Prop := gw_P ω.1 vwCl (yI u.2.2.2.2.2.2 ρ) (yad ω σ u.2.2.2.2.2.2 ρ) (yE ω σ u ρ) H ∧ gw_D ω.2.2.1 (yI u.2.2.2.2.2.2 ρ) (yad ω σ u.2.2.2.2.2.2 ρ) ∧ tOK u.2.2.2.2.2.2 ∧ rOK ρ
theorem yI_x {t : TW} {ρ : RD} {o k : Nat} (h : xI t o k = true) : yI t ρ o k = true ∧ ∀ (ω : OM) (σ : RA) (u : XS), yad ω σ t ρ o k = xad ω t o k ∧ yE ω σ u ρ o k = xE ω u o k := by
  match o, h with
  | 0, h => exact ⟨h, fun _ _ _ => ⟨rfl, rfl⟩⟩
  | 1, h => exact ⟨h, fun _ _ _ => ⟨rfl, rfl⟩⟩
  | 2, h => exact ⟨h, fun _ _ _ => ⟨rfl, rfl⟩⟩
  | 3, h => cases h
  | 4, h => cases h
  | 5, h => cases h
  | j + 6, h => exact ⟨h, fun _ _ _ => ⟨rfl, rfl⟩⟩
theorem yH.x {ω : OM} {σ : RA} {u : XS} {ρ : RD} {H : Heap} (h : yH ω σ u ρ H) : xH ω u H := by
  refine ⟨fun o k hi => ?_, ⟨fun o k o' k' hi hi' ha => ?_, fun o k hi => ?_⟩, h.2.2.1⟩
  · obtain ⟨h1, h2⟩ := yI_x (ρ := ρ) hi
    rw [← (h2 ω σ u).1, ← (h2 ω σ u).2]
    exact h.1 o k h1
  · obtain ⟨h1, h2⟩ := yI_x (ρ := ρ) hi
    obtain ⟨h1', h2'⟩ := yI_x (ρ := ρ) hi'
    rw [← (h2 ω σ u).1, ← (h2' ω σ u).1] at ha
    exact h.2.1.1 o k o' k' h1 h1' ha
  · obtain ⟨h1, h2⟩ := yI_x (ρ := ρ) hi
    rw [← (h2 ω σ u).1]
    exact h.2.1.2 o k h1
/-- one cell moved; the addresses are the same -/
theorem y_upd {ω : OM} {σ : RA} {u : XS} {ρ ρ' : RD} {H : Heap} {o0 k0 : Nat} {ee : va_E} (hP : gw_P ω.1 vwCl (yI u.2.2.2.2.2.2 ρ) (yad ω σ u.2.2.2.2.2.2 ρ) (up2 (yE ω σ u ρ) o0 k0 ee) H) (hH : gw_D ω.2.2.1 (yI u.2.2.2.2.2.2 ρ) (yad ω σ u.2.2.2.2.2.2 ρ) ∧ tOK u.2.2.2.2.2.2) (hI : yI u.2.2.2.2.2.2 ρ' = yI u.2.2.2.2.2.2 ρ) (ha : yad ω σ u.2.2.2.2.2.2 ρ' = yad ω σ u.2.2.2.2.2.2 ρ) (hok : rOK ρ') (h1 : yE ω σ u ρ' o0 k0 = ee) (h2 : ∀ o k, ¬ (o = o0 ∧ k = k0) → yI u.2.2.2.2.2.2 ρ o k = true → yE ω σ u ρ' o k = yE ω σ u ρ o k) : yH ω σ u ρ' H := by
  refine ⟨?_, ?_, hH.2, hok⟩
  · rw [hI, ha]
    refine hP.to (fun o k hi => ⟨hi, ?_⟩)
    by_cases hq : o = o0 ∧ k = k0
    · obtain ⟨q1, q2⟩ := hq
      subst q1; subst q2
      rw [up2_self, h1]
    · rw [up2_ne _ _ hq, h2 o k hq hi]
  · rw [hI, ha]; exact hH.1
/-- the reader's own cell moved -/
theorem yE_3 {ω : OM} {σ : RA} {u : XS} {ρ ρ' : RD} (h : ρ'.2.2 = ρ.2.2) : ∀ o k, ¬ (o = 3 ∧ k = 99) → yI u.2.2.2.2.2.2 ρ o k = true → yE ω σ u ρ' o k = yE ω σ u ρ o k := by
  intro o k hq _
  obtain ⟨p1, p2, p3⟩ := ρ
  obtain ⟨q1, q2, q3⟩ := ρ'
  have e : q3 = p3 := h
  subst e
  match o, hq with
  | 0, _ => rfl
  | 1, _ => rfl
  | 2, _ => rfl
  | 3, hq =>
    show (if k = 99 then _ else _) = (if k = 99 then _ else _)
    rw [if_neg (fun z => hq ⟨rfl, z⟩), if_neg (fun z => hq ⟨rfl, z⟩)]
  | 4, _ => rfl
  | 5, _ => rfl
  | j + 6, _ => rfl
section YR
variable {p : Program} {l : Launch} {e : Env} {R : Room} {s : State} {m : MethodId} {args : Array Value} {below : List Frame} {meth : Method} {c : Code} {H : Heap} {locs : List Loc} {cells slots : Nat} {Q : State → Prop} {cc : ByteArray} {pc nL index : Nat} {ls : Array Slot} {rest : List Value} {ω : OM} {σ : RA} {own : String} {u : XS}
variable {pl pp : Nat} {tf : Nat → Int32} {rt : TW} {cu : CU} {so : SO}
theorem y_ra (hH : yH ω σ u (pl, pp, tf, rt, cu, so) H) : va_P ω.1 vwCl [(σ.1, .inr (3, rF ω σ (pl, pp, tf, rt, cu, so)))] H := gw_one (o := 3) (k := 99) hH.1 rfl rfl
theorem yg_place (hF : CallFix p m c cc nL s args lw_all RX3) (hK : xK ω s) (hH : yH ω σ u (pl, pp, tf, rt, cu, so) H) (hlink : Cond.fieldLink "HurtStreets$Reader" index "HurtStreets$Reader" "place" "I" ∈ lw_all) (hdg : decode cc pc = .ok (.getfield index, 3)) (kk : W p l e R s m args below meth c H locs cells slots Q (F0 m (pc + 3) ls (.int (nI pl) :: rest))) : W p l e R s m args below meth c H locs cells slots Q (F0 m pc ls (.ref σ.1 :: rest)) :=
  va_get hF.1 hF.2.1 hF.2.2.2.2 in_X3 hF.2.2.2.1 hK.1 (y_ra hH) 0 rfl rfl 0 (by decide) (hF.2.2.2.2 _ hlink) (fun _ h => h) rfl hdg kk
theorem yg_people (hF : CallFix p m c cc nL s args lw_all RX3) (hK : xK ω s) (hH : yH ω σ u (pl, pp, tf, rt, cu, so) H) (hlink : Cond.fieldLink "HurtStreets$Reader" index "HurtStreets$Reader" "people" "I" ∈ lw_all) (hdg : decode cc pc = .ok (.getfield index, 3)) (kk : W p l e R s m args below meth c H locs cells slots Q (F0 m (pc + 3) ls (.int (nI pp) :: rest))) : W p l e R s m args below meth c H locs cells slots Q (F0 m pc ls (.ref σ.1 :: rest)) :=
  va_get hF.1 hF.2.1 hF.2.2.2.2 in_X3 hF.2.2.2.1 hK.1 (y_ra hH) 0 rfl rfl 1 (by decide) (hF.2.2.2.2 _ hlink) (fun _ h => h) rfl hdg kk
theorem yg_tender (hF : CallFix p m c cc nL s args lw_all RX3) (hK : xK ω s) (hH : yH ω σ u (pl, pp, tf, rt, cu, so) H) (hlink : Cond.fieldLink "HurtStreets$Reader" index "HurtStreets$Reader" "tender" "[I" ∈ lw_all) (hdg : decode cc pc = .ok (.getfield index, 3)) (kk : W p l e R s m args below meth c H locs cells slots Q (F0 m (pc + 3) ls (.ref σ.2.1 :: rest))) : W p l e R s m args below meth c H locs cells slots Q (F0 m pc ls (.ref σ.1 :: rest)) :=
  va_get hF.1 hF.2.1 hF.2.2.2.2 in_X3 hF.2.2.2.1 hK.1 (y_ra hH) 0 rfl rfl 2 (by decide) (hF.2.2.2.2 _ hlink) (fun _ h => h) rfl hdg kk
theorem yg_streets (hF : CallFix p m c cc nL s args lw_all RX3) (hK : xK ω s) (hH : yH ω σ u (pl, pp, tf, rt, cu, so) H) (hlink : Cond.fieldLink "HurtStreets$Reader" index "HurtStreets$Reader" "streets" "Ljava/util/ArrayList;" ∈ lw_all) (hdg : decode cc pc = .ok (.getfield index, 3)) (kk : W p l e R s m args below meth c H locs cells slots Q (F0 m (pc + 3) ls (.ref σ.2.2 :: rest))) : W p l e R s m args below meth c H locs cells slots Q (F0 m pc ls (.ref σ.1 :: rest)) :=
  va_get hF.1 hF.2.1 hF.2.2.2.2 in_X3 hF.2.2.2.1 hK.1 (y_ra hH) 0 rfl rfl 3 (by decide) (hF.2.2.2.2 _ hlink) (fun _ h => h) rfl hdg kk
theorem yg_this (hF : CallFix p m c cc nL s args lw_all RX3) (hK : xK ω s) (hH : yH ω σ u (pl, pp, tf, rt, cu, so) H) (hlink : Cond.fieldLink "HurtStreets$Reader" index "HurtStreets$Reader" "this$0" "LHurtStreets;" ∈ lw_all) (hdg : decode cc pc = .ok (.getfield index, 3)) (kk : W p l e R s m args below meth c H locs cells slots Q (F0 m (pc + 3) ls (.ref (ω.2.1 0 99) :: rest))) : W p l e R s m args below meth c H locs cells slots Q (F0 m pc ls (.ref σ.1 :: rest)) :=
  va_get hF.1 hF.2.1 hF.2.2.2.2 in_X3 hF.2.2.2.1 hK.1 (y_ra hH) 0 rfl rfl 4 (by decide) (hF.2.2.2.2 _ hlink) (fun _ h => h) rfl hdg kk
theorem yp_place (hF : CallFix p m c cc nL s args lw_all RX3) (hK : xK ω s) (hH : yH ω σ u (pl, pp, tf, rt, cu, so) H) (hS : va_S ω.2.2.1 s.heap H locs) (hlink : Cond.fieldLink "HurtStreets$Reader" index "HurtStreets$Reader" "place" "I" ∈ lw_all) (hdg : decode cc pc = .ok (.putfield index, 3)) {v : Nat} (kk : ∀ (H : Heap) (locs : List Loc), yH ω σ u (v, pp, tf, rt, cu, so) H → va_S ω.2.2.1 s.heap H locs → W p l e R s m args below meth c H locs cells slots Q (F0 m (pc + 3) ls rest)) : W p l e R s m args below meth c H locs cells slots Q (F0 m pc ls (.int (nI v) :: .ref σ.1 :: rest)) :=
  gw_put (o := 3) (k0 := 99) hF.1 hF.2.1 hF.2.2.2.2 in_X3 tyX3 tyX3_ok nmX3 hF.2.2.2.1 hK.1 hH.1 hH.2.1 hS rfl (fs := rF ω σ (pl, pp, tf, rt, cu, so)) rfl rfl 0 (by decide) (hF.2.2.2.2 _ hlink) (fun _ h => h) rfl (ty := .int) (by decide +kernel) rfl rfl (Nat.le_of_ble_eq_true rfl) hdg (fun H1 locs1 hP hS1 => kk H1 locs1 (y_upd (ρ' := (v, pp, tf, rt, cu, so)) hP ⟨hH.2.1, hH.2.2.1⟩ rfl rfl hH.2.2.2 rfl (yE_3 rfl)) hS1)
theorem yp_people (hF : CallFix p m c cc nL s args lw_all RX3) (hK : xK ω s) (hH : yH ω σ u (pl, pp, tf, rt, cu, so) H) (hS : va_S ω.2.2.1 s.heap H locs) (hlink : Cond.fieldLink "HurtStreets$Reader" index "HurtStreets$Reader" "people" "I" ∈ lw_all) (hdg : decode cc pc = .ok (.putfield index, 3)) {v : Nat} (kk : ∀ (H : Heap) (locs : List Loc), yH ω σ u (pl, v, tf, rt, cu, so) H → va_S ω.2.2.1 s.heap H locs → W p l e R s m args below meth c H locs cells slots Q (F0 m (pc + 3) ls rest)) : W p l e R s m args below meth c H locs cells slots Q (F0 m pc ls (.int (nI v) :: .ref σ.1 :: rest)) :=
  gw_put (o := 3) (k0 := 99) hF.1 hF.2.1 hF.2.2.2.2 in_X3 tyX3 tyX3_ok nmX3 hF.2.2.2.1 hK.1 hH.1 hH.2.1 hS rfl (fs := rF ω σ (pl, pp, tf, rt, cu, so)) rfl rfl 1 (by decide) (hF.2.2.2.2 _ hlink) (fun _ h => h) rfl (ty := .int) (by decide +kernel) rfl rfl (Nat.le_of_ble_eq_true rfl) hdg (fun H1 locs1 hP hS1 => kk H1 locs1 (y_upd (ρ' := (pl, v, tf, rt, cu, so)) hP ⟨hH.2.1, hH.2.2.1⟩ rfl rfl hH.2.2.2 rfl (yE_3 rfl)) hS1)
/-- the row of tenders -/
theorem y_tst (hF : CallFix p m c cc nL s args lw_all own) (hK : xK ω s) (hH : yH ω σ u (pl, pp, tf, rt, cu, so) H) (hS : va_S ω.2.2.1 s.heap H locs) {i : Nat} {x : Int32} (hi : i < 3) (hdg : decode cc pc = .ok (.iastore, 1)) (kk : ∀ (H : Heap) (locs : List Loc), yH ω σ u (pl, pp, upd tf i x, rt, cu, so) H → va_S ω.2.2.1 s.heap H locs → W p l e R s m args below meth c H locs cells slots Q (F0 m (pc + 1) ls rest)) : W p l e R s m args below meth c H locs cells slots Q (F0 m pc ls (.int x :: .int (nI i) :: .ref σ.2.1 :: rest)) := by
  refine gw_iast (o := 3) (k0 := 2) hF.1 hF.2.1 hK.1 hH.1 hH.2.1 hS rfl 0 (n := 3) (f := tf) rfl rfl hi (by omega) hdg (fun H1 locs1 hP hS1 => kk H1 locs1 (y_upd (ρ' := (pl, pp, upd tf i x, rt, cu, so)) hP ⟨hH.2.1, hH.2.2.1⟩ rfl rfl hH.2.2.2 rfl ?_) hS1)
  intro o k hq hi
  match o, hq, hi with
  | 0, _, _ => rfl
  | 1, _, _ => rfl
  | 2, _, _ => rfl
  | 3, hq, hi =>
    have hk : k = 99 := by
      have : (k == 99 || k == 2) = true := hi
      simp only [Bool.or_eq_true, beq_iff_eq] at this
      rcases this with z | z
      · exact z
      · exact absurd ⟨rfl, z⟩ hq
    subst hk
    rfl
  | 4, _, _ => rfl
  | 5, _, _ => rfl
  | j + 6, _, _ => rfl
/-- the street that is being made: its cell, by its kind -/
theorem y_cu {ck c1 c2 c3 ca : Nat} {k : Nat} (hH : yH ω σ u (pl, pp, tf, rt, (true, ca, ck, c1, c2, c3), so) H) (hk : ck = k) : va_P ω.1 vwCl [(ca, .inr (5 + k, [.int (nI c1), .int (nI c2), .int (nI c3)]))] H := by
  subst hk
  exact gw_one (o := 5) (k := 50) hH.1 (by simp [yI]) rfl
theorem y_kind {ck c1 c2 c3 ca : Nat} {on : Bool} (hH : yH ω σ u (pl, pp, tf, rt, (on, ca, ck, c1, c2, c3), so) H) : ck = 0 ∨ ck = 1 ∨ ck = 2 ∨ ck = 3 ∨ ck = 4 := by
  have : ck < 5 := hH.2.2.2.2
  omega
theorem yE_5 {ca ck c1 c2 c3 d1 d2 d3 : Nat} : ∀ o k, ¬ (o = 5 ∧ k = 50) → yI u.2.2.2.2.2.2 (pl, pp, tf, rt, (true, ca, ck, c1, c2, c3), so) o k = true → yE ω σ u (pl, pp, tf, rt, (true, ca, ck, d1, d2, d3), so) o k = yE ω σ u (pl, pp, tf, rt, (true, ca, ck, c1, c2, c3), so) o k := by
  intro o k hq _
  match o, hq with
  | 0, _ => rfl
  | 1, _ => rfl
  | 2, _ => rfl
  | 3, _ => rfl
  | 4, _ => rfl
  | 5, hq =>
    show (if k = 50 then _ else _) = (if k = 50 then _ else _)
    rw [if_neg (fun z => hq ⟨rfl, z⟩), if_neg (fun z => hq ⟨rfl, z⟩)]
  | j + 6, _ => rfl
theorem yg_one {ck c1 c2 c3 ca : Nat} (hF : CallFix p m c cc nL s args lw_all own) (hK : xK ω s) (hH : yH ω σ u (pl, pp, tf, rt, (true, ca, ck, c1, c2, c3), so) H) (hlink : Cond.fieldLink own index "HurtStreets$Street" "one" "I" ∈ lw_all) (hdg : decode cc pc = .ok (.getfield index, 3)) (kk : W p l e R s m args below meth c H locs cells slots Q (F0 m (pc + 3) ls (.int (nI c1) :: rest))) : W p l e R s m args below meth c H locs cells slots Q (F0 m pc ls (.ref ca :: rest)) := by
  rcases y_kind hH with h | h | h | h | h
  · exact va_get hF.1 hF.2.1 hF.2.2.2.2 in_X5 hF.2.2.2.1 hK.1 (y_cu hH h) 0 rfl rfl 0 (by decide) (hF.2.2.2.2 _ hlink) (fun _ h => h) rfl hdg kk
  · exact va_get hF.1 hF.2.1 hF.2.2.2.2 in_X6 hF.2.2.2.1 hK.1 (y_cu hH h) 0 rfl rfl 0 (by decide) (hF.2.2.2.2 _ hlink) (fun _ h => h) rfl hdg kk
  · exact va_get hF.1 hF.2.1 hF.2.2.2.2 in_X7 hF.2.2.2.1 hK.1 (y_cu hH h) 0 rfl rfl 0 (by decide) (hF.2.2.2.2 _ hlink) (fun _ h => h) rfl hdg kk
  · exact va_get hF.1 hF.2.1 hF.2.2.2.2 in_X8 hF.2.2.2.1 hK.1 (y_cu hH h) 0 rfl rfl 0 (by decide) (hF.2.2.2.2 _ hlink) (fun _ h => h) rfl hdg kk
  · exact va_get hF.1 hF.2.1 hF.2.2.2.2 in_X9 hF.2.2.2.1 hK.1 (y_cu hH h) 0 rfl rfl 0 (by decide) (hF.2.2.2.2 _ hlink) (fun _ h => h) rfl hdg kk
theorem yp_one {ck c1 c2 c3 ca : Nat} (hF : CallFix p m c cc nL s args lw_all own) (hK : xK ω s) (hH : yH ω σ u (pl, pp, tf, rt, (true, ca, ck, c1, c2, c3), so) H) (hS : va_S ω.2.2.1 s.heap H locs) (hlink : Cond.fieldLink own index "HurtStreets$Street" "one" "I" ∈ lw_all) (hdg : decode cc pc = .ok (.putfield index, 3)) {v : Nat} (kk : ∀ (H : Heap) (locs : List Loc), yH ω σ u (pl, pp, tf, rt, (true, ca, ck, v, c2, c3), so) H → va_S ω.2.2.1 s.heap H locs → W p l e R s m args below meth c H locs cells slots Q (F0 m (pc + 3) ls rest)) : W p l e R s m args below meth c H locs cells slots Q (F0 m pc ls (.int (nI v) :: .ref ca :: rest)) := by
  have hi : yI u.2.2.2.2.2.2 (pl, pp, tf, rt, (true, ca, ck, c1, c2, c3), so) 5 50 = true := by simp [yI]
  have hcont : ∀ (H1 : Heap) (locs1 : List Loc), gw_P ω.1 vwCl (yI u.2.2.2.2.2.2 (pl, pp, tf, rt, (true, ca, ck, c1, c2, c3), so)) (yad ω σ u.2.2.2.2.2.2 (pl, pp, tf, rt, (true, ca, ck, c1, c2, c3), so)) (up2 (yE ω σ u (pl, pp, tf, rt, (true, ca, ck, c1, c2, c3), so)) 5 50 (.inr (5 + ck, [.int (nI c1), .int (nI c2), .int (nI c3)].set 0 (.int (nI v))))) H1 → va_S ω.2.2.1 s.heap H1 locs1 → W p l e R s m args below meth c H1 locs1 cells slots Q (F0 m (pc + 3) ls rest) := fun H1 locs1 hP hS1 => kk H1 locs1 (y_upd (ρ' := (pl, pp, tf, rt, (true, ca, ck, v, c2, c3), so)) hP ⟨hH.2.1, hH.2.2.1⟩ rfl rfl hH.2.2.2 rfl yE_5) hS1
  rcases y_kind hH with h | h | h | h | h <;> subst h
  · exact gw_put (o := 5) (k0 := 50) hF.1 hF.2.1 hF.2.2.2.2 in_X5 tyX5 tyX5_ok nmX5 hF.2.2.2.1 hK.1 hH.1 hH.2.1 hS hi (fs := [.int (nI c1), .int (nI c2), .int (nI c3)]) rfl rfl 0 (by decide) (hF.2.2.2.2 _ hlink) (fun _ h => h) rfl (ty := .int) (by decide +kernel) rfl rfl (Nat.le_of_ble_eq_true rfl) hdg hcont
  · exact gw_put (o := 5) (k0 := 50) hF.1 hF.2.1 hF.2.2.2.2 in_X6 tyX6 tyX6_ok nmX6 hF.2.2.2.1 hK.1 hH.1 hH.2.1 hS hi (fs := [.int (nI c1), .int (nI c2), .int (nI c3)]) rfl rfl 0 (by decide) (hF.2.2.2.2 _ hlink) (fun _ h => h) rfl (ty := .int) (by decide +kernel) rfl rfl (Nat.le_of_ble_eq_true rfl) hdg hcont
  · exact gw_put (o := 5) (k0 := 50) hF.1 hF.2.1 hF.2.2.2.2 in_X7 tyX7 tyX7_ok nmX7 hF.2.2.2.1 hK.1 hH.1 hH.2.1 hS hi (fs := [.int (nI c1), .int (nI c2), .int (nI c3)]) rfl rfl 0 (by decide) (hF.2.2.2.2 _ hlink) (fun _ h => h) rfl (ty := .int) (by decide +kernel) rfl rfl (Nat.le_of_ble_eq_true rfl) hdg hcont
  · exact gw_put (o := 5) (k0 := 50) hF.1 hF.2.1 hF.2.2.2.2 in_X8 tyX8 tyX8_ok nmX8 hF.2.2.2.1 hK.1 hH.1 hH.2.1 hS hi (fs := [.int (nI c1), .int (nI c2), .int (nI c3)]) rfl rfl 0 (by decide) (hF.2.2.2.2 _ hlink) (fun _ h => h) rfl (ty := .int) (by decide +kernel) rfl rfl (Nat.le_of_ble_eq_true rfl) hdg hcont
  · exact gw_put (o := 5) (k0 := 50) hF.1 hF.2.1 hF.2.2.2.2 in_X9 tyX9 tyX9_ok nmX9 hF.2.2.2.1 hK.1 hH.1 hH.2.1 hS hi (fs := [.int (nI c1), .int (nI c2), .int (nI c3)]) rfl rfl 0 (by decide) (hF.2.2.2.2 _ hlink) (fun _ h => h) rfl (ty := .int) (by decide +kernel) rfl rfl (Nat.le_of_ble_eq_true rfl) hdg hcont
theorem yp_other {ck c1 c2 c3 ca : Nat} (hF : CallFix p m c cc nL s args lw_all own) (hK : xK ω s) (hH : yH ω σ u (pl, pp, tf, rt, (true, ca, ck, c1, c2, c3), so) H) (hS : va_S ω.2.2.1 s.heap H locs) (hlink : Cond.fieldLink own index "HurtStreets$Street" "other" "I" ∈ lw_all) (hdg : decode cc pc = .ok (.putfield index, 3)) {v : Nat} (kk : ∀ (H : Heap) (locs : List Loc), yH ω σ u (pl, pp, tf, rt, (true, ca, ck, c1, v, c3), so) H → va_S ω.2.2.1 s.heap H locs → W p l e R s m args below meth c H locs cells slots Q (F0 m (pc + 3) ls rest)) : W p l e R s m args below meth c H locs cells slots Q (F0 m pc ls (.int (nI v) :: .ref ca :: rest)) := by
  have hi : yI u.2.2.2.2.2.2 (pl, pp, tf, rt, (true, ca, ck, c1, c2, c3), so) 5 50 = true := by simp [yI]
  have hcont : ∀ (H1 : Heap) (locs1 : List Loc), gw_P ω.1 vwCl (yI u.2.2.2.2.2.2 (pl, pp, tf, rt, (true, ca, ck, c1, c2, c3), so)) (yad ω σ u.2.2.2.2.2.2 (pl, pp, tf, rt, (true, ca, ck, c1, c2, c3), so)) (up2 (yE ω σ u (pl, pp, tf, rt, (true, ca, ck, c1, c2, c3), so)) 5 50 (.inr (5 + ck, [.int (nI c1), .int (nI c2), .int (nI c3)].set 1 (.int (nI v))))) H1 → va_S ω.2.2.1 s.heap H1 locs1 → W p l e R s m args below meth c H1 locs1 cells slots Q (F0 m (pc + 3) ls rest) := fun H1 locs1 hP hS1 => kk H1 locs1 (y_upd (ρ' := (pl, pp, tf, rt, (true, ca, ck, c1, v, c3), so)) hP ⟨hH.2.1, hH.2.2.1⟩ rfl rfl hH.2.2.2 rfl yE_5) hS1
  rcases y_kind hH with h | h | h | h | h <;> subst h
  · exact gw_put (o := 5) (k0 := 50) hF.1 hF.2.1 hF.2.2.2.2 in_X5 tyX5 tyX5_ok nmX5 hF.2.2.2.1 hK.1 hH.1 hH.2.1 hS hi (fs := [.int (nI c1), .int (nI c2), .int (nI c3)]) rfl rfl 1 (by decide) (hF.2.2.2.2 _ hlink) (fun _ h => h) rfl (ty := .int) (by decide +kernel) rfl rfl (Nat.le_of_ble_eq_true rfl) hdg hcont
  · exact gw_put (o := 5) (k0 := 50) hF.1 hF.2.1 hF.2.2.2.2 in_X6 tyX6 tyX6_ok nmX6 hF.2.2.2.1 hK.1 hH.1 hH.2.1 hS hi (fs := [.int (nI c1), .int (nI c2), .int (nI c3)]) rfl rfl 1 (by decide) (hF.2.2.2.2 _ hlink) (fun _ h => h) rfl (ty := .int) (by decide +kernel) rfl rfl (Nat.le_of_ble_eq_true rfl) hdg hcont
  · exact gw_put (o := 5) (k0 := 50) hF.1 hF.2.1 hF.2.2.2.2 in_X7 tyX7 tyX7_ok nmX7 hF.2.2.2.1 hK.1 hH.1 hH.2.1 hS hi (fs := [.int (nI c1), .int (nI c2), .int (nI c3)]) rfl rfl 1 (by decide) (hF.2.2.2.2 _ hlink) (fun _ h => h) rfl (ty := .int) (by decide +kernel) rfl rfl (Nat.le_of_ble_eq_true rfl) hdg hcont
  · exact gw_put (o := 5) (k0 := 50) hF.1 hF.2.1 hF.2.2.2.2 in_X8 tyX8 tyX8_ok nmX8 hF.2.2.2.1 hK.1 hH.1 hH.2.1 hS hi (fs := [.int (nI c1), .int (nI c2), .int (nI c3)]) rfl rfl 1 (by decide) (hF.2.2.2.2 _ hlink) (fun _ h => h) rfl (ty := .int) (by decide +kernel) rfl rfl (Nat.le_of_ble_eq_true rfl) hdg hcont
  · exact gw_put (o := 5) (k0 := 50) hF.1 hF.2.1 hF.2.2.2.2 in_X9 tyX9 tyX9_ok nmX9 hF.2.2.2.1 hK.1 hH.1 hH.2.1 hS hi (fs := [.int (nI c1), .int (nI c2), .int (nI c3)]) rfl rfl 1 (by decide) (hF.2.2.2.2 _ hlink) (fun _ h => h) rfl (ty := .int) (by decide +kernel) rfl rfl (Nat.le_of_ble_eq_true rfl) hdg hcont
theorem yp_length {ck c1 c2 c3 ca : Nat} (hF : CallFix p m c cc nL s args lw_all own) (hK : xK ω s) (hH : yH ω σ u (pl, pp, tf, rt, (true, ca, ck, c1, c2, c3), so) H) (hS : va_S ω.2.2.1 s.heap H locs) (hlink : Cond.fieldLink own index "HurtStreets$Street" "length" "I" ∈ lw_all) (hdg : decode cc pc = .ok (.putfield index, 3)) {v : Nat} (kk : ∀ (H : Heap) (locs : List Loc), yH ω σ u (pl, pp, tf, rt, (true, ca, ck, c1, c2, v), so) H → va_S ω.2.2.1 s.heap H locs → W p l e R s m args below meth c H locs cells slots Q (F0 m (pc + 3) ls rest)) : W p l e R s m args below meth c H locs cells slots Q (F0 m pc ls (.int (nI v) :: .ref ca :: rest)) := by
  have hi : yI u.2.2.2.2.2.2 (pl, pp, tf, rt, (true, ca, ck, c1, c2, c3), so) 5 50 = true := by simp [yI]
  have hcont : ∀ (H1 : Heap) (locs1 : List Loc), gw_P ω.1 vwCl (yI u.2.2.2.2.2.2 (pl, pp, tf, rt, (true, ca, ck, c1, c2, c3), so)) (yad ω σ u.2.2.2.2.2.2 (pl, pp, tf, rt, (true, ca, ck, c1, c2, c3), so)) (up2 (yE ω σ u (pl, pp, tf, rt, (true, ca, ck, c1, c2, c3), so)) 5 50 (.inr (5 + ck, [.int (nI c1), .int (nI c2), .int (nI c3)].set 2 (.int (nI v))))) H1 → va_S ω.2.2.1 s.heap H1 locs1 → W p l e R s m args below meth c H1 locs1 cells slots Q (F0 m (pc + 3) ls rest) := fun H1 locs1 hP hS1 => kk H1 locs1 (y_upd (ρ' := (pl, pp, tf, rt, (true, ca, ck, c1, c2, v), so)) hP ⟨hH.2.1, hH.2.2.1⟩ rfl rfl hH.2.2.2 rfl yE_5) hS1
  rcases y_kind hH with h | h | h | h | h <;> subst h
  · exact gw_put (o := 5) (k0 := 50) hF.1 hF.2.1 hF.2.2.2.2 in_X5 tyX5 tyX5_ok nmX5 hF.2.2.2.1 hK.1 hH.1 hH.2.1 hS hi (fs := [.int (nI c1), .int (nI c2), .int (nI c3)]) rfl rfl 2 (by decide) (hF.2.2.2.2 _ hlink) (fun _ h => h) rfl (ty := .int) (by decide +kernel) rfl rfl (Nat.le_of_ble_eq_true rfl) hdg hcont
  · exact gw_put (o := 5) (k0 := 50) hF.1 hF.2.1 hF.2.2.2.2 in_X6 tyX6 tyX6_ok nmX6 hF.2.2.2.1 hK.1 hH.1 hH.2.1 hS hi (fs := [.int (nI c1), .int (nI c2), .int (nI c3)]) rfl rfl 2 (by decide) (hF.2.2.2.2 _ hlink) (fun _ h => h) rfl (ty := .int) (by decide +kernel) rfl rfl (Nat.le_of_ble_eq_true rfl) hdg hcont
  · exact gw_put (o := 5) (k0 := 50) hF.1 hF.2.1 hF.2.2.2.2 in_X7 tyX7 tyX7_ok nmX7 hF.2.2.2.1 hK.1 hH.1 hH.2.1 hS hi (fs := [.int (nI c1), .int (nI c2), .int (nI c3)]) rfl rfl 2 (by decide) (hF.2.2.2.2 _ hlink) (fun _ h => h) rfl (ty := .int) (by decide +kernel) rfl rfl (Nat.le_of_ble_eq_true rfl) hdg hcont
  · exact gw_put (o := 5) (k0 := 50) hF.1 hF.2.1 hF.2.2.2.2 in_X8 tyX8 tyX8_ok nmX8 hF.2.2.2.1 hK.1 hH.1 hH.2.1 hS hi (fs := [.int (nI c1), .int (nI c2), .int (nI c3)]) rfl rfl 2 (by decide) (hF.2.2.2.2 _ hlink) (fun _ h => h) rfl (ty := .int) (by decide +kernel) rfl rfl (Nat.le_of_ble_eq_true rfl) hdg hcont
  · exact gw_put (o := 5) (k0 := 50) hF.1 hF.2.1 hF.2.2.2.2 in_X9 tyX9 tyX9_ok nmX9 hF.2.2.2.1 hK.1 hH.1 hH.2.1 hS hi (fs := [.int (nI c1), .int (nI c2), .int (nI c3)]) rfl rfl 2 (by decide) (hF.2.2.2.2 _ hlink) (fun _ h => h) rfl (ty := .int) (by decide +kernel) rfl rfl (Nat.le_of_ble_eq_true rfl) hdg hcont
theorem y_recvR (hK : xK ω s) (hH : yH ω σ u (pl, pp, tf, rt, cu, so) H) : ∃ cell : Cell, H[σ.1]? = some cell ∧ cell.vm.isStatics = false ∧ s.vm.findClass RX3 = some cell.cls := va_recv hK.1 (y_ra hH) (ci := 3) (q0 := 0) rfl rfl
end YR
