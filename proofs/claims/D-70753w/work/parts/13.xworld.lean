/-! THE CLASS's WORLD. Pairs: (0, 99) the object, (0, 6) its page, (0, k) its int arrays; (1, 99) its list, (1, 0) the list's elements; (2, i) street i; (j + 6, 99) state j, (j + 6, k) its arrays.
g: ints that are natural numbers, y: other ints (scratch), a: arrays, z: scratch arrays, dr: drawn, pg: page, t: the town's list -/
set_option maxRecDepth 100000
abbrev TW : Type := Nat × (Nat → Nat) × (Nat → Nat) × (Nat → Nat) × (Nat → Nat) × (Nat → Nat) × Nat × Bool × Int32
def tn (t : TW) : Nat := t.1
def tk (t : TW) : Nat → Nat := t.2.1
def ta (t : TW) : Nat → Nat := t.2.2.1
def tb (t : TW) : Nat → Nat := t.2.2.2.1
def tl (t : TW) : Nat → Nat := t.2.2.2.2.1
def tsa (t : TW) : Nat → Nat := t.2.2.2.2.2.1
def ted (t : TW) : Nat := t.2.2.2.2.2.2.1
def town (t : TW) : Bool := t.2.2.2.2.2.2.2.1
def tmod (t : TW) : Int32 := t.2.2.2.2.2.2.2.2
def tOK (t : TW) : Prop := tn t ≤ 9 ∧ (0 < tn t → town t = true) ∧ ∀ s : Nat, s < tn t → tk t s < 5 ∧ ta t s < 8 ∧ tb t s < 8 ∧ ¬ ta t s = tb t s ∧ 1 ≤ tl t s ∧ tl t s ≤ 9
abbrev XS : Type := (Nat → Nat → Nat) × (Nat → Nat → Int32) × (Nat → Nat → Nat → Int32) × (Nat → Nat → Nat → Int32) × Int64 × (Nat → Int32) × TW
def xl0 : Nat → Nat := fun k => match k with
  | 8 => 656
  | 11 => 2
  | 13 => 6
  | 14 => 6
  | 15 => 6
  | 16 => 6
  | 17 => 10
  | 21 => 6
  | 22 => 6
  | 23 => 6
  | 24 => 6
  | _ => 0
def xl1 : Nat → Nat := fun k => match k with
  | 0 => 3
  | 1 => 27
  | 2 => 3
  | 3 => 3
  | 4 => 3
  | 5 => 3
  | 6 => 2
  | 7 => 2
  | 8 => 2
  | 10 => 8
  | 11 => 8
  | _ => 0
def xs0 : Nat → Bool := fun k => match k with
  | 8 => true
  | 11 => true
  | 17 => true
  | _ => false
def xs1 : Nat → Bool := fun k => match k with
  | 10 => true
  | 11 => true
  | _ => false
def xI (t : TW) : Nat → Nat → Bool := fun o k => match o with
  | 0 => k == 99 || (k == 6 || xl0 k != 0)
  | 1 => k == 99 || (k == 0 && town t)
  | 2 => decide (k < tn t)
  | 3 => false
  | 4 => false
  | 5 => false
  | j + 6 => decide (j < 3) && (k == 99 || xl1 k != 0)
def xad (ω : OM) (t : TW) : Nat → Nat → Nat := fun o k => match o with
  | 0 => ω.2.1 0 k
  | 1 => if k = 99 then ω.2.1 1 99 else ted t
  | 2 => tsa t k
  | j + 3 => ω.2.1 (j + 3) k
def xF0 (ω : OM) (u : XS) : List Value := [.ref (ω.2.1 1 99), .int (nI (u.1 0 1)), .int (nI (u.1 0 2)), .ref (ω.2.1 (0 + 6) 99), .ref (ω.2.1 (1 + 6) 99), .ref (ω.2.1 (2 + 6) 99), .ref (ω.2.1 0 6), .int (nI (u.1 0 7)), .ref (ω.2.1 0 8), .int (u.2.1 0 9), .int (u.2.1 0 10), .ref (ω.2.1 0 11), .int (nI (u.1 0 12)), .ref (ω.2.1 0 13), .ref (ω.2.1 0 14), .ref (ω.2.1 0 15), .ref (ω.2.1 0 16), .ref (ω.2.1 0 17), .long u.2.2.2.2.1, .int (nI (u.1 0 19)), .int (nI (u.1 0 20)), .ref (ω.2.1 0 21), .ref (ω.2.1 0 22), .ref (ω.2.1 0 23), .ref (ω.2.1 0 24)]
def xF1 (ω : OM) (u : XS) (o : Nat) : List Value := [.ref (ω.2.1 o 0), .ref (ω.2.1 o 1), .ref (ω.2.1 o 2), .ref (ω.2.1 o 3), .ref (ω.2.1 o 4), .ref (ω.2.1 o 5), .ref (ω.2.1 o 6), .ref (ω.2.1 o 7), .ref (ω.2.1 o 8), .int (nI (u.1 o 9)), .ref (ω.2.1 o 10), .ref (ω.2.1 o 11), .int (u.2.1 o 12), .int (u.2.1 o 13), .int (u.2.1 o 14), .ref (ω.2.1 0 99)]
def xc0 (u : XS) (k : Nat) : Nat → Int32 := if xs0 k = true then u.2.2.2.1 0 k else u.2.2.1 0 k
def xc1 (u : XS) (o k : Nat) : Nat → Int32 := if xs1 k = true then u.2.2.2.1 o k else u.2.2.1 o k
def xE (ω : OM) (u : XS) : Nat → Nat → va_E := fun o k => match o with
  | 0 => if k = 99 then .inr (0, xF0 ω u) else if k = 6 then .inl (ω.2.2.2.2.1, 50, .inl u.2.2.2.2.2.1) else .inl (ω.2.2.2.1, xl0 k, .inl (xc0 u k))
  | 1 => if k = 99 then .inr (10, [.int (tmod u.2.2.2.2.2.2), .ref (ted u.2.2.2.2.2.2), .int (nI (tn u.2.2.2.2.2.2))]) else .inl (ω.2.2.2.2.2, 10, .inr (.inr (.inr (.inr (fun i => if i < tn u.2.2.2.2.2.2 then some (tsa u.2.2.2.2.2.2 i) else none)))))
  | 2 => .inr (5 + tk u.2.2.2.2.2.2 k, [.int (nI (ta u.2.2.2.2.2.2 k)), .int (nI (tb u.2.2.2.2.2.2 k)), .int (nI (tl u.2.2.2.2.2.2 k))])
  | j + 3 => if k = 99 then .inr (1, xF1 ω u (j + 3)) else .inl (ω.2.2.2.1, xl1 k, .inl (xc1 u (j + 3) k))
def xH (ω : OM) (u : XS) (H : Heap) : Prop := gw_P ω.1 vwCl (xI u.2.2.2.2.2.2) (xad ω u.2.2.2.2.2.2) (xE ω u) H ∧ gw_D ω.2.2.1 (xI u.2.2.2.2.2.2) (xad ω u.2.2.2.2.2.2) ∧ tOK u.2.2.2.2.2.2
/-- words that don't ride in lw_all: nest mates' links, casts -/
def xN (U : State) : Prop := va_Nw (.fieldLinkNest "HurtStreets$Reader" 33 "HurtStreets" "page" "[B" "HurtStreets") U ∧ va_Nw (.fieldLinkNest "HurtStreets$Reader" 30 "HurtStreets" "pageLength" "I" "HurtStreets") U ∧ va_Nw (.fieldLinkNest "HurtStreets$State" 53 "HurtStreets" "streets" "Ljava/util/ArrayList;" "HurtStreets") U ∧ va_Nw (.fieldLinkNest "HurtStreets" 138 "HurtStreets$State" "tender" "[I" "HurtStreets") U ∧ va_Nw (.fieldLinkNest "HurtStreets" 152 "HurtStreets$State" "taken" "[I" "HurtStreets") U ∧ va_Nw (.fieldLinkNest "HurtStreets" 155 "HurtStreets$State" "hurt" "[I" "HurtStreets") U ∧ va_Nw (.fieldLinkNest "HurtStreets" 162 "HurtStreets$State" "waitsAt" "[I" "HurtStreets") U ∧ va_Nw (.fieldLinkNest "HurtStreets" 165 "HurtStreets$State" "waitsFor" "[I" "HurtStreets") U ∧ va_Nw (.fieldLinkNest "HurtStreets" 276 "HurtStreets$State" "at" "[I" "HurtStreets") U ∧ va_Nw (.fieldLinkNest "HurtStreets" 172 "HurtStreets$State" "knows" "[I" "HurtStreets") U ∧ va_Nw (.fieldLinkNest "HurtStreets" 282 "HurtStreets$State" "made" "[I" "HurtStreets") U ∧ va_Nw (.fieldLinkNest "HurtStreets" 206 "HurtStreets$State" "days" "I" "HurtStreets") U ∧ va_Nw (.fieldLinkNest "HurtStreets" 225 "HurtStreets$State" "row" "[I" "HurtStreets") U ∧ va_Nw (.fieldLinkNest "HurtStreets" 222 "HurtStreets$State" "rowMany" "I" "HurtStreets") U ∧ va_Nw (.fieldLinkNest "HurtStreets" 216 "HurtStreets$State" "rowHurts" "I" "HurtStreets") U ∧ va_Nw (.fieldLinkNest "HurtStreets" 219 "HurtStreets$State" "rowLength" "I" "HurtStreets") U ∧ va_Nw (.fieldLinkNest "HurtStreets" 134 "HurtStreets$Reader" "people" "I" "HurtStreets") U ∧ va_Nw (.fieldLinkNest "HurtStreets" 141 "HurtStreets$Reader" "tender" "[I" "HurtStreets") U ∧ va_Nw (.fieldLinkNest "HurtStreets" 125 "HurtStreets$Reader" "streets" "Ljava/util/ArrayList;" "HurtStreets") U ∧ va_Nw (.fieldLinkNest "HurtStreets" 119 "HurtStreets$Stop" "place" "I" "HurtStreets") U ∧ va_Nw (.methodLinkNest "HurtStreets$Loss" 1 ⟨"HurtStreets$Street", "<init>", "()V"⟩ "HurtStreets") U ∧ va_Nw (.methodLinkNest "HurtStreets$Quarrel" 1 ⟨"HurtStreets$Street", "<init>", "()V"⟩ "HurtStreets") U ∧ va_Nw (.methodLinkNest "HurtStreets$Joy" 3 ⟨"HurtStreets$Street", "<init>", "()V"⟩ "HurtStreets") U ∧ va_Nw (.methodLinkNest "HurtStreets$Grief" 1 ⟨"HurtStreets$Loss", "<init>", "()V"⟩ "HurtStreets") U ∧ va_Nw (.methodLinkNest "HurtStreets$Reader" 46 ⟨"HurtStreets", "in", "(III)Z"⟩ "HurtStreets") U ∧ va_Nw (.methodLinkNest "HurtStreets$Reader" 58 ⟨"HurtStreets", "made", "(I)LHurtStreets$Street;"⟩ "HurtStreets") U ∧ va_Nw (.methodLinkNest "HurtStreets$State" 85 ⟨"HurtStreets", "isIn", "(II)Z"⟩ "HurtStreets") U ∧ va_Nw (.methodLinkNest "HurtStreets" 22 ⟨"HurtStreets$State", "<init>", "(LHurtStreets;)V"⟩ "HurtStreets") U ∧ va_Nw (.methodLinkNest "HurtStreets" 112 ⟨"HurtStreets$Reader", "<init>", "(LHurtStreets;)V"⟩ "HurtStreets") U ∧ va_Nw (.methodLinkNest "HurtStreets" 75 ⟨"HurtStreets$Loss", "<init>", "()V"⟩ "HurtStreets") U ∧ va_Nw (.methodLinkNest "HurtStreets" 78 ⟨"HurtStreets$Quarrel", "<init>", "()V"⟩ "HurtStreets") U ∧ va_Nw (.methodLinkNest "HurtStreets" 81 ⟨"HurtStreets$Joy", "<init>", "()V"⟩ "HurtStreets") U ∧ va_Nw (.methodLinkNest "HurtStreets" 84 ⟨"HurtStreets$Grief", "<init>", "()V"⟩ "HurtStreets") U ∧ va_Nw (.methodLinkNest "HurtStreets" 87 ⟨"HurtStreets$Street", "<init>", "()V"⟩ "HurtStreets") U ∧ va_Nw (.castable "HurtStreets$Loss" "HurtStreets$Street") U ∧ va_Nw (.castable "HurtStreets$Quarrel" "HurtStreets$Street") U ∧ va_Nw (.castable "HurtStreets$Joy" "HurtStreets$Street") U ∧ va_Nw (.castable "HurtStreets$Grief" "HurtStreets$Street") U
theorem xN.warm {s U : State} (h : xN s) (hW : s.WarmedH U.vm) : xN U := by
  obtain ⟨h0, h1, h2, h3, h4, h5, h6, h7, h8, h9, h10, h11, h12, h13, h14, h15, h16, h17, h18, h19, h20, h21, h22, h23, h24, h25, h26, h27, h28, h29, h30, h31, h32, h33, h34, h35, h36, h37⟩ := h
  exact ⟨h0.warmF hW, h1.warmF hW, h2.warmF hW, h3.warmF hW, h4.warmF hW, h5.warmF hW, h6.warmF hW, h7.warmF hW, h8.warmF hW, h9.warmF hW, h10.warmF hW, h11.warmF hW, h12.warmF hW, h13.warmF hW, h14.warmF hW, h15.warmF hW, h16.warmF hW, h17.warmF hW, h18.warmF hW, h19.warmF hW, h20.warmM hW, h21.warmM hW, h22.warmM hW, h23.warmM hW, h24.warmM hW, h25.warmM hW, h26.warmM hW, h27.warmM hW, h28.warmM hW, h29.warmM hW, h30.warmM hW, h31.warmM hW, h32.warmM hW, h33.warmM hW, h34.warmC hW, h35.warmC hW, h36.warmC hW, h37.warmC hW⟩
theorem xn_q224 {U : State} (h : xN U) : va_Nw (.fieldLinkNest "HurtStreets$Reader" 33 "HurtStreets" "page" "[B" "HurtStreets") U := h.1
theorem xn_q226 {U : State} (h : xN U) : va_Nw (.fieldLinkNest "HurtStreets$Reader" 30 "HurtStreets" "pageLength" "I" "HurtStreets") U := h.2.1
theorem xn_q217 {U : State} (h : xN U) : va_Nw (.fieldLinkNest "HurtStreets$State" 53 "HurtStreets" "streets" "Ljava/util/ArrayList;" "HurtStreets") U := h.2.2.1
theorem xn_q155 {U : State} (h : xN U) : va_Nw (.fieldLinkNest "HurtStreets" 138 "HurtStreets$State" "tender" "[I" "HurtStreets") U := h.2.2.2.1
theorem xn_q158 {U : State} (h : xN U) : va_Nw (.fieldLinkNest "HurtStreets" 152 "HurtStreets$State" "taken" "[I" "HurtStreets") U := h.2.2.2.2.1
theorem xn_q160 {U : State} (h : xN U) : va_Nw (.fieldLinkNest "HurtStreets" 155 "HurtStreets$State" "hurt" "[I" "HurtStreets") U := h.2.2.2.2.2.1
theorem xn_q162 {U : State} (h : xN U) : va_Nw (.fieldLinkNest "HurtStreets" 162 "HurtStreets$State" "waitsAt" "[I" "HurtStreets") U := h.2.2.2.2.2.2.1
theorem xn_q164 {U : State} (h : xN U) : va_Nw (.fieldLinkNest "HurtStreets" 165 "HurtStreets$State" "waitsFor" "[I" "HurtStreets") U := h.2.2.2.2.2.2.2.1
theorem xn_q166 {U : State} (h : xN U) : va_Nw (.fieldLinkNest "HurtStreets" 276 "HurtStreets$State" "at" "[I" "HurtStreets") U := h.2.2.2.2.2.2.2.2.1
theorem xn_q168 {U : State} (h : xN U) : va_Nw (.fieldLinkNest "HurtStreets" 172 "HurtStreets$State" "knows" "[I" "HurtStreets") U := h.2.2.2.2.2.2.2.2.2.1
theorem xn_q170 {U : State} (h : xN U) : va_Nw (.fieldLinkNest "HurtStreets" 282 "HurtStreets$State" "made" "[I" "HurtStreets") U := h.2.2.2.2.2.2.2.2.2.2.1
theorem xn_q172 {U : State} (h : xN U) : va_Nw (.fieldLinkNest "HurtStreets" 206 "HurtStreets$State" "days" "I" "HurtStreets") U := h.2.2.2.2.2.2.2.2.2.2.2.1
theorem xn_q175 {U : State} (h : xN U) : va_Nw (.fieldLinkNest "HurtStreets" 225 "HurtStreets$State" "row" "[I" "HurtStreets") U := h.2.2.2.2.2.2.2.2.2.2.2.2.1
theorem xn_q177 {U : State} (h : xN U) : va_Nw (.fieldLinkNest "HurtStreets" 222 "HurtStreets$State" "rowMany" "I" "HurtStreets") U := h.2.2.2.2.2.2.2.2.2.2.2.2.2.1
theorem xn_q179 {U : State} (h : xN U) : va_Nw (.fieldLinkNest "HurtStreets" 216 "HurtStreets$State" "rowHurts" "I" "HurtStreets") U := h.2.2.2.2.2.2.2.2.2.2.2.2.2.2.1
theorem xn_q181 {U : State} (h : xN U) : va_Nw (.fieldLinkNest "HurtStreets" 219 "HurtStreets$State" "rowLength" "I" "HurtStreets") U := h.2.2.2.2.2.2.2.2.2.2.2.2.2.2.2.1
theorem xn_q323 {U : State} (h : xN U) : va_Nw (.fieldLinkNest "HurtStreets" 134 "HurtStreets$Reader" "people" "I" "HurtStreets") U := h.2.2.2.2.2.2.2.2.2.2.2.2.2.2.2.2.1
theorem xn_q325 {U : State} (h : xN U) : va_Nw (.fieldLinkNest "HurtStreets" 141 "HurtStreets$Reader" "tender" "[I" "HurtStreets") U := h.2.2.2.2.2.2.2.2.2.2.2.2.2.2.2.2.2.1
theorem xn_q327 {U : State} (h : xN U) : va_Nw (.fieldLinkNest "HurtStreets" 125 "HurtStreets$Reader" "streets" "Ljava/util/ArrayList;" "HurtStreets") U := h.2.2.2.2.2.2.2.2.2.2.2.2.2.2.2.2.2.2.1
theorem xn_q404 {U : State} (h : xN U) : va_Nw (.fieldLinkNest "HurtStreets" 119 "HurtStreets$Stop" "place" "I" "HurtStreets") U := h.2.2.2.2.2.2.2.2.2.2.2.2.2.2.2.2.2.2.2.1
theorem xn_q436 {U : State} (h : xN U) : va_Nw (.methodLinkNest "HurtStreets$Loss" 1 ⟨"HurtStreets$Street", "<init>", "()V"⟩ "HurtStreets") U := h.2.2.2.2.2.2.2.2.2.2.2.2.2.2.2.2.2.2.2.2.1
theorem xn_q463 {U : State} (h : xN U) : va_Nw (.methodLinkNest "HurtStreets$Quarrel" 1 ⟨"HurtStreets$Street", "<init>", "()V"⟩ "HurtStreets") U := h.2.2.2.2.2.2.2.2.2.2.2.2.2.2.2.2.2.2.2.2.2.1
theorem xn_q473 {U : State} (h : xN U) : va_Nw (.methodLinkNest "HurtStreets$Joy" 3 ⟨"HurtStreets$Street", "<init>", "()V"⟩ "HurtStreets") U := h.2.2.2.2.2.2.2.2.2.2.2.2.2.2.2.2.2.2.2.2.2.2.1
theorem xn_q483 {U : State} (h : xN U) : va_Nw (.methodLinkNest "HurtStreets$Grief" 1 ⟨"HurtStreets$Loss", "<init>", "()V"⟩ "HurtStreets") U := h.2.2.2.2.2.2.2.2.2.2.2.2.2.2.2.2.2.2.2.2.2.2.2.1
theorem xn_q352 {U : State} (h : xN U) : va_Nw (.methodLinkNest "HurtStreets$Reader" 46 ⟨"HurtStreets", "in", "(III)Z"⟩ "HurtStreets") U := h.2.2.2.2.2.2.2.2.2.2.2.2.2.2.2.2.2.2.2.2.2.2.2.2.1
theorem xn_q428 {U : State} (h : xN U) : va_Nw (.methodLinkNest "HurtStreets$Reader" 58 ⟨"HurtStreets", "made", "(I)LHurtStreets$Street;"⟩ "HurtStreets") U := h.2.2.2.2.2.2.2.2.2.2.2.2.2.2.2.2.2.2.2.2.2.2.2.2.2.1
theorem xn_q625 {U : State} (h : xN U) : va_Nw (.methodLinkNest "HurtStreets$State" 85 ⟨"HurtStreets", "isIn", "(II)Z"⟩ "HurtStreets") U := h.2.2.2.2.2.2.2.2.2.2.2.2.2.2.2.2.2.2.2.2.2.2.2.2.2.2.1
theorem xn_q150 {U : State} (h : xN U) : va_Nw (.methodLinkNest "HurtStreets" 22 ⟨"HurtStreets$State", "<init>", "(LHurtStreets;)V"⟩ "HurtStreets") U := h.2.2.2.2.2.2.2.2.2.2.2.2.2.2.2.2.2.2.2.2.2.2.2.2.2.2.2.1
theorem xn_q315 {U : State} (h : xN U) : va_Nw (.methodLinkNest "HurtStreets" 112 ⟨"HurtStreets$Reader", "<init>", "(LHurtStreets;)V"⟩ "HurtStreets") U := h.2.2.2.2.2.2.2.2.2.2.2.2.2.2.2.2.2.2.2.2.2.2.2.2.2.2.2.2.1
theorem xn_q433 {U : State} (h : xN U) : va_Nw (.methodLinkNest "HurtStreets" 75 ⟨"HurtStreets$Loss", "<init>", "()V"⟩ "HurtStreets") U := h.2.2.2.2.2.2.2.2.2.2.2.2.2.2.2.2.2.2.2.2.2.2.2.2.2.2.2.2.2.1
theorem xn_q460 {U : State} (h : xN U) : va_Nw (.methodLinkNest "HurtStreets" 78 ⟨"HurtStreets$Quarrel", "<init>", "()V"⟩ "HurtStreets") U := h.2.2.2.2.2.2.2.2.2.2.2.2.2.2.2.2.2.2.2.2.2.2.2.2.2.2.2.2.2.2.1
theorem xn_q470 {U : State} (h : xN U) : va_Nw (.methodLinkNest "HurtStreets" 81 ⟨"HurtStreets$Joy", "<init>", "()V"⟩ "HurtStreets") U := h.2.2.2.2.2.2.2.2.2.2.2.2.2.2.2.2.2.2.2.2.2.2.2.2.2.2.2.2.2.2.2.1
theorem xn_q480 {U : State} (h : xN U) : va_Nw (.methodLinkNest "HurtStreets" 84 ⟨"HurtStreets$Grief", "<init>", "()V"⟩ "HurtStreets") U := h.2.2.2.2.2.2.2.2.2.2.2.2.2.2.2.2.2.2.2.2.2.2.2.2.2.2.2.2.2.2.2.2.1
theorem xn_q490 {U : State} (h : xN U) : va_Nw (.methodLinkNest "HurtStreets" 87 ⟨"HurtStreets$Street", "<init>", "()V"⟩ "HurtStreets") U := h.2.2.2.2.2.2.2.2.2.2.2.2.2.2.2.2.2.2.2.2.2.2.2.2.2.2.2.2.2.2.2.2.2.1
theorem xn_q1391 {U : State} (h : xN U) : va_Nw (.castable "HurtStreets$Loss" "HurtStreets$Street") U := h.2.2.2.2.2.2.2.2.2.2.2.2.2.2.2.2.2.2.2.2.2.2.2.2.2.2.2.2.2.2.2.2.2.2.1
theorem xn_q1392 {U : State} (h : xN U) : va_Nw (.castable "HurtStreets$Quarrel" "HurtStreets$Street") U := h.2.2.2.2.2.2.2.2.2.2.2.2.2.2.2.2.2.2.2.2.2.2.2.2.2.2.2.2.2.2.2.2.2.2.2.1
theorem xn_q1390 {U : State} (h : xN U) : va_Nw (.castable "HurtStreets$Joy" "HurtStreets$Street") U := h.2.2.2.2.2.2.2.2.2.2.2.2.2.2.2.2.2.2.2.2.2.2.2.2.2.2.2.2.2.2.2.2.2.2.2.2.1
theorem xn_q1389 {U : State} (h : xN U) : va_Nw (.castable "HurtStreets$Grief" "HurtStreets$Street") U := h.2.2.2.2.2.2.2.2.2.2.2.2.2.2.2.2.2.2.2.2.2.2.2.2.2.2.2.2.2.2.2.2.2.2.2.2.2
def xK (ω : OM) (U : State) : Prop := va_K ω.1 vwCl (om_tys ω) U ∧ xN U
theorem xK.warm {ω : OM} {s U : State} (h : xK ω s) (hW : s.WarmedH U.vm) : xK ω U := ⟨va_K.moved hW.alike h.1, h.2.warm hW⟩
theorem xN.call {U : State} {g : JFrame} {mk : MethodId} {a : Array Value} (h : xN U) : xN (U.calling g mk a) := by
  obtain ⟨h0, h1, h2, h3, h4, h5, h6, h7, h8, h9, h10, h11, h12, h13, h14, h15, h16, h17, h18, h19, h20, h21, h22, h23, h24, h25, h26, h27, h28, h29, h30, h31, h32, h33, h34, h35, h36, h37⟩ := h
  exact ⟨h0.same rfl rfl, h1.same rfl rfl, h2.same rfl rfl, h3.same rfl rfl, h4.same rfl rfl, h5.same rfl rfl, h6.same rfl rfl, h7.same rfl rfl, h8.same rfl rfl, h9.same rfl rfl, h10.same rfl rfl, h11.same rfl rfl, h12.same rfl rfl, h13.same rfl rfl, h14.same rfl rfl, h15.same rfl rfl, h16.same rfl rfl, h17.same rfl rfl, h18.same rfl rfl, h19.same rfl rfl, h20.same rfl rfl, h21.same rfl rfl, h22.same rfl rfl, h23.same rfl rfl, h24.same rfl rfl, h25.same rfl rfl, h26.same rfl rfl, h27.same rfl rfl, h28.same rfl rfl, h29.same rfl rfl, h30.same rfl rfl, h31.same rfl rfl, h32.same rfl rfl, h33.same rfl rfl, h34.same rfl rfl, h35.same rfl rfl, h36.same rfl rfl, h37.same rfl rfl⟩
theorem x_pre {ω : OM} {u : XS} {s : State} {H : Heap} (hK : xK ω s) (hH : xH ω u H) {As : List Value} : PreS s H (va_Pc As (fun U => xK ω U ∧ xH ω u U.heap)) As := ⟨fun a U g mk q => ⟨q.1, ⟨va_K.moved (u := U) (U := U.calling g mk a) (Vm.Alike.refl U.vm) q.2.1.1, q.2.1.2.call⟩, q.2.2⟩, fun U hU hW => ⟨rfl, hK.warm hW, by rw [hU]; exact hH⟩⟩
theorem x_recv0 {ω : OM} {u : XS} {s : State} {H : Heap} (hK : xK ω s) (hH : xH ω u H) : ∃ cell : Cell, H[ω.2.1 0 99]? = some cell ∧ cell.vm.isStatics = false ∧ s.vm.findClass RX0 = some cell.cls := va_recv hK.1 (gw_one (o := 0) (k := 99) hH.1 rfl rfl) (ci := 0) (q0 := 0) rfl rfl
theorem x_I1 {t : TW} {j : Nat} (hj : j < 3) : xI t (j + 6) 99 = true := by simp [xI, hj]
theorem x_I1a {t : TW} {j k : Nat} (hj : j < 3) (hk : (xl1 k != 0) = true) : xI t (j + 6) k = true := by simp [xI, hj, hk]
theorem x_recv1 {ω : OM} {u : XS} {s : State} {H : Heap} {j : Nat} (hj : j < 3) (hK : xK ω s) (hH : xH ω u H) : ∃ cell : Cell, H[ω.2.1 (j + 6) 99]? = some cell ∧ cell.vm.isStatics = false ∧ s.vm.findClass RX1 = some cell.cls := va_recv hK.1 (gw_one (o := j + 6) (k := 99) hH.1 (x_I1 hj) rfl) (ci := 1) (q0 := 0) rfl rfl
theorem x_preV0 {ω : OM} {u : XS} {s : State} {H : Heap} (hK : xK ω s) (hH : xH ω u H) {As : List Value} : PreV s H RX0 (ω.2.1 0 99) (va_Pc (.ref (ω.2.1 0 99) :: As) (fun U => xK ω U ∧ xH ω u U.heap)) As := ⟨(x_pre hK hH).1, x_recv0 hK hH, fun U hU hW => ⟨rfl, hK.warm hW, by rw [hU]; exact hH⟩⟩
theorem x_preV1 {ω : OM} {u : XS} {s : State} {H : Heap} {j : Nat} (hj : j < 3) (hK : xK ω s) (hH : xH ω u H) {As : List Value} : PreV s H RX1 (ω.2.1 (j + 6) 99) (va_Pc (.ref (ω.2.1 (j + 6) 99) :: As) (fun U => xK ω U ∧ xH ω u U.heap)) As := ⟨(x_pre hK hH).1, x_recv1 hj hK hH, fun U hU hW => ⟨rfl, hK.warm hW, by rw [hU]; exact hH⟩⟩
/-- two states whose cells agree, but for one -/
theorem xE_up {ω : OM} {u u' : XS} {o0 k0 : Nat} {ee : va_E} (ht : u'.2.2.2.2.2.2 = u.2.2.2.2.2.2) (h1 : xE ω u' o0 k0 = ee) (h2 : ∀ o k : Nat, ¬ (o = o0 ∧ k = k0) → xI u.2.2.2.2.2.2 o k = true → xE ω u' o k = xE ω u o k) {H : Heap} (hP : gw_P ω.1 vwCl (xI u.2.2.2.2.2.2) (xad ω u.2.2.2.2.2.2) (up2 (xE ω u) o0 k0 ee) H) (hH : gw_D ω.2.2.1 (xI u.2.2.2.2.2.2) (xad ω u.2.2.2.2.2.2) ∧ tOK u.2.2.2.2.2.2) : xH ω u' H := by
  unfold xH
  rw [ht]
  refine ⟨hP.to (fun o k hi => ⟨hi, ?_⟩), hH⟩
  by_cases hq : o = o0 ∧ k = k0
  · obtain ⟨q1, q2⟩ := hq
    subst q1; subst q2
    rw [up2_self, h1]
  · rw [up2_ne _ _ hq, h2 o k hq hi]
/-- the cells by their parts -/
theorem xE_same {ω : OM} {u u' : XS} (ht : u'.2.2.2.2.2.2 = u.2.2.2.2.2.2) {o0 k0 : Nat} (hF0 : ¬ (0 = o0 ∧ 99 = k0) → xF0 ω u' = xF0 ω u) (hF1 : ∀ o : Nat, ¬ (o = o0 ∧ 99 = k0) → xF1 ω u' o = xF1 ω u o) (hpg : ¬ (0 = o0 ∧ 6 = k0) → u'.2.2.2.2.2.1 = u.2.2.2.2.2.1) (hc0 : ∀ k : Nat, ¬ (0 = o0 ∧ k = k0) → xc0 u' k = xc0 u k) (hc1 : ∀ o k : Nat, ¬ (o = o0 ∧ k = k0) → xc1 u' o k = xc1 u o k) : ∀ o k : Nat, ¬ (o = o0 ∧ k = k0) → xI u.2.2.2.2.2.2 o k = true → xE ω u' o k = xE ω u o k := by
  intro o k hq hi
  match o with
  | 0 =>
    show (if k = 99 then _ else if k = 6 then _ else _) = (if k = 99 then _ else if k = 6 then _ else _)
    by_cases h9 : k = 99
    · subst h9
      rw [if_pos rfl, if_pos rfl, hF0 hq]
    · rw [if_neg h9, if_neg h9]
      by_cases h6 : k = 6
      · subst h6
        rw [if_pos rfl, if_pos rfl, hpg hq]
      · rw [if_neg h6, if_neg h6, hc0 k hq]
  | 1 =>
    show (if k = 99 then _ else _) = (if k = 99 then _ else _)
    rw [ht]
  | 2 =>
    show (.inr _ : va_E) = .inr _
    rw [ht]
  | j + 3 =>
    show (if k = 99 then _ else _) = (if k = 99 then _ else _)
    by_cases h9 : k = 99
    · subst h9
      rw [if_pos rfl, if_pos rfl, hF1 _ hq]
    · rw [if_neg h9, if_neg h9, hc1 _ k hq]
theorem x_ext {ω : OM} {g g' : Nat → Nat → Nat} {y y' : Nat → Nat → Int32} {a a' z z' : Nat → Nat → Nat → Int32} {dr : Int64} {pg : Nat → Int32} {t : TW} {H : Heap} (hg : ∀ o k, g' o k = g o k) (hy : ∀ o k, y' o k = y o k) (ha : ∀ o k, a' o k = a o k) (hz : ∀ o k, z' o k = z o k) (h : xH ω (g, y, a, z, dr, pg, t) H) : xH ω (g', y', a', z', dr, pg, t) H := by
  rw [show g' = g from funext fun o => funext (hg o), show y' = y from funext fun o => funext (hy o), show a' = a from funext fun o => funext (ha o), show z' = z from funext fun o => funext (hz o)]
  exact h
section XROWS
variable {p : Program} {l : Launch} {e : Env} {R : Room} {s : State} {m : MethodId} {args : Array Value} {below : List Frame} {meth : Method} {c : Code} {H : Heap} {locs : List Loc} {cells slots : Nat} {Q : State → Prop} {cc : ByteArray} {pc nL index : Nat} {ls : Array Slot} {rest : List Value} {ω : OM} {own : String}
variable {g g' : Nat → Nat → Nat} {y y' : Nat → Nat → Int32} {a a' z z' : Nat → Nat → Nat → Int32} {dr dr' : Int64} {pg pg' : Nat → Int32} {t : TW} {j : Nat}
theorem xg0_0 (hF : CallFix p m c cc nL s args lw_all RX0) (hK : xK ω s) (hH : xH ω (g, y, a, z, dr, pg, t) H) (hlink : Cond.fieldLink "HurtStreets" index "HurtStreets" "streets" "Ljava/util/ArrayList;" ∈ lw_all) (hdg : decode cc pc = .ok (.getfield index, 3)) (kk : W p l e R s m args below meth c H locs cells slots Q (F0 m (pc + 3) ls (.ref (ω.2.1 1 99) :: rest))) : W p l e R s m args below meth c H locs cells slots Q (F0 m pc ls (.ref (ω.2.1 0 99) :: rest)) := by
  exact va_get hF.1 hF.2.1 hF.2.2.2.2 in_X0 hF.2.2.2.1 hK.1 (gw_one (o := 0) (k := 99) hH.1 rfl rfl) 0 rfl rfl 0 (by decide) (hF.2.2.2.2 _ hlink) (fun _ h => h) rfl hdg kk
theorem xg0_1 (hF : CallFix p m c cc nL s args lw_all RX0) (hK : xK ω s) (hH : xH ω (g, y, a, z, dr, pg, t) H) (hlink : Cond.fieldLink "HurtStreets" index "HurtStreets" "people" "I" ∈ lw_all) (hdg : decode cc pc = .ok (.getfield index, 3)) {v : Nat} (hv : g 0 1 = v) (kk : W p l e R s m args below meth c H locs cells slots Q (F0 m (pc + 3) ls (.int (nI v) :: rest))) : W p l e R s m args below meth c H locs cells slots Q (F0 m pc ls (.ref (ω.2.1 0 99) :: rest)) := by
  subst hv
  exact va_get hF.1 hF.2.1 hF.2.2.2.2 in_X0 hF.2.2.2.1 hK.1 (gw_one (o := 0) (k := 99) hH.1 rfl rfl) 0 rfl rfl 1 (by decide) (hF.2.2.2.2 _ hlink) (fun _ h => h) rfl hdg kk
theorem xg0_2 (hF : CallFix p m c cc nL s args lw_all RX0) (hK : xK ω s) (hH : xH ω (g, y, a, z, dr, pg, t) H) (hlink : Cond.fieldLink "HurtStreets" index "HurtStreets" "towns" "I" ∈ lw_all) (hdg : decode cc pc = .ok (.getfield index, 3)) {v : Nat} (hv : g 0 2 = v) (kk : W p l e R s m args below meth c H locs cells slots Q (F0 m (pc + 3) ls (.int (nI v) :: rest))) : W p l e R s m args below meth c H locs cells slots Q (F0 m pc ls (.ref (ω.2.1 0 99) :: rest)) := by
  subst hv
  exact va_get hF.1 hF.2.1 hF.2.2.2.2 in_X0 hF.2.2.2.1 hK.1 (gw_one (o := 0) (k := 99) hH.1 rfl rfl) 0 rfl rfl 2 (by decide) (hF.2.2.2.2 _ hlink) (fun _ h => h) rfl hdg kk
theorem xg0_3 (hF : CallFix p m c cc nL s args lw_all RX0) (hK : xK ω s) (hH : xH ω (g, y, a, z, dr, pg, t) H) (hlink : Cond.fieldLink "HurtStreets" index "HurtStreets" "state" "LHurtStreets$State;" ∈ lw_all) (hdg : decode cc pc = .ok (.getfield index, 3)) (kk : W p l e R s m args below meth c H locs cells slots Q (F0 m (pc + 3) ls (.ref (ω.2.1 (0 + 6) 99) :: rest))) : W p l e R s m args below meth c H locs cells slots Q (F0 m pc ls (.ref (ω.2.1 0 99) :: rest)) := by
  exact va_get hF.1 hF.2.1 hF.2.2.2.2 in_X0 hF.2.2.2.1 hK.1 (gw_one (o := 0) (k := 99) hH.1 rfl rfl) 0 rfl rfl 3 (by decide) (hF.2.2.2.2 _ hlink) (fun _ h => h) rfl hdg kk
theorem xg0_4 (hF : CallFix p m c cc nL s args lw_all RX0) (hK : xK ω s) (hH : xH ω (g, y, a, z, dr, pg, t) H) (hlink : Cond.fieldLink "HurtStreets" index "HurtStreets" "thought" "LHurtStreets$State;" ∈ lw_all) (hdg : decode cc pc = .ok (.getfield index, 3)) (kk : W p l e R s m args below meth c H locs cells slots Q (F0 m (pc + 3) ls (.ref (ω.2.1 (1 + 6) 99) :: rest))) : W p l e R s m args below meth c H locs cells slots Q (F0 m pc ls (.ref (ω.2.1 0 99) :: rest)) := by
  exact va_get hF.1 hF.2.1 hF.2.2.2.2 in_X0 hF.2.2.2.1 hK.1 (gw_one (o := 0) (k := 99) hH.1 rfl rfl) 0 rfl rfl 4 (by decide) (hF.2.2.2.2 _ hlink) (fun _ h => h) rfl hdg kk
theorem xg0_5 (hF : CallFix p m c cc nL s args lw_all RX0) (hK : xK ω s) (hH : xH ω (g, y, a, z, dr, pg, t) H) (hlink : Cond.fieldLink "HurtStreets" index "HurtStreets" "kept" "LHurtStreets$State;" ∈ lw_all) (hdg : decode cc pc = .ok (.getfield index, 3)) (kk : W p l e R s m args below meth c H locs cells slots Q (F0 m (pc + 3) ls (.ref (ω.2.1 (2 + 6) 99) :: rest))) : W p l e R s m args below meth c H locs cells slots Q (F0 m pc ls (.ref (ω.2.1 0 99) :: rest)) := by
  exact va_get hF.1 hF.2.1 hF.2.2.2.2 in_X0 hF.2.2.2.1 hK.1 (gw_one (o := 0) (k := 99) hH.1 rfl rfl) 0 rfl rfl 5 (by decide) (hF.2.2.2.2 _ hlink) (fun _ h => h) rfl hdg kk
theorem xg0_6 (hF : CallFix p m c cc nL s args lw_all RX0) (hK : xK ω s) (hH : xH ω (g, y, a, z, dr, pg, t) H) (hlink : Cond.fieldLink "HurtStreets" index "HurtStreets" "page" "[B" ∈ lw_all) (hdg : decode cc pc = .ok (.getfield index, 3)) (kk : W p l e R s m args below meth c H locs cells slots Q (F0 m (pc + 3) ls (.ref (ω.2.1 0 6) :: rest))) : W p l e R s m args below meth c H locs cells slots Q (F0 m pc ls (.ref (ω.2.1 0 99) :: rest)) := by
  exact va_get hF.1 hF.2.1 hF.2.2.2.2 in_X0 hF.2.2.2.1 hK.1 (gw_one (o := 0) (k := 99) hH.1 rfl rfl) 0 rfl rfl 6 (by decide) (hF.2.2.2.2 _ hlink) (fun _ h => h) rfl hdg kk
theorem xg0_7 (hF : CallFix p m c cc nL s args lw_all RX0) (hK : xK ω s) (hH : xH ω (g, y, a, z, dr, pg, t) H) (hlink : Cond.fieldLink "HurtStreets" index "HurtStreets" "pageLength" "I" ∈ lw_all) (hdg : decode cc pc = .ok (.getfield index, 3)) {v : Nat} (hv : g 0 7 = v) (kk : W p l e R s m args below meth c H locs cells slots Q (F0 m (pc + 3) ls (.int (nI v) :: rest))) : W p l e R s m args below meth c H locs cells slots Q (F0 m pc ls (.ref (ω.2.1 0 99) :: rest)) := by
  subst hv
  exact va_get hF.1 hF.2.1 hF.2.2.2.2 in_X0 hF.2.2.2.1 hK.1 (gw_one (o := 0) (k := 99) hH.1 rfl rfl) 0 rfl rfl 7 (by decide) (hF.2.2.2.2 _ hlink) (fun _ h => h) rfl hdg kk
theorem xg0_8 (hF : CallFix p m c cc nL s args lw_all RX0) (hK : xK ω s) (hH : xH ω (g, y, a, z, dr, pg, t) H) (hlink : Cond.fieldLink "HurtStreets" index "HurtStreets" "leastBy" "[I" ∈ lw_all) (hdg : decode cc pc = .ok (.getfield index, 3)) (kk : W p l e R s m args below meth c H locs cells slots Q (F0 m (pc + 3) ls (.ref (ω.2.1 0 8) :: rest))) : W p l e R s m args below meth c H locs cells slots Q (F0 m pc ls (.ref (ω.2.1 0 99) :: rest)) := by
  exact va_get hF.1 hF.2.1 hF.2.2.2.2 in_X0 hF.2.2.2.1 hK.1 (gw_one (o := 0) (k := 99) hH.1 rfl rfl) 0 rfl rfl 8 (by decide) (hF.2.2.2.2 _ hlink) (fun _ h => h) rfl hdg kk
theorem xg0_9 (hF : CallFix p m c cc nL s args lw_all RX0) (hK : xK ω s) (hH : xH ω (g, y, a, z, dr, pg, t) H) (hlink : Cond.fieldLink "HurtStreets" index "HurtStreets" "matchMany" "I" ∈ lw_all) (hdg : decode cc pc = .ok (.getfield index, 3)) {v : Int32} (hv : y 0 9 = v) (kk : W p l e R s m args below meth c H locs cells slots Q (F0 m (pc + 3) ls (.int v :: rest))) : W p l e R s m args below meth c H locs cells slots Q (F0 m pc ls (.ref (ω.2.1 0 99) :: rest)) := by
  subst hv
  exact va_get hF.1 hF.2.1 hF.2.2.2.2 in_X0 hF.2.2.2.1 hK.1 (gw_one (o := 0) (k := 99) hH.1 rfl rfl) 0 rfl rfl 9 (by decide) (hF.2.2.2.2 _ hlink) (fun _ h => h) rfl hdg kk
theorem xg0_10 (hF : CallFix p m c cc nL s args lw_all RX0) (hK : xK ω s) (hH : xH ω (g, y, a, z, dr, pg, t) H) (hlink : Cond.fieldLink "HurtStreets" index "HurtStreets" "matchHurts" "I" ∈ lw_all) (hdg : decode cc pc = .ok (.getfield index, 3)) {v : Int32} (hv : y 0 10 = v) (kk : W p l e R s m args below meth c H locs cells slots Q (F0 m (pc + 3) ls (.int v :: rest))) : W p l e R s m args below meth c H locs cells slots Q (F0 m pc ls (.ref (ω.2.1 0 99) :: rest)) := by
  subst hv
  exact va_get hF.1 hF.2.1 hF.2.2.2.2 in_X0 hF.2.2.2.1 hK.1 (gw_one (o := 0) (k := 99) hH.1 rfl rfl) 0 rfl rfl 10 (by decide) (hF.2.2.2.2 _ hlink) (fun _ h => h) rfl hdg kk
theorem xg0_11 (hF : CallFix p m c cc nL s args lw_all RX0) (hK : xK ω s) (hH : xH ω (g, y, a, z, dr, pg, t) H) (hlink : Cond.fieldLink "HurtStreets" index "HurtStreets" "matched" "[I" ∈ lw_all) (hdg : decode cc pc = .ok (.getfield index, 3)) (kk : W p l e R s m args below meth c H locs cells slots Q (F0 m (pc + 3) ls (.ref (ω.2.1 0 11) :: rest))) : W p l e R s m args below meth c H locs cells slots Q (F0 m pc ls (.ref (ω.2.1 0 99) :: rest)) := by
  exact va_get hF.1 hF.2.1 hF.2.2.2.2 in_X0 hF.2.2.2.1 hK.1 (gw_one (o := 0) (k := 99) hH.1 rfl rfl) 0 rfl rfl 11 (by decide) (hF.2.2.2.2 _ hlink) (fun _ h => h) rfl hdg kk
theorem xg0_12 (hF : CallFix p m c cc nL s args lw_all RX0) (hK : xK ω s) (hH : xH ω (g, y, a, z, dr, pg, t) H) (hlink : Cond.fieldLink "HurtStreets" index "HurtStreets" "seen" "I" ∈ lw_all) (hdg : decode cc pc = .ok (.getfield index, 3)) {v : Nat} (hv : g 0 12 = v) (kk : W p l e R s m args below meth c H locs cells slots Q (F0 m (pc + 3) ls (.int (nI v) :: rest))) : W p l e R s m args below meth c H locs cells slots Q (F0 m pc ls (.ref (ω.2.1 0 99) :: rest)) := by
  subst hv
  exact va_get hF.1 hF.2.1 hF.2.2.2.2 in_X0 hF.2.2.2.1 hK.1 (gw_one (o := 0) (k := 99) hH.1 rfl rfl) 0 rfl rfl 12 (by decide) (hF.2.2.2.2 _ hlink) (fun _ h => h) rfl hdg kk
theorem xg0_13 (hF : CallFix p m c cc nL s args lw_all RX0) (hK : xK ω s) (hH : xH ω (g, y, a, z, dr, pg, t) H) (hlink : Cond.fieldLink "HurtStreets" index "HurtStreets" "seenWho" "[I" ∈ lw_all) (hdg : decode cc pc = .ok (.getfield index, 3)) (kk : W p l e R s m args below meth c H locs cells slots Q (F0 m (pc + 3) ls (.ref (ω.2.1 0 13) :: rest))) : W p l e R s m args below meth c H locs cells slots Q (F0 m pc ls (.ref (ω.2.1 0 99) :: rest)) := by
  exact va_get hF.1 hF.2.1 hF.2.2.2.2 in_X0 hF.2.2.2.1 hK.1 (gw_one (o := 0) (k := 99) hH.1 rfl rfl) 0 rfl rfl 13 (by decide) (hF.2.2.2.2 _ hlink) (fun _ h => h) rfl hdg kk
theorem xg0_14 (hF : CallFix p m c cc nL s args lw_all RX0) (hK : xK ω s) (hH : xH ω (g, y, a, z, dr, pg, t) H) (hlink : Cond.fieldLink "HurtStreets" index "HurtStreets" "seenFrom" "[I" ∈ lw_all) (hdg : decode cc pc = .ok (.getfield index, 3)) (kk : W p l e R s m args below meth c H locs cells slots Q (F0 m (pc + 3) ls (.ref (ω.2.1 0 14) :: rest))) : W p l e R s m args below meth c H locs cells slots Q (F0 m pc ls (.ref (ω.2.1 0 99) :: rest)) := by
  exact va_get hF.1 hF.2.1 hF.2.2.2.2 in_X0 hF.2.2.2.1 hK.1 (gw_one (o := 0) (k := 99) hH.1 rfl rfl) 0 rfl rfl 14 (by decide) (hF.2.2.2.2 _ hlink) (fun _ h => h) rfl hdg kk
theorem xg0_15 (hF : CallFix p m c cc nL s args lw_all RX0) (hK : xK ω s) (hH : xH ω (g, y, a, z, dr, pg, t) H) (hlink : Cond.fieldLink "HurtStreets" index "HurtStreets" "seenTo" "[I" ∈ lw_all) (hdg : decode cc pc = .ok (.getfield index, 3)) (kk : W p l e R s m args below meth c H locs cells slots Q (F0 m (pc + 3) ls (.ref (ω.2.1 0 15) :: rest))) : W p l e R s m args below meth c H locs cells slots Q (F0 m pc ls (.ref (ω.2.1 0 99) :: rest)) := by
  exact va_get hF.1 hF.2.1 hF.2.2.2.2 in_X0 hF.2.2.2.1 hK.1 (gw_one (o := 0) (k := 99) hH.1 rfl rfl) 0 rfl rfl 15 (by decide) (hF.2.2.2.2 _ hlink) (fun _ h => h) rfl hdg kk
theorem xg0_16 (hF : CallFix p m c cc nL s args lw_all RX0) (hK : xK ω s) (hH : xH ω (g, y, a, z, dr, pg, t) H) (hlink : Cond.fieldLink "HurtStreets" index "HurtStreets" "seenStreet" "[I" ∈ lw_all) (hdg : decode cc pc = .ok (.getfield index, 3)) (kk : W p l e R s m args below meth c H locs cells slots Q (F0 m (pc + 3) ls (.ref (ω.2.1 0 16) :: rest))) : W p l e R s m args below meth c H locs cells slots Q (F0 m pc ls (.ref (ω.2.1 0 99) :: rest)) := by
  exact va_get hF.1 hF.2.1 hF.2.2.2.2 in_X0 hF.2.2.2.1 hK.1 (gw_one (o := 0) (k := 99) hH.1 rfl rfl) 0 rfl rfl 16 (by decide) (hF.2.2.2.2 _ hlink) (fun _ h => h) rfl hdg kk
theorem xg0_17 (hF : CallFix p m c cc nL s args lw_all RX0) (hK : xK ω s) (hH : xH ω (g, y, a, z, dr, pg, t) H) (hlink : Cond.fieldLink "HurtStreets" index "HurtStreets" "firstOf" "[I" ∈ lw_all) (hdg : decode cc pc = .ok (.getfield index, 3)) (kk : W p l e R s m args below meth c H locs cells slots Q (F0 m (pc + 3) ls (.ref (ω.2.1 0 17) :: rest))) : W p l e R s m args below meth c H locs cells slots Q (F0 m pc ls (.ref (ω.2.1 0 99) :: rest)) := by
  exact va_get hF.1 hF.2.1 hF.2.2.2.2 in_X0 hF.2.2.2.1 hK.1 (gw_one (o := 0) (k := 99) hH.1 rfl rfl) 0 rfl rfl 17 (by decide) (hF.2.2.2.2 _ hlink) (fun _ h => h) rfl hdg kk
theorem xg0_18 (hF : CallFix p m c cc nL s args lw_all RX0) (hK : xK ω s) (hH : xH ω (g, y, a, z, dr, pg, t) H) (hlink : Cond.fieldLink "HurtStreets" index "HurtStreets" "drawn" "J" ∈ lw_all) (hdg : decode cc pc = .ok (.getfield index, 3)) (kk : W p l e R s m args below meth c H locs cells slots Q (F0 m (pc + 3) ls (.long dr :: rest))) : W p l e R s m args below meth c H locs cells slots Q (F0 m pc ls (.ref (ω.2.1 0 99) :: rest)) := by
  exact va_get hF.1 hF.2.1 hF.2.2.2.2 in_X0 hF.2.2.2.1 hK.1 (gw_one (o := 0) (k := 99) hH.1 rfl rfl) 0 rfl rfl 18 (by decide) (hF.2.2.2.2 _ hlink) (fun _ h => h) rfl hdg kk
theorem xg0_19 (hF : CallFix p m c cc nL s args lw_all RX0) (hK : xK ω s) (hH : xH ω (g, y, a, z, dr, pg, t) H) (hlink : Cond.fieldLink "HurtStreets" index "HurtStreets" "keptTown" "I" ∈ lw_all) (hdg : decode cc pc = .ok (.getfield index, 3)) {v : Nat} (hv : g 0 19 = v) (kk : W p l e R s m args below meth c H locs cells slots Q (F0 m (pc + 3) ls (.int (nI v) :: rest))) : W p l e R s m args below meth c H locs cells slots Q (F0 m pc ls (.ref (ω.2.1 0 99) :: rest)) := by
  subst hv
  exact va_get hF.1 hF.2.1 hF.2.2.2.2 in_X0 hF.2.2.2.1 hK.1 (gw_one (o := 0) (k := 99) hH.1 rfl rfl) 0 rfl rfl 19 (by decide) (hF.2.2.2.2 _ hlink) (fun _ h => h) rfl hdg kk
theorem xg0_20 (hF : CallFix p m c cc nL s args lw_all RX0) (hK : xK ω s) (hH : xH ω (g, y, a, z, dr, pg, t) H) (hlink : Cond.fieldLink "HurtStreets" index "HurtStreets" "keptSeen" "I" ∈ lw_all) (hdg : decode cc pc = .ok (.getfield index, 3)) {v : Nat} (hv : g 0 20 = v) (kk : W p l e R s m args below meth c H locs cells slots Q (F0 m (pc + 3) ls (.int (nI v) :: rest))) : W p l e R s m args below meth c H locs cells slots Q (F0 m pc ls (.ref (ω.2.1 0 99) :: rest)) := by
  subst hv
  exact va_get hF.1 hF.2.1 hF.2.2.2.2 in_X0 hF.2.2.2.1 hK.1 (gw_one (o := 0) (k := 99) hH.1 rfl rfl) 0 rfl rfl 20 (by decide) (hF.2.2.2.2 _ hlink) (fun _ h => h) rfl hdg kk
theorem xg0_21 (hF : CallFix p m c cc nL s args lw_all RX0) (hK : xK ω s) (hH : xH ω (g, y, a, z, dr, pg, t) H) (hlink : Cond.fieldLink "HurtStreets" index "HurtStreets" "keptWho" "[I" ∈ lw_all) (hdg : decode cc pc = .ok (.getfield index, 3)) (kk : W p l e R s m args below meth c H locs cells slots Q (F0 m (pc + 3) ls (.ref (ω.2.1 0 21) :: rest))) : W p l e R s m args below meth c H locs cells slots Q (F0 m pc ls (.ref (ω.2.1 0 99) :: rest)) := by
  exact va_get hF.1 hF.2.1 hF.2.2.2.2 in_X0 hF.2.2.2.1 hK.1 (gw_one (o := 0) (k := 99) hH.1 rfl rfl) 0 rfl rfl 21 (by decide) (hF.2.2.2.2 _ hlink) (fun _ h => h) rfl hdg kk
theorem xg0_22 (hF : CallFix p m c cc nL s args lw_all RX0) (hK : xK ω s) (hH : xH ω (g, y, a, z, dr, pg, t) H) (hlink : Cond.fieldLink "HurtStreets" index "HurtStreets" "keptFrom" "[I" ∈ lw_all) (hdg : decode cc pc = .ok (.getfield index, 3)) (kk : W p l e R s m args below meth c H locs cells slots Q (F0 m (pc + 3) ls (.ref (ω.2.1 0 22) :: rest))) : W p l e R s m args below meth c H locs cells slots Q (F0 m pc ls (.ref (ω.2.1 0 99) :: rest)) := by
  exact va_get hF.1 hF.2.1 hF.2.2.2.2 in_X0 hF.2.2.2.1 hK.1 (gw_one (o := 0) (k := 99) hH.1 rfl rfl) 0 rfl rfl 22 (by decide) (hF.2.2.2.2 _ hlink) (fun _ h => h) rfl hdg kk
theorem xg0_23 (hF : CallFix p m c cc nL s args lw_all RX0) (hK : xK ω s) (hH : xH ω (g, y, a, z, dr, pg, t) H) (hlink : Cond.fieldLink "HurtStreets" index "HurtStreets" "keptTo" "[I" ∈ lw_all) (hdg : decode cc pc = .ok (.getfield index, 3)) (kk : W p l e R s m args below meth c H locs cells slots Q (F0 m (pc + 3) ls (.ref (ω.2.1 0 23) :: rest))) : W p l e R s m args below meth c H locs cells slots Q (F0 m pc ls (.ref (ω.2.1 0 99) :: rest)) := by
  exact va_get hF.1 hF.2.1 hF.2.2.2.2 in_X0 hF.2.2.2.1 hK.1 (gw_one (o := 0) (k := 99) hH.1 rfl rfl) 0 rfl rfl 23 (by decide) (hF.2.2.2.2 _ hlink) (fun _ h => h) rfl hdg kk
theorem xg0_24 (hF : CallFix p m c cc nL s args lw_all RX0) (hK : xK ω s) (hH : xH ω (g, y, a, z, dr, pg, t) H) (hlink : Cond.fieldLink "HurtStreets" index "HurtStreets" "keptStreet" "[I" ∈ lw_all) (hdg : decode cc pc = .ok (.getfield index, 3)) (kk : W p l e R s m args below meth c H locs cells slots Q (F0 m (pc + 3) ls (.ref (ω.2.1 0 24) :: rest))) : W p l e R s m args below meth c H locs cells slots Q (F0 m pc ls (.ref (ω.2.1 0 99) :: rest)) := by
  exact va_get hF.1 hF.2.1 hF.2.2.2.2 in_X0 hF.2.2.2.1 hK.1 (gw_one (o := 0) (k := 99) hH.1 rfl rfl) 0 rfl rfl 24 (by decide) (hF.2.2.2.2 _ hlink) (fun _ h => h) rfl hdg kk
theorem xg1_0 (hj : j < 3) (hF : CallFix p m c cc nL s args lw_all RX1) (hK : xK ω s) (hH : xH ω (g, y, a, z, dr, pg, t) H) (hlink : Cond.fieldLink "HurtStreets$State" index "HurtStreets$State" "tender" "[I" ∈ lw_all) (hdg : decode cc pc = .ok (.getfield index, 3)) (kk : W p l e R s m args below meth c H locs cells slots Q (F0 m (pc + 3) ls (.ref (ω.2.1 (j + 6) 0) :: rest))) : W p l e R s m args below meth c H locs cells slots Q (F0 m pc ls (.ref (ω.2.1 (j + 6) 99) :: rest)) := by
  exact va_get hF.1 hF.2.1 hF.2.2.2.2 in_X1 hF.2.2.2.1 hK.1 (gw_one (o := j + 6) (k := 99) hH.1 (x_I1 hj) rfl) 0 rfl rfl 0 (by decide) (hF.2.2.2.2 _ hlink) (fun _ h => h) rfl hdg kk
theorem xg1_1 (hj : j < 3) (hF : CallFix p m c cc nL s args lw_all RX1) (hK : xK ω s) (hH : xH ω (g, y, a, z, dr, pg, t) H) (hlink : Cond.fieldLink "HurtStreets$State" index "HurtStreets$State" "often" "[I" ∈ lw_all) (hdg : decode cc pc = .ok (.getfield index, 3)) (kk : W p l e R s m args below meth c H locs cells slots Q (F0 m (pc + 3) ls (.ref (ω.2.1 (j + 6) 1) :: rest))) : W p l e R s m args below meth c H locs cells slots Q (F0 m pc ls (.ref (ω.2.1 (j + 6) 99) :: rest)) := by
  exact va_get hF.1 hF.2.1 hF.2.2.2.2 in_X1 hF.2.2.2.1 hK.1 (gw_one (o := j + 6) (k := 99) hH.1 (x_I1 hj) rfl) 0 rfl rfl 1 (by decide) (hF.2.2.2.2 _ hlink) (fun _ h => h) rfl hdg kk
theorem xg1_2 (hj : j < 3) (hF : CallFix p m c cc nL s args lw_all RX1) (hK : xK ω s) (hH : xH ω (g, y, a, z, dr, pg, t) H) (hlink : Cond.fieldLink "HurtStreets$State" index "HurtStreets$State" "taken" "[I" ∈ lw_all) (hdg : decode cc pc = .ok (.getfield index, 3)) (kk : W p l e R s m args below meth c H locs cells slots Q (F0 m (pc + 3) ls (.ref (ω.2.1 (j + 6) 2) :: rest))) : W p l e R s m args below meth c H locs cells slots Q (F0 m pc ls (.ref (ω.2.1 (j + 6) 99) :: rest)) := by
  exact va_get hF.1 hF.2.1 hF.2.2.2.2 in_X1 hF.2.2.2.1 hK.1 (gw_one (o := j + 6) (k := 99) hH.1 (x_I1 hj) rfl) 0 rfl rfl 2 (by decide) (hF.2.2.2.2 _ hlink) (fun _ h => h) rfl hdg kk
theorem xg1_3 (hj : j < 3) (hF : CallFix p m c cc nL s args lw_all RX1) (hK : xK ω s) (hH : xH ω (g, y, a, z, dr, pg, t) H) (hlink : Cond.fieldLink "HurtStreets$State" index "HurtStreets$State" "hurt" "[I" ∈ lw_all) (hdg : decode cc pc = .ok (.getfield index, 3)) (kk : W p l e R s m args below meth c H locs cells slots Q (F0 m (pc + 3) ls (.ref (ω.2.1 (j + 6) 3) :: rest))) : W p l e R s m args below meth c H locs cells slots Q (F0 m pc ls (.ref (ω.2.1 (j + 6) 99) :: rest)) := by
  exact va_get hF.1 hF.2.1 hF.2.2.2.2 in_X1 hF.2.2.2.1 hK.1 (gw_one (o := j + 6) (k := 99) hH.1 (x_I1 hj) rfl) 0 rfl rfl 3 (by decide) (hF.2.2.2.2 _ hlink) (fun _ h => h) rfl hdg kk
theorem xg1_4 (hj : j < 3) (hF : CallFix p m c cc nL s args lw_all RX1) (hK : xK ω s) (hH : xH ω (g, y, a, z, dr, pg, t) H) (hlink : Cond.fieldLink "HurtStreets$State" index "HurtStreets$State" "waitsAt" "[I" ∈ lw_all) (hdg : decode cc pc = .ok (.getfield index, 3)) (kk : W p l e R s m args below meth c H locs cells slots Q (F0 m (pc + 3) ls (.ref (ω.2.1 (j + 6) 4) :: rest))) : W p l e R s m args below meth c H locs cells slots Q (F0 m pc ls (.ref (ω.2.1 (j + 6) 99) :: rest)) := by
  exact va_get hF.1 hF.2.1 hF.2.2.2.2 in_X1 hF.2.2.2.1 hK.1 (gw_one (o := j + 6) (k := 99) hH.1 (x_I1 hj) rfl) 0 rfl rfl 4 (by decide) (hF.2.2.2.2 _ hlink) (fun _ h => h) rfl hdg kk
theorem xg1_5 (hj : j < 3) (hF : CallFix p m c cc nL s args lw_all RX1) (hK : xK ω s) (hH : xH ω (g, y, a, z, dr, pg, t) H) (hlink : Cond.fieldLink "HurtStreets$State" index "HurtStreets$State" "waitsFor" "[I" ∈ lw_all) (hdg : decode cc pc = .ok (.getfield index, 3)) (kk : W p l e R s m args below meth c H locs cells slots Q (F0 m (pc + 3) ls (.ref (ω.2.1 (j + 6) 5) :: rest))) : W p l e R s m args below meth c H locs cells slots Q (F0 m pc ls (.ref (ω.2.1 (j + 6) 99) :: rest)) := by
  exact va_get hF.1 hF.2.1 hF.2.2.2.2 in_X1 hF.2.2.2.1 hK.1 (gw_one (o := j + 6) (k := 99) hH.1 (x_I1 hj) rfl) 0 rfl rfl 5 (by decide) (hF.2.2.2.2 _ hlink) (fun _ h => h) rfl hdg kk
theorem xg1_6 (hj : j < 3) (hF : CallFix p m c cc nL s args lw_all RX1) (hK : xK ω s) (hH : xH ω (g, y, a, z, dr, pg, t) H) (hlink : Cond.fieldLink "HurtStreets$State" index "HurtStreets$State" "at" "[I" ∈ lw_all) (hdg : decode cc pc = .ok (.getfield index, 3)) (kk : W p l e R s m args below meth c H locs cells slots Q (F0 m (pc + 3) ls (.ref (ω.2.1 (j + 6) 6) :: rest))) : W p l e R s m args below meth c H locs cells slots Q (F0 m pc ls (.ref (ω.2.1 (j + 6) 99) :: rest)) := by
  exact va_get hF.1 hF.2.1 hF.2.2.2.2 in_X1 hF.2.2.2.1 hK.1 (gw_one (o := j + 6) (k := 99) hH.1 (x_I1 hj) rfl) 0 rfl rfl 6 (by decide) (hF.2.2.2.2 _ hlink) (fun _ h => h) rfl hdg kk
theorem xg1_7 (hj : j < 3) (hF : CallFix p m c cc nL s args lw_all RX1) (hK : xK ω s) (hH : xH ω (g, y, a, z, dr, pg, t) H) (hlink : Cond.fieldLink "HurtStreets$State" index "HurtStreets$State" "knows" "[I" ∈ lw_all) (hdg : decode cc pc = .ok (.getfield index, 3)) (kk : W p l e R s m args below meth c H locs cells slots Q (F0 m (pc + 3) ls (.ref (ω.2.1 (j + 6) 7) :: rest))) : W p l e R s m args below meth c H locs cells slots Q (F0 m pc ls (.ref (ω.2.1 (j + 6) 99) :: rest)) := by
  exact va_get hF.1 hF.2.1 hF.2.2.2.2 in_X1 hF.2.2.2.1 hK.1 (gw_one (o := j + 6) (k := 99) hH.1 (x_I1 hj) rfl) 0 rfl rfl 7 (by decide) (hF.2.2.2.2 _ hlink) (fun _ h => h) rfl hdg kk
theorem xg1_8 (hj : j < 3) (hF : CallFix p m c cc nL s args lw_all RX1) (hK : xK ω s) (hH : xH ω (g, y, a, z, dr, pg, t) H) (hlink : Cond.fieldLink "HurtStreets$State" index "HurtStreets$State" "made" "[I" ∈ lw_all) (hdg : decode cc pc = .ok (.getfield index, 3)) (kk : W p l e R s m args below meth c H locs cells slots Q (F0 m (pc + 3) ls (.ref (ω.2.1 (j + 6) 8) :: rest))) : W p l e R s m args below meth c H locs cells slots Q (F0 m pc ls (.ref (ω.2.1 (j + 6) 99) :: rest)) := by
  exact va_get hF.1 hF.2.1 hF.2.2.2.2 in_X1 hF.2.2.2.1 hK.1 (gw_one (o := j + 6) (k := 99) hH.1 (x_I1 hj) rfl) 0 rfl rfl 8 (by decide) (hF.2.2.2.2 _ hlink) (fun _ h => h) rfl hdg kk
theorem xg1_9 (hj : j < 3) (hF : CallFix p m c cc nL s args lw_all RX1) (hK : xK ω s) (hH : xH ω (g, y, a, z, dr, pg, t) H) (hlink : Cond.fieldLink "HurtStreets$State" index "HurtStreets$State" "days" "I" ∈ lw_all) (hdg : decode cc pc = .ok (.getfield index, 3)) {v : Nat} (hv : g (j + 6) 9 = v) (kk : W p l e R s m args below meth c H locs cells slots Q (F0 m (pc + 3) ls (.int (nI v) :: rest))) : W p l e R s m args below meth c H locs cells slots Q (F0 m pc ls (.ref (ω.2.1 (j + 6) 99) :: rest)) := by
  subst hv
  exact va_get hF.1 hF.2.1 hF.2.2.2.2 in_X1 hF.2.2.2.1 hK.1 (gw_one (o := j + 6) (k := 99) hH.1 (x_I1 hj) rfl) 0 rfl rfl 9 (by decide) (hF.2.2.2.2 _ hlink) (fun _ h => h) rfl hdg kk
theorem xg1_10 (hj : j < 3) (hF : CallFix p m c cc nL s args lw_all RX1) (hK : xK ω s) (hH : xH ω (g, y, a, z, dr, pg, t) H) (hlink : Cond.fieldLink "HurtStreets$State" index "HurtStreets$State" "costTo" "[I" ∈ lw_all) (hdg : decode cc pc = .ok (.getfield index, 3)) (kk : W p l e R s m args below meth c H locs cells slots Q (F0 m (pc + 3) ls (.ref (ω.2.1 (j + 6) 10) :: rest))) : W p l e R s m args below meth c H locs cells slots Q (F0 m pc ls (.ref (ω.2.1 (j + 6) 99) :: rest)) := by
  exact va_get hF.1 hF.2.1 hF.2.2.2.2 in_X1 hF.2.2.2.1 hK.1 (gw_one (o := j + 6) (k := 99) hH.1 (x_I1 hj) rfl) 0 rfl rfl 10 (by decide) (hF.2.2.2.2 _ hlink) (fun _ h => h) rfl hdg kk
theorem xg1_11 (hj : j < 3) (hF : CallFix p m c cc nL s args lw_all RX1) (hK : xK ω s) (hH : xH ω (g, y, a, z, dr, pg, t) H) (hlink : Cond.fieldLink "HurtStreets$State" index "HurtStreets$State" "row" "[I" ∈ lw_all) (hdg : decode cc pc = .ok (.getfield index, 3)) (kk : W p l e R s m args below meth c H locs cells slots Q (F0 m (pc + 3) ls (.ref (ω.2.1 (j + 6) 11) :: rest))) : W p l e R s m args below meth c H locs cells slots Q (F0 m pc ls (.ref (ω.2.1 (j + 6) 99) :: rest)) := by
  exact va_get hF.1 hF.2.1 hF.2.2.2.2 in_X1 hF.2.2.2.1 hK.1 (gw_one (o := j + 6) (k := 99) hH.1 (x_I1 hj) rfl) 0 rfl rfl 11 (by decide) (hF.2.2.2.2 _ hlink) (fun _ h => h) rfl hdg kk
theorem xg1_12 (hj : j < 3) (hF : CallFix p m c cc nL s args lw_all RX1) (hK : xK ω s) (hH : xH ω (g, y, a, z, dr, pg, t) H) (hlink : Cond.fieldLink "HurtStreets$State" index "HurtStreets$State" "rowMany" "I" ∈ lw_all) (hdg : decode cc pc = .ok (.getfield index, 3)) {v : Int32} (hv : y (j + 6) 12 = v) (kk : W p l e R s m args below meth c H locs cells slots Q (F0 m (pc + 3) ls (.int v :: rest))) : W p l e R s m args below meth c H locs cells slots Q (F0 m pc ls (.ref (ω.2.1 (j + 6) 99) :: rest)) := by
  subst hv
  exact va_get hF.1 hF.2.1 hF.2.2.2.2 in_X1 hF.2.2.2.1 hK.1 (gw_one (o := j + 6) (k := 99) hH.1 (x_I1 hj) rfl) 0 rfl rfl 12 (by decide) (hF.2.2.2.2 _ hlink) (fun _ h => h) rfl hdg kk
theorem xg1_13 (hj : j < 3) (hF : CallFix p m c cc nL s args lw_all RX1) (hK : xK ω s) (hH : xH ω (g, y, a, z, dr, pg, t) H) (hlink : Cond.fieldLink "HurtStreets$State" index "HurtStreets$State" "rowHurts" "I" ∈ lw_all) (hdg : decode cc pc = .ok (.getfield index, 3)) {v : Int32} (hv : y (j + 6) 13 = v) (kk : W p l e R s m args below meth c H locs cells slots Q (F0 m (pc + 3) ls (.int v :: rest))) : W p l e R s m args below meth c H locs cells slots Q (F0 m pc ls (.ref (ω.2.1 (j + 6) 99) :: rest)) := by
  subst hv
  exact va_get hF.1 hF.2.1 hF.2.2.2.2 in_X1 hF.2.2.2.1 hK.1 (gw_one (o := j + 6) (k := 99) hH.1 (x_I1 hj) rfl) 0 rfl rfl 13 (by decide) (hF.2.2.2.2 _ hlink) (fun _ h => h) rfl hdg kk
theorem xg1_14 (hj : j < 3) (hF : CallFix p m c cc nL s args lw_all RX1) (hK : xK ω s) (hH : xH ω (g, y, a, z, dr, pg, t) H) (hlink : Cond.fieldLink "HurtStreets$State" index "HurtStreets$State" "rowLength" "I" ∈ lw_all) (hdg : decode cc pc = .ok (.getfield index, 3)) {v : Int32} (hv : y (j + 6) 14 = v) (kk : W p l e R s m args below meth c H locs cells slots Q (F0 m (pc + 3) ls (.int v :: rest))) : W p l e R s m args below meth c H locs cells slots Q (F0 m pc ls (.ref (ω.2.1 (j + 6) 99) :: rest)) := by
  subst hv
  exact va_get hF.1 hF.2.1 hF.2.2.2.2 in_X1 hF.2.2.2.1 hK.1 (gw_one (o := j + 6) (k := 99) hH.1 (x_I1 hj) rfl) 0 rfl rfl 14 (by decide) (hF.2.2.2.2 _ hlink) (fun _ h => h) rfl hdg kk
theorem xg1_15 (hj : j < 3) (hF : CallFix p m c cc nL s args lw_all RX1) (hK : xK ω s) (hH : xH ω (g, y, a, z, dr, pg, t) H) (hlink : Cond.fieldLink "HurtStreets$State" index "HurtStreets$State" "this$0" "LHurtStreets;" ∈ lw_all) (hdg : decode cc pc = .ok (.getfield index, 3)) (kk : W p l e R s m args below meth c H locs cells slots Q (F0 m (pc + 3) ls (.ref (ω.2.1 0 99) :: rest))) : W p l e R s m args below meth c H locs cells slots Q (F0 m pc ls (.ref (ω.2.1 (j + 6) 99) :: rest)) := by
  exact va_get hF.1 hF.2.1 hF.2.2.2.2 in_X1 hF.2.2.2.1 hK.1 (gw_one (o := j + 6) (k := 99) hH.1 (x_I1 hj) rfl) 0 rfl rfl 15 (by decide) (hF.2.2.2.2 _ hlink) (fun _ h => h) rfl hdg kk
theorem xgN_q224 (hF : CallFix p m c cc nL s args lw_all RX3) (hK : xK ω s) (hH : xH ω (g, y, a, z, dr, pg, t) H)  (hdg : decode cc pc = .ok (.getfield 33, 3)) (kk : W p l e R s m args below meth c H locs cells slots Q (F0 m (pc + 3) ls (.ref (ω.2.1 0 6) :: rest))) : W p l e R s m args below meth c H locs cells slots Q (F0 m pc ls (.ref (ω.2.1 0 99) :: rest)) := by
  exact va_getN hF.1 hF.2.1 hF.2.2.2.2 in_X0 hF.2.2.2.1 hK.1 (gw_one (o := 0) (k := 99) hH.1 rfl rfl) 0 rfl rfl 6 (by decide) ((xn_q224 hK.2).use rfl) (fun _ h => h) rfl hdg kk
theorem xgN_q226 (hF : CallFix p m c cc nL s args lw_all RX3) (hK : xK ω s) (hH : xH ω (g, y, a, z, dr, pg, t) H)  (hdg : decode cc pc = .ok (.getfield 30, 3)) {v : Nat} (hv : g 0 7 = v) (kk : W p l e R s m args below meth c H locs cells slots Q (F0 m (pc + 3) ls (.int (nI v) :: rest))) : W p l e R s m args below meth c H locs cells slots Q (F0 m pc ls (.ref (ω.2.1 0 99) :: rest)) := by
  subst hv
  exact va_getN hF.1 hF.2.1 hF.2.2.2.2 in_X0 hF.2.2.2.1 hK.1 (gw_one (o := 0) (k := 99) hH.1 rfl rfl) 0 rfl rfl 7 (by decide) ((xn_q226 hK.2).use rfl) (fun _ h => h) rfl hdg kk
theorem xgN_q217 (hF : CallFix p m c cc nL s args lw_all RX1) (hK : xK ω s) (hH : xH ω (g, y, a, z, dr, pg, t) H)  (hdg : decode cc pc = .ok (.getfield 53, 3)) (kk : W p l e R s m args below meth c H locs cells slots Q (F0 m (pc + 3) ls (.ref (ω.2.1 1 99) :: rest))) : W p l e R s m args below meth c H locs cells slots Q (F0 m pc ls (.ref (ω.2.1 0 99) :: rest)) := by
  exact va_getN hF.1 hF.2.1 hF.2.2.2.2 in_X0 hF.2.2.2.1 hK.1 (gw_one (o := 0) (k := 99) hH.1 rfl rfl) 0 rfl rfl 0 (by decide) ((xn_q217 hK.2).use rfl) (fun _ h => h) rfl hdg kk
theorem xgN_q155 (hj : j < 3) (hF : CallFix p m c cc nL s args lw_all RX0) (hK : xK ω s) (hH : xH ω (g, y, a, z, dr, pg, t) H)  (hdg : decode cc pc = .ok (.getfield 138, 3)) (kk : W p l e R s m args below meth c H locs cells slots Q (F0 m (pc + 3) ls (.ref (ω.2.1 (j + 6) 0) :: rest))) : W p l e R s m args below meth c H locs cells slots Q (F0 m pc ls (.ref (ω.2.1 (j + 6) 99) :: rest)) := by
  exact va_getN hF.1 hF.2.1 hF.2.2.2.2 in_X1 hF.2.2.2.1 hK.1 (gw_one (o := j + 6) (k := 99) hH.1 (x_I1 hj) rfl) 0 rfl rfl 0 (by decide) ((xn_q155 hK.2).use rfl) (fun _ h => h) rfl hdg kk
theorem xgN_q158 (hj : j < 3) (hF : CallFix p m c cc nL s args lw_all RX0) (hK : xK ω s) (hH : xH ω (g, y, a, z, dr, pg, t) H)  (hdg : decode cc pc = .ok (.getfield 152, 3)) (kk : W p l e R s m args below meth c H locs cells slots Q (F0 m (pc + 3) ls (.ref (ω.2.1 (j + 6) 2) :: rest))) : W p l e R s m args below meth c H locs cells slots Q (F0 m pc ls (.ref (ω.2.1 (j + 6) 99) :: rest)) := by
  exact va_getN hF.1 hF.2.1 hF.2.2.2.2 in_X1 hF.2.2.2.1 hK.1 (gw_one (o := j + 6) (k := 99) hH.1 (x_I1 hj) rfl) 0 rfl rfl 2 (by decide) ((xn_q158 hK.2).use rfl) (fun _ h => h) rfl hdg kk
theorem xgN_q160 (hj : j < 3) (hF : CallFix p m c cc nL s args lw_all RX0) (hK : xK ω s) (hH : xH ω (g, y, a, z, dr, pg, t) H)  (hdg : decode cc pc = .ok (.getfield 155, 3)) (kk : W p l e R s m args below meth c H locs cells slots Q (F0 m (pc + 3) ls (.ref (ω.2.1 (j + 6) 3) :: rest))) : W p l e R s m args below meth c H locs cells slots Q (F0 m pc ls (.ref (ω.2.1 (j + 6) 99) :: rest)) := by
  exact va_getN hF.1 hF.2.1 hF.2.2.2.2 in_X1 hF.2.2.2.1 hK.1 (gw_one (o := j + 6) (k := 99) hH.1 (x_I1 hj) rfl) 0 rfl rfl 3 (by decide) ((xn_q160 hK.2).use rfl) (fun _ h => h) rfl hdg kk
theorem xgN_q162 (hj : j < 3) (hF : CallFix p m c cc nL s args lw_all RX0) (hK : xK ω s) (hH : xH ω (g, y, a, z, dr, pg, t) H)  (hdg : decode cc pc = .ok (.getfield 162, 3)) (kk : W p l e R s m args below meth c H locs cells slots Q (F0 m (pc + 3) ls (.ref (ω.2.1 (j + 6) 4) :: rest))) : W p l e R s m args below meth c H locs cells slots Q (F0 m pc ls (.ref (ω.2.1 (j + 6) 99) :: rest)) := by
  exact va_getN hF.1 hF.2.1 hF.2.2.2.2 in_X1 hF.2.2.2.1 hK.1 (gw_one (o := j + 6) (k := 99) hH.1 (x_I1 hj) rfl) 0 rfl rfl 4 (by decide) ((xn_q162 hK.2).use rfl) (fun _ h => h) rfl hdg kk
theorem xgN_q164 (hj : j < 3) (hF : CallFix p m c cc nL s args lw_all RX0) (hK : xK ω s) (hH : xH ω (g, y, a, z, dr, pg, t) H)  (hdg : decode cc pc = .ok (.getfield 165, 3)) (kk : W p l e R s m args below meth c H locs cells slots Q (F0 m (pc + 3) ls (.ref (ω.2.1 (j + 6) 5) :: rest))) : W p l e R s m args below meth c H locs cells slots Q (F0 m pc ls (.ref (ω.2.1 (j + 6) 99) :: rest)) := by
  exact va_getN hF.1 hF.2.1 hF.2.2.2.2 in_X1 hF.2.2.2.1 hK.1 (gw_one (o := j + 6) (k := 99) hH.1 (x_I1 hj) rfl) 0 rfl rfl 5 (by decide) ((xn_q164 hK.2).use rfl) (fun _ h => h) rfl hdg kk
theorem xgN_q166 (hj : j < 3) (hF : CallFix p m c cc nL s args lw_all RX0) (hK : xK ω s) (hH : xH ω (g, y, a, z, dr, pg, t) H)  (hdg : decode cc pc = .ok (.getfield 276, 3)) (kk : W p l e R s m args below meth c H locs cells slots Q (F0 m (pc + 3) ls (.ref (ω.2.1 (j + 6) 6) :: rest))) : W p l e R s m args below meth c H locs cells slots Q (F0 m pc ls (.ref (ω.2.1 (j + 6) 99) :: rest)) := by
  exact va_getN hF.1 hF.2.1 hF.2.2.2.2 in_X1 hF.2.2.2.1 hK.1 (gw_one (o := j + 6) (k := 99) hH.1 (x_I1 hj) rfl) 0 rfl rfl 6 (by decide) ((xn_q166 hK.2).use rfl) (fun _ h => h) rfl hdg kk
theorem xgN_q168 (hj : j < 3) (hF : CallFix p m c cc nL s args lw_all RX0) (hK : xK ω s) (hH : xH ω (g, y, a, z, dr, pg, t) H)  (hdg : decode cc pc = .ok (.getfield 172, 3)) (kk : W p l e R s m args below meth c H locs cells slots Q (F0 m (pc + 3) ls (.ref (ω.2.1 (j + 6) 7) :: rest))) : W p l e R s m args below meth c H locs cells slots Q (F0 m pc ls (.ref (ω.2.1 (j + 6) 99) :: rest)) := by
  exact va_getN hF.1 hF.2.1 hF.2.2.2.2 in_X1 hF.2.2.2.1 hK.1 (gw_one (o := j + 6) (k := 99) hH.1 (x_I1 hj) rfl) 0 rfl rfl 7 (by decide) ((xn_q168 hK.2).use rfl) (fun _ h => h) rfl hdg kk
theorem xgN_q170 (hj : j < 3) (hF : CallFix p m c cc nL s args lw_all RX0) (hK : xK ω s) (hH : xH ω (g, y, a, z, dr, pg, t) H)  (hdg : decode cc pc = .ok (.getfield 282, 3)) (kk : W p l e R s m args below meth c H locs cells slots Q (F0 m (pc + 3) ls (.ref (ω.2.1 (j + 6) 8) :: rest))) : W p l e R s m args below meth c H locs cells slots Q (F0 m pc ls (.ref (ω.2.1 (j + 6) 99) :: rest)) := by
  exact va_getN hF.1 hF.2.1 hF.2.2.2.2 in_X1 hF.2.2.2.1 hK.1 (gw_one (o := j + 6) (k := 99) hH.1 (x_I1 hj) rfl) 0 rfl rfl 8 (by decide) ((xn_q170 hK.2).use rfl) (fun _ h => h) rfl hdg kk
theorem xgN_q172 (hj : j < 3) (hF : CallFix p m c cc nL s args lw_all RX0) (hK : xK ω s) (hH : xH ω (g, y, a, z, dr, pg, t) H)  (hdg : decode cc pc = .ok (.getfield 206, 3)) {v : Nat} (hv : g (j + 6) 9 = v) (kk : W p l e R s m args below meth c H locs cells slots Q (F0 m (pc + 3) ls (.int (nI v) :: rest))) : W p l e R s m args below meth c H locs cells slots Q (F0 m pc ls (.ref (ω.2.1 (j + 6) 99) :: rest)) := by
  subst hv
  exact va_getN hF.1 hF.2.1 hF.2.2.2.2 in_X1 hF.2.2.2.1 hK.1 (gw_one (o := j + 6) (k := 99) hH.1 (x_I1 hj) rfl) 0 rfl rfl 9 (by decide) ((xn_q172 hK.2).use rfl) (fun _ h => h) rfl hdg kk
theorem xgN_q175 (hj : j < 3) (hF : CallFix p m c cc nL s args lw_all RX0) (hK : xK ω s) (hH : xH ω (g, y, a, z, dr, pg, t) H)  (hdg : decode cc pc = .ok (.getfield 225, 3)) (kk : W p l e R s m args below meth c H locs cells slots Q (F0 m (pc + 3) ls (.ref (ω.2.1 (j + 6) 11) :: rest))) : W p l e R s m args below meth c H locs cells slots Q (F0 m pc ls (.ref (ω.2.1 (j + 6) 99) :: rest)) := by
  exact va_getN hF.1 hF.2.1 hF.2.2.2.2 in_X1 hF.2.2.2.1 hK.1 (gw_one (o := j + 6) (k := 99) hH.1 (x_I1 hj) rfl) 0 rfl rfl 11 (by decide) ((xn_q175 hK.2).use rfl) (fun _ h => h) rfl hdg kk
theorem xgN_q177 (hj : j < 3) (hF : CallFix p m c cc nL s args lw_all RX0) (hK : xK ω s) (hH : xH ω (g, y, a, z, dr, pg, t) H)  (hdg : decode cc pc = .ok (.getfield 222, 3)) {v : Int32} (hv : y (j + 6) 12 = v) (kk : W p l e R s m args below meth c H locs cells slots Q (F0 m (pc + 3) ls (.int v :: rest))) : W p l e R s m args below meth c H locs cells slots Q (F0 m pc ls (.ref (ω.2.1 (j + 6) 99) :: rest)) := by
  subst hv
  exact va_getN hF.1 hF.2.1 hF.2.2.2.2 in_X1 hF.2.2.2.1 hK.1 (gw_one (o := j + 6) (k := 99) hH.1 (x_I1 hj) rfl) 0 rfl rfl 12 (by decide) ((xn_q177 hK.2).use rfl) (fun _ h => h) rfl hdg kk
theorem xgN_q179 (hj : j < 3) (hF : CallFix p m c cc nL s args lw_all RX0) (hK : xK ω s) (hH : xH ω (g, y, a, z, dr, pg, t) H)  (hdg : decode cc pc = .ok (.getfield 216, 3)) {v : Int32} (hv : y (j + 6) 13 = v) (kk : W p l e R s m args below meth c H locs cells slots Q (F0 m (pc + 3) ls (.int v :: rest))) : W p l e R s m args below meth c H locs cells slots Q (F0 m pc ls (.ref (ω.2.1 (j + 6) 99) :: rest)) := by
  subst hv
  exact va_getN hF.1 hF.2.1 hF.2.2.2.2 in_X1 hF.2.2.2.1 hK.1 (gw_one (o := j + 6) (k := 99) hH.1 (x_I1 hj) rfl) 0 rfl rfl 13 (by decide) ((xn_q179 hK.2).use rfl) (fun _ h => h) rfl hdg kk
theorem xgN_q181 (hj : j < 3) (hF : CallFix p m c cc nL s args lw_all RX0) (hK : xK ω s) (hH : xH ω (g, y, a, z, dr, pg, t) H)  (hdg : decode cc pc = .ok (.getfield 219, 3)) {v : Int32} (hv : y (j + 6) 14 = v) (kk : W p l e R s m args below meth c H locs cells slots Q (F0 m (pc + 3) ls (.int v :: rest))) : W p l e R s m args below meth c H locs cells slots Q (F0 m pc ls (.ref (ω.2.1 (j + 6) 99) :: rest)) := by
  subst hv
  exact va_getN hF.1 hF.2.1 hF.2.2.2.2 in_X1 hF.2.2.2.1 hK.1 (gw_one (o := j + 6) (k := 99) hH.1 (x_I1 hj) rfl) 0 rfl rfl 14 (by decide) ((xn_q181 hK.2).use rfl) (fun _ h => h) rfl hdg kk
theorem xp0_1 (hF : CallFix p m c cc nL s args lw_all RX0) (hK : xK ω s) (hH : xH ω (g, y, a, z, dr, pg, t) H) (hS : va_S ω.2.2.1 s.heap H locs) (hlink : Cond.fieldLink "HurtStreets" index "HurtStreets" "people" "I" ∈ lw_all) (hdg : decode cc pc = .ok (.putfield index, 3)) {v : Nat} (h1 : g' 0 1 = v) (h2 : ∀ i k, ¬ (i = 0 ∧ k = 1) → g' i k = g i k) (kk : ∀ (H : Heap) (locs : List Loc), xH ω (g', y, a, z, dr, pg, t) H → va_S ω.2.2.1 s.heap H locs → W p l e R s m args below meth c H locs cells slots Q (F0 m (pc + 3) ls rest)) : W p l e R s m args below meth c H locs cells slots Q (F0 m pc ls (.int (nI v) :: .ref (ω.2.1 0 99) :: rest)) := by
  refine gw_put (o := 0) (k0 := 99) hF.1 hF.2.1 hF.2.2.2.2 in_X0 tyX0 tyX0_ok nmX0 hF.2.2.2.1 hK.1 hH.1 hH.2.1 hS rfl (fs := xF0 ω (g, y, a, z, dr, pg, t)) rfl rfl 1 (by decide) (hF.2.2.2.2 _ hlink) (fun _ h => h) rfl (ty := .int) (by decide +kernel) rfl rfl (Nat.le_of_ble_eq_true rfl) hdg (fun H1 locs1 hP hS1 => kk H1 locs1 (xE_up (u := (g, y, a, z, dr, pg, t)) (u' := (g', y, a, z, dr, pg, t)) rfl ?_ (xE_same (u' := (g', y, a, z, dr, pg, t)) (u := (g, y, a, z, dr, pg, t)) rfl ?_ ?_ (fun _ => rfl) (fun _ _ => rfl) (fun _ _ _ => rfl)) hP hH.2) hS1)
  · show (.inr (0, xF0 ω (g', y, a, z, dr, pg, t)) : va_E) = .inr (0, (xF0 ω (g, y, a, z, dr, pg, t)).set 1 (.int (nI v)))
    simp only [xF0, List.set, h1, h2 0 2 (by decide), h2 0 7 (by decide), h2 0 12 (by decide), h2 0 19 (by decide), h2 0 20 (by decide)]
  · exact fun q => absurd ⟨rfl, rfl⟩ q
  · intro i q
    have q0 : ¬ i = 0 := fun z => q ⟨z, rfl⟩
    simp only [xF1, h2 i 9 (fun z => q0 z.1)]
theorem xp0_2 (hF : CallFix p m c cc nL s args lw_all RX0) (hK : xK ω s) (hH : xH ω (g, y, a, z, dr, pg, t) H) (hS : va_S ω.2.2.1 s.heap H locs) (hlink : Cond.fieldLink "HurtStreets" index "HurtStreets" "towns" "I" ∈ lw_all) (hdg : decode cc pc = .ok (.putfield index, 3)) {v : Nat} (h1 : g' 0 2 = v) (h2 : ∀ i k, ¬ (i = 0 ∧ k = 2) → g' i k = g i k) (kk : ∀ (H : Heap) (locs : List Loc), xH ω (g', y, a, z, dr, pg, t) H → va_S ω.2.2.1 s.heap H locs → W p l e R s m args below meth c H locs cells slots Q (F0 m (pc + 3) ls rest)) : W p l e R s m args below meth c H locs cells slots Q (F0 m pc ls (.int (nI v) :: .ref (ω.2.1 0 99) :: rest)) := by
  refine gw_put (o := 0) (k0 := 99) hF.1 hF.2.1 hF.2.2.2.2 in_X0 tyX0 tyX0_ok nmX0 hF.2.2.2.1 hK.1 hH.1 hH.2.1 hS rfl (fs := xF0 ω (g, y, a, z, dr, pg, t)) rfl rfl 2 (by decide) (hF.2.2.2.2 _ hlink) (fun _ h => h) rfl (ty := .int) (by decide +kernel) rfl rfl (Nat.le_of_ble_eq_true rfl) hdg (fun H1 locs1 hP hS1 => kk H1 locs1 (xE_up (u := (g, y, a, z, dr, pg, t)) (u' := (g', y, a, z, dr, pg, t)) rfl ?_ (xE_same (u' := (g', y, a, z, dr, pg, t)) (u := (g, y, a, z, dr, pg, t)) rfl ?_ ?_ (fun _ => rfl) (fun _ _ => rfl) (fun _ _ _ => rfl)) hP hH.2) hS1)
  · show (.inr (0, xF0 ω (g', y, a, z, dr, pg, t)) : va_E) = .inr (0, (xF0 ω (g, y, a, z, dr, pg, t)).set 2 (.int (nI v)))
    simp only [xF0, List.set, h1, h2 0 1 (by decide), h2 0 7 (by decide), h2 0 12 (by decide), h2 0 19 (by decide), h2 0 20 (by decide)]
  · exact fun q => absurd ⟨rfl, rfl⟩ q
  · intro i q
    have q0 : ¬ i = 0 := fun z => q ⟨z, rfl⟩
    simp only [xF1, h2 i 9 (fun z => q0 z.1)]
theorem xp0_7 (hF : CallFix p m c cc nL s args lw_all RX0) (hK : xK ω s) (hH : xH ω (g, y, a, z, dr, pg, t) H) (hS : va_S ω.2.2.1 s.heap H locs) (hlink : Cond.fieldLink "HurtStreets" index "HurtStreets" "pageLength" "I" ∈ lw_all) (hdg : decode cc pc = .ok (.putfield index, 3)) {v : Nat} (h1 : g' 0 7 = v) (h2 : ∀ i k, ¬ (i = 0 ∧ k = 7) → g' i k = g i k) (kk : ∀ (H : Heap) (locs : List Loc), xH ω (g', y, a, z, dr, pg, t) H → va_S ω.2.2.1 s.heap H locs → W p l e R s m args below meth c H locs cells slots Q (F0 m (pc + 3) ls rest)) : W p l e R s m args below meth c H locs cells slots Q (F0 m pc ls (.int (nI v) :: .ref (ω.2.1 0 99) :: rest)) := by
  refine gw_put (o := 0) (k0 := 99) hF.1 hF.2.1 hF.2.2.2.2 in_X0 tyX0 tyX0_ok nmX0 hF.2.2.2.1 hK.1 hH.1 hH.2.1 hS rfl (fs := xF0 ω (g, y, a, z, dr, pg, t)) rfl rfl 7 (by decide) (hF.2.2.2.2 _ hlink) (fun _ h => h) rfl (ty := .int) (by decide +kernel) rfl rfl (Nat.le_of_ble_eq_true rfl) hdg (fun H1 locs1 hP hS1 => kk H1 locs1 (xE_up (u := (g, y, a, z, dr, pg, t)) (u' := (g', y, a, z, dr, pg, t)) rfl ?_ (xE_same (u' := (g', y, a, z, dr, pg, t)) (u := (g, y, a, z, dr, pg, t)) rfl ?_ ?_ (fun _ => rfl) (fun _ _ => rfl) (fun _ _ _ => rfl)) hP hH.2) hS1)
  · show (.inr (0, xF0 ω (g', y, a, z, dr, pg, t)) : va_E) = .inr (0, (xF0 ω (g, y, a, z, dr, pg, t)).set 7 (.int (nI v)))
    simp only [xF0, List.set, h1, h2 0 1 (by decide), h2 0 2 (by decide), h2 0 12 (by decide), h2 0 19 (by decide), h2 0 20 (by decide)]
  · exact fun q => absurd ⟨rfl, rfl⟩ q
  · intro i q
    have q0 : ¬ i = 0 := fun z => q ⟨z, rfl⟩
    simp only [xF1, h2 i 9 (fun z => q0 z.1)]
theorem xp0_12 (hF : CallFix p m c cc nL s args lw_all RX0) (hK : xK ω s) (hH : xH ω (g, y, a, z, dr, pg, t) H) (hS : va_S ω.2.2.1 s.heap H locs) (hlink : Cond.fieldLink "HurtStreets" index "HurtStreets" "seen" "I" ∈ lw_all) (hdg : decode cc pc = .ok (.putfield index, 3)) {v : Nat} (h1 : g' 0 12 = v) (h2 : ∀ i k, ¬ (i = 0 ∧ k = 12) → g' i k = g i k) (kk : ∀ (H : Heap) (locs : List Loc), xH ω (g', y, a, z, dr, pg, t) H → va_S ω.2.2.1 s.heap H locs → W p l e R s m args below meth c H locs cells slots Q (F0 m (pc + 3) ls rest)) : W p l e R s m args below meth c H locs cells slots Q (F0 m pc ls (.int (nI v) :: .ref (ω.2.1 0 99) :: rest)) := by
  refine gw_put (o := 0) (k0 := 99) hF.1 hF.2.1 hF.2.2.2.2 in_X0 tyX0 tyX0_ok nmX0 hF.2.2.2.1 hK.1 hH.1 hH.2.1 hS rfl (fs := xF0 ω (g, y, a, z, dr, pg, t)) rfl rfl 12 (by decide) (hF.2.2.2.2 _ hlink) (fun _ h => h) rfl (ty := .int) (by decide +kernel) rfl rfl (Nat.le_of_ble_eq_true rfl) hdg (fun H1 locs1 hP hS1 => kk H1 locs1 (xE_up (u := (g, y, a, z, dr, pg, t)) (u' := (g', y, a, z, dr, pg, t)) rfl ?_ (xE_same (u' := (g', y, a, z, dr, pg, t)) (u := (g, y, a, z, dr, pg, t)) rfl ?_ ?_ (fun _ => rfl) (fun _ _ => rfl) (fun _ _ _ => rfl)) hP hH.2) hS1)
  · show (.inr (0, xF0 ω (g', y, a, z, dr, pg, t)) : va_E) = .inr (0, (xF0 ω (g, y, a, z, dr, pg, t)).set 12 (.int (nI v)))
    simp only [xF0, List.set, h1, h2 0 1 (by decide), h2 0 2 (by decide), h2 0 7 (by decide), h2 0 19 (by decide), h2 0 20 (by decide)]
  · exact fun q => absurd ⟨rfl, rfl⟩ q
  · intro i q
    have q0 : ¬ i = 0 := fun z => q ⟨z, rfl⟩
    simp only [xF1, h2 i 9 (fun z => q0 z.1)]
theorem xp0_19 (hF : CallFix p m c cc nL s args lw_all RX0) (hK : xK ω s) (hH : xH ω (g, y, a, z, dr, pg, t) H) (hS : va_S ω.2.2.1 s.heap H locs) (hlink : Cond.fieldLink "HurtStreets" index "HurtStreets" "keptTown" "I" ∈ lw_all) (hdg : decode cc pc = .ok (.putfield index, 3)) {v : Nat} (h1 : g' 0 19 = v) (h2 : ∀ i k, ¬ (i = 0 ∧ k = 19) → g' i k = g i k) (kk : ∀ (H : Heap) (locs : List Loc), xH ω (g', y, a, z, dr, pg, t) H → va_S ω.2.2.1 s.heap H locs → W p l e R s m args below meth c H locs cells slots Q (F0 m (pc + 3) ls rest)) : W p l e R s m args below meth c H locs cells slots Q (F0 m pc ls (.int (nI v) :: .ref (ω.2.1 0 99) :: rest)) := by
  refine gw_put (o := 0) (k0 := 99) hF.1 hF.2.1 hF.2.2.2.2 in_X0 tyX0 tyX0_ok nmX0 hF.2.2.2.1 hK.1 hH.1 hH.2.1 hS rfl (fs := xF0 ω (g, y, a, z, dr, pg, t)) rfl rfl 19 (by decide) (hF.2.2.2.2 _ hlink) (fun _ h => h) rfl (ty := .int) (by decide +kernel) rfl rfl (Nat.le_of_ble_eq_true rfl) hdg (fun H1 locs1 hP hS1 => kk H1 locs1 (xE_up (u := (g, y, a, z, dr, pg, t)) (u' := (g', y, a, z, dr, pg, t)) rfl ?_ (xE_same (u' := (g', y, a, z, dr, pg, t)) (u := (g, y, a, z, dr, pg, t)) rfl ?_ ?_ (fun _ => rfl) (fun _ _ => rfl) (fun _ _ _ => rfl)) hP hH.2) hS1)
  · show (.inr (0, xF0 ω (g', y, a, z, dr, pg, t)) : va_E) = .inr (0, (xF0 ω (g, y, a, z, dr, pg, t)).set 19 (.int (nI v)))
    simp only [xF0, List.set, h1, h2 0 1 (by decide), h2 0 2 (by decide), h2 0 7 (by decide), h2 0 12 (by decide), h2 0 20 (by decide)]
  · exact fun q => absurd ⟨rfl, rfl⟩ q
  · intro i q
    have q0 : ¬ i = 0 := fun z => q ⟨z, rfl⟩
    simp only [xF1, h2 i 9 (fun z => q0 z.1)]
theorem xp0_20 (hF : CallFix p m c cc nL s args lw_all RX0) (hK : xK ω s) (hH : xH ω (g, y, a, z, dr, pg, t) H) (hS : va_S ω.2.2.1 s.heap H locs) (hlink : Cond.fieldLink "HurtStreets" index "HurtStreets" "keptSeen" "I" ∈ lw_all) (hdg : decode cc pc = .ok (.putfield index, 3)) {v : Nat} (h1 : g' 0 20 = v) (h2 : ∀ i k, ¬ (i = 0 ∧ k = 20) → g' i k = g i k) (kk : ∀ (H : Heap) (locs : List Loc), xH ω (g', y, a, z, dr, pg, t) H → va_S ω.2.2.1 s.heap H locs → W p l e R s m args below meth c H locs cells slots Q (F0 m (pc + 3) ls rest)) : W p l e R s m args below meth c H locs cells slots Q (F0 m pc ls (.int (nI v) :: .ref (ω.2.1 0 99) :: rest)) := by
  refine gw_put (o := 0) (k0 := 99) hF.1 hF.2.1 hF.2.2.2.2 in_X0 tyX0 tyX0_ok nmX0 hF.2.2.2.1 hK.1 hH.1 hH.2.1 hS rfl (fs := xF0 ω (g, y, a, z, dr, pg, t)) rfl rfl 20 (by decide) (hF.2.2.2.2 _ hlink) (fun _ h => h) rfl (ty := .int) (by decide +kernel) rfl rfl (Nat.le_of_ble_eq_true rfl) hdg (fun H1 locs1 hP hS1 => kk H1 locs1 (xE_up (u := (g, y, a, z, dr, pg, t)) (u' := (g', y, a, z, dr, pg, t)) rfl ?_ (xE_same (u' := (g', y, a, z, dr, pg, t)) (u := (g, y, a, z, dr, pg, t)) rfl ?_ ?_ (fun _ => rfl) (fun _ _ => rfl) (fun _ _ _ => rfl)) hP hH.2) hS1)
  · show (.inr (0, xF0 ω (g', y, a, z, dr, pg, t)) : va_E) = .inr (0, (xF0 ω (g, y, a, z, dr, pg, t)).set 20 (.int (nI v)))
    simp only [xF0, List.set, h1, h2 0 1 (by decide), h2 0 2 (by decide), h2 0 7 (by decide), h2 0 12 (by decide), h2 0 19 (by decide)]
  · exact fun q => absurd ⟨rfl, rfl⟩ q
  · intro i q
    have q0 : ¬ i = 0 := fun z => q ⟨z, rfl⟩
    simp only [xF1, h2 i 9 (fun z => q0 z.1)]
theorem xp0_9 (hF : CallFix p m c cc nL s args lw_all RX0) (hK : xK ω s) (hH : xH ω (g, y, a, z, dr, pg, t) H) (hS : va_S ω.2.2.1 s.heap H locs) (hlink : Cond.fieldLink "HurtStreets" index "HurtStreets" "matchMany" "I" ∈ lw_all) (hdg : decode cc pc = .ok (.putfield index, 3)) {v : Int32} (h1 : y' 0 9 = v) (h2 : ∀ i k, ¬ (i = 0 ∧ k = 9) → y' i k = y i k) (kk : ∀ (H : Heap) (locs : List Loc), xH ω (g, y', a, z, dr, pg, t) H → va_S ω.2.2.1 s.heap H locs → W p l e R s m args below meth c H locs cells slots Q (F0 m (pc + 3) ls rest)) : W p l e R s m args below meth c H locs cells slots Q (F0 m pc ls (.int v :: .ref (ω.2.1 0 99) :: rest)) := by
  refine gw_put (o := 0) (k0 := 99) hF.1 hF.2.1 hF.2.2.2.2 in_X0 tyX0 tyX0_ok nmX0 hF.2.2.2.1 hK.1 hH.1 hH.2.1 hS rfl (fs := xF0 ω (g, y, a, z, dr, pg, t)) rfl rfl 9 (by decide) (hF.2.2.2.2 _ hlink) (fun _ h => h) rfl (ty := .int) (by decide +kernel) rfl rfl (Nat.le_of_ble_eq_true rfl) hdg (fun H1 locs1 hP hS1 => kk H1 locs1 (xE_up (u := (g, y, a, z, dr, pg, t)) (u' := (g, y', a, z, dr, pg, t)) rfl ?_ (xE_same (u' := (g, y', a, z, dr, pg, t)) (u := (g, y, a, z, dr, pg, t)) rfl ?_ ?_ (fun _ => rfl) (fun _ _ => rfl) (fun _ _ _ => rfl)) hP hH.2) hS1)
  · show (.inr (0, xF0 ω (g, y', a, z, dr, pg, t)) : va_E) = .inr (0, (xF0 ω (g, y, a, z, dr, pg, t)).set 9 (.int v))
    simp only [xF0, List.set, h1, h2 0 10 (by decide)]
  · exact fun q => absurd ⟨rfl, rfl⟩ q
  · intro i q
    have q0 : ¬ i = 0 := fun z => q ⟨z, rfl⟩
    simp only [xF1, h2 i 12 (fun z => q0 z.1), h2 i 13 (fun z => q0 z.1), h2 i 14 (fun z => q0 z.1)]
theorem xp0_10 (hF : CallFix p m c cc nL s args lw_all RX0) (hK : xK ω s) (hH : xH ω (g, y, a, z, dr, pg, t) H) (hS : va_S ω.2.2.1 s.heap H locs) (hlink : Cond.fieldLink "HurtStreets" index "HurtStreets" "matchHurts" "I" ∈ lw_all) (hdg : decode cc pc = .ok (.putfield index, 3)) {v : Int32} (h1 : y' 0 10 = v) (h2 : ∀ i k, ¬ (i = 0 ∧ k = 10) → y' i k = y i k) (kk : ∀ (H : Heap) (locs : List Loc), xH ω (g, y', a, z, dr, pg, t) H → va_S ω.2.2.1 s.heap H locs → W p l e R s m args below meth c H locs cells slots Q (F0 m (pc + 3) ls rest)) : W p l e R s m args below meth c H locs cells slots Q (F0 m pc ls (.int v :: .ref (ω.2.1 0 99) :: rest)) := by
  refine gw_put (o := 0) (k0 := 99) hF.1 hF.2.1 hF.2.2.2.2 in_X0 tyX0 tyX0_ok nmX0 hF.2.2.2.1 hK.1 hH.1 hH.2.1 hS rfl (fs := xF0 ω (g, y, a, z, dr, pg, t)) rfl rfl 10 (by decide) (hF.2.2.2.2 _ hlink) (fun _ h => h) rfl (ty := .int) (by decide +kernel) rfl rfl (Nat.le_of_ble_eq_true rfl) hdg (fun H1 locs1 hP hS1 => kk H1 locs1 (xE_up (u := (g, y, a, z, dr, pg, t)) (u' := (g, y', a, z, dr, pg, t)) rfl ?_ (xE_same (u' := (g, y', a, z, dr, pg, t)) (u := (g, y, a, z, dr, pg, t)) rfl ?_ ?_ (fun _ => rfl) (fun _ _ => rfl) (fun _ _ _ => rfl)) hP hH.2) hS1)
  · show (.inr (0, xF0 ω (g, y', a, z, dr, pg, t)) : va_E) = .inr (0, (xF0 ω (g, y, a, z, dr, pg, t)).set 10 (.int v))
    simp only [xF0, List.set, h1, h2 0 9 (by decide)]
  · exact fun q => absurd ⟨rfl, rfl⟩ q
  · intro i q
    have q0 : ¬ i = 0 := fun z => q ⟨z, rfl⟩
    simp only [xF1, h2 i 12 (fun z => q0 z.1), h2 i 13 (fun z => q0 z.1), h2 i 14 (fun z => q0 z.1)]
theorem xp0_18 (hF : CallFix p m c cc nL s args lw_all RX0) (hK : xK ω s) (hH : xH ω (g, y, a, z, dr, pg, t) H) (hS : va_S ω.2.2.1 s.heap H locs) (hlink : Cond.fieldLink "HurtStreets" index "HurtStreets" "drawn" "J" ∈ lw_all) (hdg : decode cc pc = .ok (.putfield index, 3)) (kk : ∀ (H : Heap) (locs : List Loc), xH ω (g, y, a, z, dr', pg, t) H → va_S ω.2.2.1 s.heap H locs → W p l e R s m args below meth c H locs cells slots Q (F0 m (pc + 3) ls rest)) : W p l e R s m args below meth c H locs cells slots Q (F0 m pc ls (.long dr' :: .ref (ω.2.1 0 99) :: rest)) := by
  refine gw_put (o := 0) (k0 := 99) hF.1 hF.2.1 hF.2.2.2.2 in_X0 tyX0 tyX0_ok nmX0 hF.2.2.2.1 hK.1 hH.1 hH.2.1 hS rfl (fs := xF0 ω (g, y, a, z, dr, pg, t)) rfl rfl 18 (by decide) (hF.2.2.2.2 _ hlink) (fun _ h => h) rfl (ty := .long) (by decide +kernel) rfl rfl (Nat.le_of_ble_eq_true rfl) hdg (fun H1 locs1 hP hS1 => kk H1 locs1 (xE_up (u := (g, y, a, z, dr, pg, t)) (u' := (g, y, a, z, dr', pg, t)) rfl ?_ (xE_same (u' := (g, y, a, z, dr', pg, t)) (u := (g, y, a, z, dr, pg, t)) rfl ?_ ?_ (fun _ => rfl) (fun _ _ => rfl) (fun _ _ _ => rfl)) hP hH.2) hS1)
  · show (.inr (0, xF0 ω (g, y, a, z, dr', pg, t)) : va_E) = .inr (0, (xF0 ω (g, y, a, z, dr, pg, t)).set 18 (.long dr'))
    simp only [xF0, List.set]
  · exact fun q => absurd ⟨rfl, rfl⟩ q
  · intro i q
    simp only [xF1]
theorem xp1_9 (hj : j < 3) (hF : CallFix p m c cc nL s args lw_all RX1) (hK : xK ω s) (hH : xH ω (g, y, a, z, dr, pg, t) H) (hS : va_S ω.2.2.1 s.heap H locs) (hlink : Cond.fieldLink "HurtStreets$State" index "HurtStreets$State" "days" "I" ∈ lw_all) (hdg : decode cc pc = .ok (.putfield index, 3)) {v : Nat} (h1 : g' (j + 6) 9 = v) (h2 : ∀ i k, ¬ (i = (j + 6) ∧ k = 9) → g' i k = g i k) (kk : ∀ (H : Heap) (locs : List Loc), xH ω (g', y, a, z, dr, pg, t) H → va_S ω.2.2.1 s.heap H locs → W p l e R s m args below meth c H locs cells slots Q (F0 m (pc + 3) ls rest)) : W p l e R s m args below meth c H locs cells slots Q (F0 m pc ls (.int (nI v) :: .ref (ω.2.1 (j + 6) 99) :: rest)) := by
  refine gw_put (o := (j + 6)) (k0 := 99) hF.1 hF.2.1 hF.2.2.2.2 in_X1 tyX1 tyX1_ok nmX1 hF.2.2.2.1 hK.1 hH.1 hH.2.1 hS (x_I1 hj) (fs := xF1 ω (g, y, a, z, dr, pg, t) (j + 6)) rfl rfl 9 (by decide) (hF.2.2.2.2 _ hlink) (fun _ h => h) rfl (ty := .int) (by decide +kernel) rfl rfl (Nat.le_of_ble_eq_true rfl) hdg (fun H1 locs1 hP hS1 => kk H1 locs1 (xE_up (u := (g, y, a, z, dr, pg, t)) (u' := (g', y, a, z, dr, pg, t)) rfl ?_ (xE_same (u' := (g', y, a, z, dr, pg, t)) (u := (g, y, a, z, dr, pg, t)) rfl ?_ ?_ (fun _ => rfl) (fun _ _ => rfl) (fun _ _ _ => rfl)) hP hH.2) hS1)
  · show (.inr (1, xF1 ω (g', y, a, z, dr, pg, t) (j + 6)) : va_E) = .inr (1, (xF1 ω (g, y, a, z, dr, pg, t) (j + 6)).set 9 (.int (nI v)))
    simp only [xF1, List.set, h1]
  · intro q
    simp only [xF0, h2 0 1 (by simp), h2 0 2 (by simp), h2 0 7 (by simp), h2 0 12 (by simp), h2 0 19 (by simp), h2 0 20 (by simp)]
  · intro i q
    have q0 : ¬ i = j + 6 := fun z => q ⟨z, rfl⟩
    simp only [xF1, h2 i 9 (fun z => q0 z.1)]
theorem xp1_12 (hj : j < 3) (hF : CallFix p m c cc nL s args lw_all RX1) (hK : xK ω s) (hH : xH ω (g, y, a, z, dr, pg, t) H) (hS : va_S ω.2.2.1 s.heap H locs) (hlink : Cond.fieldLink "HurtStreets$State" index "HurtStreets$State" "rowMany" "I" ∈ lw_all) (hdg : decode cc pc = .ok (.putfield index, 3)) {v : Int32} (h1 : y' (j + 6) 12 = v) (h2 : ∀ i k, ¬ (i = (j + 6) ∧ k = 12) → y' i k = y i k) (kk : ∀ (H : Heap) (locs : List Loc), xH ω (g, y', a, z, dr, pg, t) H → va_S ω.2.2.1 s.heap H locs → W p l e R s m args below meth c H locs cells slots Q (F0 m (pc + 3) ls rest)) : W p l e R s m args below meth c H locs cells slots Q (F0 m pc ls (.int v :: .ref (ω.2.1 (j + 6) 99) :: rest)) := by
  refine gw_put (o := (j + 6)) (k0 := 99) hF.1 hF.2.1 hF.2.2.2.2 in_X1 tyX1 tyX1_ok nmX1 hF.2.2.2.1 hK.1 hH.1 hH.2.1 hS (x_I1 hj) (fs := xF1 ω (g, y, a, z, dr, pg, t) (j + 6)) rfl rfl 12 (by decide) (hF.2.2.2.2 _ hlink) (fun _ h => h) rfl (ty := .int) (by decide +kernel) rfl rfl (Nat.le_of_ble_eq_true rfl) hdg (fun H1 locs1 hP hS1 => kk H1 locs1 (xE_up (u := (g, y, a, z, dr, pg, t)) (u' := (g, y', a, z, dr, pg, t)) rfl ?_ (xE_same (u' := (g, y', a, z, dr, pg, t)) (u := (g, y, a, z, dr, pg, t)) rfl ?_ ?_ (fun _ => rfl) (fun _ _ => rfl) (fun _ _ _ => rfl)) hP hH.2) hS1)
  · show (.inr (1, xF1 ω (g, y', a, z, dr, pg, t) (j + 6)) : va_E) = .inr (1, (xF1 ω (g, y, a, z, dr, pg, t) (j + 6)).set 12 (.int v))
    simp only [xF1, List.set, h1, h2 (j + 6) 13 (by simp), h2 (j + 6) 14 (by simp)]
  · intro q
    simp only [xF0, h2 0 9 (by simp), h2 0 10 (by simp)]
  · intro i q
    have q0 : ¬ i = j + 6 := fun z => q ⟨z, rfl⟩
    simp only [xF1, h2 i 12 (fun z => q0 z.1), h2 i 13 (fun z => q0 z.1), h2 i 14 (fun z => q0 z.1)]
theorem xp1_13 (hj : j < 3) (hF : CallFix p m c cc nL s args lw_all RX1) (hK : xK ω s) (hH : xH ω (g, y, a, z, dr, pg, t) H) (hS : va_S ω.2.2.1 s.heap H locs) (hlink : Cond.fieldLink "HurtStreets$State" index "HurtStreets$State" "rowHurts" "I" ∈ lw_all) (hdg : decode cc pc = .ok (.putfield index, 3)) {v : Int32} (h1 : y' (j + 6) 13 = v) (h2 : ∀ i k, ¬ (i = (j + 6) ∧ k = 13) → y' i k = y i k) (kk : ∀ (H : Heap) (locs : List Loc), xH ω (g, y', a, z, dr, pg, t) H → va_S ω.2.2.1 s.heap H locs → W p l e R s m args below meth c H locs cells slots Q (F0 m (pc + 3) ls rest)) : W p l e R s m args below meth c H locs cells slots Q (F0 m pc ls (.int v :: .ref (ω.2.1 (j + 6) 99) :: rest)) := by
  refine gw_put (o := (j + 6)) (k0 := 99) hF.1 hF.2.1 hF.2.2.2.2 in_X1 tyX1 tyX1_ok nmX1 hF.2.2.2.1 hK.1 hH.1 hH.2.1 hS (x_I1 hj) (fs := xF1 ω (g, y, a, z, dr, pg, t) (j + 6)) rfl rfl 13 (by decide) (hF.2.2.2.2 _ hlink) (fun _ h => h) rfl (ty := .int) (by decide +kernel) rfl rfl (Nat.le_of_ble_eq_true rfl) hdg (fun H1 locs1 hP hS1 => kk H1 locs1 (xE_up (u := (g, y, a, z, dr, pg, t)) (u' := (g, y', a, z, dr, pg, t)) rfl ?_ (xE_same (u' := (g, y', a, z, dr, pg, t)) (u := (g, y, a, z, dr, pg, t)) rfl ?_ ?_ (fun _ => rfl) (fun _ _ => rfl) (fun _ _ _ => rfl)) hP hH.2) hS1)
  · show (.inr (1, xF1 ω (g, y', a, z, dr, pg, t) (j + 6)) : va_E) = .inr (1, (xF1 ω (g, y, a, z, dr, pg, t) (j + 6)).set 13 (.int v))
    simp only [xF1, List.set, h1, h2 (j + 6) 12 (by simp), h2 (j + 6) 14 (by simp)]
  · intro q
    simp only [xF0, h2 0 9 (by simp), h2 0 10 (by simp)]
  · intro i q
    have q0 : ¬ i = j + 6 := fun z => q ⟨z, rfl⟩
    simp only [xF1, h2 i 12 (fun z => q0 z.1), h2 i 13 (fun z => q0 z.1), h2 i 14 (fun z => q0 z.1)]
theorem xp1_14 (hj : j < 3) (hF : CallFix p m c cc nL s args lw_all RX1) (hK : xK ω s) (hH : xH ω (g, y, a, z, dr, pg, t) H) (hS : va_S ω.2.2.1 s.heap H locs) (hlink : Cond.fieldLink "HurtStreets$State" index "HurtStreets$State" "rowLength" "I" ∈ lw_all) (hdg : decode cc pc = .ok (.putfield index, 3)) {v : Int32} (h1 : y' (j + 6) 14 = v) (h2 : ∀ i k, ¬ (i = (j + 6) ∧ k = 14) → y' i k = y i k) (kk : ∀ (H : Heap) (locs : List Loc), xH ω (g, y', a, z, dr, pg, t) H → va_S ω.2.2.1 s.heap H locs → W p l e R s m args below meth c H locs cells slots Q (F0 m (pc + 3) ls rest)) : W p l e R s m args below meth c H locs cells slots Q (F0 m pc ls (.int v :: .ref (ω.2.1 (j + 6) 99) :: rest)) := by
  refine gw_put (o := (j + 6)) (k0 := 99) hF.1 hF.2.1 hF.2.2.2.2 in_X1 tyX1 tyX1_ok nmX1 hF.2.2.2.1 hK.1 hH.1 hH.2.1 hS (x_I1 hj) (fs := xF1 ω (g, y, a, z, dr, pg, t) (j + 6)) rfl rfl 14 (by decide) (hF.2.2.2.2 _ hlink) (fun _ h => h) rfl (ty := .int) (by decide +kernel) rfl rfl (Nat.le_of_ble_eq_true rfl) hdg (fun H1 locs1 hP hS1 => kk H1 locs1 (xE_up (u := (g, y, a, z, dr, pg, t)) (u' := (g, y', a, z, dr, pg, t)) rfl ?_ (xE_same (u' := (g, y', a, z, dr, pg, t)) (u := (g, y, a, z, dr, pg, t)) rfl ?_ ?_ (fun _ => rfl) (fun _ _ => rfl) (fun _ _ _ => rfl)) hP hH.2) hS1)
  · show (.inr (1, xF1 ω (g, y', a, z, dr, pg, t) (j + 6)) : va_E) = .inr (1, (xF1 ω (g, y, a, z, dr, pg, t) (j + 6)).set 14 (.int v))
    simp only [xF1, List.set, h1, h2 (j + 6) 12 (by simp), h2 (j + 6) 13 (by simp)]
  · intro q
    simp only [xF0, h2 0 9 (by simp), h2 0 10 (by simp)]
  · intro i q
    have q0 : ¬ i = j + 6 := fun z => q ⟨z, rfl⟩
    simp only [xF1, h2 i 12 (fun z => q0 z.1), h2 i 13 (fun z => q0 z.1), h2 i 14 (fun z => q0 z.1)]
theorem xpN_9 (hj : j < 3) (hF : CallFix p m c cc nL s args lw_all RX0) (hK : xK ω s) (hH : xH ω (g, y, a, z, dr, pg, t) H) (hS : va_S ω.2.2.1 s.heap H locs)  (hdg : decode cc pc = .ok (.putfield 206, 3)) {v : Nat} (h1 : g' (j + 6) 9 = v) (h2 : ∀ i k, ¬ (i = (j + 6) ∧ k = 9) → g' i k = g i k) (kk : ∀ (H : Heap) (locs : List Loc), xH ω (g', y, a, z, dr, pg, t) H → va_S ω.2.2.1 s.heap H locs → W p l e R s m args below meth c H locs cells slots Q (F0 m (pc + 3) ls rest)) : W p l e R s m args below meth c H locs cells slots Q (F0 m pc ls (.int (nI v) :: .ref (ω.2.1 (j + 6) 99) :: rest)) := by
  refine gw_putN (o := (j + 6)) (k0 := 99) hF.1 hF.2.1 hF.2.2.2.2 in_X1 tyX1 tyX1_ok nmX1 hF.2.2.2.1 hK.1 hH.1 hH.2.1 hS (x_I1 hj) (fs := xF1 ω (g, y, a, z, dr, pg, t) (j + 6)) rfl rfl 9 (by decide) ((xn_q172 hK.2).use rfl) (fun _ h => h) rfl (ty := .int) (by decide +kernel) rfl rfl (Nat.le_of_ble_eq_true rfl) hdg (fun H1 locs1 hP hS1 => kk H1 locs1 (xE_up (u := (g, y, a, z, dr, pg, t)) (u' := (g', y, a, z, dr, pg, t)) rfl ?_ (xE_same (u' := (g', y, a, z, dr, pg, t)) (u := (g, y, a, z, dr, pg, t)) rfl ?_ ?_ (fun _ => rfl) (fun _ _ => rfl) (fun _ _ _ => rfl)) hP hH.2) hS1)
  · show (.inr (1, xF1 ω (g', y, a, z, dr, pg, t) (j + 6)) : va_E) = .inr (1, (xF1 ω (g, y, a, z, dr, pg, t) (j + 6)).set 9 (.int (nI v)))
    simp only [xF1, List.set, h1]
  · intro q
    simp only [xF0, h2 0 1 (by simp), h2 0 2 (by simp), h2 0 7 (by simp), h2 0 12 (by simp), h2 0 19 (by simp), h2 0 20 (by simp)]
  · intro i q
    have q0 : ¬ i = j + 6 := fun z => q ⟨z, rfl⟩
    simp only [xF1, h2 i 9 (fun z => q0 z.1)]
theorem x0_ald {own : String} (hF : CallFix p m c cc nL s args lw_all own) (hK : xK ω s) (hH : xH ω (g, y, a, z, dr, pg, t) H) (k : Nat) {n : Nat} (hk : xl0 k = n) (hi0 : xI t 0 k = true) (h6 : ¬ k = 6) (h9 : ¬ k = 99) (hsc : xs0 k = false) {f : Nat → Int32} (hf : a 0 k = f) {i : Nat} (hi : i < n) (hn : n < 2 ^ 31) (hdg : decode cc pc = .ok (.iaload, 1)) (kk : W p l e R s m args below meth c H locs cells slots Q (F0 m (pc + 1) ls (.int (f i) :: rest))) : W p l e R s m args below meth c H locs cells slots Q (F0 m pc ls (.int (nI i) :: .ref (ω.2.1 0 k) :: rest)) :=
  gw_iald (o := 0) (k0 := k) hF.1 hF.2.1 hK.1 hH.1 hi0 0 (n := n) (f := f) (by show (if k = 99 then _ else if k = 6 then _ else _) = _; rw [if_neg h9, if_neg h6, hk]; unfold xc0; rw [hsc, ← hf]; rfl) rfl hi hn hdg kk
theorem x0_ast {own : String} (hF : CallFix p m c cc nL s args lw_all own) (hK : xK ω s) (hH : xH ω (g, y, a, z, dr, pg, t) H) (hS : va_S ω.2.2.1 s.heap H locs) (k : Nat) {n : Nat} (hk : xl0 k = n) (hi0 : xI t 0 k = true) (h6 : ¬ k = 6) (h9 : ¬ k = 99) (hsc : xs0 k = false) {f : Nat → Int32} (hf : a 0 k = f) {i : Nat} {x : Int32} (hi : i < n) (hn : n < 2 ^ 31) (hdg : decode cc pc = .ok (.iastore, 1)) (h1 : a' 0 k = upd f i x) (h2 : ∀ i q, ¬ (i = 0 ∧ q = k) → a' i q = a i q) (kk : ∀ (H : Heap) (locs : List Loc), xH ω (g, y, a', z, dr, pg, t) H → va_S ω.2.2.1 s.heap H locs → W p l e R s m args below meth c H locs cells slots Q (F0 m (pc + 1) ls rest)) : W p l e R s m args below meth c H locs cells slots Q (F0 m pc ls (.int x :: .int (nI i) :: .ref (ω.2.1 0 k) :: rest)) := by
  refine gw_iast (o := 0) (k0 := k) hF.1 hF.2.1 hK.1 hH.1 hH.2.1 hS hi0 0 (n := n) (f := f) (by show (if k = 99 then _ else if k = 6 then _ else _) = _; rw [if_neg h9, if_neg h6, hk]; unfold xc0; rw [hsc, ← hf]; rfl) rfl hi hn hdg (fun H1 locs1 hP hS1 => kk H1 locs1 (xE_up (u := (g, y, a, z, dr, pg, t)) (u' := (g, y, a', z, dr, pg, t)) rfl ?_ (xE_same (u' := (g, y, a', z, dr, pg, t)) (u := (g, y, a, z, dr, pg, t)) rfl (fun _ => rfl) (fun _ _ => rfl) (fun _ => rfl) ?_ ?_) hP hH.2) hS1)
  · show (if k = 99 then _ else if k = 6 then _ else _) = _
    rw [if_neg h9, if_neg h6, hk]; unfold xc0; rw [hsc, ← h1]; rfl
  · intro q hq
    show (if xs0 q = true then z 0 q else a' 0 q) = (if xs0 q = true then z 0 q else a 0 q)
    rw [h2 0 q hq]
  · intro i q hq
    show (if xs1 q = true then z i q else a' i q) = (if xs1 q = true then z i q else a i q)
    rw [h2 i q hq]
theorem x0_zld {own : String} (hF : CallFix p m c cc nL s args lw_all own) (hK : xK ω s) (hH : xH ω (g, y, a, z, dr, pg, t) H) (k : Nat) {n : Nat} (hk : xl0 k = n) (hi0 : xI t 0 k = true) (h6 : ¬ k = 6) (h9 : ¬ k = 99) (hsc : xs0 k = true) {f : Nat → Int32} (hf : z 0 k = f) {i : Nat} (hi : i < n) (hn : n < 2 ^ 31) (hdg : decode cc pc = .ok (.iaload, 1)) (kk : W p l e R s m args below meth c H locs cells slots Q (F0 m (pc + 1) ls (.int (f i) :: rest))) : W p l e R s m args below meth c H locs cells slots Q (F0 m pc ls (.int (nI i) :: .ref (ω.2.1 0 k) :: rest)) :=
  gw_iald (o := 0) (k0 := k) hF.1 hF.2.1 hK.1 hH.1 hi0 0 (n := n) (f := f) (by show (if k = 99 then _ else if k = 6 then _ else _) = _; rw [if_neg h9, if_neg h6, hk]; unfold xc0; rw [hsc, ← hf]; rfl) rfl hi hn hdg kk
theorem x0_zst {own : String} (hF : CallFix p m c cc nL s args lw_all own) (hK : xK ω s) (hH : xH ω (g, y, a, z, dr, pg, t) H) (hS : va_S ω.2.2.1 s.heap H locs) (k : Nat) {n : Nat} (hk : xl0 k = n) (hi0 : xI t 0 k = true) (h6 : ¬ k = 6) (h9 : ¬ k = 99) (hsc : xs0 k = true) {f : Nat → Int32} (hf : z 0 k = f) {i : Nat} {x : Int32} (hi : i < n) (hn : n < 2 ^ 31) (hdg : decode cc pc = .ok (.iastore, 1)) (h1 : z' 0 k = upd f i x) (h2 : ∀ i q, ¬ (i = 0 ∧ q = k) → z' i q = z i q) (kk : ∀ (H : Heap) (locs : List Loc), xH ω (g, y, a, z', dr, pg, t) H → va_S ω.2.2.1 s.heap H locs → W p l e R s m args below meth c H locs cells slots Q (F0 m (pc + 1) ls rest)) : W p l e R s m args below meth c H locs cells slots Q (F0 m pc ls (.int x :: .int (nI i) :: .ref (ω.2.1 0 k) :: rest)) := by
  refine gw_iast (o := 0) (k0 := k) hF.1 hF.2.1 hK.1 hH.1 hH.2.1 hS hi0 0 (n := n) (f := f) (by show (if k = 99 then _ else if k = 6 then _ else _) = _; rw [if_neg h9, if_neg h6, hk]; unfold xc0; rw [hsc, ← hf]; rfl) rfl hi hn hdg (fun H1 locs1 hP hS1 => kk H1 locs1 (xE_up (u := (g, y, a, z, dr, pg, t)) (u' := (g, y, a, z', dr, pg, t)) rfl ?_ (xE_same (u' := (g, y, a, z', dr, pg, t)) (u := (g, y, a, z, dr, pg, t)) rfl (fun _ => rfl) (fun _ _ => rfl) (fun _ => rfl) ?_ ?_) hP hH.2) hS1)
  · show (if k = 99 then _ else if k = 6 then _ else _) = _
    rw [if_neg h9, if_neg h6, hk]; unfold xc0; rw [hsc, ← h1]; rfl
  · intro q hq
    show (if xs0 q = true then z' 0 q else a 0 q) = (if xs0 q = true then z 0 q else a 0 q)
    rw [h2 0 q hq]
  · intro i q hq
    show (if xs1 q = true then z' i q else a i q) = (if xs1 q = true then z i q else a i q)
    rw [h2 i q hq]
theorem x1_ald (hj : j < 3) {own : String} (hF : CallFix p m c cc nL s args lw_all own) (hK : xK ω s) (hH : xH ω (g, y, a, z, dr, pg, t) H) (k : Nat) {n : Nat} (hk : xl1 k = n) (hi0 : (xl1 k != 0) = true) (h9 : ¬ k = 99) (hsc : xs1 k = false) {f : Nat → Int32} (hf : a (j + 6) k = f) {i : Nat} (hi : i < n) (hn : n < 2 ^ 31) (hdg : decode cc pc = .ok (.iaload, 1)) (kk : W p l e R s m args below meth c H locs cells slots Q (F0 m (pc + 1) ls (.int (f i) :: rest))) : W p l e R s m args below meth c H locs cells slots Q (F0 m pc ls (.int (nI i) :: .ref (ω.2.1 (j + 6) k) :: rest)) :=
  gw_iald (o := (j + 6)) (k0 := k) hF.1 hF.2.1 hK.1 hH.1 (x_I1a hj hi0) 0 (n := n) (f := f) (by show (if k = 99 then _ else _) = _; rw [if_neg h9, hk]; unfold xc1; rw [hsc, ← hf]; rfl) rfl hi hn hdg kk
theorem x1_ast (hj : j < 3) {own : String} (hF : CallFix p m c cc nL s args lw_all own) (hK : xK ω s) (hH : xH ω (g, y, a, z, dr, pg, t) H) (hS : va_S ω.2.2.1 s.heap H locs) (k : Nat) {n : Nat} (hk : xl1 k = n) (hi0 : (xl1 k != 0) = true) (h9 : ¬ k = 99) (hsc : xs1 k = false) {f : Nat → Int32} (hf : a (j + 6) k = f) {i : Nat} {x : Int32} (hi : i < n) (hn : n < 2 ^ 31) (hdg : decode cc pc = .ok (.iastore, 1)) (h1 : a' (j + 6) k = upd f i x) (h2 : ∀ i q, ¬ (i = (j + 6) ∧ q = k) → a' i q = a i q) (kk : ∀ (H : Heap) (locs : List Loc), xH ω (g, y, a', z, dr, pg, t) H → va_S ω.2.2.1 s.heap H locs → W p l e R s m args below meth c H locs cells slots Q (F0 m (pc + 1) ls rest)) : W p l e R s m args below meth c H locs cells slots Q (F0 m pc ls (.int x :: .int (nI i) :: .ref (ω.2.1 (j + 6) k) :: rest)) := by
  refine gw_iast (o := (j + 6)) (k0 := k) hF.1 hF.2.1 hK.1 hH.1 hH.2.1 hS (x_I1a hj hi0) 0 (n := n) (f := f) (by show (if k = 99 then _ else _) = _; rw [if_neg h9, hk]; unfold xc1; rw [hsc, ← hf]; rfl) rfl hi hn hdg (fun H1 locs1 hP hS1 => kk H1 locs1 (xE_up (u := (g, y, a, z, dr, pg, t)) (u' := (g, y, a', z, dr, pg, t)) rfl ?_ (xE_same (u' := (g, y, a', z, dr, pg, t)) (u := (g, y, a, z, dr, pg, t)) rfl (fun _ => rfl) (fun _ _ => rfl) (fun _ => rfl) ?_ ?_) hP hH.2) hS1)
  · show (if k = 99 then _ else _) = _
    rw [if_neg h9, hk]; unfold xc1; rw [hsc, ← h1]; rfl
  · intro q hq
    show (if xs0 q = true then z 0 q else a' 0 q) = (if xs0 q = true then z 0 q else a 0 q)
    rw [h2 0 q (fun w => absurd w.1 (by omega))]
  · intro i q hq
    show (if xs1 q = true then z i q else a' i q) = (if xs1 q = true then z i q else a i q)
    rw [h2 i q hq]
theorem x1_zld (hj : j < 3) {own : String} (hF : CallFix p m c cc nL s args lw_all own) (hK : xK ω s) (hH : xH ω (g, y, a, z, dr, pg, t) H) (k : Nat) {n : Nat} (hk : xl1 k = n) (hi0 : (xl1 k != 0) = true) (h9 : ¬ k = 99) (hsc : xs1 k = true) {f : Nat → Int32} (hf : z (j + 6) k = f) {i : Nat} (hi : i < n) (hn : n < 2 ^ 31) (hdg : decode cc pc = .ok (.iaload, 1)) (kk : W p l e R s m args below meth c H locs cells slots Q (F0 m (pc + 1) ls (.int (f i) :: rest))) : W p l e R s m args below meth c H locs cells slots Q (F0 m pc ls (.int (nI i) :: .ref (ω.2.1 (j + 6) k) :: rest)) :=
  gw_iald (o := (j + 6)) (k0 := k) hF.1 hF.2.1 hK.1 hH.1 (x_I1a hj hi0) 0 (n := n) (f := f) (by show (if k = 99 then _ else _) = _; rw [if_neg h9, hk]; unfold xc1; rw [hsc, ← hf]; rfl) rfl hi hn hdg kk
theorem x1_zst (hj : j < 3) {own : String} (hF : CallFix p m c cc nL s args lw_all own) (hK : xK ω s) (hH : xH ω (g, y, a, z, dr, pg, t) H) (hS : va_S ω.2.2.1 s.heap H locs) (k : Nat) {n : Nat} (hk : xl1 k = n) (hi0 : (xl1 k != 0) = true) (h9 : ¬ k = 99) (hsc : xs1 k = true) {f : Nat → Int32} (hf : z (j + 6) k = f) {i : Nat} {x : Int32} (hi : i < n) (hn : n < 2 ^ 31) (hdg : decode cc pc = .ok (.iastore, 1)) (h1 : z' (j + 6) k = upd f i x) (h2 : ∀ i q, ¬ (i = (j + 6) ∧ q = k) → z' i q = z i q) (kk : ∀ (H : Heap) (locs : List Loc), xH ω (g, y, a, z', dr, pg, t) H → va_S ω.2.2.1 s.heap H locs → W p l e R s m args below meth c H locs cells slots Q (F0 m (pc + 1) ls rest)) : W p l e R s m args below meth c H locs cells slots Q (F0 m pc ls (.int x :: .int (nI i) :: .ref (ω.2.1 (j + 6) k) :: rest)) := by
  refine gw_iast (o := (j + 6)) (k0 := k) hF.1 hF.2.1 hK.1 hH.1 hH.2.1 hS (x_I1a hj hi0) 0 (n := n) (f := f) (by show (if k = 99 then _ else _) = _; rw [if_neg h9, hk]; unfold xc1; rw [hsc, ← hf]; rfl) rfl hi hn hdg (fun H1 locs1 hP hS1 => kk H1 locs1 (xE_up (u := (g, y, a, z, dr, pg, t)) (u' := (g, y, a, z', dr, pg, t)) rfl ?_ (xE_same (u' := (g, y, a, z', dr, pg, t)) (u := (g, y, a, z, dr, pg, t)) rfl (fun _ => rfl) (fun _ _ => rfl) (fun _ => rfl) ?_ ?_) hP hH.2) hS1)
  · show (if k = 99 then _ else _) = _
    rw [if_neg h9, hk]; unfold xc1; rw [hsc, ← h1]; rfl
  · intro q hq
    show (if xs0 q = true then z' 0 q else a 0 q) = (if xs0 q = true then z 0 q else a 0 q)
    rw [h2 0 q (fun w => absurd w.1 (by omega))]
  · intro i q hq
    show (if xs1 q = true then z' i q else a i q) = (if xs1 q = true then z i q else a i q)
    rw [h2 i q hq]
theorem x_bld {own : String} (hF : CallFix p m c cc nL s args lw_all own) (hK : xK ω s) (hH : xH ω (g, y, a, z, dr, pg, t) H) {i : Nat} (hi : i < 50) (hdg : decode cc pc = .ok (.baload, 1)) (kk : W p l e R s m args below meth c H locs cells slots Q (F0 m (pc + 1) ls (.int (pg i) :: rest))) : W p l e R s m args below meth c H locs cells slots Q (F0 m pc ls (.int (nI i) :: .ref (ω.2.1 0 6) :: rest)) :=
  gw_bald (o := 0) (k0 := 6) hF.1 hF.2.1 hK.1 hH.1 rfl 1 (n := 50) (f := pg) rfl rfl hi (by omega) hdg kk
theorem x_bst {own : String} (hF : CallFix p m c cc nL s args lw_all own) (hK : xK ω s) (hH : xH ω (g, y, a, z, dr, pg, t) H) (hS : va_S ω.2.2.1 s.heap H locs) {i : Nat} {x : Int32} (hi : i < 50) (hdg : decode cc pc = .ok (.bastore, 1)) (h1 : pg' = upd pg i (vp_nar .byte x)) (kk : ∀ (H : Heap) (locs : List Loc), xH ω (g, y, a, z, dr, pg', t) H → va_S ω.2.2.1 s.heap H locs → W p l e R s m args below meth c H locs cells slots Q (F0 m (pc + 1) ls rest)) : W p l e R s m args below meth c H locs cells slots Q (F0 m pc ls (.int x :: .int (nI i) :: .ref (ω.2.1 0 6) :: rest)) := by
  subst h1
  exact gw_bast (o := 0) (k0 := 6) hF.1 hF.2.1 hK.1 hH.1 hH.2.1 hS rfl 1 (n := 50) (f := pg) rfl rfl hi (by omega) hdg (fun H1 locs1 hP hS1 => kk H1 locs1 (xE_up (u := (g, y, a, z, dr, pg, t)) (u' := (g, y, a, z, dr, upd pg i (vp_nar .byte x), t)) rfl rfl (xE_same (u' := (g, y, a, z, dr, upd pg i (vp_nar .byte x), t)) (u := (g, y, a, z, dr, pg, t)) rfl (fun _ => rfl) (fun _ _ => rfl) (fun q => absurd ⟨rfl, rfl⟩ q) (fun _ _ => rfl) (fun _ _ _ => rfl)) hP hH.2) hS1)
end XROWS
