/-! CLASS: calls by kind -/
set_option maxRecDepth 100000
/-- how much a street of a kind hurts -/
def fXS_hurts (k : Nat) (td dy of : Int32) : Int32 := match k with
  | 0 => fX5_hurts
  | 1 => fX6_hurts_1 td
  | 2 => fX7_hurts td dy
  | 3 => fX8_hurts td
  | _ => fX9_hurts td of

set_option maxHeartbeats 4000000 in
theorem x_vhurts {p : Program} {l : Launch} {e : Env} {R : Room} {s : State} {m : MethodId} {args : Array Value} {below : List Frame} {meth : Method} {c : Code} {H : Heap} {locs : List Loc} {cells slots : Nat} {Q : State → Prop} {cc : ByteArray} {pc nL index : Nat} {ls : Array Slot} {rest st0 : List Value} {ω : OM} {own : String} {g : Nat → Nat → Nat} {y : Nat → Nat → Int32} {a z : Nat → Nat → Nat → Int32} {dr : Int64} {pg : Nat → Int32} {t : TW} (hF : CallFix p m c cc nL s args lw_all own) (hK : xK ω s) (hH : xH ω (g, y, a, z, dr, pg, t) H) (i : Nat) (hi : i < tn t) (td : Int32) (dy : Int32) (of : Int32) (hlink : Cond.methodLink own index yX5_hurts ∈ lw_all) (hR : 3 + 1 ≤ R.frames ∧ 93 ≤ R.locals) (hls : ls.size = nL) (hst : st0 = ([.int td, .int dy, .int of] : List Value).reverse ++ .ref (tsa t i) :: rest) (hW : (rest.map fun v => v.category).sum ≤ 8) (hdg : decode cc pc = .ok (.invokevirtual index, 3)) (hcap : cells ≤ R.cells ∧ slots ≤ R.slots)
    (kk : W p l e R s m args below meth c H locs cells slots Q (F0 m (pc + 3) ls (.int (fXS_hurts (tk t i) td dy of) :: rest))) : W p l e R s m args below meth c H locs cells slots Q (F0 m pc ls st0) := by
  obtain ⟨hR1, hR2⟩ := hR
  rcases xs_kind hH hi with h | h | h | h | h
  · refine x_virtU (owner := "HurtStreets$Street") hF hK hH (k := 0) hi h rfl (kX5_hurts l ω g y a z dr pg t i hi td dy of) (lw_U hlink q639 q638 q637 q102 q657) 3 rfl (by decide +kernel) rfl rfl ⟨by show 1 + 1 ≤ _; omega, by show 8 + (4 + 11) + 24 ≤ _; omega⟩ rfl hls hst hW hdg hcap (fun r hr => ?_)
    rw [hr]
    have h : tk t i = 0 := h
    rw [h] at kk
    exact kk
  · refine x_virtO (owner := "HurtStreets$Street") hF hK hH (k := 1) hi h rfl (kX6_hurts_1 l ω g y a z dr pg t i hi td dy of h) (lw_O hlink q639 q637 q651 q644 q103 q645) 3 q657 (by decide +kernel) rfl rfl ⟨by show 2 + 1 ≤ _; omega, by show 8 + (4 + 11) + 47 ≤ _; omega⟩ rfl hls hst hW hdg hcap (fun r hr => ?_)
    rw [hr]
    have h : tk t i = 1 := h
    rw [h] at kk
    exact kk
  · refine x_virtO (owner := "HurtStreets$Street") hF hK hH (k := 2) hi h rfl (kX7_hurts l ω g y a z dr pg t i hi td dy of h) (lw_O hlink q639 q637 q652 q653 q104 q654) 3 q657 (by decide +kernel) rfl rfl ⟨by show 2 + 1 ≤ _; omega, by show 8 + (4 + 11) + 47 ≤ _; omega⟩ rfl hls hst hW hdg hcap (fun r hr => ?_)
    rw [hr]
    have h : tk t i = 2 := h
    rw [h] at kk
    exact kk
  · refine x_virtO (owner := "HurtStreets$Street") hF hK hH (k := 3) hi h rfl (kX8_hurts l ω g y a z dr pg t i hi td dy of h) (lw_O hlink q639 q637 q647 q648 q105 q649) 3 q657 (by decide +kernel) rfl rfl ⟨by show 2 + 1 ≤ _; omega, by show 8 + (4 + 11) + 47 ≤ _; omega⟩ rfl hls hst hW hdg hcap (fun r hr => ?_)
    rw [hr]
    have h : tk t i = 3 := h
    rw [h] at kk
    exact kk
  · refine x_virtO (owner := "HurtStreets$Street") hF hK hH (k := 4) hi h rfl (kX9_hurts l ω g y a z dr pg t i hi td dy of h) (lw_O hlink q639 q637 q640 q641 q106 q642) 3 q657 (by decide +kernel) rfl rfl ⟨by show 3 + 1 ≤ _; omega, by show 8 + (4 + 11) + 70 ≤ _; omega⟩ rfl hls hst hW hdg hcap (fun r hr => ?_)
    rw [hr]
    have h : tk t i = 4 := h
    rw [h] at kk
    exact kk

set_option maxHeartbeats 4000000 in
theorem x_vkind {p : Program} {l : Launch} {e : Env} {R : Room} {s : State} {m : MethodId} {args : Array Value} {below : List Frame} {meth : Method} {c : Code} {H : Heap} {locs : List Loc} {cells slots : Nat} {Q : State → Prop} {cc : ByteArray} {pc nL index : Nat} {ls : Array Slot} {rest st0 : List Value} {ω : OM} {own : String} {g : Nat → Nat → Nat} {y : Nat → Nat → Int32} {a z : Nat → Nat → Nat → Int32} {dr : Int64} {pg : Nat → Int32} {t : TW} (hF : CallFix p m c cc nL s args lw_all own) (hK : xK ω s) (hH : xH ω (g, y, a, z, dr, pg, t) H) (i : Nat) (hi : i < tn t) (hlink : Cond.methodLink own index yX5_kind ∈ lw_all) (hR : 1 + 1 ≤ R.frames ∧ 44 ≤ R.locals) (hls : ls.size = nL) (hst : st0 = ([] : List Value).reverse ++ .ref (tsa t i) :: rest) (hW : (rest.map fun v => v.category).sum ≤ 8) (hdg : decode cc pc = .ok (.invokevirtual index, 3)) (hcap : cells ≤ R.cells ∧ slots ≤ R.slots)
    (kk : W p l e R s m args below meth c H locs cells slots Q (F0 m (pc + 3) ls (.int (nI (tk t i)) :: rest))) : W p l e R s m args below meth c H locs cells slots Q (F0 m pc ls st0) := by
  obtain ⟨hR1, hR2⟩ := hR
  rcases xs_kind hH hi with h | h | h | h | h
  · refine x_virtU (owner := "HurtStreets$Street") hF hK hH (k := 0) hi h rfl (kX5_kind l ω g y a z dr pg t i hi) (lw_U hlink q700 q699 q698 q102 q713) 0 rfl (by decide +kernel) rfl rfl ⟨by show 1 + 1 ≤ _; omega, by show 8 + (1 + 11) + 24 ≤ _; omega⟩ rfl hls hst hW hdg hcap (fun r hr => ?_)
    rw [hr]
    have h : tk t i = 0 := h
    rw [h] at kk
    exact kk
  · refine x_virtO (owner := "HurtStreets$Street") hF hK hH (k := 1) hi h rfl (kX6_kind l ω g y a z dr pg t i hi) (lw_O hlink q700 q698 q707 q708 q103 q709) 0 q713 (by decide +kernel) rfl rfl ⟨by show 1 + 1 ≤ _; omega, by show 8 + (1 + 11) + 24 ≤ _; omega⟩ rfl hls hst hW hdg hcap (fun r hr => ?_)
    rw [hr]
    have h : tk t i = 1 := h
    rw [h] at kk
    exact kk
  · refine x_virtO (owner := "HurtStreets$Street") hF hK hH (k := 2) hi h rfl (kX7_kind l ω g y a z dr pg t i hi) (lw_O hlink q700 q698 q710 q711 q104 q712) 0 q713 (by decide +kernel) rfl rfl ⟨by show 1 + 1 ≤ _; omega, by show 8 + (1 + 11) + 24 ≤ _; omega⟩ rfl hls hst hW hdg hcap (fun r hr => ?_)
    rw [hr]
    have h : tk t i = 2 := h
    rw [h] at kk
    exact kk
  · refine x_virtO (owner := "HurtStreets$Street") hF hK hH (k := 3) hi h rfl (kX8_kind l ω g y a z dr pg t i hi) (lw_O hlink q700 q698 q704 q705 q105 q706) 0 q713 (by decide +kernel) rfl rfl ⟨by show 1 + 1 ≤ _; omega, by show 8 + (1 + 11) + 24 ≤ _; omega⟩ rfl hls hst hW hdg hcap (fun r hr => ?_)
    rw [hr]
    have h : tk t i = 3 := h
    rw [h] at kk
    exact kk
  · refine x_virtO (owner := "HurtStreets$Street") hF hK hH (k := 4) hi h rfl (kX9_kind l ω g y a z dr pg t i hi) (lw_O hlink q700 q698 q701 q702 q106 q703) 0 q713 (by decide +kernel) rfl rfl ⟨by show 1 + 1 ≤ _; omega, by show 8 + (1 + 11) + 24 ≤ _; omega⟩ rfl hls hst hW hdg hcap (fun r hr => ?_)
    rw [hr]
    have h : tk t i = 4 := h
    rw [h] at kk
    exact kk

set_option maxHeartbeats 4000000 in
theorem x_vendsAt {p : Program} {l : Launch} {e : Env} {R : Room} {s : State} {m : MethodId} {args : Array Value} {below : List Frame} {meth : Method} {c : Code} {H : Heap} {locs : List Loc} {cells slots : Nat} {Q : State → Prop} {cc : ByteArray} {pc nL index : Nat} {ls : Array Slot} {rest st0 : List Value} {ω : OM} {own : String} {g : Nat → Nat → Nat} {y : Nat → Nat → Int32} {a z : Nat → Nat → Nat → Int32} {dr : Int64} {pg : Nat → Int32} {t : TW} (hF : CallFix p m c cc nL s args lw_all own) (hK : xK ω s) (hH : xH ω (g, y, a, z, dr, pg, t) H) (i : Nat) (hi : i < tn t) (cn : Nat) (hcn : cn < 8) (hlink : Cond.methodLink own index yX5_endsAt ∈ lw_all) (hR : 1 + 1 ≤ R.frames ∧ 45 ≤ R.locals) (hls : ls.size = nL) (hst : st0 = ([.int (nI cn)] : List Value).reverse ++ .ref (tsa t i) :: rest) (hW : (rest.map fun v => v.category).sum ≤ 8) (hdg : decode cc pc = .ok (.invokevirtual index, 3)) (hcap : cells ≤ R.cells ∧ slots ≤ R.slots)
    (kk : W p l e R s m args below meth c H locs cells slots Q (F0 m (pc + 3) ls (.int (fX5_endsAt t i cn) :: rest))) : W p l e R s m args below meth c H locs cells slots Q (F0 m pc ls st0) := by
  obtain ⟨hR1, hR2⟩ := hR
  rcases xs_kind hH hi with h | h | h | h | h
  · refine x_virtU (owner := "HurtStreets$Street") hF hK hH (k := 0) hi h rfl (kX5_endsAt l ω g y a z dr pg t i hi cn hcn) (lw_U hlink q670 q669 q668 q102 q675) 1 rfl (by decide +kernel) rfl rfl ⟨by show 1 + 1 ≤ _; omega, by show 8 + (2 + 11) + 24 ≤ _; omega⟩ rfl hls hst hW hdg hcap (fun r hr => ?_)
    rw [hr]
    have h : tk t i = 0 := h
    exact kk
  · refine x_virtU (owner := "HurtStreets$Street") hF hK hH (k := 1) hi h rfl (kX5_endsAt l ω g y a z dr pg t i hi cn hcn) (lw_U hlink q670 q673 q668 q102 q675) 1 rfl (by decide +kernel) rfl rfl ⟨by show 1 + 1 ≤ _; omega, by show 8 + (2 + 11) + 24 ≤ _; omega⟩ rfl hls hst hW hdg hcap (fun r hr => ?_)
    rw [hr]
    have h : tk t i = 1 := h
    exact kk
  · refine x_virtU (owner := "HurtStreets$Street") hF hK hH (k := 2) hi h rfl (kX5_endsAt l ω g y a z dr pg t i hi cn hcn) (lw_U hlink q670 q674 q668 q102 q675) 1 rfl (by decide +kernel) rfl rfl ⟨by show 1 + 1 ≤ _; omega, by show 8 + (2 + 11) + 24 ≤ _; omega⟩ rfl hls hst hW hdg hcap (fun r hr => ?_)
    rw [hr]
    have h : tk t i = 2 := h
    exact kk
  · refine x_virtU (owner := "HurtStreets$Street") hF hK hH (k := 3) hi h rfl (kX5_endsAt l ω g y a z dr pg t i hi cn hcn) (lw_U hlink q670 q672 q668 q102 q675) 1 rfl (by decide +kernel) rfl rfl ⟨by show 1 + 1 ≤ _; omega, by show 8 + (2 + 11) + 24 ≤ _; omega⟩ rfl hls hst hW hdg hcap (fun r hr => ?_)
    rw [hr]
    have h : tk t i = 3 := h
    exact kk
  · refine x_virtU (owner := "HurtStreets$Street") hF hK hH (k := 4) hi h rfl (kX5_endsAt l ω g y a z dr pg t i hi cn hcn) (lw_U hlink q670 q671 q668 q102 q675) 1 rfl (by decide +kernel) rfl rfl ⟨by show 1 + 1 ≤ _; omega, by show 8 + (2 + 11) + 24 ≤ _; omega⟩ rfl hls hst hW hdg hcap (fun r hr => ?_)
    rw [hr]
    have h : tk t i = 4 := h
    exact kk

set_option maxHeartbeats 4000000 in
theorem x_vfrom {p : Program} {l : Launch} {e : Env} {R : Room} {s : State} {m : MethodId} {args : Array Value} {below : List Frame} {meth : Method} {c : Code} {H : Heap} {locs : List Loc} {cells slots : Nat} {Q : State → Prop} {cc : ByteArray} {pc nL index : Nat} {ls : Array Slot} {rest st0 : List Value} {ω : OM} {own : String} {g : Nat → Nat → Nat} {y : Nat → Nat → Int32} {a z : Nat → Nat → Nat → Int32} {dr : Int64} {pg : Nat → Int32} {t : TW} (hF : CallFix p m c cc nL s args lw_all own) (hK : xK ω s) (hH : xH ω (g, y, a, z, dr, pg, t) H) (i : Nat) (hi : i < tn t) (cn : Nat) (hcn : cn < 8) (hlink : Cond.methodLink own index yX5_from ∈ lw_all) (hR : 1 + 1 ≤ R.frames ∧ 45 ≤ R.locals) (hls : ls.size = nL) (hst : st0 = ([.int (nI cn)] : List Value).reverse ++ .ref (tsa t i) :: rest) (hW : (rest.map fun v => v.category).sum ≤ 8) (hdg : decode cc pc = .ok (.invokevirtual index, 3)) (hcap : cells ≤ R.cells ∧ slots ≤ R.slots)
    (kk : W p l e R s m args below meth c H locs cells slots Q (F0 m (pc + 3) ls (.int (nI (fX5_from t i cn)) :: rest))) : W p l e R s m args below meth c H locs cells slots Q (F0 m pc ls st0) := by
  obtain ⟨hR1, hR2⟩ := hR
  rcases xs_kind hH hi with h | h | h | h | h
  · refine x_virtU (owner := "HurtStreets$Street") hF hK hH (k := 0) hi h rfl (kX5_from l ω g y a z dr pg t i hi cn hcn) (lw_U hlink q679 q678 q677 q102 q684) 1 rfl (by decide +kernel) rfl rfl ⟨by show 1 + 1 ≤ _; omega, by show 8 + (2 + 11) + 24 ≤ _; omega⟩ rfl hls hst hW hdg hcap (fun r hr => ?_)
    rw [hr]
    have h : tk t i = 0 := h
    exact kk
  · refine x_virtU (owner := "HurtStreets$Street") hF hK hH (k := 1) hi h rfl (kX5_from l ω g y a z dr pg t i hi cn hcn) (lw_U hlink q679 q682 q677 q102 q684) 1 rfl (by decide +kernel) rfl rfl ⟨by show 1 + 1 ≤ _; omega, by show 8 + (2 + 11) + 24 ≤ _; omega⟩ rfl hls hst hW hdg hcap (fun r hr => ?_)
    rw [hr]
    have h : tk t i = 1 := h
    exact kk
  · refine x_virtU (owner := "HurtStreets$Street") hF hK hH (k := 2) hi h rfl (kX5_from l ω g y a z dr pg t i hi cn hcn) (lw_U hlink q679 q683 q677 q102 q684) 1 rfl (by decide +kernel) rfl rfl ⟨by show 1 + 1 ≤ _; omega, by show 8 + (2 + 11) + 24 ≤ _; omega⟩ rfl hls hst hW hdg hcap (fun r hr => ?_)
    rw [hr]
    have h : tk t i = 2 := h
    exact kk
  · refine x_virtU (owner := "HurtStreets$Street") hF hK hH (k := 3) hi h rfl (kX5_from l ω g y a z dr pg t i hi cn hcn) (lw_U hlink q679 q681 q677 q102 q684) 1 rfl (by decide +kernel) rfl rfl ⟨by show 1 + 1 ≤ _; omega, by show 8 + (2 + 11) + 24 ≤ _; omega⟩ rfl hls hst hW hdg hcap (fun r hr => ?_)
    rw [hr]
    have h : tk t i = 3 := h
    exact kk
  · refine x_virtU (owner := "HurtStreets$Street") hF hK hH (k := 4) hi h rfl (kX5_from l ω g y a z dr pg t i hi cn hcn) (lw_U hlink q679 q680 q677 q102 q684) 1 rfl (by decide +kernel) rfl rfl ⟨by show 1 + 1 ≤ _; omega, by show 8 + (2 + 11) + 24 ≤ _; omega⟩ rfl hls hst hW hdg hcap (fun r hr => ?_)
    rw [hr]
    have h : tk t i = 4 := h
    exact kk

theorem fX5_from_lt {t : TW} (h : tOK t) {i : Nat} (cn : Nat) (hi : i < tn t) : fX5_from t i cn < 8 := by
  unfold fX5_from
  split
  · exact (h.2.2 i hi).2.2.1
  · exact (h.2.2 i hi).2.1

