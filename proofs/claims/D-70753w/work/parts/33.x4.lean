/-! CLASS: isOf by kind -/
set_option maxRecDepth 100000
/-- whether a street of a kind is of a kind -/
def fXS_isOf (t : TW) (i : Nat) (kd : Int32) : Int32 := if tk t i = 1 then fX6_isOf_1 t i kd else if tk t i = 4 then fX9_isOf t i kd else fX5_isOf t i kd

set_option maxHeartbeats 4000000 in
theorem x_visOf {p : Program} {l : Launch} {e : Env} {R : Room} {s : State} {m : MethodId} {args : Array Value} {below : List Frame} {meth : Method} {c : Code} {H : Heap} {locs : List Loc} {cells slots : Nat} {Q : State → Prop} {cc : ByteArray} {pc nL index : Nat} {ls : Array Slot} {rest st0 : List Value} {ω : OM} {own : String} {g : Nat → Nat → Nat} {y : Nat → Nat → Int32} {a z : Nat → Nat → Nat → Int32} {dr : Int64} {pg : Nat → Int32} {t : TW} (hF : CallFix p m c cc nL s args lw_all own) (hK : xK ω s) (hH : xH ω (g, y, a, z, dr, pg, t) H) (i : Nat) (hi : i < tn t) (kd : Int32) (hlink : Cond.methodLink own index yX5_isOf ∈ lw_all) (hR : 4 + 1 ≤ R.frames ∧ 107 ≤ R.locals) (hls : ls.size = nL) (hst : st0 = ([.int kd] : List Value).reverse ++ .ref (tsa t i) :: rest) (hW : (rest.map fun v => v.category).sum ≤ 8) (hdg : decode cc pc = .ok (.invokevirtual index, 3)) (hcap : cells ≤ R.cells ∧ slots ≤ R.slots)
    (kk : W p l e R s m args below meth c H locs cells slots Q (F0 m (pc + 3) ls (.int (fXS_isOf t i kd) :: rest))) : W p l e R s m args below meth c H locs cells slots Q (F0 m pc ls st0) := by
  obtain ⟨hR1, hR2⟩ := hR
  rcases xs_kind hH hi with h | h | h | h | h
  · refine x_virtU (owner := "HurtStreets$Street") hF hK hH (k := 0) hi h rfl (kX5_isOf l ω g y a z dr pg t i hi kd) (lw_U hlink q726 q725 q724 q102 q737) 1 rfl (by decide +kernel) rfl rfl ⟨by show 2 + 1 ≤ _; omega, by show 8 + (2 + 11) + 44 ≤ _; omega⟩ rfl hls hst hW hdg hcap (fun r hr => ?_)
    rw [hr]
    have h : tk t i = 0 := h
    rw [show fXS_isOf t i kd = fX5_isOf t i kd from by unfold fXS_isOf; rw [if_neg (by omega), if_neg (by omega)]] at kk
    exact kk
  · refine x_virtO (owner := "HurtStreets$Street") hF hK hH (k := 1) hi h rfl (kX6_isOf_1 l ω g y a z dr pg t i hi kd h) (lw_O hlink q726 q724 q735 q731 q103 q732) 1 q737 (by decide +kernel) rfl rfl ⟨by show 3 + 1 ≤ _; omega, by show 8 + (2 + 11) + 65 ≤ _; omega⟩ rfl hls hst hW hdg hcap (fun r hr => ?_)
    rw [hr]
    have h : tk t i = 1 := h
    rw [show fXS_isOf t i kd = fX6_isOf_1 t i kd from by unfold fXS_isOf; rw [if_pos h]] at kk
    exact kk
  · refine x_virtU (owner := "HurtStreets$Street") hF hK hH (k := 2) hi h rfl (kX5_isOf l ω g y a z dr pg t i hi kd) (lw_U hlink q726 q736 q724 q102 q737) 1 rfl (by decide +kernel) rfl rfl ⟨by show 2 + 1 ≤ _; omega, by show 8 + (2 + 11) + 44 ≤ _; omega⟩ rfl hls hst hW hdg hcap (fun r hr => ?_)
    rw [hr]
    have h : tk t i = 2 := h
    rw [show fXS_isOf t i kd = fX5_isOf t i kd from by unfold fXS_isOf; rw [if_neg (by omega), if_neg (by omega)]] at kk
    exact kk
  · refine x_virtU (owner := "HurtStreets$Street") hF hK hH (k := 3) hi h rfl (kX5_isOf l ω g y a z dr pg t i hi kd) (lw_U hlink q726 q734 q724 q102 q737) 1 rfl (by decide +kernel) rfl rfl ⟨by show 2 + 1 ≤ _; omega, by show 8 + (2 + 11) + 44 ≤ _; omega⟩ rfl hls hst hW hdg hcap (fun r hr => ?_)
    rw [hr]
    have h : tk t i = 3 := h
    rw [show fXS_isOf t i kd = fX5_isOf t i kd from by unfold fXS_isOf; rw [if_neg (by omega), if_neg (by omega)]] at kk
    exact kk
  · refine x_virtO (owner := "HurtStreets$Street") hF hK hH (k := 4) hi h rfl (kX9_isOf l ω g y a z dr pg t i hi kd h) (lw_O hlink q726 q724 q727 q728 q106 q729) 1 q737 (by decide +kernel) rfl rfl ⟨by show 4 + 1 ≤ _; omega, by show 8 + (2 + 11) + 86 ≤ _; omega⟩ rfl hls hst hW hdg hcap (fun r hr => ?_)
    rw [hr]
    have h : tk t i = 4 := h
    rw [show fXS_isOf t i kd = fX9_isOf t i kd from by unfold fXS_isOf; rw [if_neg (by omega), if_pos h]] at kk
    exact kk

