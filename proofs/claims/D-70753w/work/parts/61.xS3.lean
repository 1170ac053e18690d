/-! CLASS: ways, lengths: answers by the core -/
set_option maxRecDepth 100000
def fX0_wayTold (g : Nat → Nat → Nat) (t : TW) (td : Nat → Nat) (of : Nat → Nat → Nat) (pn : Nat) (fr : Nat) (to : Nat) (wh : Nat) : Int32 := if (fX1_layWayS t (g (0 + 6) 9) (td pn) (of pn) fr to (fX0_all t)) = 0 then (-1) else if wh = 0 then nI ((cds t (g (0 + 6) 9) (td pn) (of pn) (fX0_all t) to fr) / 1000) else if wh = 1 then nI ((cds t (g (0 + 6) 9) (td pn) (of pn) (fX0_all t) to fr) % 1000) else if wh = 2 then nI (cwl t (g (0 + 6) 9) (td pn) (of pn) (fX0_all t) fr to) else if (cwl t (g (0 + 6) 9) (td pn) (of pn) (fX0_all t) fr to) ≤ (wh - 10) then (-1) else nI (cws t (g (0 + 6) 9) (td pn) (of pn) (fX0_all t) fr to (wh - 10))
def rmX0_wayTold : Room := { frames := 8, cells := 0, slots := 0, locals := 190 }
theorem hdX0_wayTold : yX0_wayTold.cls = RX0 ∧ yX0_wayTold.cls ≠ "java/lang/invoke/MethodHandle" ∧ yX0_wayTold.cls ≠ "java/lang/invoke/VarHandle" ∧ (parseMethodDescriptor yX0_wayTold.desc).map (fun d => d.parameters.length) = some 4 := by decide +kernel
set_option maxHeartbeats 4000000 in
theorem kX0_wayTold (l : Launch) (ω : OM) (g : Nat → Nat → Nat) (y : Nat → Nat → Int32) (a z : Nat → Nat → Nat → Int32) (dr : Int64) (pg : Nat → Int32) (t : TW) (td : Nat → Nat) (of : Nat → Nat → Nat) (hc : xCore g a t 0 td of) (pn : Nat) (fr : Nat) (to : Nat) (wh : Nat) (hpn : pn < 3) (hfr : fr < 8) (hto : to < 8) (hwh : wh < 20) (hwh2 : wh ≤ 2 ∨ 10 ≤ wh) (hsd : xSide g a) : Met l yX0_wayTold (ws_ yX0_wayTold cX0_wayTold 5 (some .int)) rmX0_wayTold (va_Pc [.ref (ω.2.1 0 99), .int (nI pn), .int (nI fr), .int (nI to), .int (nI wh)] (fun U => xK ω U ∧ xH ω (g, y, a, z, dr, pg, t) U.heap)) (va_Qi (fun (r : Int32) (u : XS) => ∃ (q0 : Int32) (q1 : Int32) (q2 : Int32) (q3 : Nat → Int32) (q4 : Nat → Int32), r = (fX0_wayTold g t td of pn fr to wh) ∧ u = (g, up2 (up2 (up2 y (0 + 6) 12 q0) (0 + 6) 13 q1) (0 + 6) 14 q2, a, up2 (up2 z (0 + 6) 10 q3) (0 + 6) 11 q4, dr, pg, t)) (fun u t => xH ω u t.heap) ω.2.2.1) 0 0 ω.2.2.1 := by
  refine g_entWi (C := RX0) rfl (by decide) (Nat.le_of_ble_eq_true rfl) ?_
  intro p e s m args below meth c QQ ls H locs hF hK hH hS hl hret
  have hl : lv_has ls 5 [(0, .ref (ω.2.1 0 99)), (1, .int (nI pn)), (2, .int (nI fr)), (3, .int (nI to)), (4, .int (nI wh))] := hl
  have hn9 : tn t ≤ 9 := hH.2.2.1
  have hok := hc.ok
  have hp3 := hsd.1
  have hs6 := hsd.2.1
  have hp50 := hsd.2.2.1
  refine lv_aload_n hF.1 hF.2.1 dX0_wayTold_0 rfl (lv_at hl 0 rfl) ?_
  refine xg0_3 hF hK hH q221 dX0_wayTold_1 ?_
  refine lv_iload_n hF.1 hF.2.1 dX0_wayTold_4 rfl (lv_at hl 1 rfl) ?_
  refine lv_iload_n hF.1 hF.2.1 dX0_wayTold_5 rfl (lv_at hl 2 rfl) ?_
  refine lv_iload_n hF.1 hF.2.1 dX0_wayTold_6 rfl (lv_at hl 3 rfl) ?_
  refine lv_aload_n hF.1 hF.2.1 dX0_wayTold_7 rfl (lv_at hl 0 rfl) ?_
  refine g_vPi (As := []) (rest := [.int (nI to), .int (nI fr), .int (nI pn), .ref (ω.2.1 (0 + 6) 99)]) hF (kX0_all l ω g y a z dr pg t) (lw_V q609 q611 qs14 q92 q612) 0 hdX0_all rfl rfl ⟨Nat.le_of_ble_eq_true rfl, Nat.le_of_ble_eq_true rfl⟩ (x_preV0 hK hH) rfl hl.1 rfl (Nat.le_of_ble_eq_true rfl) dX0_wayTold_8 ⟨Nat.zero_le _, Nat.zero_le _⟩ (fun r1 e_r1 => ?_)
  refine g_vWi (As := [.int (nI pn), .int (nI fr), .int (nI to), .int r1]) (rest := []) hF (kX1_layWayS l ω g y a z dr pg t 0 (by decide) pn fr to r1 (td pn) (of pn) (hc.P (pn := pn) (by omega)) (by omega) (by omega)) (lw_V q613 q614 q615 q96 q616) 4 hdX1_layWayS rfl rfl ⟨Nat.le_of_ble_eq_true rfl, Nat.le_of_ble_eq_true rfl⟩ (x_preV1 (by decide) hK hH) rfl hl.1 rfl (Nat.le_of_ble_eq_true rfl) dX0_wayTold_11 ⟨Nat.le_of_ble_eq_true rfl, Nat.le_of_ble_eq_true rfl⟩ hS (fun r2 ur2 H locs hqr2 hH hS => ?_)
  obtain ⟨r2h0, r2h1, r2h2, r2h3, r2h4, hr2, hr2_0, rfl⟩ := hqr2
  have e_r2 := hr2
  have hfarr2 := cds_far (dy := (g (0 + 6) 9)) hok (hc.P (pn := pn) (by omega)).td9 (hc.P (pn := pn) (by omega)).of5 r1 (show to < 8 by omega) (fr := fr)
  refine lv_if_ne (tgt := 19) hF.1 hF.2.1 dX0_wayTold_14 (by decide) (fun c3 => ?_) (fun c3 => ?_)
  · skip
    have hwd := fX1_layWayS_lift (by rw [← e_r2]; exact c3)
    have hwl := cwl_lt (dy := (g (0 + 6) 9)) hok (hc.P (pn := pn) (by omega)).td9 (hc.P (pn := pn) (by omega)).of5 r1 (show to < 8 by omega) (show fr < 8 by omega) hwd
    refine lv_iload hF.1 hF.2.1 dX0_wayTold_19 (lv_at hl 4 rfl) ?_
    by_cases c5 : wh = 0
    · skip
      refine n_top (y := nI 0) (by rw [c5]) ?_
      refine lv_tableIn (off := 27) (tgt := 48) hF.1 hF.2.1 dX0_wayTold_21 (by decide) (by decide) (by decide) (by decide) ?_
      refine lv_aload_n hF.1 hF.2.1 dX0_wayTold_48 rfl (lv_at hl 0 rfl) ?_
      refine xg0_3 hF hK hH q221 dX0_wayTold_49 ?_
      refine xgN_q179 (j := 0) (by decide) hF hK hH dX0_wayTold_52 (v := r2h1) (by simp [up2]) ?_
      refine n_top (y := nI ((cds t (g (0 + 6) 9) (td pn) (of pn) r1 to fr) / 1000)) ((hr2_0 hwd).2.1) ?_
      exact hret _ _ _ _ _ _ dX0_wayTold_55 ⟨_, _, _, _, _, by subst e_r2; subst e_r1; unfold fX0_wayTold; first | (rw [if_neg c3, if_pos c5]; done) | (simp only [if_neg c3, if_pos c5]), rfl⟩ hH hS
    by_cases c6 : wh = 1
    · skip
      refine n_top (y := nI 1) (by rw [c6]) ?_
      refine lv_tableIn (off := 35) (tgt := 56) hF.1 hF.2.1 dX0_wayTold_21 (by decide) (by decide) (by decide) (by decide) ?_
      refine lv_aload_n hF.1 hF.2.1 dX0_wayTold_56 rfl (lv_at hl 0 rfl) ?_
      refine xg0_3 hF hK hH q221 dX0_wayTold_57 ?_
      refine xgN_q181 (j := 0) (by decide) hF hK hH dX0_wayTold_60 (v := r2h2) (by simp [up2]) ?_
      refine n_top (y := nI ((cds t (g (0 + 6) 9) (td pn) (of pn) r1 to fr) % 1000)) ((hr2_0 hwd).2.2.1) ?_
      exact hret _ _ _ _ _ _ dX0_wayTold_63 ⟨_, _, _, _, _, by subst e_r2; subst e_r1; unfold fX0_wayTold; first | (rw [if_neg c3, if_neg c5, if_pos c6]; done) | (simp only [if_neg c3, if_neg c5, if_pos c6]), rfl⟩ hH hS
    by_cases c7 : wh = 2
    · skip
      refine n_top (y := nI 2) (by rw [c7]) ?_
      refine lv_tableIn (off := 43) (tgt := 64) hF.1 hF.2.1 dX0_wayTold_21 (by decide) (by decide) (by decide) (by decide) ?_
      refine lv_aload_n hF.1 hF.2.1 dX0_wayTold_64 rfl (lv_at hl 0 rfl) ?_
      refine xg0_3 hF hK hH q221 dX0_wayTold_65 ?_
      refine xgN_q177 (j := 0) (by decide) hF hK hH dX0_wayTold_68 (v := r2h0) (by simp [up2]) ?_
      refine n_top (y := nI (cwl t (g (0 + 6) 9) (td pn) (of pn) r1 fr to)) ((hr2_0 hwd).1) ?_
      exact hret _ _ _ _ _ _ dX0_wayTold_71 ⟨_, _, _, _, _, by subst e_r2; subst e_r1; unfold fX0_wayTold; first | (rw [if_neg c3, if_neg c5, if_neg c6, if_pos c7]; done) | (simp only [if_neg c3, if_neg c5, if_neg c6, if_pos c7]), rfl⟩ hH hS
    have kd4 : W p l e rmX0_wayTold s m args below meth c H locs 0 0 QQ (F0 m 72 ls []) := by
      skip
      refine lv_iload hF.1 hF.2.1 dX0_wayTold_72 (lv_at hl 4 rfl) ?_
      refine lv_bipush (v := nI 10) hF.1 hF.2.1 dX0_wayTold_74 (by decide) ?_
      refine n_isub hF.1 hF.2.1 dX0_wayTold_76 (by omega) ?_
      refine lv_aload_n hF.1 hF.2.1 dX0_wayTold_77 rfl (lv_at hl 0 rfl) ?_
      refine xg0_3 hF hK hH q221 dX0_wayTold_78 ?_
      refine xgN_q177 (j := 0) (by decide) hF hK hH dX0_wayTold_81 (v := r2h0) (by simp [up2]) ?_
      refine n_top (y := nI (cwl t (g (0 + 6) 9) (td pn) (of pn) r1 fr to)) ((hr2_0 hwd).1) ?_
      refine n_ge (tgt := 103) hF.1 hF.2.1 dX0_wayTold_84 (by decide) (by omega) (by omega) (fun c8 => ?_) (fun c8 => ?_)
      · skip
        refine lv_iconst (v := (-1)) hF.1 hF.2.1 dX0_wayTold_103 (by decide) ?_
        exact hret _ _ _ _ _ _ dX0_wayTold_104 ⟨_, _, _, _, _, by subst e_r2; subst e_r1; unfold fX0_wayTold; first | (rw [if_neg c3, if_neg c5, if_neg c6, if_neg c7, if_pos c8]; done) | (simp only [if_neg c3, if_neg c5, if_neg c6, if_neg c7, if_pos c8]), rfl⟩ hH hS
      · skip
        refine lv_aload_n hF.1 hF.2.1 dX0_wayTold_87 rfl (lv_at hl 0 rfl) ?_
        refine xg0_3 hF hK hH q221 dX0_wayTold_88 ?_
        refine xgN_q175 (j := 0) (by decide) hF hK hH dX0_wayTold_91 ?_
        refine lv_iload hF.1 hF.2.1 dX0_wayTold_94 (lv_at hl 4 rfl) ?_
        refine lv_bipush (v := nI 10) hF.1 hF.2.1 dX0_wayTold_96 (by decide) ?_
        refine n_isub hF.1 hF.2.1 dX0_wayTold_98 (by omega) ?_
        refine x1_zld (j := 0) (by decide) hF hK hH 11 (n := 8) rfl rfl (by decide) rfl (f := r2h4) (by simp [up2]) (i := wh - 10) (by omega) (by decide) dX0_wayTold_99 ?_
        refine n_top (y := nI (cws t (g (0 + 6) 9) (td pn) (of pn) r1 fr to (wh - 10))) ((hr2_0 hwd).2.2.2 _ (by omega)) ?_
        refine lv_goto (tgt := 104) hF.1 hF.2.1 dX0_wayTold_100 (by decide) ?_
        exact hret _ _ _ _ _ _ dX0_wayTold_104 ⟨_, _, _, _, _, by subst e_r2; subst e_r1; unfold fX0_wayTold; first | (rw [if_neg c3, if_neg c5, if_neg c6, if_neg c7, if_neg c8]; done) | (simp only [if_neg c3, if_neg c5, if_neg c6, if_neg c7, if_neg c8]), rfl⟩ hH hS
    by_cases hlo : (nI wh).toInt < 0
    · exact lv_tableOut (tgt := 72) hF.1 hF.2.1 dX0_wayTold_21 (Or.inl hlo) (by decide) kd4
    by_cases hhi : 2 < (nI wh).toInt
    · exact lv_tableOut (tgt := 72) hF.1 hF.2.1 dX0_wayTold_21 (Or.inr hhi) (by decide) kd4
    by_cases hv0 : (nI wh).toInt = 0
    · exact absurd ((nI_eq (by omega) (by omega)).mp (Int32.toInt_inj.mp (hv0.trans (by decide)) : (nI wh) = nI 0)) c5
    by_cases hv1 : (nI wh).toInt = 1
    · exact absurd ((nI_eq (by omega) (by omega)).mp (Int32.toInt_inj.mp (hv1.trans (by decide)) : (nI wh) = nI 1)) c6
    by_cases hv2 : (nI wh).toInt = 2
    · exact absurd ((nI_eq (by omega) (by omega)).mp (Int32.toInt_inj.mp (hv2.trans (by decide)) : (nI wh) = nI 2)) c7
    exfalso
    omega
  · skip
    refine lv_iconst (v := (-1)) hF.1 hF.2.1 dX0_wayTold_17 (by decide) ?_
    exact hret _ _ _ _ _ _ dX0_wayTold_18 ⟨_, _, _, _, _, by subst e_r2; subst e_r1; unfold fX0_wayTold; first | (rw [if_pos c3]; done) | (simp only [if_pos c3]), rfl⟩ hH hS

def fX0_way (g : Nat → Nat → Nat) (t : TW) (td : Nat → Nat) (of : Nat → Nat → Nat) (pn : Int32) (fr : Int32) (to : Int32) (wh : Int32) : Int32 := if (fX0_isWay g pn fr to) = 0 then (-101) else if (fX0_in wh (nI 0) (nI 2)) = 0 then if (fX0_in wh (nI 10) (nI 16)) = 0 then (-102) else (fX0_wayTold g t td of (toN pn) (toN fr) (toN to) (toN wh)) else (fX0_wayTold g t td of (toN pn) (toN fr) (toN to) (toN wh))
def rmX0_way : Room := { frames := 9, cells := 0, slots := 0, locals := 214 }
theorem hdX0_way : yX0_way.cls = RX0 ∧ yX0_way.cls ≠ "java/lang/invoke/MethodHandle" ∧ yX0_way.cls ≠ "java/lang/invoke/VarHandle" ∧ (parseMethodDescriptor yX0_way.desc).map (fun d => d.parameters.length) = some 4 := by decide +kernel
set_option maxHeartbeats 4000000 in
theorem kX0_way (l : Launch) (ω : OM) (g : Nat → Nat → Nat) (y : Nat → Nat → Int32) (a z : Nat → Nat → Nat → Int32) (dr : Int64) (pg : Nat → Int32) (t : TW) (td : Nat → Nat) (of : Nat → Nat → Nat) (hc : xCore g a t 0 td of) (pn : Int32) (fr : Int32) (to : Int32) (wh : Int32) (hsd : xSide g a) : Met l yX0_way (ws_ yX0_way cX0_way 5 (some .int)) rmX0_way (va_Pc [.ref (ω.2.1 0 99), .int pn, .int fr, .int to, .int wh] (fun U => xK ω U ∧ xH ω (g, y, a, z, dr, pg, t) U.heap)) (va_Qi (fun (r : Int32) (u : XS) => ∃ (q0 : Int32) (q1 : Int32) (q2 : Int32) (q3 : Nat → Int32) (q4 : Nat → Int32), r = (fX0_way g t td of pn fr to wh) ∧ u = (g, up2 (up2 (up2 y (0 + 6) 12 q0) (0 + 6) 13 q1) (0 + 6) 14 q2, a, up2 (up2 z (0 + 6) 10 q3) (0 + 6) 11 q4, dr, pg, t)) (fun u t => xH ω u t.heap) ω.2.2.1) 0 0 ω.2.2.1 := by
  refine g_entWi (C := RX0) rfl (by decide) (Nat.le_of_ble_eq_true rfl) ?_
  intro p e s m args below meth c QQ ls H locs hF hK hH hS hl hret
  have hl : lv_has ls 5 [(0, .ref (ω.2.1 0 99)), (1, .int pn), (2, .int fr), (3, .int to), (4, .int wh)] := hl
  have hn9 : tn t ≤ 9 := hH.2.2.1
  have hok := hc.ok
  have hp3 := hsd.1
  have hs6 := hsd.2.1
  have hp50 := hsd.2.2.1
  refine lv_aload_n hF.1 hF.2.1 dX0_way_0 rfl (lv_at hl 0 rfl) ?_
  refine lv_iload_n hF.1 hF.2.1 dX0_way_1 rfl (lv_at hl 1 rfl) ?_
  refine lv_iload_n hF.1 hF.2.1 dX0_way_2 rfl (lv_at hl 2 rfl) ?_
  refine lv_iload_n hF.1 hF.2.1 dX0_way_3 rfl (lv_at hl 3 rfl) ?_
  refine g_vPi (As := [.int pn, .int fr, .int to]) (rest := []) hF (kX0_isWay l ω g y a z dr pg t pn fr to) (lw_V q760 q762 qs22 q92 q763) 3 hdX0_isWay rfl rfl ⟨Nat.le_of_ble_eq_true rfl, Nat.le_of_ble_eq_true rfl⟩ (x_preV0 hK hH) rfl hl.1 rfl (Nat.le_of_ble_eq_true rfl) dX0_way_4 ⟨Nat.zero_le _, Nat.zero_le _⟩ (fun r1 e_r1 => ?_)
  refine lv_if_ne (tgt := 13) hF.1 hF.2.1 dX0_way_7 (by decide) (fun c2 => ?_) (fun c2 => ?_)
  · skip
    refine lv_iload hF.1 hF.2.1 dX0_way_13 (lv_at hl 4 rfl) ?_
    refine lv_iconst (v := nI 0) hF.1 hF.2.1 dX0_way_15 (by decide) ?_
    refine lv_iconst (v := nI 2) hF.1 hF.2.1 dX0_way_16 (by decide) ?_
    refine g_sPi (As := [.int wh, .int (nI 0), .int (nI 2)]) (rest := []) hF (kX0_in l wh (nI 0) (nI 2)) (lw_S q301 q302 q92 q303) 3 hdX0_in.2 rfl rfl ⟨Nat.le_of_ble_eq_true rfl, Nat.le_of_ble_eq_true rfl⟩ g_pre0 rfl hl.1 rfl (Nat.le_of_ble_eq_true rfl) dX0_way_17 ⟨Nat.zero_le _, Nat.zero_le _⟩ (fun r3 e_r3 => ?_)
    refine lv_if_ne (tgt := 35) hF.1 hF.2.1 dX0_way_20 (by decide) (fun c4 => ?_) (fun c4 => ?_)
    · skip
      obtain ⟨b5e, b5l⟩ := g_lift (r := pn) (n := 3) (xWay_lift hp3 (by rw [← e_r1]; exact c2)) (by omega)
      obtain ⟨b6e, b6l⟩ := g_lift (r := fr) (n := 8) (xWayF (by rw [← e_r1]; exact c2)) (by omega)
      obtain ⟨b7e, b7l⟩ := g_lift (r := to) (n := 8) (xWayT (by rw [← e_r1]; exact c2)) (by omega)
      obtain ⟨b8e, b8l⟩ := g_lift (r := wh) (n := 3) (in32_lift2 (m := 0) (k := 2) rfl (by omega) (by omega) (by rw [← e_r3]; exact c4)) (by omega)
      have hlow : True := trivial
      refine lv_aload_n hF.1 hF.2.1 dX0_way_35 rfl (lv_at hl 0 rfl) ?_
      refine lv_iload_n hF.1 hF.2.1 dX0_way_36 rfl (lv_at hl 1 rfl) ?_
      refine n_top b5e ?_
      refine lv_iload_n hF.1 hF.2.1 dX0_way_37 rfl (lv_at hl 2 rfl) ?_
      refine n_top b6e ?_
      refine lv_iload_n hF.1 hF.2.1 dX0_way_38 rfl (lv_at hl 3 rfl) ?_
      refine n_top b7e ?_
      refine lv_iload hF.1 hF.2.1 dX0_way_39 (lv_at hl 4 rfl) ?_
      refine n_top b8e ?_
      refine g_vWi (As := [.int (nI (toN pn)), .int (nI (toN fr)), .int (nI (toN to)), .int (nI (toN wh))]) (rest := []) hF (kX0_wayTold l ω g y a z dr pg t td of hc (toN pn) (toN fr) (toN to) (toN wh) (by omega) (by omega) (by omega) (by omega) (by omega) hsd) (lw_V q767 q769 qs23 q92 q770) 4 hdX0_wayTold rfl rfl ⟨Nat.le_of_ble_eq_true rfl, Nat.le_of_ble_eq_true rfl⟩ (x_preV0 hK hH) rfl hl.1 rfl (Nat.le_of_ble_eq_true rfl) dX0_way_41 ⟨Nat.le_of_ble_eq_true rfl, Nat.le_of_ble_eq_true rfl⟩ hS (fun r9 ur9 H locs hqr9 hH hS => ?_)
      obtain ⟨r9h0, r9h1, r9h2, r9h3, r9h4, hr9, rfl⟩ := hqr9
      have e_r9 := hr9
      refine lv_goto (tgt := 49) hF.1 hF.2.1 dX0_way_44 (by decide) ?_
      exact hret _ _ _ _ _ _ dX0_way_49 ⟨_, _, _, _, _, by subst e_r9; subst e_r3; subst e_r1; unfold fX0_way; first | (rw [if_neg c2, if_neg c4]; done) | (simp only [if_neg c2, if_neg c4]), rfl⟩ hH hS
    · skip
      refine lv_iload hF.1 hF.2.1 dX0_way_23 (lv_at hl 4 rfl) ?_
      refine lv_bipush (v := nI 10) hF.1 hF.2.1 dX0_way_25 (by decide) ?_
      refine lv_bipush (v := nI 16) hF.1 hF.2.1 dX0_way_27 (by decide) ?_
      refine g_sPi (As := [.int wh, .int (nI 10), .int (nI 16)]) (rest := []) hF (kX0_in l wh (nI 10) (nI 16)) (lw_S q301 q302 q92 q303) 3 hdX0_in.2 rfl rfl ⟨Nat.le_of_ble_eq_true rfl, Nat.le_of_ble_eq_true rfl⟩ g_pre0 rfl hl.1 rfl (Nat.le_of_ble_eq_true rfl) dX0_way_29 ⟨Nat.zero_le _, Nat.zero_le _⟩ (fun r10 e_r10 => ?_)
      refine lv_if_eq (tgt := 47) hF.1 hF.2.1 dX0_way_32 (by decide) (fun c11 => ?_) (fun c11 => ?_)
      · skip
        refine lv_bipush (v := (-102)) hF.1 hF.2.1 dX0_way_47 (by decide) ?_
        have hH : xH ω (g, up2 (up2 (up2 y (0 + 6) 12 (y (0 + 6) 12)) (0 + 6) 13 (y (0 + 6) 13)) (0 + 6) 14 (y (0 + 6) 14), a, up2 (up2 z (0 + 6) 10 (z (0 + 6) 10)) (0 + 6) 11 (z (0 + 6) 11), dr, pg, t) H := x_ext (fun _ _ => rfl) (by intro o k; by_cases h0 : o = (0 + 6) ∧ k = 12; (obtain ⟨rfl, rfl⟩ := h0; simp [up2]); by_cases h1 : o = (0 + 6) ∧ k = 13; (obtain ⟨rfl, rfl⟩ := h1; simp [up2]); by_cases h2 : o = (0 + 6) ∧ k = 14; (obtain ⟨rfl, rfl⟩ := h2; simp [up2]); simp only [up2, if_neg h0, if_neg h1, if_neg h2]) (fun _ _ => rfl) (by intro o k; by_cases h0 : o = (0 + 6) ∧ k = 10; (obtain ⟨rfl, rfl⟩ := h0; simp [up2]); by_cases h1 : o = (0 + 6) ∧ k = 11; (obtain ⟨rfl, rfl⟩ := h1; simp [up2]); simp only [up2, if_neg h0, if_neg h1]) hH
        exact hret _ _ _ _ _ _ dX0_way_49 ⟨_, _, _, _, _, by subst e_r10; subst e_r3; subst e_r1; unfold fX0_way; first | (rw [if_neg c2, if_pos c4, if_pos c11]; done) | (simp only [if_neg c2, if_pos c4, if_pos c11]), rfl⟩ hH hS
      · skip
        obtain ⟨b12e, b12l⟩ := g_lift (r := pn) (n := 3) (xWay_lift hp3 (by rw [← e_r1]; exact c2)) (by omega)
        obtain ⟨b13e, b13l⟩ := g_lift (r := fr) (n := 8) (xWayF (by rw [← e_r1]; exact c2)) (by omega)
        obtain ⟨b14e, b14l⟩ := g_lift (r := to) (n := 8) (xWayT (by rw [← e_r1]; exact c2)) (by omega)
        obtain ⟨b15e, b15l⟩ := g_lift (r := wh) (n := 17) (in32_lift2 (m := 10) (k := 16) rfl (by omega) (by omega) (by rw [← e_r10]; exact c11)) (by omega)
        have hlow := in32_low (x := wh) (m := 10) (k := 16) (by omega) (by omega) (by rw [← e_r10]; exact c11)
        refine lv_aload_n hF.1 hF.2.1 dX0_way_35 rfl (lv_at hl 0 rfl) ?_
        refine lv_iload_n hF.1 hF.2.1 dX0_way_36 rfl (lv_at hl 1 rfl) ?_
        refine n_top b12e ?_
        refine lv_iload_n hF.1 hF.2.1 dX0_way_37 rfl (lv_at hl 2 rfl) ?_
        refine n_top b13e ?_
        refine lv_iload_n hF.1 hF.2.1 dX0_way_38 rfl (lv_at hl 3 rfl) ?_
        refine n_top b14e ?_
        refine lv_iload hF.1 hF.2.1 dX0_way_39 (lv_at hl 4 rfl) ?_
        refine n_top b15e ?_
        refine g_vWi (As := [.int (nI (toN pn)), .int (nI (toN fr)), .int (nI (toN to)), .int (nI (toN wh))]) (rest := []) hF (kX0_wayTold l ω g y a z dr pg t td of hc (toN pn) (toN fr) (toN to) (toN wh) (by omega) (by omega) (by omega) (by omega) (by omega) hsd) (lw_V q767 q769 qs23 q92 q770) 4 hdX0_wayTold rfl rfl ⟨Nat.le_of_ble_eq_true rfl, Nat.le_of_ble_eq_true rfl⟩ (x_preV0 hK hH) rfl hl.1 rfl (Nat.le_of_ble_eq_true rfl) dX0_way_41 ⟨Nat.le_of_ble_eq_true rfl, Nat.le_of_ble_eq_true rfl⟩ hS (fun r16 ur16 H locs hqr16 hH hS => ?_)
        obtain ⟨r16h0, r16h1, r16h2, r16h3, r16h4, hr16, rfl⟩ := hqr16
        have e_r16 := hr16
        refine lv_goto (tgt := 49) hF.1 hF.2.1 dX0_way_44 (by decide) ?_
        exact hret _ _ _ _ _ _ dX0_way_49 ⟨_, _, _, _, _, by subst e_r16; subst e_r10; subst e_r3; subst e_r1; unfold fX0_way; first | (rw [if_neg c2, if_pos c4, if_neg c11]; done) | (simp only [if_neg c2, if_pos c4, if_neg c11]), rfl⟩ hH hS
  · skip
    refine lv_bipush (v := (-101)) hF.1 hF.2.1 dX0_way_10 (by decide) ?_
    have hH : xH ω (g, up2 (up2 (up2 y (0 + 6) 12 (y (0 + 6) 12)) (0 + 6) 13 (y (0 + 6) 13)) (0 + 6) 14 (y (0 + 6) 14), a, up2 (up2 z (0 + 6) 10 (z (0 + 6) 10)) (0 + 6) 11 (z (0 + 6) 11), dr, pg, t) H := x_ext (fun _ _ => rfl) (by intro o k; by_cases h0 : o = (0 + 6) ∧ k = 12; (obtain ⟨rfl, rfl⟩ := h0; simp [up2]); by_cases h1 : o = (0 + 6) ∧ k = 13; (obtain ⟨rfl, rfl⟩ := h1; simp [up2]); by_cases h2 : o = (0 + 6) ∧ k = 14; (obtain ⟨rfl, rfl⟩ := h2; simp [up2]); simp only [up2, if_neg h0, if_neg h1, if_neg h2]) (fun _ _ => rfl) (by intro o k; by_cases h0 : o = (0 + 6) ∧ k = 10; (obtain ⟨rfl, rfl⟩ := h0; simp [up2]); by_cases h1 : o = (0 + 6) ∧ k = 11; (obtain ⟨rfl, rfl⟩ := h1; simp [up2]); simp only [up2, if_neg h0, if_neg h1]) hH
    exact hret _ _ _ _ _ _ dX0_way_12 ⟨_, _, _, _, _, by subst e_r1; unfold fX0_way; first | (rw [if_pos c2]; done) | (simp only [if_pos c2]), rfl⟩ hH hS

def fX0_withinTold_b13 (g : Nat → Nat → Nat) (t : TW) (td : Nat → Nat) (of : Nat → Nat → Nat) (pn : Nat) (fr : Nat) (to : Nat) (i13 : Nat) (S : Int32) : Int32 := jmin S (nI (clF t (g (0 + 6) 9) (td pn) (of pn) fr ((8 * i13) + to)))
def fX0_withinTold (g : Nat → Nat → Nat) (t : TW) (td : Nat → Nat) (of : Nat → Nat → Nat) (pn : Nat) (fr : Nat) (to : Nat) (len : Nat) : Int32 := if (it (fX0_withinTold_b13 g t td of pn fr to) (len + 1) (nI 268435456)) < (nI 268435456) then (it (fX0_withinTold_b13 g t td of pn fr to) (len + 1) (nI 268435456)) else (-1)
def rmX0_withinTold : Room := { frames := 6, cells := 0, slots := 0, locals := 141 }
theorem hdX0_withinTold : yX0_withinTold.cls = RX0 ∧ yX0_withinTold.cls ≠ "java/lang/invoke/MethodHandle" ∧ yX0_withinTold.cls ≠ "java/lang/invoke/VarHandle" ∧ (parseMethodDescriptor yX0_withinTold.desc).map (fun d => d.parameters.length) = some 4 := by decide +kernel
set_option maxHeartbeats 4000000 in
theorem kX0_withinTold (l : Launch) (ω : OM) (g : Nat → Nat → Nat) (y : Nat → Nat → Int32) (a z : Nat → Nat → Nat → Int32) (dr : Int64) (pg : Nat → Int32) (t : TW) (td : Nat → Nat) (of : Nat → Nat → Nat) (hc : xCore g a t 0 td of) (pn : Nat) (fr : Nat) (to : Nat) (len : Nat) (hpn : pn < 3) (hfr : fr < 8) (hto : to < 8) (hlen : len < 82) (hsd : xSide g a) : Met l yX0_withinTold (ws_ yX0_withinTold cX0_withinTold 7 (some .int)) rmX0_withinTold (va_Pc [.ref (ω.2.1 0 99), .int (nI pn), .int (nI fr), .int (nI to), .int (nI len)] (fun U => xK ω U ∧ xH ω (g, y, a, z, dr, pg, t) U.heap)) (va_Qi (fun (r : Int32) (u : XS) => ∃ (q0 : Nat → Int32), r = (fX0_withinTold g t td of pn fr to len) ∧ u = (g, y, a, up2 z 0 8 q0, dr, pg, t)) (fun u t => xH ω u t.heap) ω.2.2.1) 0 0 ω.2.2.1 := by
  refine g_entWi (C := RX0) rfl (by decide) (Nat.le_of_ble_eq_true rfl) ?_
  intro p e s m args below meth c QQ ls H locs hF hK hH hS hl hret
  have hl : lv_has ls 7 [(0, .ref (ω.2.1 0 99)), (1, .int (nI pn)), (2, .int (nI fr)), (3, .int (nI to)), (4, .int (nI len))] := hl
  have hn9 : tn t ≤ 9 := hH.2.2.1
  have hok := hc.ok
  have hp3 := hsd.1
  have hs6 := hsd.2.1
  have hp50 := hsd.2.2.1
  refine lv_aload_n hF.1 hF.2.1 dX0_withinTold_0 rfl (lv_at hl 0 rfl) ?_
  refine lv_iload_n hF.1 hF.2.1 dX0_withinTold_1 rfl (lv_at hl 1 rfl) ?_
  refine lv_iload_n hF.1 hF.2.1 dX0_withinTold_2 rfl (lv_at hl 2 rfl) ?_
  refine g_vWv (As := [.int (nI pn), .int (nI fr)]) (rest := []) hF (kX0_layLengthsS l ω g y a z dr pg t td of hc pn fr (by omega) (by omega)) (lw_V q779 q781 qs25 q92 q782) 2 hdX0_layLengthsS rfl rfl ⟨Nat.le_of_ble_eq_true rfl, Nat.le_of_ble_eq_true rfl⟩ (x_preV0 hK hH) rfl hl.1 rfl (Nat.le_of_ble_eq_true rfl) dX0_withinTold_3 ⟨Nat.le_of_ble_eq_true rfl, Nat.le_of_ble_eq_true rfl⟩ hS (fun ur1 H locs hqr1 hH hS => ?_)
  obtain ⟨r1h0, hr1_0, rfl⟩ := hqr1
  refine lv_ldc (v := nI 268435456) hF.1 hF.2.1 hF.2.2.2.1 (hF.2.2.2.2 _ q783) dX0_withinTold_6 ?_
  refine lv_istore (lv' := [(5, .int (nI 268435456)), (0, .ref (ω.2.1 0 99)), (1, .int (nI pn)), (2, .int (nI fr)), (3, .int (nI to)), (4, .int (nI len))]) hF.1 hF.2.1 dX0_withinTold_8 hl (by decide) rfl (fun ls hl => ?_)
  refine lv_iconst (v := nI 0) hF.1 hF.2.1 dX0_withinTold_10 (by decide) ?_
  refine lv_istore (lv' := [(6, .int (nI 0)), (5, .int (nI 268435456)), (0, .ref (ω.2.1 0 99)), (1, .int (nI pn)), (2, .int (nI fr)), (3, .int (nI to)), (4, .int (nI len))]) hF.1 hF.2.1 dX0_withinTold_11 hl (by decide) rfl (fun ls hl => ?_)
  have lp13_81 : ∀ (d13 i13 : Nat) (x13_5 : Int32) (ls : Array Slot), i13 + d13 = len + 1 → x13_5 = it (fX0_withinTold_b13 g t td of pn fr to) i13 (nI 268435456) → lv_has ls 7 [(6, .int (nI i13)), (5, .int x13_5), (0, .ref (ω.2.1 0 99)), (3, .int (nI to)), (4, .int (nI len))] → W p l e rmX0_withinTold s m args below meth c H locs 0 0 QQ (F0 m 13 ls []) := by
    intro d13
    induction d13 with
    | zero =>
      intro i13 x13_5 ls hi13 hS13 hl
      have hj13 : len + 1 = i13 := by omega
      subst hj13
      have e_x13_5 := hS13
      refine lv_iload hF.1 hF.2.1 dX0_withinTold_13 (lv_at hl 0 rfl) ?_
      refine lv_iload hF.1 hF.2.1 dX0_withinTold_15 (lv_at hl 4 rfl) ?_
      refine n_gt (tgt := 45) hF.1 hF.2.1 dX0_withinTold_17 (by decide) (by omega) (by omega) (fun c2 => ?_) (fun c2 => ?_)
      · skip
        refine lv_iload hF.1 hF.2.1 dX0_withinTold_45 (lv_at hl 1 rfl) ?_
        refine lv_ldc (v := nI 268435456) hF.1 hF.2.1 hF.2.2.2.1 (hF.2.2.2.2 _ q783) dX0_withinTold_47 ?_
        refine lv_icmp_lt (tgt := 56) hF.1 hF.2.1 dX0_withinTold_49 (by decide) (fun c3 => ?_) (fun c3 => ?_)
        · skip
          refine lv_iload hF.1 hF.2.1 dX0_withinTold_56 (lv_at hl 1 rfl) ?_
          exact hret _ _ _ _ _ _ dX0_withinTold_58 ⟨_, by subst e_x13_5; unfold fX0_withinTold; first | (rw [if_pos c3]; done) | (simp only [if_pos c3]), rfl⟩ hH hS
        · skip
          refine lv_iconst (v := (-1)) hF.1 hF.2.1 dX0_withinTold_52 (by decide) ?_
          refine lv_goto (tgt := 58) hF.1 hF.2.1 dX0_withinTold_53 (by decide) ?_
          exact hret _ _ _ _ _ _ dX0_withinTold_58 ⟨_, by subst e_x13_5; unfold fX0_withinTold; first | (rw [if_neg c3]; done) | (simp only [if_neg c3]), rfl⟩ hH hS
      · exact absurd (by omega) c2
    | succ d13 ih =>
      intro i13 x13_5 ls hi13 hS13 hl
      refine lv_iload hF.1 hF.2.1 dX0_withinTold_13 (lv_at hl 0 rfl) ?_
      refine lv_iload hF.1 hF.2.1 dX0_withinTold_15 (lv_at hl 4 rfl) ?_
      refine n_gt (tgt := 45) hF.1 hF.2.1 dX0_withinTold_17 (by decide) (by omega) (by omega) (fun c4 => ?_) (fun c4 => ?_)
      · exact absurd c4 (by omega)
      · skip
        refine lv_iload hF.1 hF.2.1 dX0_withinTold_20 (lv_at hl 1 rfl) ?_
        refine lv_aload_n hF.1 hF.2.1 dX0_withinTold_22 rfl (lv_at hl 2 rfl) ?_
        refine xg0_8 hF hK hH q228 dX0_withinTold_23 ?_
        refine lv_bipush (v := nI 8) hF.1 hF.2.1 dX0_withinTold_26 (by decide) ?_
        refine lv_iload hF.1 hF.2.1 dX0_withinTold_28 (lv_at hl 0 rfl) ?_
        refine n_imul hF.1 hF.2.1 dX0_withinTold_30 ?_
        refine lv_iload_n hF.1 hF.2.1 dX0_withinTold_31 rfl (lv_at hl 3 rfl) ?_
        refine n_iadd hF.1 hF.2.1 dX0_withinTold_32 ?_
        refine x0_zld hF hK hH 8 (n := 656) rfl rfl (by decide) (by decide) rfl (f := r1h0) (by simp [up2]) (i := (8 * i13) + to) (by omega) (by decide) dX0_withinTold_33 ?_
        refine n_top (y := nI (clF t (g (0 + 6) 9) (td pn) (of pn) fr ((8 * i13) + to))) (hr1_0 _ (by omega)) ?_
        refine va_mmin hF.1 hF.2.1 (hF.2.2.1.trans hl.1.symm) hF.2.2.2.1 (hF.2.2.2.2 _ q788) (hF.2.2.2.2 _ q546) (hF.2.2.2.2 _ q108) (hF.2.2.2.2 _ q547) (Nat.le_of_ble_eq_true rfl) (Nat.le_of_ble_eq_true rfl) (Nat.zero_le _) (Nat.zero_le _) dX0_withinTold_34 ?_
        refine n_top (y := jmin x13_5 (nI (clF t (g (0 + 6) 9) (td pn) (of pn) fr ((8 * i13) + to)))) rfl ?_
        refine lv_istore (lv' := [(5, .int (jmin x13_5 (nI (clF t (g (0 + 6) 9) (td pn) (of pn) fr ((8 * i13) + to))))), (6, .int (nI i13)), (0, .ref (ω.2.1 0 99)), (3, .int (nI to)), (4, .int (nI len))]) hF.1 hF.2.1 dX0_withinTold_37 hl (by decide) rfl (fun ls hl => ?_)
        refine n_iinc (lv' := [(6, .int (nI (i13 + 1))), (5, .int (jmin x13_5 (nI (clF t (g (0 + 6) 9) (td pn) (of pn) fr ((8 * i13) + to))))), (0, .ref (ω.2.1 0 99)), (3, .int (nI to)), (4, .int (nI len))]) hF.1 hF.2.1 dX0_withinTold_39 hl (k := 1) rfl (by decide) rfl (fun ls hl => ?_)
        refine lv_goto (tgt := 13) hF.1 hF.2.1 dX0_withinTold_42 (by decide) ?_
        exact ih (i13 + 1) _ _ (by omega) (by rw [it_succ (fX0_withinTold_b13 g t td of pn fr to) i13 _, ← hS13]; try rfl) (lv_sub hl [0, 1, 2, 3, 4] rfl)
  exact lp13_81 (len + 1) 0 _ _ (by omega) rfl (lv_sub hl [0, 1, 2, 5, 6] rfl)

def fX0_within (g : Nat → Nat → Nat) (t : TW) (td : Nat → Nat) (of : Nat → Nat → Nat) (pn : Int32) (fr : Int32) (to : Int32) (len : Int32) : Int32 := if (fX0_isWay g pn fr to) = 0 then (-101) else if (fX0_in len (nI 0) (nI 81)) = 0 then (-102) else (fX0_withinTold g t td of (toN pn) (toN fr) (toN to) (toN len))
def rmX0_within : Room := { frames := 7, cells := 0, slots := 0, locals := 167 }
theorem hdX0_within : yX0_within.cls = RX0 ∧ yX0_within.cls ≠ "java/lang/invoke/MethodHandle" ∧ yX0_within.cls ≠ "java/lang/invoke/VarHandle" ∧ (parseMethodDescriptor yX0_within.desc).map (fun d => d.parameters.length) = some 4 := by decide +kernel
set_option maxHeartbeats 4000000 in
theorem kX0_within (l : Launch) (ω : OM) (g : Nat → Nat → Nat) (y : Nat → Nat → Int32) (a z : Nat → Nat → Nat → Int32) (dr : Int64) (pg : Nat → Int32) (t : TW) (td : Nat → Nat) (of : Nat → Nat → Nat) (hc : xCore g a t 0 td of) (pn : Int32) (fr : Int32) (to : Int32) (len : Int32) (hsd : xSide g a) : Met l yX0_within (ws_ yX0_within cX0_within 5 (some .int)) rmX0_within (va_Pc [.ref (ω.2.1 0 99), .int pn, .int fr, .int to, .int len] (fun U => xK ω U ∧ xH ω (g, y, a, z, dr, pg, t) U.heap)) (va_Qi (fun (r : Int32) (u : XS) => ∃ (q0 : Nat → Int32), r = (fX0_within g t td of pn fr to len) ∧ u = (g, y, a, up2 z 0 8 q0, dr, pg, t)) (fun u t => xH ω u t.heap) ω.2.2.1) 0 0 ω.2.2.1 := by
  refine g_entWi (C := RX0) rfl (by decide) (Nat.le_of_ble_eq_true rfl) ?_
  intro p e s m args below meth c QQ ls H locs hF hK hH hS hl hret
  have hl : lv_has ls 5 [(0, .ref (ω.2.1 0 99)), (1, .int pn), (2, .int fr), (3, .int to), (4, .int len)] := hl
  have hn9 : tn t ≤ 9 := hH.2.2.1
  have hok := hc.ok
  have hp3 := hsd.1
  have hs6 := hsd.2.1
  have hp50 := hsd.2.2.1
  refine lv_aload_n hF.1 hF.2.1 dX0_within_0 rfl (lv_at hl 0 rfl) ?_
  refine lv_iload_n hF.1 hF.2.1 dX0_within_1 rfl (lv_at hl 1 rfl) ?_
  refine lv_iload_n hF.1 hF.2.1 dX0_within_2 rfl (lv_at hl 2 rfl) ?_
  refine lv_iload_n hF.1 hF.2.1 dX0_within_3 rfl (lv_at hl 3 rfl) ?_
  refine g_vPi (As := [.int pn, .int fr, .int to]) (rest := []) hF (kX0_isWay l ω g y a z dr pg t pn fr to) (lw_V q760 q762 qs22 q92 q763) 3 hdX0_isWay rfl rfl ⟨Nat.le_of_ble_eq_true rfl, Nat.le_of_ble_eq_true rfl⟩ (x_preV0 hK hH) rfl hl.1 rfl (Nat.le_of_ble_eq_true rfl) dX0_within_4 ⟨Nat.zero_le _, Nat.zero_le _⟩ (fun r1 e_r1 => ?_)
  refine lv_if_ne (tgt := 13) hF.1 hF.2.1 dX0_within_7 (by decide) (fun c2 => ?_) (fun c2 => ?_)
  · skip
    refine lv_iload hF.1 hF.2.1 dX0_within_13 (lv_at hl 4 rfl) ?_
    refine lv_iconst (v := nI 0) hF.1 hF.2.1 dX0_within_15 (by decide) ?_
    refine lv_bipush (v := nI 81) hF.1 hF.2.1 dX0_within_16 (by decide) ?_
    refine g_sPi (As := [.int len, .int (nI 0), .int (nI 81)]) (rest := []) hF (kX0_in l len (nI 0) (nI 81)) (lw_S q301 q302 q92 q303) 3 hdX0_in.2 rfl rfl ⟨Nat.le_of_ble_eq_true rfl, Nat.le_of_ble_eq_true rfl⟩ g_pre0 rfl hl.1 rfl (Nat.le_of_ble_eq_true rfl) dX0_within_18 ⟨Nat.zero_le _, Nat.zero_le _⟩ (fun r3 e_r3 => ?_)
    refine lv_if_eq (tgt := 36) hF.1 hF.2.1 dX0_within_21 (by decide) (fun c4 => ?_) (fun c4 => ?_)
    · skip
      refine lv_bipush (v := (-102)) hF.1 hF.2.1 dX0_within_36 (by decide) ?_
      have hH : xH ω (g, y, a, up2 z 0 8 (z 0 8), dr, pg, t) H := x_ext (fun _ _ => rfl) (fun _ _ => rfl) (fun _ _ => rfl) (by intro o k; by_cases h0 : o = 0 ∧ k = 8; (obtain ⟨rfl, rfl⟩ := h0; simp [up2]); simp only [up2, if_neg h0]) hH
      exact hret _ _ _ _ _ _ dX0_within_38 ⟨_, by subst e_r3; subst e_r1; unfold fX0_within; first | (rw [if_neg c2, if_pos c4]; done) | (simp only [if_neg c2, if_pos c4]), rfl⟩ hH hS
    · skip
      obtain ⟨b5e, b5l⟩ := g_lift (r := pn) (n := 3) (xWay_lift hp3 (by rw [← e_r1]; exact c2)) (by omega)
      obtain ⟨b6e, b6l⟩ := g_lift (r := fr) (n := 8) (xWayF (by rw [← e_r1]; exact c2)) (by omega)
      obtain ⟨b7e, b7l⟩ := g_lift (r := to) (n := 8) (xWayT (by rw [← e_r1]; exact c2)) (by omega)
      obtain ⟨b8e, b8l⟩ := g_lift (r := len) (n := 82) (in32_lift (k := 81) rfl (by omega) (by rw [← e_r3]; exact c4)) (by omega)
      refine lv_aload_n hF.1 hF.2.1 dX0_within_24 rfl (lv_at hl 0 rfl) ?_
      refine lv_iload_n hF.1 hF.2.1 dX0_within_25 rfl (lv_at hl 1 rfl) ?_
      refine n_top b5e ?_
      refine lv_iload_n hF.1 hF.2.1 dX0_within_26 rfl (lv_at hl 2 rfl) ?_
      refine n_top b6e ?_
      refine lv_iload_n hF.1 hF.2.1 dX0_within_27 rfl (lv_at hl 3 rfl) ?_
      refine n_top b7e ?_
      refine lv_iload hF.1 hF.2.1 dX0_within_28 (lv_at hl 4 rfl) ?_
      refine n_top b8e ?_
      refine g_vWi (As := [.int (nI (toN pn)), .int (nI (toN fr)), .int (nI (toN to)), .int (nI (toN len))]) (rest := []) hF (kX0_withinTold l ω g y a z dr pg t td of hc (toN pn) (toN fr) (toN to) (toN len) (by omega) (by omega) (by omega) (by omega) hsd) (lw_V q775 q777 qs24 q92 q778) 4 hdX0_withinTold rfl rfl ⟨Nat.le_of_ble_eq_true rfl, Nat.le_of_ble_eq_true rfl⟩ (x_preV0 hK hH) rfl hl.1 rfl (Nat.le_of_ble_eq_true rfl) dX0_within_30 ⟨Nat.le_of_ble_eq_true rfl, Nat.le_of_ble_eq_true rfl⟩ hS (fun r9 ur9 H locs hqr9 hH hS => ?_)
      obtain ⟨r9h0, hr9, rfl⟩ := hqr9
      have e_r9 := hr9
      refine lv_goto (tgt := 38) hF.1 hF.2.1 dX0_within_33 (by decide) ?_
      exact hret _ _ _ _ _ _ dX0_within_38 ⟨_, by subst e_r9; subst e_r3; subst e_r1; unfold fX0_within; first | (rw [if_neg c2, if_neg c4]; done) | (simp only [if_neg c2, if_neg c4]), rfl⟩ hH hS
  · skip
    refine lv_bipush (v := (-101)) hF.1 hF.2.1 dX0_within_10 (by decide) ?_
    have hH : xH ω (g, y, a, up2 z 0 8 (z 0 8), dr, pg, t) H := x_ext (fun _ _ => rfl) (fun _ _ => rfl) (fun _ _ => rfl) (by intro o k; by_cases h0 : o = 0 ∧ k = 8; (obtain ⟨rfl, rfl⟩ := h0; simp [up2]); simp only [up2, if_neg h0]) hH
    exact hret _ _ _ _ _ _ dX0_within_12 ⟨_, by subst e_r1; unfold fX0_within; first | (rw [if_pos c2]; done) | (simp only [if_pos c2]), rfl⟩ hH hS

def fX0_edgeTold_b19 (g : Nat → Nat → Nat) (t : TW) (td : Nat → Nat) (of : Nat → Nat → Nat) (pn : Nat) (fr : Nat) (to : Nat) (wh : Int32) (i19 : Nat) (S : Int32 × Int32 × Int32) : Int32 × Int32 × Int32 := if S.2.1 ≤ (nI (clF t (g (0 + 6) 9) (td pn) (of pn) fr ((8 * i19) + to))) then (S.1, S.2.1, S.2.2) else if (S.2.2 + 1) = wh then (nI ((10000 * i19) + (clF t (g (0 + 6) 9) (td pn) (of pn) fr ((8 * i19) + to))), nI (clF t (g (0 + 6) 9) (td pn) (of pn) fr ((8 * i19) + to)), S.2.2 + 1) else (S.1, nI (clF t (g (0 + 6) 9) (td pn) (of pn) fr ((8 * i19) + to)), S.2.2 + 1)
def fX0_edgeTold (g : Nat → Nat → Nat) (t : TW) (td : Nat → Nat) (of : Nat → Nat → Nat) (pn : Nat) (fr : Nat) (to : Nat) (wh : Int32) : Int32 := if wh = 0 then ((it (fX0_edgeTold_b19 g t td of pn fr to wh) 82 ((-1), nI 268435456, nI 0)).2.2) else ((it (fX0_edgeTold_b19 g t td of pn fr to wh) 82 ((-1), nI 268435456, nI 0)).1)
def rmX0_edgeTold : Room := { frames := 6, cells := 0, slots := 0, locals := 141 }
theorem hdX0_edgeTold : yX0_edgeTold.cls = RX0 ∧ yX0_edgeTold.cls ≠ "java/lang/invoke/MethodHandle" ∧ yX0_edgeTold.cls ≠ "java/lang/invoke/VarHandle" ∧ (parseMethodDescriptor yX0_edgeTold.desc).map (fun d => d.parameters.length) = some 4 := by decide +kernel
set_option maxHeartbeats 4000000 in
theorem kX0_edgeTold (l : Launch) (ω : OM) (g : Nat → Nat → Nat) (y : Nat → Nat → Int32) (a z : Nat → Nat → Nat → Int32) (dr : Int64) (pg : Nat → Int32) (t : TW) (td : Nat → Nat) (of : Nat → Nat → Nat) (hc : xCore g a t 0 td of) (pn : Nat) (fr : Nat) (to : Nat) (wh : Int32) (hpn : pn < 3) (hfr : fr < 8) (hto : to < 8) (hsd : xSide g a) : Met l yX0_edgeTold (ws_ yX0_edgeTold cX0_edgeTold 10 (some .int)) rmX0_edgeTold (va_Pc [.ref (ω.2.1 0 99), .int (nI pn), .int (nI fr), .int (nI to), .int wh] (fun U => xK ω U ∧ xH ω (g, y, a, z, dr, pg, t) U.heap)) (va_Qi (fun (r : Int32) (u : XS) => ∃ (q0 : Nat → Int32), r = (fX0_edgeTold g t td of pn fr to wh) ∧ u = (g, y, a, up2 z 0 8 q0, dr, pg, t)) (fun u t => xH ω u t.heap) ω.2.2.1) 0 0 ω.2.2.1 := by
  refine g_entWi (C := RX0) rfl (by decide) (Nat.le_of_ble_eq_true rfl) ?_
  intro p e s m args below meth c QQ ls H locs hF hK hH hS hl hret
  have hl : lv_has ls 10 [(0, .ref (ω.2.1 0 99)), (1, .int (nI pn)), (2, .int (nI fr)), (3, .int (nI to)), (4, .int wh)] := hl
  have hn9 : tn t ≤ 9 := hH.2.2.1
  have hok := hc.ok
  have hp3 := hsd.1
  have hs6 := hsd.2.1
  have hp50 := hsd.2.2.1
  refine lv_aload_n hF.1 hF.2.1 dX0_edgeTold_0 rfl (lv_at hl 0 rfl) ?_
  refine lv_iload_n hF.1 hF.2.1 dX0_edgeTold_1 rfl (lv_at hl 1 rfl) ?_
  refine lv_iload_n hF.1 hF.2.1 dX0_edgeTold_2 rfl (lv_at hl 2 rfl) ?_
  refine g_vWv (As := [.int (nI pn), .int (nI fr)]) (rest := []) hF (kX0_layLengthsS l ω g y a z dr pg t td of hc pn fr (by omega) (by omega)) (lw_V q779 q781 qs25 q92 q782) 2 hdX0_layLengthsS rfl rfl ⟨Nat.le_of_ble_eq_true rfl, Nat.le_of_ble_eq_true rfl⟩ (x_preV0 hK hH) rfl hl.1 rfl (Nat.le_of_ble_eq_true rfl) dX0_edgeTold_3 ⟨Nat.le_of_ble_eq_true rfl, Nat.le_of_ble_eq_true rfl⟩ hS (fun ur1 H locs hqr1 hH hS => ?_)
  obtain ⟨r1h0, hr1_0, rfl⟩ := hqr1
  refine lv_iconst (v := nI 0) hF.1 hF.2.1 dX0_edgeTold_6 (by decide) ?_
  refine lv_istore (lv' := [(5, .int (nI 0)), (0, .ref (ω.2.1 0 99)), (1, .int (nI pn)), (2, .int (nI fr)), (3, .int (nI to)), (4, .int wh)]) hF.1 hF.2.1 dX0_edgeTold_7 hl (by decide) rfl (fun ls hl => ?_)
  refine lv_ldc (v := nI 268435456) hF.1 hF.2.1 hF.2.2.2.1 (hF.2.2.2.2 _ q783) dX0_edgeTold_9 ?_
  refine lv_istore (lv' := [(6, .int (nI 268435456)), (5, .int (nI 0)), (0, .ref (ω.2.1 0 99)), (1, .int (nI pn)), (2, .int (nI fr)), (3, .int (nI to)), (4, .int wh)]) hF.1 hF.2.1 dX0_edgeTold_11 hl (by decide) rfl (fun ls hl => ?_)
  refine lv_iconst (v := (-1)) hF.1 hF.2.1 dX0_edgeTold_13 (by decide) ?_
  refine lv_istore (lv' := [(7, .int (-1)), (6, .int (nI 268435456)), (5, .int (nI 0)), (0, .ref (ω.2.1 0 99)), (1, .int (nI pn)), (2, .int (nI fr)), (3, .int (nI to)), (4, .int wh)]) hF.1 hF.2.1 dX0_edgeTold_14 hl (by decide) rfl (fun ls hl => ?_)
  refine lv_iconst (v := nI 0) hF.1 hF.2.1 dX0_edgeTold_16 (by decide) ?_
  refine lv_istore (lv' := [(8, .int (nI 0)), (7, .int (-1)), (6, .int (nI 268435456)), (5, .int (nI 0)), (0, .ref (ω.2.1 0 99)), (1, .int (nI pn)), (2, .int (nI fr)), (3, .int (nI to)), (4, .int wh)]) hF.1 hF.2.1 dX0_edgeTold_17 hl (by decide) rfl (fun ls hl => ?_)
  have lp19_83 : ∀ (d19 i19 : Nat) (x19_7 : Int32) (x19_6 : Int32) (x19_5 : Int32) (ls : Array Slot), i19 + d19 = 82 → (x19_7, x19_6, x19_5) = it (fX0_edgeTold_b19 g t td of pn fr to wh) i19 ((-1), nI 268435456, nI 0) → lv_has ls 10 [(8, .int (nI i19)), (7, .int x19_7), (6, .int x19_6), (5, .int x19_5), (0, .ref (ω.2.1 0 99)), (3, .int (nI to)), (4, .int wh)] → W p l e rmX0_edgeTold s m args below meth c H locs 0 0 QQ (F0 m 19 ls []) := by
    intro d19
    induction d19 with
    | zero =>
      intro i19 x19_7 x19_6 x19_5 ls hi19 hS19 hl
      have hj19 : 82 = i19 := by omega
      subst hj19
      have e_x19_7 : x19_7 = (it (fX0_edgeTold_b19 g t td of pn fr to wh) 82 ((-1), nI 268435456, nI 0)).1 := by rw [← hS19]
      have e_x19_6 : x19_6 = (it (fX0_edgeTold_b19 g t td of pn fr to wh) 82 ((-1), nI 268435456, nI 0)).2.1 := by rw [← hS19]
      have e_x19_5 : x19_5 = (it (fX0_edgeTold_b19 g t td of pn fr to wh) 82 ((-1), nI 268435456, nI 0)).2.2 := by rw [← hS19]
      refine lv_iload hF.1 hF.2.1 dX0_edgeTold_19 (lv_at hl 0 rfl) ?_
      refine lv_bipush (v := nI 81) hF.1 hF.2.1 dX0_edgeTold_21 (by decide) ?_
      refine n_gt (tgt := 83) hF.1 hF.2.1 dX0_edgeTold_23 (by decide) (by omega) (by omega) (fun c2 => ?_) (fun c2 => ?_)
      · skip
        refine lv_iload hF.1 hF.2.1 dX0_edgeTold_83 (lv_at hl 6 rfl) ?_
        refine lv_if_ne (tgt := 93) hF.1 hF.2.1 dX0_edgeTold_85 (by decide) (fun c3 => ?_) (fun c3 => ?_)
        · skip
          refine lv_iload hF.1 hF.2.1 dX0_edgeTold_93 (lv_at hl 1 rfl) ?_
          exact hret _ _ _ _ _ _ dX0_edgeTold_95 ⟨_, by subst e_x19_5; subst e_x19_6; subst e_x19_7; unfold fX0_edgeTold; first | (rw [if_neg c3]; done) | (simp only [if_neg c3]), rfl⟩ hH hS
        · skip
          refine lv_iload hF.1 hF.2.1 dX0_edgeTold_88 (lv_at hl 3 rfl) ?_
          refine lv_goto (tgt := 95) hF.1 hF.2.1 dX0_edgeTold_90 (by decide) ?_
          exact hret _ _ _ _ _ _ dX0_edgeTold_95 ⟨_, by subst e_x19_5; subst e_x19_6; subst e_x19_7; unfold fX0_edgeTold; first | (rw [if_pos c3]; done) | (simp only [if_pos c3]), rfl⟩ hH hS
      · exact absurd (by omega) c2
    | succ d19 ih =>
      intro i19 x19_7 x19_6 x19_5 ls hi19 hS19 hl
      refine lv_iload hF.1 hF.2.1 dX0_edgeTold_19 (lv_at hl 0 rfl) ?_
      refine lv_bipush (v := nI 81) hF.1 hF.2.1 dX0_edgeTold_21 (by decide) ?_
      refine n_gt (tgt := 83) hF.1 hF.2.1 dX0_edgeTold_23 (by decide) (by omega) (by omega) (fun c4 => ?_) (fun c4 => ?_)
      · exact absurd c4 (by omega)
      · skip
        refine lv_aload_n hF.1 hF.2.1 dX0_edgeTold_26 rfl (lv_at hl 4 rfl) ?_
        refine xg0_8 hF hK hH q228 dX0_edgeTold_27 ?_
        refine lv_bipush (v := nI 8) hF.1 hF.2.1 dX0_edgeTold_30 (by decide) ?_
        refine lv_iload hF.1 hF.2.1 dX0_edgeTold_32 (lv_at hl 0 rfl) ?_
        refine n_imul hF.1 hF.2.1 dX0_edgeTold_34 ?_
        refine lv_iload_n hF.1 hF.2.1 dX0_edgeTold_35 rfl (lv_at hl 5 rfl) ?_
        refine n_iadd hF.1 hF.2.1 dX0_edgeTold_36 ?_
        refine x0_zld hF hK hH 8 (n := 656) rfl rfl (by decide) (by decide) rfl (f := r1h0) (by simp [up2]) (i := (8 * i19) + to) (by omega) (by decide) dX0_edgeTold_37 ?_
        refine n_top (y := nI (clF t (g (0 + 6) 9) (td pn) (of pn) fr ((8 * i19) + to))) (hr1_0 _ (by omega)) ?_
        refine lv_istore (lv' := [(9, .int (nI (clF t (g (0 + 6) 9) (td pn) (of pn) fr ((8 * i19) + to)))), (8, .int (nI i19)), (7, .int x19_7), (6, .int x19_6), (5, .int x19_5), (0, .ref (ω.2.1 0 99)), (3, .int (nI to)), (4, .int wh)]) hF.1 hF.2.1 dX0_edgeTold_38 hl (by decide) rfl (fun ls hl => ?_)
        refine lv_iload hF.1 hF.2.1 dX0_edgeTold_40 (lv_at hl 0 rfl) ?_
        refine lv_iload hF.1 hF.2.1 dX0_edgeTold_42 (lv_at hl 3 rfl) ?_
        refine lv_icmp_ge (tgt := 77) hF.1 hF.2.1 dX0_edgeTold_44 (by decide) (fun c5 => ?_) (fun c5 => ?_)
        · skip
          refine n_iinc (lv' := [(8, .int (nI (i19 + 1))), (9, .int (nI (clF t (g (0 + 6) 9) (td pn) (of pn) fr ((8 * i19) + to)))), (7, .int x19_7), (6, .int x19_6), (5, .int x19_5), (0, .ref (ω.2.1 0 99)), (3, .int (nI to)), (4, .int wh)]) hF.1 hF.2.1 dX0_edgeTold_77 hl (k := 1) rfl (by decide) rfl (fun ls hl => ?_)
          refine lv_goto (tgt := 19) hF.1 hF.2.1 dX0_edgeTold_80 (by decide) ?_
          exact ih (i19 + 1) _ _ _ _ (by omega) (by rw [it_succ (fX0_edgeTold_b19 g t td of pn fr to wh) i19 _, ← hS19]; unfold fX0_edgeTold_b19; dsimp only; first | (rw [if_pos c5]; done) | (simp only [if_pos c5])) (lv_sub hl [0, 2, 3, 4, 5, 6, 7] rfl)
        · skip
          refine lv_iload hF.1 hF.2.1 dX0_edgeTold_47 (lv_at hl 0 rfl) ?_
          refine lv_istore (lv' := [(6, .int (nI (clF t (g (0 + 6) 9) (td pn) (of pn) fr ((8 * i19) + to)))), (9, .int (nI (clF t (g (0 + 6) 9) (td pn) (of pn) fr ((8 * i19) + to)))), (8, .int (nI i19)), (7, .int x19_7), (5, .int x19_5), (0, .ref (ω.2.1 0 99)), (3, .int (nI to)), (4, .int wh)]) hF.1 hF.2.1 dX0_edgeTold_49 hl (by decide) rfl (fun ls hl => ?_)
          refine lv_iinc (v := x19_5 + 1) (lv' := [(5, .int (x19_5 + 1)), (6, .int (nI (clF t (g (0 + 6) 9) (td pn) (of pn) fr ((8 * i19) + to)))), (9, .int (nI (clF t (g (0 + 6) 9) (td pn) (of pn) fr ((8 * i19) + to)))), (8, .int (nI i19)), (7, .int x19_7), (0, .ref (ω.2.1 0 99)), (3, .int (nI to)), (4, .int wh)]) hF.1 hF.2.1 dX0_edgeTold_51 hl (k := 4) rfl (by rfl) (by decide) rfl (fun ls hl => ?_)
          refine lv_iload hF.1 hF.2.1 dX0_edgeTold_54 (lv_at hl 0 rfl) ?_
          refine lv_iload hF.1 hF.2.1 dX0_edgeTold_56 (lv_at hl 7 rfl) ?_
          refine lv_icmp_ne (tgt := 73) hF.1 hF.2.1 dX0_edgeTold_58 (by decide) (fun c6 => ?_) (fun c6 => ?_)
          · skip
            refine lv_iload hF.1 hF.2.1 dX0_edgeTold_73 (lv_at hl 4 rfl) ?_
            refine lv_istore (lv' := [(7, .int x19_7), (5, .int (x19_5 + 1)), (6, .int (nI (clF t (g (0 + 6) 9) (td pn) (of pn) fr ((8 * i19) + to)))), (9, .int (nI (clF t (g (0 + 6) 9) (td pn) (of pn) fr ((8 * i19) + to)))), (8, .int (nI i19)), (0, .ref (ω.2.1 0 99)), (3, .int (nI to)), (4, .int wh)]) hF.1 hF.2.1 dX0_edgeTold_75 hl (by decide) rfl (fun ls hl => ?_)
            refine n_iinc (lv' := [(8, .int (nI (i19 + 1))), (7, .int x19_7), (5, .int (x19_5 + 1)), (6, .int (nI (clF t (g (0 + 6) 9) (td pn) (of pn) fr ((8 * i19) + to)))), (9, .int (nI (clF t (g (0 + 6) 9) (td pn) (of pn) fr ((8 * i19) + to)))), (0, .ref (ω.2.1 0 99)), (3, .int (nI to)), (4, .int wh)]) hF.1 hF.2.1 dX0_edgeTold_77 hl (k := 4) rfl (by decide) rfl (fun ls hl => ?_)
            refine lv_goto (tgt := 19) hF.1 hF.2.1 dX0_edgeTold_80 (by decide) ?_
            exact ih (i19 + 1) _ _ _ _ (by omega) (by rw [it_succ (fX0_edgeTold_b19 g t td of pn fr to wh) i19 _, ← hS19]; unfold fX0_edgeTold_b19; dsimp only; first | (rw [if_neg c5, if_neg c6]; done) | (simp only [if_neg c5, if_neg c6])) (lv_sub hl [0, 1, 3, 2, 5, 6, 7] rfl)
          · skip
            refine lv_sipush (v := nI 10000) hF.1 hF.2.1 dX0_edgeTold_61 (by decide) ?_
            refine lv_iload hF.1 hF.2.1 dX0_edgeTold_64 (lv_at hl 3 rfl) ?_
            refine n_imul hF.1 hF.2.1 dX0_edgeTold_66 ?_
            refine lv_iload hF.1 hF.2.1 dX0_edgeTold_67 (lv_at hl 2 rfl) ?_
            refine n_iadd hF.1 hF.2.1 dX0_edgeTold_69 ?_
            refine lv_goto (tgt := 75) hF.1 hF.2.1 dX0_edgeTold_70 (by decide) ?_
            refine lv_istore (lv' := [(7, .int (nI ((10000 * i19) + (clF t (g (0 + 6) 9) (td pn) (of pn) fr ((8 * i19) + to))))), (5, .int (x19_5 + 1)), (6, .int (nI (clF t (g (0 + 6) 9) (td pn) (of pn) fr ((8 * i19) + to)))), (9, .int (nI (clF t (g (0 + 6) 9) (td pn) (of pn) fr ((8 * i19) + to)))), (8, .int (nI i19)), (0, .ref (ω.2.1 0 99)), (3, .int (nI to)), (4, .int wh)]) hF.1 hF.2.1 dX0_edgeTold_75 hl (by decide) rfl (fun ls hl => ?_)
            refine n_iinc (lv' := [(8, .int (nI (i19 + 1))), (7, .int (nI ((10000 * i19) + (clF t (g (0 + 6) 9) (td pn) (of pn) fr ((8 * i19) + to))))), (5, .int (x19_5 + 1)), (6, .int (nI (clF t (g (0 + 6) 9) (td pn) (of pn) fr ((8 * i19) + to)))), (9, .int (nI (clF t (g (0 + 6) 9) (td pn) (of pn) fr ((8 * i19) + to)))), (0, .ref (ω.2.1 0 99)), (3, .int (nI to)), (4, .int wh)]) hF.1 hF.2.1 dX0_edgeTold_77 hl (k := 4) rfl (by decide) rfl (fun ls hl => ?_)
            refine lv_goto (tgt := 19) hF.1 hF.2.1 dX0_edgeTold_80 (by decide) ?_
            exact ih (i19 + 1) _ _ _ _ (by omega) (by rw [it_succ (fX0_edgeTold_b19 g t td of pn fr to wh) i19 _, ← hS19]; unfold fX0_edgeTold_b19; dsimp only; first | (rw [if_neg c5, if_pos c6]; done) | (simp only [if_neg c5, if_pos c6])) (lv_sub hl [0, 1, 3, 2, 5, 6, 7] rfl)
  exact lp19_83 82 0 _ _ _ _ (by omega) rfl (lv_sub hl [0, 1, 2, 3, 4, 7, 8] rfl)

def fX0_edge (g : Nat → Nat → Nat) (t : TW) (td : Nat → Nat) (of : Nat → Nat → Nat) (pn : Int32) (fr : Int32) (to : Int32) (wh : Int32) : Int32 := if (fX0_isWay g pn fr to) = 0 then (-101) else if (fX0_in wh (nI 0) (nI 20)) = 0 then (-102) else (fX0_edgeTold g t td of (toN pn) (toN fr) (toN to) wh)
def rmX0_edge : Room := { frames := 7, cells := 0, slots := 0, locals := 170 }
theorem hdX0_edge : yX0_edge.cls = RX0 ∧ yX0_edge.cls ≠ "java/lang/invoke/MethodHandle" ∧ yX0_edge.cls ≠ "java/lang/invoke/VarHandle" ∧ (parseMethodDescriptor yX0_edge.desc).map (fun d => d.parameters.length) = some 4 := by decide +kernel
set_option maxHeartbeats 4000000 in
theorem kX0_edge (l : Launch) (ω : OM) (g : Nat → Nat → Nat) (y : Nat → Nat → Int32) (a z : Nat → Nat → Nat → Int32) (dr : Int64) (pg : Nat → Int32) (t : TW) (td : Nat → Nat) (of : Nat → Nat → Nat) (hc : xCore g a t 0 td of) (pn : Int32) (fr : Int32) (to : Int32) (wh : Int32) (hsd : xSide g a) : Met l yX0_edge (ws_ yX0_edge cX0_edge 5 (some .int)) rmX0_edge (va_Pc [.ref (ω.2.1 0 99), .int pn, .int fr, .int to, .int wh] (fun U => xK ω U ∧ xH ω (g, y, a, z, dr, pg, t) U.heap)) (va_Qi (fun (r : Int32) (u : XS) => ∃ (q0 : Nat → Int32), r = (fX0_edge g t td of pn fr to wh) ∧ u = (g, y, a, up2 z 0 8 q0, dr, pg, t)) (fun u t => xH ω u t.heap) ω.2.2.1) 0 0 ω.2.2.1 := by
  refine g_entWi (C := RX0) rfl (by decide) (Nat.le_of_ble_eq_true rfl) ?_
  intro p e s m args below meth c QQ ls H locs hF hK hH hS hl hret
  have hl : lv_has ls 5 [(0, .ref (ω.2.1 0 99)), (1, .int pn), (2, .int fr), (3, .int to), (4, .int wh)] := hl
  have hn9 : tn t ≤ 9 := hH.2.2.1
  have hok := hc.ok
  have hp3 := hsd.1
  have hs6 := hsd.2.1
  have hp50 := hsd.2.2.1
  refine lv_aload_n hF.1 hF.2.1 dX0_edge_0 rfl (lv_at hl 0 rfl) ?_
  refine lv_iload_n hF.1 hF.2.1 dX0_edge_1 rfl (lv_at hl 1 rfl) ?_
  refine lv_iload_n hF.1 hF.2.1 dX0_edge_2 rfl (lv_at hl 2 rfl) ?_
  refine lv_iload_n hF.1 hF.2.1 dX0_edge_3 rfl (lv_at hl 3 rfl) ?_
  refine g_vPi (As := [.int pn, .int fr, .int to]) (rest := []) hF (kX0_isWay l ω g y a z dr pg t pn fr to) (lw_V q760 q762 qs22 q92 q763) 3 hdX0_isWay rfl rfl ⟨Nat.le_of_ble_eq_true rfl, Nat.le_of_ble_eq_true rfl⟩ (x_preV0 hK hH) rfl hl.1 rfl (Nat.le_of_ble_eq_true rfl) dX0_edge_4 ⟨Nat.zero_le _, Nat.zero_le _⟩ (fun r1 e_r1 => ?_)
  refine lv_if_ne (tgt := 13) hF.1 hF.2.1 dX0_edge_7 (by decide) (fun c2 => ?_) (fun c2 => ?_)
  · skip
    refine lv_iload hF.1 hF.2.1 dX0_edge_13 (lv_at hl 4 rfl) ?_
    refine lv_iconst (v := nI 0) hF.1 hF.2.1 dX0_edge_15 (by decide) ?_
    refine lv_bipush (v := nI 20) hF.1 hF.2.1 dX0_edge_16 (by decide) ?_
    refine g_sPi (As := [.int wh, .int (nI 0), .int (nI 20)]) (rest := []) hF (kX0_in l wh (nI 0) (nI 20)) (lw_S q301 q302 q92 q303) 3 hdX0_in.2 rfl rfl ⟨Nat.le_of_ble_eq_true rfl, Nat.le_of_ble_eq_true rfl⟩ g_pre0 rfl hl.1 rfl (Nat.le_of_ble_eq_true rfl) dX0_edge_18 ⟨Nat.zero_le _, Nat.zero_le _⟩ (fun r3 e_r3 => ?_)
    refine lv_if_eq (tgt := 36) hF.1 hF.2.1 dX0_edge_21 (by decide) (fun c4 => ?_) (fun c4 => ?_)
    · skip
      refine lv_bipush (v := (-102)) hF.1 hF.2.1 dX0_edge_36 (by decide) ?_
      have hH : xH ω (g, y, a, up2 z 0 8 (z 0 8), dr, pg, t) H := x_ext (fun _ _ => rfl) (fun _ _ => rfl) (fun _ _ => rfl) (by intro o k; by_cases h0 : o = 0 ∧ k = 8; (obtain ⟨rfl, rfl⟩ := h0; simp [up2]); simp only [up2, if_neg h0]) hH
      exact hret _ _ _ _ _ _ dX0_edge_38 ⟨_, by subst e_r3; subst e_r1; unfold fX0_edge; first | (rw [if_neg c2, if_pos c4]; done) | (simp only [if_neg c2, if_pos c4]), rfl⟩ hH hS
    · skip
      obtain ⟨b5e, b5l⟩ := g_lift (r := pn) (n := 3) (xWay_lift hp3 (by rw [← e_r1]; exact c2)) (by omega)
      obtain ⟨b6e, b6l⟩ := g_lift (r := fr) (n := 8) (xWayF (by rw [← e_r1]; exact c2)) (by omega)
      obtain ⟨b7e, b7l⟩ := g_lift (r := to) (n := 8) (xWayT (by rw [← e_r1]; exact c2)) (by omega)
      refine lv_aload_n hF.1 hF.2.1 dX0_edge_24 rfl (lv_at hl 0 rfl) ?_
      refine lv_iload_n hF.1 hF.2.1 dX0_edge_25 rfl (lv_at hl 1 rfl) ?_
      refine n_top b5e ?_
      refine lv_iload_n hF.1 hF.2.1 dX0_edge_26 rfl (lv_at hl 2 rfl) ?_
      refine n_top b6e ?_
      refine lv_iload_n hF.1 hF.2.1 dX0_edge_27 rfl (lv_at hl 3 rfl) ?_
      refine n_top b7e ?_
      refine lv_iload hF.1 hF.2.1 dX0_edge_28 (lv_at hl 4 rfl) ?_
      refine g_vWi (As := [.int (nI (toN pn)), .int (nI (toN fr)), .int (nI (toN to)), .int wh]) (rest := []) hF (kX0_edgeTold l ω g y a z dr pg t td of hc (toN pn) (toN fr) (toN to) wh (by omega) (by omega) (by omega) hsd) (lw_V q793 q795 qs27 q92 q796) 4 hdX0_edgeTold rfl rfl ⟨Nat.le_of_ble_eq_true rfl, Nat.le_of_ble_eq_true rfl⟩ (x_preV0 hK hH) rfl hl.1 rfl (Nat.le_of_ble_eq_true rfl) dX0_edge_30 ⟨Nat.le_of_ble_eq_true rfl, Nat.le_of_ble_eq_true rfl⟩ hS (fun r8 ur8 H locs hqr8 hH hS => ?_)
      obtain ⟨r8h0, hr8, rfl⟩ := hqr8
      have e_r8 := hr8
      refine lv_goto (tgt := 38) hF.1 hF.2.1 dX0_edge_33 (by decide) ?_
      exact hret _ _ _ _ _ _ dX0_edge_38 ⟨_, by subst e_r8; subst e_r3; subst e_r1; unfold fX0_edge; first | (rw [if_neg c2, if_neg c4]; done) | (simp only [if_neg c2, if_neg c4]), rfl⟩ hH hS
  · skip
    refine lv_bipush (v := (-101)) hF.1 hF.2.1 dX0_edge_10 (by decide) ?_
    have hH : xH ω (g, y, a, up2 z 0 8 (z 0 8), dr, pg, t) H := x_ext (fun _ _ => rfl) (fun _ _ => rfl) (fun _ _ => rfl) (by intro o k; by_cases h0 : o = 0 ∧ k = 8; (obtain ⟨rfl, rfl⟩ := h0; simp [up2]); simp only [up2, if_neg h0]) hH
    exact hret _ _ _ _ _ _ dX0_edge_12 ⟨_, by subst e_r1; unfold fX0_edge; first | (rw [if_pos c2]; done) | (simp only [if_pos c2]), rfl⟩ hH hS

