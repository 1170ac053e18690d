/-! CLASS: people, rides, matches: answers by the core -/
set_option maxRecDepth 100000
def fX0_firstBy (g : Nat → Nat → Nat) (t : TW) (of : Nat → Nat → Nat) (pn : Nat) (tv : Nat) (fr : Nat) (to : Nat) : Int32 := (if (fX1_layWayS t (g (0 + 6) 9) tv (of pn) fr to (fX0_all t)) = 0 then (-1) else nI (cws t (g (0 + 6) 9) tv (of pn) (fX0_all t) fr to 0))
def rmX0_firstBy : Room := { frames := 8, cells := 0, slots := 0, locals := 190 }
theorem hdX0_firstBy : yX0_firstBy.cls = RX0 ∧ yX0_firstBy.cls ≠ "java/lang/invoke/MethodHandle" ∧ yX0_firstBy.cls ≠ "java/lang/invoke/VarHandle" ∧ (parseMethodDescriptor yX0_firstBy.desc).map (fun d => d.parameters.length) = some 4 := by decide +kernel
set_option maxHeartbeats 4000000 in
theorem kX0_firstBy (l : Launch) (ω : OM) (g : Nat → Nat → Nat) (y : Nat → Nat → Int32) (a z : Nat → Nat → Nat → Int32) (dr : Int64) (pg : Nat → Int32) (t : TW) (td : Nat → Nat) (of : Nat → Nat → Nat) (hc : xCore g a t 0 td of) (pn : Nat) (tv : Nat) (fr : Nat) (to : Nat) (hpn : pn < 3) (htv : tv ≤ 9) (hfr : fr < 8) (hto : to < 8) (hct : ¬ fr = to) (hsd : xSide g a) : Met l yX0_firstBy (ws_ yX0_firstBy cX0_firstBy 7 (some .int)) rmX0_firstBy (va_Pc [.ref (ω.2.1 0 99), .int (nI pn), .int (nI tv), .int (nI fr), .int (nI to)] (fun U => xK ω U ∧ xH ω (g, y, a, z, dr, pg, t) U.heap)) (va_Qi (fun (r : Int32) (u : XS) => ∃ (q0 : Int32) (q1 : Int32) (q2 : Int32) (q3 : Nat → Int32) (q4 : Nat → Int32), r = (fX0_firstBy g t of pn tv fr to) ∧ u = (g, up2 (up2 (up2 y (0 + 6) 12 q0) (0 + 6) 13 q1) (0 + 6) 14 q2, a, up2 (up2 z (0 + 6) 10 q3) (0 + 6) 11 q4, dr, pg, t)) (fun u t => xH ω u t.heap) ω.2.2.1) 0 0 ω.2.2.1 := by
  refine g_entWi (C := RX0) rfl (by decide) (Nat.le_of_ble_eq_true rfl) ?_
  intro p e s m args below meth c QQ ls H locs hF hK hH hS hl hret
  have hl : lv_has ls 7 [(0, .ref (ω.2.1 0 99)), (1, .int (nI pn)), (2, .int (nI tv)), (3, .int (nI fr)), (4, .int (nI to))] := hl
  have hn9 : tn t ≤ 9 := hH.2.2.1
  have hok := hc.ok
  have hp3 := hsd.1
  have hs6 := hsd.2.1
  have hp50 := hsd.2.2.1
  refine lv_aload_n hF.1 hF.2.1 dX0_firstBy_0 rfl (lv_at hl 0 rfl) ?_
  refine xg0_3 hF hK hH q221 dX0_firstBy_1 ?_
  refine xgN_q155 (j := 0) (by decide) hF hK hH dX0_firstBy_4 ?_
  refine lv_iload_n hF.1 hF.2.1 dX0_firstBy_7 rfl (lv_at hl 1 rfl) ?_
  refine x1_ald (j := 0) (by decide) hF hK hH 0 (n := 3) rfl rfl (by decide) rfl (f := a (0 + 6) 0) rfl (i := pn) (by omega) (by decide) dX0_firstBy_8 ?_
  refine lv_istore (lv' := [(5, .int (a (0 + 6) 0 pn)), (0, .ref (ω.2.1 0 99)), (1, .int (nI pn)), (2, .int (nI tv)), (3, .int (nI fr)), (4, .int (nI to))]) hF.1 hF.2.1 dX0_firstBy_9 hl (by decide) rfl (fun ls hl => ?_)
  refine lv_aload_n hF.1 hF.2.1 dX0_firstBy_11 rfl (lv_at hl 1 rfl) ?_
  refine xg0_3 hF hK hH q221 dX0_firstBy_12 ?_
  refine xgN_q155 (j := 0) (by decide) hF hK hH dX0_firstBy_15 ?_
  refine lv_iload_n hF.1 hF.2.1 dX0_firstBy_18 rfl (lv_at hl 2 rfl) ?_
  refine lv_iload_n hF.1 hF.2.1 dX0_firstBy_19 rfl (lv_at hl 3 rfl) ?_
  refine x1_ast (a' := up2 a (0 + 6) 0 (upd (a (0 + 6) 0) pn (nI tv))) (j := 0) (by decide) hF hK hH hS 0 (n := 3) rfl rfl (by decide) rfl (f := a (0 + 6) 0) rfl (i := pn) (by omega) (by decide) dX0_firstBy_20 (by simp [up2]) (by intro i q hq; simp only [up2, if_neg hq]) (fun H locs hH hS => ?_)
  refine lv_aload_n hF.1 hF.2.1 dX0_firstBy_21 rfl (lv_at hl 1 rfl) ?_
  refine xg0_3 hF hK hH q221 dX0_firstBy_22 ?_
  refine lv_iload_n hF.1 hF.2.1 dX0_firstBy_25 rfl (lv_at hl 2 rfl) ?_
  refine lv_iload_n hF.1 hF.2.1 dX0_firstBy_26 rfl (lv_at hl 4 rfl) ?_
  refine lv_iload hF.1 hF.2.1 dX0_firstBy_27 (lv_at hl 5 rfl) ?_
  refine lv_aload_n hF.1 hF.2.1 dX0_firstBy_29 rfl (lv_at hl 1 rfl) ?_
  refine g_vPi (As := []) (rest := [.int (nI to), .int (nI fr), .int (nI pn), .ref (ω.2.1 (0 + 6) 99)]) hF (kX0_all l ω g y (up2 a (0 + 6) 0 (upd (a (0 + 6) 0) pn (nI tv))) z dr pg t) (lw_V q609 q611 qs14 q92 q612) 0 hdX0_all rfl rfl ⟨Nat.le_of_ble_eq_true rfl, Nat.le_of_ble_eq_true rfl⟩ (x_preV0 hK hH) rfl hl.1 rfl (Nat.le_of_ble_eq_true rfl) dX0_firstBy_30 ⟨Nat.zero_le _, Nat.zero_le _⟩ (fun r1 e_r1 => ?_)
  refine g_vWi (As := [.int (nI pn), .int (nI fr), .int (nI to), .int r1]) (rest := []) hF (kX1_layWayS l ω g y (up2 a (0 + 6) 0 (upd (a (0 + 6) 0) pn (nI tv))) z dr pg t 0 (by decide) pn fr to r1 tv (of pn) (hc.tend (pn := pn) (tv := tv) (by omega) (by omega)) (by omega) (by omega)) (lw_V q613 q614 q615 q96 q616) 4 hdX1_layWayS rfl rfl ⟨Nat.le_of_ble_eq_true rfl, Nat.le_of_ble_eq_true rfl⟩ (x_preV1 (by decide) hK hH) rfl hl.1 rfl (Nat.le_of_ble_eq_true rfl) dX0_firstBy_33 ⟨Nat.le_of_ble_eq_true rfl, Nat.le_of_ble_eq_true rfl⟩ hS (fun r2 ur2 H locs hqr2 hH hS => ?_)
  obtain ⟨r2h0, r2h1, r2h2, r2h3, r2h4, hr2, hr2_0, rfl⟩ := hqr2
  have e_r2 := hr2
  have hfarr2 := cds_far (dy := (g (0 + 6) 9)) hok (hc.tend (pn := pn) (tv := tv) (by omega) (by omega)).td9 (hc.tend (pn := pn) (tv := tv) (by omega) (by omega)).of5 r1 (show to < 8 by omega) (fr := fr)
  have k52_5 : ∀ (v4 : Int32) (ls : Array Slot), v4 = (if r2 = 0 then (-1) else nI (cws t (g (0 + 6) 9) tv (of pn) r1 fr to 0)) → lv_has ls 7 [(5, .int (a (0 + 6) 0 pn)), (0, .ref (ω.2.1 0 99)), (1, .int (nI pn))] → W p l e rmX0_firstBy s m args below meth c H locs 0 0 QQ (F0 m 52 ls [.int v4]) := by
    intro v4 ls e_v4 hl
    refine lv_istore (lv' := [(6, .int v4), (5, .int (a (0 + 6) 0 pn)), (0, .ref (ω.2.1 0 99)), (1, .int (nI pn))]) hF.1 hF.2.1 dX0_firstBy_52 hl (by decide) rfl (fun ls hl => ?_)
    refine lv_aload_n hF.1 hF.2.1 dX0_firstBy_54 rfl (lv_at hl 2 rfl) ?_
    refine xg0_3 hF hK hH q221 dX0_firstBy_55 ?_
    refine xgN_q155 (j := 0) (by decide) hF hK hH dX0_firstBy_58 ?_
    refine lv_iload_n hF.1 hF.2.1 dX0_firstBy_61 rfl (lv_at hl 3 rfl) ?_
    refine lv_iload hF.1 hF.2.1 dX0_firstBy_62 (lv_at hl 1 rfl) ?_
    refine x1_ast (a' := up2 a (0 + 6) 0 (upd (upd (a (0 + 6) 0) pn (nI tv)) pn (a (0 + 6) 0 pn))) (j := 0) (by decide) hF hK hH hS 0 (n := 3) rfl rfl (by decide) rfl (f := upd (a (0 + 6) 0) pn (nI tv)) (by simp [up2]) (i := pn) (by omega) (by decide) dX0_firstBy_64 (by simp [up2]) (by intro i q hq; simp only [up2, if_neg hq]) (fun H locs hH hS => ?_)
    have hH : xH ω (g, up2 (up2 (up2 y (0 + 6) 12 r2h0) (0 + 6) 13 r2h1) (0 + 6) 14 r2h2, a, up2 (up2 z (0 + 6) 10 r2h3) (0 + 6) 11 r2h4, dr, pg, t) H := by rw [upd_back, up2_id] at hH; exact hH
    refine lv_iload hF.1 hF.2.1 dX0_firstBy_65 (lv_at hl 0 rfl) ?_
    exact hret _ _ _ _ _ _ dX0_firstBy_67 ⟨_, _, _, _, _, by subst e_v4; subst e_r2; subst e_r1; rfl, rfl⟩ hH hS
  refine lv_if_eq (tgt := 51) hF.1 hF.2.1 dX0_firstBy_36 (by decide) (fun c3 => ?_) (fun c3 => ?_)
  · skip
    refine lv_iconst (v := (-1)) hF.1 hF.2.1 dX0_firstBy_51 (by decide) ?_
    exact k52_5 _ _ (by first | (rw [if_pos c3]; done) | (simp only [if_pos c3])) (lv_sub hl [0, 1, 2] rfl)
  · skip
    have hwd := fX1_layWayS_lift (by rw [← e_r2]; exact c3)
    have hwl := cwl_lt (dy := (g (0 + 6) 9)) hok (hc.tend (pn := pn) (tv := tv) (by omega) (by omega)).td9 (hc.tend (pn := pn) (tv := tv) (by omega) (by omega)).of5 r1 (show to < 8 by omega) (show fr < 8 by omega) hwd
    have hwp := cwl_pos (dy := (g (0 + 6) 9)) hok (hc.tend (pn := pn) (tv := tv) (by omega) (by omega)).td9 (hc.tend (pn := pn) (tv := tv) (by omega) (by omega)).of5 r1 (show to < 8 by omega) (show fr < 8 by omega) hwd (by omega)
    refine lv_aload_n hF.1 hF.2.1 dX0_firstBy_39 rfl (lv_at hl 1 rfl) ?_
    refine xg0_3 hF hK hH q221 dX0_firstBy_40 ?_
    refine xgN_q175 (j := 0) (by decide) hF hK hH dX0_firstBy_43 ?_
    refine lv_iconst (v := nI 0) hF.1 hF.2.1 dX0_firstBy_46 (by decide) ?_
    refine x1_zld (j := 0) (by decide) hF hK hH 11 (n := 8) rfl rfl (by decide) rfl (f := r2h4) (by simp [up2]) (i := 0) (by omega) (by decide) dX0_firstBy_47 ?_
    refine n_top (y := nI (cws t (g (0 + 6) 9) tv (of pn) r1 fr to 0)) ((hr2_0 hwd).2.2.2 _ (by omega)) ?_
    refine lv_goto (tgt := 52) hF.1 hF.2.1 dX0_firstBy_48 (by decide) ?_
    exact k52_5 _ _ (by first | (rw [if_neg c3]; done) | (simp only [if_neg c3])) (lv_sub hl [0, 1, 2] rfl)

def fX0_tendersOf_b16 (g : Nat → Nat → Nat) (a : Nat → Nat → Nat → Int32) (t : TW) (of : Nat → Nat → Nat) (pn : Nat) (i4 : Nat) (i16 : Nat) (S : Int32) : Int32 := if (a 0 13 i16) = (nI pn) then if (fX0_firstBy g t of pn i4 (toN (a 0 14 i16)) (toN (a 0 15 i16))) = (a 0 16 i16) then S &&& (nI 1) else S &&& (nI 0) else S &&& (nI 1)
def fX0_tendersOf_b4 (g : Nat → Nat → Nat) (a : Nat → Nat → Nat → Int32) (t : TW) (of : Nat → Nat → Nat) (pn : Nat) (i4 : Nat) (S : Int32) : Int32 := if (it (fX0_tendersOf_b16 g a t of pn i4) (g 0 12) (nI 1)) = 0 then S ||| (nI 0) else S ||| ((nI 1) <<< ((nI i4) &&& 31))
def fX0_tendersOf (g : Nat → Nat → Nat) (a : Nat → Nat → Nat → Int32) (t : TW) (of : Nat → Nat → Nat) (pn : Nat) : Int32 := (it (fX0_tendersOf_b4 g a t of pn) 10 (nI 0))
def rmX0_tendersOf : Room := { frames := 9, cells := 0, slots := 0, locals := 216 }
theorem hdX0_tendersOf : yX0_tendersOf.cls = RX0 ∧ yX0_tendersOf.cls ≠ "java/lang/invoke/MethodHandle" ∧ yX0_tendersOf.cls ≠ "java/lang/invoke/VarHandle" ∧ (parseMethodDescriptor yX0_tendersOf.desc).map (fun d => d.parameters.length) = some 1 := by decide +kernel
set_option maxHeartbeats 4000000 in
theorem kX0_tendersOf (l : Launch) (ω : OM) (g : Nat → Nat → Nat) (y : Nat → Nat → Int32) (a z : Nat → Nat → Nat → Int32) (dr : Int64) (pg : Nat → Int32) (t : TW) (td : Nat → Nat) (of : Nat → Nat → Nat) (hc : xCore g a t 0 td of) (pn : Nat) (hpn : pn < 3) (hsd : xSide g a) : Met l yX0_tendersOf (ws_ yX0_tendersOf cX0_tendersOf 6 (some .int)) rmX0_tendersOf (va_Pc [.ref (ω.2.1 0 99), .int (nI pn)] (fun U => xK ω U ∧ xH ω (g, y, a, z, dr, pg, t) U.heap)) (va_Qi (fun (r : Int32) (u : XS) => ∃ (q0 : Int32) (q1 : Int32) (q2 : Int32) (q3 : Nat → Int32) (q4 : Nat → Int32), r = (fX0_tendersOf g a t of pn) ∧ u = (g, up2 (up2 (up2 y (0 + 6) 12 q0) (0 + 6) 13 q1) (0 + 6) 14 q2, a, up2 (up2 z (0 + 6) 10 q3) (0 + 6) 11 q4, dr, pg, t)) (fun u t => xH ω u t.heap) ω.2.2.1) 0 0 ω.2.2.1 := by
  refine g_entWi (C := RX0) rfl (by decide) (Nat.le_of_ble_eq_true rfl) ?_
  intro p e s m args below meth c QQ ls H locs hF hK hH hS hl hret
  have hl : lv_has ls 6 [(0, .ref (ω.2.1 0 99)), (1, .int (nI pn))] := hl
  have hn9 : tn t ≤ 9 := hH.2.2.1
  have hok := hc.ok
  have hp3 := hsd.1
  have hs6 := hsd.2.1
  have hp50 := hsd.2.2.1
  refine lv_iconst (v := nI 0) hF.1 hF.2.1 dX0_tendersOf_0 (by decide) ?_
  refine lv_istore_n (lv' := [(2, .int (nI 0)), (0, .ref (ω.2.1 0 99)), (1, .int (nI pn))]) hF.1 hF.2.1 dX0_tendersOf_1 rfl hl (by decide) rfl (fun ls hl => ?_)
  refine lv_iconst (v := nI 0) hF.1 hF.2.1 dX0_tendersOf_2 (by decide) ?_
  refine lv_istore_n (lv' := [(3, .int (nI 0)), (2, .int (nI 0)), (0, .ref (ω.2.1 0 99)), (1, .int (nI pn))]) hF.1 hF.2.1 dX0_tendersOf_3 rfl hl (by decide) rfl (fun ls hl => ?_)
  have lp4_89 : ∀ (d4 i4 : Nat) (x4_2 : Int32) (h4_y_0_6_12 : Int32) (h4_y_0_6_13 : Int32) (h4_y_0_6_14 : Int32) (h4_z_0_6_10 : Nat → Int32) (h4_z_0_6_11 : Nat → Int32) (H : Heap) (locs : List Loc) (ls : Array Slot), i4 + d4 = 10 → x4_2 = it (fX0_tendersOf_b4 g a t of pn) i4 (nI 0) → xH ω (g, up2 (up2 (up2 y (0 + 6) 12 h4_y_0_6_12) (0 + 6) 13 h4_y_0_6_13) (0 + 6) 14 h4_y_0_6_14, a, up2 (up2 z (0 + 6) 10 h4_z_0_6_10) (0 + 6) 11 h4_z_0_6_11, dr, pg, t) H → va_S ω.2.2.1 s.heap H locs → lv_has ls 6 [(3, .int (nI i4)), (2, .int x4_2), (0, .ref (ω.2.1 0 99)), (1, .int (nI pn))] → W p l e rmX0_tendersOf s m args below meth c H locs 0 0 QQ (F0 m 4 ls []) := by
    intro d4
    induction d4 with
    | zero =>
      intro i4 x4_2 h4_y_0_6_12 h4_y_0_6_13 h4_y_0_6_14 h4_z_0_6_10 h4_z_0_6_11 H locs ls hi4 hS4 hH hS hl
      have hj4 : 10 = i4 := by omega
      subst hj4
      have e_x4_2 := hS4
      refine lv_iload_n hF.1 hF.2.1 dX0_tendersOf_4 rfl (lv_at hl 0 rfl) ?_
      refine lv_bipush (v := nI 9) hF.1 hF.2.1 dX0_tendersOf_5 (by decide) ?_
      refine n_gt (tgt := 103) hF.1 hF.2.1 dX0_tendersOf_7 (by decide) (by omega) (by omega) (fun c1 => ?_) (fun c1 => ?_)
      · skip
        refine lv_iload_n hF.1 hF.2.1 dX0_tendersOf_103 rfl (lv_at hl 1 rfl) ?_
        exact hret _ _ _ _ _ _ dX0_tendersOf_104 ⟨_, _, _, _, _, by subst e_x4_2; rfl, rfl⟩ hH hS
      · exact absurd (by omega) c1
    | succ d4 ih =>
      intro i4 x4_2 h4_y_0_6_12 h4_y_0_6_13 h4_y_0_6_14 h4_z_0_6_10 h4_z_0_6_11 H locs ls hi4 hS4 hH hS hl
      refine lv_iload_n hF.1 hF.2.1 dX0_tendersOf_4 rfl (lv_at hl 0 rfl) ?_
      refine lv_bipush (v := nI 9) hF.1 hF.2.1 dX0_tendersOf_5 (by decide) ?_
      refine n_gt (tgt := 103) hF.1 hF.2.1 dX0_tendersOf_7 (by decide) (by omega) (by omega) (fun c2 => ?_) (fun c2 => ?_)
      · exact absurd c2 (by omega)
      · skip
        refine lv_iconst (v := nI 1) hF.1 hF.2.1 dX0_tendersOf_10 (by decide) ?_
        refine lv_istore (lv' := [(4, .int (nI 1)), (3, .int (nI i4)), (2, .int x4_2), (0, .ref (ω.2.1 0 99)), (1, .int (nI pn))]) hF.1 hF.2.1 dX0_tendersOf_11 hl (by decide) rfl (fun ls hl => ?_)
        refine lv_iconst (v := nI 0) hF.1 hF.2.1 dX0_tendersOf_13 (by decide) ?_
        refine lv_istore (lv' := [(5, .int (nI 0)), (4, .int (nI 1)), (3, .int (nI i4)), (2, .int x4_2), (0, .ref (ω.2.1 0 99)), (1, .int (nI pn))]) hF.1 hF.2.1 dX0_tendersOf_14 hl (by decide) rfl (fun ls hl => ?_)
        have lp16_91 : ∀ (d16 i16 : Nat) (x16_4 : Int32) (h16_y_0_6_12 : Int32) (h16_y_0_6_13 : Int32) (h16_y_0_6_14 : Int32) (h16_z_0_6_10 : Nat → Int32) (h16_z_0_6_11 : Nat → Int32) (H : Heap) (locs : List Loc) (ls : Array Slot), i16 + d16 = g 0 12 → x16_4 = it (fX0_tendersOf_b16 g a t of pn i4) i16 (nI 1) → xH ω (g, up2 (up2 (up2 y (0 + 6) 12 h16_y_0_6_12) (0 + 6) 13 h16_y_0_6_13) (0 + 6) 14 h16_y_0_6_14, a, up2 (up2 z (0 + 6) 10 h16_z_0_6_10) (0 + 6) 11 h16_z_0_6_11, dr, pg, t) H → va_S ω.2.2.1 s.heap H locs → lv_has ls 6 [(5, .int (nI i16)), (4, .int x16_4), (3, .int (nI i4)), (2, .int x4_2), (0, .ref (ω.2.1 0 99)), (1, .int (nI pn))] → W p l e rmX0_tendersOf s m args below meth c H locs 0 0 QQ (F0 m 16 ls []) := by
          intro d16
          induction d16 with
          | zero =>
            intro i16 x16_4 h16_y_0_6_12 h16_y_0_6_13 h16_y_0_6_14 h16_z_0_6_10 h16_z_0_6_11 H locs ls hi16 hS16 hH hS hl
            have hj16 : g 0 12 = i16 := by omega
            subst hj16
            have e_x16_4 := hS16
            refine lv_iload hF.1 hF.2.1 dX0_tendersOf_16 (lv_at hl 0 rfl) ?_
            refine lv_aload_n hF.1 hF.2.1 dX0_tendersOf_18 rfl (lv_at hl 4 rfl) ?_
            refine xg0_12 hF hK hH q232 dX0_tendersOf_19 (v := g 0 12) rfl ?_
            refine n_ge (tgt := 82) hF.1 hF.2.1 dX0_tendersOf_22 (by decide) (by omega) (by omega) (fun c3 => ?_) (fun c3 => ?_)
            · skip
              refine lv_iload_n hF.1 hF.2.1 dX0_tendersOf_82 rfl (lv_at hl 3 rfl) ?_
              refine lv_iload hF.1 hF.2.1 dX0_tendersOf_83 (lv_at hl 1 rfl) ?_
              refine lv_if_eq (tgt := 94) hF.1 hF.2.1 dX0_tendersOf_85 (by decide) (fun c4 => ?_) (fun c4 => ?_)
              · skip
                refine lv_iconst (v := nI 0) hF.1 hF.2.1 dX0_tendersOf_94 (by decide) ?_
                refine lv_ior hF.1 hF.2.1 dX0_tendersOf_95 ?_
                refine lv_istore_n (lv' := [(2, .int (x4_2 ||| (nI 0))), (5, .int (nI (g 0 12))), (4, .int x16_4), (3, .int (nI i4)), (0, .ref (ω.2.1 0 99)), (1, .int (nI pn))]) hF.1 hF.2.1 dX0_tendersOf_96 rfl hl (by decide) rfl (fun ls hl => ?_)
                refine n_iinc (lv' := [(3, .int (nI (i4 + 1))), (2, .int (x4_2 ||| (nI 0))), (5, .int (nI (g 0 12))), (4, .int x16_4), (0, .ref (ω.2.1 0 99)), (1, .int (nI pn))]) hF.1 hF.2.1 dX0_tendersOf_97 hl (k := 3) rfl (by decide) rfl (fun ls hl => ?_)
                refine lv_goto (tgt := 4) hF.1 hF.2.1 dX0_tendersOf_100 (by decide) ?_
                exact ih (i4 + 1) _ _ _ _ _ _ _ _ _ (by omega) (by subst e_x16_4; rw [it_succ (fX0_tendersOf_b4 g a t of pn) i4 _, ← hS4]; unfold fX0_tendersOf_b4; first | (rw [if_pos c4]; done) | (simp only [if_pos c4])) hH hS (lv_sub hl [0, 1, 4, 5] rfl)
              · skip
                refine lv_iconst (v := nI 1) hF.1 hF.2.1 dX0_tendersOf_88 (by decide) ?_
                refine lv_iload_n hF.1 hF.2.1 dX0_tendersOf_89 rfl (lv_at hl 2 rfl) ?_
                refine lv_ishl hF.1 hF.2.1 dX0_tendersOf_90 ?_
                refine lv_goto (tgt := 95) hF.1 hF.2.1 dX0_tendersOf_91 (by decide) ?_
                refine lv_ior hF.1 hF.2.1 dX0_tendersOf_95 ?_
                refine lv_istore_n (lv' := [(2, .int (x4_2 ||| ((nI 1) <<< ((nI i4) &&& 31)))), (5, .int (nI (g 0 12))), (4, .int x16_4), (3, .int (nI i4)), (0, .ref (ω.2.1 0 99)), (1, .int (nI pn))]) hF.1 hF.2.1 dX0_tendersOf_96 rfl hl (by decide) rfl (fun ls hl => ?_)
                refine n_iinc (lv' := [(3, .int (nI (i4 + 1))), (2, .int (x4_2 ||| ((nI 1) <<< ((nI i4) &&& 31)))), (5, .int (nI (g 0 12))), (4, .int x16_4), (0, .ref (ω.2.1 0 99)), (1, .int (nI pn))]) hF.1 hF.2.1 dX0_tendersOf_97 hl (k := 3) rfl (by decide) rfl (fun ls hl => ?_)
                refine lv_goto (tgt := 4) hF.1 hF.2.1 dX0_tendersOf_100 (by decide) ?_
                exact ih (i4 + 1) _ _ _ _ _ _ _ _ _ (by omega) (by subst e_x16_4; rw [it_succ (fX0_tendersOf_b4 g a t of pn) i4 _, ← hS4]; unfold fX0_tendersOf_b4; first | (rw [if_neg c4]; done) | (simp only [if_neg c4])) hH hS (lv_sub hl [0, 1, 4, 5] rfl)
            · exact absurd (by omega) c3
          | succ d16 ih =>
            intro i16 x16_4 h16_y_0_6_12 h16_y_0_6_13 h16_y_0_6_14 h16_z_0_6_10 h16_z_0_6_11 H locs ls hi16 hS16 hH hS hl
            refine lv_iload hF.1 hF.2.1 dX0_tendersOf_16 (lv_at hl 0 rfl) ?_
            refine lv_aload_n hF.1 hF.2.1 dX0_tendersOf_18 rfl (lv_at hl 4 rfl) ?_
            refine xg0_12 hF hK hH q232 dX0_tendersOf_19 (v := g 0 12) rfl ?_
            refine n_ge (tgt := 82) hF.1 hF.2.1 dX0_tendersOf_22 (by decide) (by omega) (by omega) (fun c5 => ?_) (fun c5 => ?_)
            · exact absurd c5 (by omega)
            · skip
              refine lv_iload hF.1 hF.2.1 dX0_tendersOf_25 (lv_at hl 1 rfl) ?_
              refine lv_aload_n hF.1 hF.2.1 dX0_tendersOf_27 rfl (lv_at hl 4 rfl) ?_
              refine xg0_13 hF hK hH q233 dX0_tendersOf_28 ?_
              refine lv_iload hF.1 hF.2.1 dX0_tendersOf_31 (lv_at hl 0 rfl) ?_
              refine x0_ald hF hK hH 13 (n := 6) rfl rfl (by decide) (by decide) rfl (f := a 0 13) rfl (i := i16) (by omega) (by decide) dX0_tendersOf_33 ?_
              refine lv_iload_n hF.1 hF.2.1 dX0_tendersOf_34 rfl (lv_at hl 5 rfl) ?_
              refine lv_icmp_ne (tgt := 68) hF.1 hF.2.1 dX0_tendersOf_35 (by decide) (fun c6 => ?_) (fun c6 => ?_)
              · skip
                refine lv_iconst (v := nI 1) hF.1 hF.2.1 dX0_tendersOf_68 (by decide) ?_
                refine lv_goto (tgt := 73) hF.1 hF.2.1 dX0_tendersOf_69 (by decide) ?_
                refine lv_iand hF.1 hF.2.1 dX0_tendersOf_73 ?_
                refine lv_istore (lv' := [(4, .int (x16_4 &&& (nI 1))), (5, .int (nI i16)), (3, .int (nI i4)), (2, .int x4_2), (0, .ref (ω.2.1 0 99)), (1, .int (nI pn))]) hF.1 hF.2.1 dX0_tendersOf_74 hl (by decide) rfl (fun ls hl => ?_)
                refine n_iinc (lv' := [(5, .int (nI (i16 + 1))), (4, .int (x16_4 &&& (nI 1))), (3, .int (nI i4)), (2, .int x4_2), (0, .ref (ω.2.1 0 99)), (1, .int (nI pn))]) hF.1 hF.2.1 dX0_tendersOf_76 hl (k := 1) rfl (by decide) rfl (fun ls hl => ?_)
                refine lv_goto (tgt := 16) hF.1 hF.2.1 dX0_tendersOf_79 (by decide) ?_
                exact ih (i16 + 1) _ _ _ _ _ _ _ _ _ (by omega) (by rw [it_succ (fX0_tendersOf_b16 g a t of pn i4) i16 _, ← hS16]; unfold fX0_tendersOf_b16; first | (rw [if_neg c6]; done) | (simp only [if_neg c6])) hH hS (lv_sub hl [0, 1, 2, 3, 4, 5] rfl)
              · skip
                refine lv_aload_n hF.1 hF.2.1 dX0_tendersOf_38 rfl (lv_at hl 4 rfl) ?_
                refine lv_iload_n hF.1 hF.2.1 dX0_tendersOf_39 rfl (lv_at hl 5 rfl) ?_
                refine lv_iload_n hF.1 hF.2.1 dX0_tendersOf_40 rfl (lv_at hl 2 rfl) ?_
                refine lv_aload_n hF.1 hF.2.1 dX0_tendersOf_41 rfl (lv_at hl 4 rfl) ?_
                refine xg0_14 hF hK hH q234 dX0_tendersOf_42 ?_
                refine lv_iload hF.1 hF.2.1 dX0_tendersOf_45 (lv_at hl 0 rfl) ?_
                refine x0_ald hF hK hH 14 (n := 6) rfl rfl (by decide) (by decide) rfl (f := a 0 14) rfl (i := i16) (by omega) (by decide) dX0_tendersOf_47 ?_
                obtain ⟨b7e, b7l⟩ := g_lift (r := a 0 14 i16) (n := 8) ((hsd.2.2.2.2.2 i16 (by omega)).1) (by omega)
                refine n_top b7e ?_
                refine lv_aload_n hF.1 hF.2.1 dX0_tendersOf_48 rfl (lv_at hl 4 rfl) ?_
                refine xg0_15 hF hK hH q235 dX0_tendersOf_49 ?_
                refine lv_iload hF.1 hF.2.1 dX0_tendersOf_52 (lv_at hl 0 rfl) ?_
                refine x0_ald hF hK hH 15 (n := 6) rfl rfl (by decide) (by decide) rfl (f := a 0 15) rfl (i := i16) (by omega) (by decide) dX0_tendersOf_54 ?_
                obtain ⟨b8e, b8l⟩ := g_lift (r := a 0 15 i16) (n := 8) ((hsd.2.2.2.2.2 i16 (by omega)).2.1) (by omega)
                refine n_top b8e ?_
                have hne := toN_ne (hsd.2.2.2.2.2 i16 (by omega)).1 (hsd.2.2.2.2.2 i16 (by omega)).2.1 (hsd.2.2.2.2.2 i16 (by omega)).2.2
                refine g_vWi (As := [.int (nI pn), .int (nI i4), .int (nI (toN (a 0 14 i16))), .int (nI (toN (a 0 15 i16)))]) (rest := [.int x16_4]) hF (kX0_firstBy l ω g (up2 (up2 (up2 y (0 + 6) 12 h16_y_0_6_12) (0 + 6) 13 h16_y_0_6_13) (0 + 6) 14 h16_y_0_6_14) a (up2 (up2 z (0 + 6) 10 h16_z_0_6_10) (0 + 6) 11 h16_z_0_6_11) dr pg t td of hc pn i4 (toN (a 0 14 i16)) (toN (a 0 15 i16)) (by omega) (by omega) (by omega) (by omega) (by omega) hsd) (lw_V q605 q607 qs13 q92 q608) 4 hdX0_firstBy rfl rfl ⟨Nat.le_of_ble_eq_true rfl, Nat.le_of_ble_eq_true rfl⟩ (x_preV0 hK hH) rfl hl.1 rfl (Nat.le_of_ble_eq_true rfl) dX0_tendersOf_55 ⟨Nat.le_of_ble_eq_true rfl, Nat.le_of_ble_eq_true rfl⟩ hS (fun r9 ur9 H locs hqr9 hH hS => ?_)
                obtain ⟨r9h0, r9h1, r9h2, r9h3, r9h4, hr9, rfl⟩ := hqr9
                have e_r9 := hr9
                have hH : xH ω (g, up2 (up2 (up2 y (0 + 6) 12 r9h0) (0 + 6) 13 r9h1) (0 + 6) 14 r9h2, a, up2 (up2 z (0 + 6) 10 r9h3) (0 + 6) 11 r9h4, dr, pg, t) H := x_ext (fun _ _ => rfl) (by intro o k; by_cases h0 : o = (0 + 6) ∧ k = 12; (obtain ⟨rfl, rfl⟩ := h0; simp [up2]); by_cases h1 : o = (0 + 6) ∧ k = 13; (obtain ⟨rfl, rfl⟩ := h1; simp [up2]); by_cases h2 : o = (0 + 6) ∧ k = 14; (obtain ⟨rfl, rfl⟩ := h2; simp [up2]); simp only [up2, if_neg h0, if_neg h1, if_neg h2]) (fun _ _ => rfl) (by intro o k; by_cases h0 : o = (0 + 6) ∧ k = 10; (obtain ⟨rfl, rfl⟩ := h0; simp [up2]); by_cases h1 : o = (0 + 6) ∧ k = 11; (obtain ⟨rfl, rfl⟩ := h1; simp [up2]); simp only [up2, if_neg h0, if_neg h1]) hH
                refine lv_aload_n hF.1 hF.2.1 dX0_tendersOf_58 rfl (lv_at hl 4 rfl) ?_
                refine xg0_16 hF hK hH q236 dX0_tendersOf_59 ?_
                refine lv_iload hF.1 hF.2.1 dX0_tendersOf_62 (lv_at hl 0 rfl) ?_
                refine x0_ald hF hK hH 16 (n := 6) rfl rfl (by decide) (by decide) rfl (f := a 0 16) rfl (i := i16) (by omega) (by decide) dX0_tendersOf_64 ?_
                refine lv_icmp_ne (tgt := 72) hF.1 hF.2.1 dX0_tendersOf_65 (by decide) (fun c10 => ?_) (fun c10 => ?_)
                · skip
                  refine lv_iconst (v := nI 0) hF.1 hF.2.1 dX0_tendersOf_72 (by decide) ?_
                  refine lv_iand hF.1 hF.2.1 dX0_tendersOf_73 ?_
                  refine lv_istore (lv' := [(4, .int (x16_4 &&& (nI 0))), (5, .int (nI i16)), (3, .int (nI i4)), (2, .int x4_2), (0, .ref (ω.2.1 0 99)), (1, .int (nI pn))]) hF.1 hF.2.1 dX0_tendersOf_74 hl (by decide) rfl (fun ls hl => ?_)
                  refine n_iinc (lv' := [(5, .int (nI (i16 + 1))), (4, .int (x16_4 &&& (nI 0))), (3, .int (nI i4)), (2, .int x4_2), (0, .ref (ω.2.1 0 99)), (1, .int (nI pn))]) hF.1 hF.2.1 dX0_tendersOf_76 hl (k := 1) rfl (by decide) rfl (fun ls hl => ?_)
                  refine lv_goto (tgt := 16) hF.1 hF.2.1 dX0_tendersOf_79 (by decide) ?_
                  exact ih (i16 + 1) _ _ _ _ _ _ _ _ _ (by omega) (by subst e_r9; rw [it_succ (fX0_tendersOf_b16 g a t of pn i4) i16 _, ← hS16]; unfold fX0_tendersOf_b16; first | (rw [if_pos c6, if_neg c10]; done) | (simp only [if_pos c6, if_neg c10])) hH hS (lv_sub hl [0, 1, 2, 3, 4, 5] rfl)
                · skip
                  refine lv_iconst (v := nI 1) hF.1 hF.2.1 dX0_tendersOf_68 (by decide) ?_
                  refine lv_goto (tgt := 73) hF.1 hF.2.1 dX0_tendersOf_69 (by decide) ?_
                  refine lv_iand hF.1 hF.2.1 dX0_tendersOf_73 ?_
                  refine lv_istore (lv' := [(4, .int (x16_4 &&& (nI 1))), (5, .int (nI i16)), (3, .int (nI i4)), (2, .int x4_2), (0, .ref (ω.2.1 0 99)), (1, .int (nI pn))]) hF.1 hF.2.1 dX0_tendersOf_74 hl (by decide) rfl (fun ls hl => ?_)
                  refine n_iinc (lv' := [(5, .int (nI (i16 + 1))), (4, .int (x16_4 &&& (nI 1))), (3, .int (nI i4)), (2, .int x4_2), (0, .ref (ω.2.1 0 99)), (1, .int (nI pn))]) hF.1 hF.2.1 dX0_tendersOf_76 hl (k := 1) rfl (by decide) rfl (fun ls hl => ?_)
                  refine lv_goto (tgt := 16) hF.1 hF.2.1 dX0_tendersOf_79 (by decide) ?_
                  exact ih (i16 + 1) _ _ _ _ _ _ _ _ _ (by omega) (by subst e_r9; rw [it_succ (fX0_tendersOf_b16 g a t of pn i4) i16 _, ← hS16]; unfold fX0_tendersOf_b16; first | (rw [if_pos c6, if_pos c10]; done) | (simp only [if_pos c6, if_pos c10])) hH hS (lv_sub hl [0, 1, 2, 3, 4, 5] rfl)
        exact lp16_91 (g 0 12) 0 _ _ _ _ _ _ _ _ _ (by omega) rfl hH hS (lv_sub hl [0, 1, 2, 3, 4, 5] rfl)
  have hH : xH ω (g, up2 (up2 (up2 y (0 + 6) 12 (y (0 + 6) 12)) (0 + 6) 13 (y (0 + 6) 13)) (0 + 6) 14 (y (0 + 6) 14), a, up2 (up2 z (0 + 6) 10 (z (0 + 6) 10)) (0 + 6) 11 (z (0 + 6) 11), dr, pg, t) H := x_ext (fun _ _ => rfl) (by intro o k; by_cases h0 : o = (0 + 6) ∧ k = 12; (obtain ⟨rfl, rfl⟩ := h0; simp [up2]); by_cases h1 : o = (0 + 6) ∧ k = 13; (obtain ⟨rfl, rfl⟩ := h1; simp [up2]); by_cases h2 : o = (0 + 6) ∧ k = 14; (obtain ⟨rfl, rfl⟩ := h2; simp [up2]); simp only [up2, if_neg h0, if_neg h1, if_neg h2]) (fun _ _ => rfl) (by intro o k; by_cases h0 : o = (0 + 6) ∧ k = 10; (obtain ⟨rfl, rfl⟩ := h0; simp [up2]); by_cases h1 : o = (0 + 6) ∧ k = 11; (obtain ⟨rfl, rfl⟩ := h1; simp [up2]); simp only [up2, if_neg h0, if_neg h1]) hH
  exact lp4_89 10 0 _ _ _ _ _ _ _ _ _ (by omega) rfl hH hS (lv_sub hl [0, 1, 2, 3] rfl)

def fX0_personTold (g : Nat → Nat → Nat) (a : Nat → Nat → Nat → Int32) (t : TW) (of : Nat → Nat → Nat) (pn : Nat) (wh : Int32) : Int32 := if wh = nI 0 then a (0 + 6) 0 pn else if wh = nI 1 then a (0 + 6) 2 pn else if wh = nI 2 then a (0 + 6) 3 pn else if wh = nI 3 then (fX0_tendersOf g a t of pn) else if wh = nI 4 then a (0 + 6) 4 pn else a (0 + 6) 5 pn
def rmX0_personTold : Room := { frames := 10, cells := 0, slots := 0, locals := 241 }
theorem hdX0_personTold : yX0_personTold.cls = RX0 ∧ yX0_personTold.cls ≠ "java/lang/invoke/MethodHandle" ∧ yX0_personTold.cls ≠ "java/lang/invoke/VarHandle" ∧ (parseMethodDescriptor yX0_personTold.desc).map (fun d => d.parameters.length) = some 2 := by decide +kernel
set_option maxHeartbeats 4000000 in
theorem kX0_personTold (l : Launch) (ω : OM) (g : Nat → Nat → Nat) (y : Nat → Nat → Int32) (a z : Nat → Nat → Nat → Int32) (dr : Int64) (pg : Nat → Int32) (t : TW) (td : Nat → Nat) (of : Nat → Nat → Nat) (hc : xCore g a t 0 td of) (pn : Nat) (wh : Int32) (hpn : pn < 3) (hsd : xSide g a) : Met l yX0_personTold (ws_ yX0_personTold cX0_personTold 3 (some .int)) rmX0_personTold (va_Pc [.ref (ω.2.1 0 99), .int (nI pn), .int wh] (fun U => xK ω U ∧ xH ω (g, y, a, z, dr, pg, t) U.heap)) (va_Qi (fun (r : Int32) (u : XS) => ∃ (q0 : Int32) (q1 : Int32) (q2 : Int32) (q3 : Nat → Int32) (q4 : Nat → Int32), r = (fX0_personTold g a t of pn wh) ∧ u = (g, up2 (up2 (up2 y (0 + 6) 12 q0) (0 + 6) 13 q1) (0 + 6) 14 q2, a, up2 (up2 z (0 + 6) 10 q3) (0 + 6) 11 q4, dr, pg, t)) (fun u t => xH ω u t.heap) ω.2.2.1) 0 0 ω.2.2.1 := by
  refine g_entWi (C := RX0) rfl (by decide) (Nat.le_of_ble_eq_true rfl) ?_
  intro p e s m args below meth c QQ ls H locs hF hK hH hS hl hret
  have hl : lv_has ls 3 [(0, .ref (ω.2.1 0 99)), (1, .int (nI pn)), (2, .int wh)] := hl
  have hn9 : tn t ≤ 9 := hH.2.2.1
  have hok := hc.ok
  have hp3 := hsd.1
  have hs6 := hsd.2.1
  have hp50 := hsd.2.2.1
  refine lv_iload_n hF.1 hF.2.1 dX0_personTold_0 rfl (lv_at hl 2 rfl) ?_
  by_cases c2 : wh = nI 0
  · skip
    refine n_top (y := nI 0) c2 ?_
    refine lv_tableIn (off := 35) (tgt := 36) hF.1 hF.2.1 dX0_personTold_1 (by decide) (by decide) (by decide) (by decide) ?_
    refine lv_aload_n hF.1 hF.2.1 dX0_personTold_36 rfl (lv_at hl 0 rfl) ?_
    refine xg0_3 hF hK hH q221 dX0_personTold_37 ?_
    refine xgN_q155 (j := 0) (by decide) hF hK hH dX0_personTold_40 ?_
    refine lv_iload_n hF.1 hF.2.1 dX0_personTold_43 rfl (lv_at hl 1 rfl) ?_
    refine x1_ald (j := 0) (by decide) hF hK hH 0 (n := 3) rfl rfl (by decide) rfl (f := a (0 + 6) 0) rfl (i := pn) (by omega) (by decide) dX0_personTold_44 ?_
    have hH : xH ω (g, up2 (up2 (up2 y (0 + 6) 12 (y (0 + 6) 12)) (0 + 6) 13 (y (0 + 6) 13)) (0 + 6) 14 (y (0 + 6) 14), a, up2 (up2 z (0 + 6) 10 (z (0 + 6) 10)) (0 + 6) 11 (z (0 + 6) 11), dr, pg, t) H := x_ext (fun _ _ => rfl) (by intro o k; by_cases h0 : o = (0 + 6) ∧ k = 12; (obtain ⟨rfl, rfl⟩ := h0; simp [up2]); by_cases h1 : o = (0 + 6) ∧ k = 13; (obtain ⟨rfl, rfl⟩ := h1; simp [up2]); by_cases h2 : o = (0 + 6) ∧ k = 14; (obtain ⟨rfl, rfl⟩ := h2; simp [up2]); simp only [up2, if_neg h0, if_neg h1, if_neg h2]) (fun _ _ => rfl) (by intro o k; by_cases h0 : o = (0 + 6) ∧ k = 10; (obtain ⟨rfl, rfl⟩ := h0; simp [up2]); by_cases h1 : o = (0 + 6) ∧ k = 11; (obtain ⟨rfl, rfl⟩ := h1; simp [up2]); simp only [up2, if_neg h0, if_neg h1]) hH
    exact hret _ _ _ _ _ _ dX0_personTold_45 ⟨_, _, _, _, _, by unfold fX0_personTold; first | (rw [if_pos c2]; done) | (simp only [if_pos c2]), rfl⟩ hH hS
  by_cases c3 : wh = nI 1
  · skip
    refine n_top (y := nI 1) c3 ?_
    refine lv_tableIn (off := 45) (tgt := 46) hF.1 hF.2.1 dX0_personTold_1 (by decide) (by decide) (by decide) (by decide) ?_
    refine lv_aload_n hF.1 hF.2.1 dX0_personTold_46 rfl (lv_at hl 0 rfl) ?_
    refine xg0_3 hF hK hH q221 dX0_personTold_47 ?_
    refine xgN_q158 (j := 0) (by decide) hF hK hH dX0_personTold_50 ?_
    refine lv_iload_n hF.1 hF.2.1 dX0_personTold_53 rfl (lv_at hl 1 rfl) ?_
    refine x1_ald (j := 0) (by decide) hF hK hH 2 (n := 3) rfl rfl (by decide) rfl (f := a (0 + 6) 2) rfl (i := pn) (by omega) (by decide) dX0_personTold_54 ?_
    have hH : xH ω (g, up2 (up2 (up2 y (0 + 6) 12 (y (0 + 6) 12)) (0 + 6) 13 (y (0 + 6) 13)) (0 + 6) 14 (y (0 + 6) 14), a, up2 (up2 z (0 + 6) 10 (z (0 + 6) 10)) (0 + 6) 11 (z (0 + 6) 11), dr, pg, t) H := x_ext (fun _ _ => rfl) (by intro o k; by_cases h0 : o = (0 + 6) ∧ k = 12; (obtain ⟨rfl, rfl⟩ := h0; simp [up2]); by_cases h1 : o = (0 + 6) ∧ k = 13; (obtain ⟨rfl, rfl⟩ := h1; simp [up2]); by_cases h2 : o = (0 + 6) ∧ k = 14; (obtain ⟨rfl, rfl⟩ := h2; simp [up2]); simp only [up2, if_neg h0, if_neg h1, if_neg h2]) (fun _ _ => rfl) (by intro o k; by_cases h0 : o = (0 + 6) ∧ k = 10; (obtain ⟨rfl, rfl⟩ := h0; simp [up2]); by_cases h1 : o = (0 + 6) ∧ k = 11; (obtain ⟨rfl, rfl⟩ := h1; simp [up2]); simp only [up2, if_neg h0, if_neg h1]) hH
    exact hret _ _ _ _ _ _ dX0_personTold_55 ⟨_, _, _, _, _, by unfold fX0_personTold; first | (rw [if_neg c2, if_pos c3]; done) | (simp only [if_neg c2, if_pos c3]), rfl⟩ hH hS
  by_cases c4 : wh = nI 2
  · skip
    refine n_top (y := nI 2) c4 ?_
    refine lv_tableIn (off := 55) (tgt := 56) hF.1 hF.2.1 dX0_personTold_1 (by decide) (by decide) (by decide) (by decide) ?_
    refine lv_aload_n hF.1 hF.2.1 dX0_personTold_56 rfl (lv_at hl 0 rfl) ?_
    refine xg0_3 hF hK hH q221 dX0_personTold_57 ?_
    refine xgN_q160 (j := 0) (by decide) hF hK hH dX0_personTold_60 ?_
    refine lv_iload_n hF.1 hF.2.1 dX0_personTold_63 rfl (lv_at hl 1 rfl) ?_
    refine x1_ald (j := 0) (by decide) hF hK hH 3 (n := 3) rfl rfl (by decide) rfl (f := a (0 + 6) 3) rfl (i := pn) (by omega) (by decide) dX0_personTold_64 ?_
    have hH : xH ω (g, up2 (up2 (up2 y (0 + 6) 12 (y (0 + 6) 12)) (0 + 6) 13 (y (0 + 6) 13)) (0 + 6) 14 (y (0 + 6) 14), a, up2 (up2 z (0 + 6) 10 (z (0 + 6) 10)) (0 + 6) 11 (z (0 + 6) 11), dr, pg, t) H := x_ext (fun _ _ => rfl) (by intro o k; by_cases h0 : o = (0 + 6) ∧ k = 12; (obtain ⟨rfl, rfl⟩ := h0; simp [up2]); by_cases h1 : o = (0 + 6) ∧ k = 13; (obtain ⟨rfl, rfl⟩ := h1; simp [up2]); by_cases h2 : o = (0 + 6) ∧ k = 14; (obtain ⟨rfl, rfl⟩ := h2; simp [up2]); simp only [up2, if_neg h0, if_neg h1, if_neg h2]) (fun _ _ => rfl) (by intro o k; by_cases h0 : o = (0 + 6) ∧ k = 10; (obtain ⟨rfl, rfl⟩ := h0; simp [up2]); by_cases h1 : o = (0 + 6) ∧ k = 11; (obtain ⟨rfl, rfl⟩ := h1; simp [up2]); simp only [up2, if_neg h0, if_neg h1]) hH
    exact hret _ _ _ _ _ _ dX0_personTold_65 ⟨_, _, _, _, _, by unfold fX0_personTold; first | (rw [if_neg c2, if_neg c3, if_pos c4]; done) | (simp only [if_neg c2, if_neg c3, if_pos c4]), rfl⟩ hH hS
  by_cases c5 : wh = nI 3
  · skip
    refine n_top (y := nI 3) c5 ?_
    refine lv_tableIn (off := 65) (tgt := 66) hF.1 hF.2.1 dX0_personTold_1 (by decide) (by decide) (by decide) (by decide) ?_
    refine lv_aload_n hF.1 hF.2.1 dX0_personTold_66 rfl (lv_at hl 0 rfl) ?_
    refine lv_iload_n hF.1 hF.2.1 dX0_personTold_67 rfl (lv_at hl 1 rfl) ?_
    refine g_vWi (As := [.int (nI pn)]) (rest := []) hF (kX0_tendersOf l ω g y a z dr pg t td of hc pn (by omega) hsd) (lw_V q601 q603 qs12 q92 q604) 1 hdX0_tendersOf rfl rfl ⟨Nat.le_of_ble_eq_true rfl, Nat.le_of_ble_eq_true rfl⟩ (x_preV0 hK hH) rfl hl.1 rfl (Nat.le_of_ble_eq_true rfl) dX0_personTold_68 ⟨Nat.le_of_ble_eq_true rfl, Nat.le_of_ble_eq_true rfl⟩ hS (fun r6 ur6 H locs hqr6 hH hS => ?_)
    obtain ⟨r6h0, r6h1, r6h2, r6h3, r6h4, hr6, rfl⟩ := hqr6
    have e_r6 := hr6
    exact hret _ _ _ _ _ _ dX0_personTold_71 ⟨_, _, _, _, _, by subst e_r6; unfold fX0_personTold; first | (rw [if_neg c2, if_neg c3, if_neg c4, if_pos c5]; done) | (simp only [if_neg c2, if_neg c3, if_neg c4, if_pos c5]), rfl⟩ hH hS
  by_cases c7 : wh = nI 4
  · skip
    refine n_top (y := nI 4) c7 ?_
    refine lv_tableIn (off := 71) (tgt := 72) hF.1 hF.2.1 dX0_personTold_1 (by decide) (by decide) (by decide) (by decide) ?_
    refine lv_aload_n hF.1 hF.2.1 dX0_personTold_72 rfl (lv_at hl 0 rfl) ?_
    refine xg0_3 hF hK hH q221 dX0_personTold_73 ?_
    refine xgN_q162 (j := 0) (by decide) hF hK hH dX0_personTold_76 ?_
    refine lv_iload_n hF.1 hF.2.1 dX0_personTold_79 rfl (lv_at hl 1 rfl) ?_
    refine x1_ald (j := 0) (by decide) hF hK hH 4 (n := 3) rfl rfl (by decide) rfl (f := a (0 + 6) 4) rfl (i := pn) (by omega) (by decide) dX0_personTold_80 ?_
    have hH : xH ω (g, up2 (up2 (up2 y (0 + 6) 12 (y (0 + 6) 12)) (0 + 6) 13 (y (0 + 6) 13)) (0 + 6) 14 (y (0 + 6) 14), a, up2 (up2 z (0 + 6) 10 (z (0 + 6) 10)) (0 + 6) 11 (z (0 + 6) 11), dr, pg, t) H := x_ext (fun _ _ => rfl) (by intro o k; by_cases h0 : o = (0 + 6) ∧ k = 12; (obtain ⟨rfl, rfl⟩ := h0; simp [up2]); by_cases h1 : o = (0 + 6) ∧ k = 13; (obtain ⟨rfl, rfl⟩ := h1; simp [up2]); by_cases h2 : o = (0 + 6) ∧ k = 14; (obtain ⟨rfl, rfl⟩ := h2; simp [up2]); simp only [up2, if_neg h0, if_neg h1, if_neg h2]) (fun _ _ => rfl) (by intro o k; by_cases h0 : o = (0 + 6) ∧ k = 10; (obtain ⟨rfl, rfl⟩ := h0; simp [up2]); by_cases h1 : o = (0 + 6) ∧ k = 11; (obtain ⟨rfl, rfl⟩ := h1; simp [up2]); simp only [up2, if_neg h0, if_neg h1]) hH
    exact hret _ _ _ _ _ _ dX0_personTold_81 ⟨_, _, _, _, _, by unfold fX0_personTold; first | (rw [if_neg c2, if_neg c3, if_neg c4, if_neg c5, if_pos c7]; done) | (simp only [if_neg c2, if_neg c3, if_neg c4, if_neg c5, if_pos c7]), rfl⟩ hH hS
  have kd1 : W p l e rmX0_personTold s m args below meth c H locs 0 0 QQ (F0 m 82 ls []) := by
    skip
    refine lv_aload_n hF.1 hF.2.1 dX0_personTold_82 rfl (lv_at hl 0 rfl) ?_
    refine xg0_3 hF hK hH q221 dX0_personTold_83 ?_
    refine xgN_q164 (j := 0) (by decide) hF hK hH dX0_personTold_86 ?_
    refine lv_iload_n hF.1 hF.2.1 dX0_personTold_89 rfl (lv_at hl 1 rfl) ?_
    refine x1_ald (j := 0) (by decide) hF hK hH 5 (n := 3) rfl rfl (by decide) rfl (f := a (0 + 6) 5) rfl (i := pn) (by omega) (by decide) dX0_personTold_90 ?_
    have hH : xH ω (g, up2 (up2 (up2 y (0 + 6) 12 (y (0 + 6) 12)) (0 + 6) 13 (y (0 + 6) 13)) (0 + 6) 14 (y (0 + 6) 14), a, up2 (up2 z (0 + 6) 10 (z (0 + 6) 10)) (0 + 6) 11 (z (0 + 6) 11), dr, pg, t) H := x_ext (fun _ _ => rfl) (by intro o k; by_cases h0 : o = (0 + 6) ∧ k = 12; (obtain ⟨rfl, rfl⟩ := h0; simp [up2]); by_cases h1 : o = (0 + 6) ∧ k = 13; (obtain ⟨rfl, rfl⟩ := h1; simp [up2]); by_cases h2 : o = (0 + 6) ∧ k = 14; (obtain ⟨rfl, rfl⟩ := h2; simp [up2]); simp only [up2, if_neg h0, if_neg h1, if_neg h2]) (fun _ _ => rfl) (by intro o k; by_cases h0 : o = (0 + 6) ∧ k = 10; (obtain ⟨rfl, rfl⟩ := h0; simp [up2]); by_cases h1 : o = (0 + 6) ∧ k = 11; (obtain ⟨rfl, rfl⟩ := h1; simp [up2]); simp only [up2, if_neg h0, if_neg h1]) hH
    exact hret _ _ _ _ _ _ dX0_personTold_91 ⟨_, _, _, _, _, by unfold fX0_personTold; first | (rw [if_neg c2, if_neg c3, if_neg c4, if_neg c5, if_neg c7]; done) | (simp only [if_neg c2, if_neg c3, if_neg c4, if_neg c5, if_neg c7]), rfl⟩ hH hS
  by_cases hlo : wh.toInt < 0
  · exact lv_tableOut (tgt := 82) hF.1 hF.2.1 dX0_personTold_1 (Or.inl hlo) (by decide) kd1
  by_cases hhi : 4 < wh.toInt
  · exact lv_tableOut (tgt := 82) hF.1 hF.2.1 dX0_personTold_1 (Or.inr hhi) (by decide) kd1
  by_cases hv0 : wh.toInt = 0
  · exact absurd (Int32.toInt_inj.mp (hv0.trans (by decide)) : wh = nI 0) c2
  by_cases hv1 : wh.toInt = 1
  · exact absurd (Int32.toInt_inj.mp (hv1.trans (by decide)) : wh = nI 1) c3
  by_cases hv2 : wh.toInt = 2
  · exact absurd (Int32.toInt_inj.mp (hv2.trans (by decide)) : wh = nI 2) c4
  by_cases hv3 : wh.toInt = 3
  · exact absurd (Int32.toInt_inj.mp (hv3.trans (by decide)) : wh = nI 3) c5
  by_cases hv4 : wh.toInt = 4
  · exact absurd (Int32.toInt_inj.mp (hv4.trans (by decide)) : wh = nI 4) c7
  exfalso
  omega

def fX0_person (g : Nat → Nat → Nat) (a : Nat → Nat → Nat → Int32) (t : TW) (of : Nat → Nat → Nat) (pn : Int32) (wh : Int32) : Int32 := if (fX0_isPerson g pn) = 0 then (-101) else if (fX0_in wh (nI 0) (nI 5)) = 0 then (-102) else (fX0_personTold g a t of (toN pn) wh)
def rmX0_person : Room := { frames := 11, cells := 0, slots := 0, locals := 263 }
theorem hdX0_person : yX0_person.cls = RX0 ∧ yX0_person.cls ≠ "java/lang/invoke/MethodHandle" ∧ yX0_person.cls ≠ "java/lang/invoke/VarHandle" ∧ (parseMethodDescriptor yX0_person.desc).map (fun d => d.parameters.length) = some 2 := by decide +kernel
set_option maxHeartbeats 4000000 in
theorem kX0_person (l : Launch) (ω : OM) (g : Nat → Nat → Nat) (y : Nat → Nat → Int32) (a z : Nat → Nat → Nat → Int32) (dr : Int64) (pg : Nat → Int32) (t : TW) (td : Nat → Nat) (of : Nat → Nat → Nat) (hc : xCore g a t 0 td of) (pn : Int32) (wh : Int32) (hsd : xSide g a) : Met l yX0_person (ws_ yX0_person cX0_person 3 (some .int)) rmX0_person (va_Pc [.ref (ω.2.1 0 99), .int pn, .int wh] (fun U => xK ω U ∧ xH ω (g, y, a, z, dr, pg, t) U.heap)) (va_Qi (fun (r : Int32) (u : XS) => ∃ (q0 : Int32) (q1 : Int32) (q2 : Int32) (q3 : Nat → Int32) (q4 : Nat → Int32), r = (fX0_person g a t of pn wh) ∧ u = (g, up2 (up2 (up2 y (0 + 6) 12 q0) (0 + 6) 13 q1) (0 + 6) 14 q2, a, up2 (up2 z (0 + 6) 10 q3) (0 + 6) 11 q4, dr, pg, t)) (fun u t => xH ω u t.heap) ω.2.2.1) 0 0 ω.2.2.1 := by
  refine g_entWi (C := RX0) rfl (by decide) (Nat.le_of_ble_eq_true rfl) ?_
  intro p e s m args below meth c QQ ls H locs hF hK hH hS hl hret
  have hl : lv_has ls 3 [(0, .ref (ω.2.1 0 99)), (1, .int pn), (2, .int wh)] := hl
  have hn9 : tn t ≤ 9 := hH.2.2.1
  have hok := hc.ok
  have hp3 := hsd.1
  have hs6 := hsd.2.1
  have hp50 := hsd.2.2.1
  refine lv_aload_n hF.1 hF.2.1 dX0_person_0 rfl (lv_at hl 0 rfl) ?_
  refine lv_iload_n hF.1 hF.2.1 dX0_person_1 rfl (lv_at hl 1 rfl) ?_
  refine g_vPi (As := [.int pn]) (rest := []) hF (kX0_isPerson l ω g y a z dr pg t pn) (lw_V q593 q595 qs10 q92 q596) 1 hdX0_isPerson rfl rfl ⟨Nat.le_of_ble_eq_true rfl, Nat.le_of_ble_eq_true rfl⟩ (x_preV0 hK hH) rfl hl.1 rfl (Nat.le_of_ble_eq_true rfl) dX0_person_2 ⟨Nat.zero_le _, Nat.zero_le _⟩ (fun r1 e_r1 => ?_)
  refine lv_if_ne (tgt := 13) hF.1 hF.2.1 dX0_person_5 (by decide) (fun c2 => ?_) (fun c2 => ?_)
  · skip
    refine lv_iload_n hF.1 hF.2.1 dX0_person_13 rfl (lv_at hl 2 rfl) ?_
    refine lv_iconst (v := nI 0) hF.1 hF.2.1 dX0_person_14 (by decide) ?_
    refine lv_iconst (v := nI 5) hF.1 hF.2.1 dX0_person_15 (by decide) ?_
    refine g_sPi (As := [.int wh, .int (nI 0), .int (nI 5)]) (rest := []) hF (kX0_in l wh (nI 0) (nI 5)) (lw_S q301 q302 q92 q303) 3 hdX0_in.2 rfl rfl ⟨Nat.le_of_ble_eq_true rfl, Nat.le_of_ble_eq_true rfl⟩ g_pre0 rfl hl.1 rfl (Nat.le_of_ble_eq_true rfl) dX0_person_16 ⟨Nat.zero_le _, Nat.zero_le _⟩ (fun r3 e_r3 => ?_)
    refine lv_if_eq (tgt := 31) hF.1 hF.2.1 dX0_person_19 (by decide) (fun c4 => ?_) (fun c4 => ?_)
    · skip
      refine lv_bipush (v := (-102)) hF.1 hF.2.1 dX0_person_31 (by decide) ?_
      have hH : xH ω (g, up2 (up2 (up2 y (0 + 6) 12 (y (0 + 6) 12)) (0 + 6) 13 (y (0 + 6) 13)) (0 + 6) 14 (y (0 + 6) 14), a, up2 (up2 z (0 + 6) 10 (z (0 + 6) 10)) (0 + 6) 11 (z (0 + 6) 11), dr, pg, t) H := x_ext (fun _ _ => rfl) (by intro o k; by_cases h0 : o = (0 + 6) ∧ k = 12; (obtain ⟨rfl, rfl⟩ := h0; simp [up2]); by_cases h1 : o = (0 + 6) ∧ k = 13; (obtain ⟨rfl, rfl⟩ := h1; simp [up2]); by_cases h2 : o = (0 + 6) ∧ k = 14; (obtain ⟨rfl, rfl⟩ := h2; simp [up2]); simp only [up2, if_neg h0, if_neg h1, if_neg h2]) (fun _ _ => rfl) (by intro o k; by_cases h0 : o = (0 + 6) ∧ k = 10; (obtain ⟨rfl, rfl⟩ := h0; simp [up2]); by_cases h1 : o = (0 + 6) ∧ k = 11; (obtain ⟨rfl, rfl⟩ := h1; simp [up2]); simp only [up2, if_neg h0, if_neg h1]) hH
      exact hret _ _ _ _ _ _ dX0_person_33 ⟨_, _, _, _, _, by subst e_r3; subst e_r1; unfold fX0_person; first | (rw [if_neg c2, if_pos c4]; done) | (simp only [if_neg c2, if_pos c4]), rfl⟩ hH hS
    · skip
      obtain ⟨b5e, b5l⟩ := g_lift (r := pn) (n := 3) (xPerson_lift3 hp3 (by rw [← e_r1]; exact c2)) (by omega)
      refine lv_aload_n hF.1 hF.2.1 dX0_person_22 rfl (lv_at hl 0 rfl) ?_
      refine lv_iload_n hF.1 hF.2.1 dX0_person_23 rfl (lv_at hl 1 rfl) ?_
      refine n_top b5e ?_
      refine lv_iload_n hF.1 hF.2.1 dX0_person_24 rfl (lv_at hl 2 rfl) ?_
      refine g_vWi (As := [.int (nI (toN pn)), .int wh]) (rest := []) hF (kX0_personTold l ω g y a z dr pg t td of hc (toN pn) wh (by omega) hsd) (lw_V q597 q599 qs11 q92 q600) 2 hdX0_personTold rfl rfl ⟨Nat.le_of_ble_eq_true rfl, Nat.le_of_ble_eq_true rfl⟩ (x_preV0 hK hH) rfl hl.1 rfl (Nat.le_of_ble_eq_true rfl) dX0_person_25 ⟨Nat.le_of_ble_eq_true rfl, Nat.le_of_ble_eq_true rfl⟩ hS (fun r6 ur6 H locs hqr6 hH hS => ?_)
      obtain ⟨r6h0, r6h1, r6h2, r6h3, r6h4, hr6, rfl⟩ := hqr6
      have e_r6 := hr6
      refine lv_goto (tgt := 33) hF.1 hF.2.1 dX0_person_28 (by decide) ?_
      exact hret _ _ _ _ _ _ dX0_person_33 ⟨_, _, _, _, _, by subst e_r6; subst e_r3; subst e_r1; unfold fX0_person; first | (rw [if_neg c2, if_neg c4]; done) | (simp only [if_neg c2, if_neg c4]), rfl⟩ hH hS
  · skip
    refine lv_bipush (v := (-101)) hF.1 hF.2.1 dX0_person_8 (by decide) ?_
    refine lv_goto (tgt := 33) hF.1 hF.2.1 dX0_person_10 (by decide) ?_
    have hH : xH ω (g, up2 (up2 (up2 y (0 + 6) 12 (y (0 + 6) 12)) (0 + 6) 13 (y (0 + 6) 13)) (0 + 6) 14 (y (0 + 6) 14), a, up2 (up2 z (0 + 6) 10 (z (0 + 6) 10)) (0 + 6) 11 (z (0 + 6) 11), dr, pg, t) H := x_ext (fun _ _ => rfl) (by intro o k; by_cases h0 : o = (0 + 6) ∧ k = 12; (obtain ⟨rfl, rfl⟩ := h0; simp [up2]); by_cases h1 : o = (0 + 6) ∧ k = 13; (obtain ⟨rfl, rfl⟩ := h1; simp [up2]); by_cases h2 : o = (0 + 6) ∧ k = 14; (obtain ⟨rfl, rfl⟩ := h2; simp [up2]); simp only [up2, if_neg h0, if_neg h1, if_neg h2]) (fun _ _ => rfl) (by intro o k; by_cases h0 : o = (0 + 6) ∧ k = 10; (obtain ⟨rfl, rfl⟩ := h0; simp [up2]); by_cases h1 : o = (0 + 6) ∧ k = 11; (obtain ⟨rfl, rfl⟩ := h1; simp [up2]); simp only [up2, if_neg h0, if_neg h1]) hH
    exact hret _ _ _ _ _ _ dX0_person_33 ⟨_, _, _, _, _, by subst e_r1; unfold fX0_person; first | (rw [if_pos c2]; done) | (simp only [if_pos c2]), rfl⟩ hH hS

def fX0_worstTo_b52 (bits : Int32) (w3_z0_17 : Nat → Int32) (i39 : Nat) (i52 : Nat) (S : Int32) : Int32 := if (fX0_isIn bits (nI i39)) = 0 then S + (nI 0) else if (fX0_isIn bits (nI i52)) = 0 then S + (nI 0) else if (w3_z0_17 i39) = (w3_z0_17 i52) then S + (nI 1) else S + (nI 0)
def fX0_worstTo_b39 (bits : Int32) (w3_z0_17 : Nat → Int32) (i39 : Nat) (S : Int32) : Int32 := jmax S (it (fX0_worstTo_b52 bits w3_z0_17 i39) 10 (nI 0))
def fX0_worstTo_b3 (g : Nat → Nat → Nat) (t : TW) (of : Nat → Nat → Nat) (pn : Nat) (fr : Nat) (to : Nat) (i3 : Nat) (S : (Nat → Int32)) : (Nat → Int32) := upd S i3 (fX0_firstBy g t of pn i3 fr to)
def fX0_worstTo (g : Nat → Nat → Nat) (t : TW) (of : Nat → Nat → Nat) (pn : Nat) (bits : Int32) (fr : Nat) (to : Nat) (z_0_17 : Nat → Int32) : Int32 × (Nat → Int32) := ((it (fX0_worstTo_b39 bits (it (fX0_worstTo_b3 g t of pn fr to) 10 (z_0_17))) 10 (nI 0)), (it (fX0_worstTo_b3 g t of pn fr to) 10 (z_0_17)))
def rmX0_worstTo : Room := { frames := 9, cells := 0, slots := 0, locals := 216 }
theorem hdX0_worstTo : yX0_worstTo.cls = RX0 ∧ yX0_worstTo.cls ≠ "java/lang/invoke/MethodHandle" ∧ yX0_worstTo.cls ≠ "java/lang/invoke/VarHandle" ∧ (parseMethodDescriptor yX0_worstTo.desc).map (fun d => d.parameters.length) = some 4 := by decide +kernel
set_option maxHeartbeats 4000000 in
theorem kX0_worstTo (l : Launch) (ω : OM) (g : Nat → Nat → Nat) (y : Nat → Nat → Int32) (a z : Nat → Nat → Nat → Int32) (dr : Int64) (pg : Nat → Int32) (t : TW) (td : Nat → Nat) (of : Nat → Nat → Nat) (hc : xCore g a t 0 td of) (pn : Nat) (bits : Int32) (fr : Nat) (to : Nat) (hpn : pn < 3) (hfr : fr < 8) (hto : to < 8) (hct : ¬ fr = to) (hsd : xSide g a) : Met l yX0_worstTo (ws_ yX0_worstTo cX0_worstTo 9 (some .int)) rmX0_worstTo (va_Pc [.ref (ω.2.1 0 99), .int (nI pn), .int bits, .int (nI fr), .int (nI to)] (fun U => xK ω U ∧ xH ω (g, y, a, z, dr, pg, t) U.heap)) (va_Qi (fun (r : Int32) (u : XS) => ∃ (o0 : Nat → Int32) (q0 : Int32) (q1 : Int32) (q2 : Int32) (q3 : Nat → Int32) (q4 : Nat → Int32), (r, o0) = (fX0_worstTo g t of pn bits fr to (z 0 17)) ∧ u = (g, up2 (up2 (up2 y (0 + 6) 12 q0) (0 + 6) 13 q1) (0 + 6) 14 q2, a, up2 (up2 (up2 z 0 17 o0) (0 + 6) 10 q3) (0 + 6) 11 q4, dr, pg, t)) (fun u t => xH ω u t.heap) ω.2.2.1) 0 0 ω.2.2.1 := by
  refine g_entWi (C := RX0) rfl (by decide) (Nat.le_of_ble_eq_true rfl) ?_
  intro p e s m args below meth c QQ ls H locs hF hK hH hS hl hret
  have hl : lv_has ls 9 [(0, .ref (ω.2.1 0 99)), (1, .int (nI pn)), (2, .int bits), (3, .int (nI fr)), (4, .int (nI to))] := hl
  have hn9 : tn t ≤ 9 := hH.2.2.1
  have hok := hc.ok
  have hp3 := hsd.1
  have hs6 := hsd.2.1
  have hp50 := hsd.2.2.1
  refine lv_iconst (v := nI 0) hF.1 hF.2.1 dX0_worstTo_0 (by decide) ?_
  refine lv_istore (lv' := [(5, .int (nI 0)), (0, .ref (ω.2.1 0 99)), (1, .int (nI pn)), (2, .int bits), (3, .int (nI fr)), (4, .int (nI to))]) hF.1 hF.2.1 dX0_worstTo_1 hl (by decide) rfl (fun ls hl => ?_)
  have lp3_93 : ∀ (d3 i3 : Nat) (w3_z0_17 : Nat → Int32) (h3_y_0_6_12 : Int32) (h3_y_0_6_13 : Int32) (h3_y_0_6_14 : Int32) (h3_z_0_6_10 : Nat → Int32) (h3_z_0_6_11 : Nat → Int32) (H : Heap) (locs : List Loc) (ls : Array Slot), i3 + d3 = 10 → w3_z0_17 = it (fX0_worstTo_b3 g t of pn fr to) i3 (z 0 17) → xH ω (g, up2 (up2 (up2 y (0 + 6) 12 h3_y_0_6_12) (0 + 6) 13 h3_y_0_6_13) (0 + 6) 14 h3_y_0_6_14, a, up2 (up2 (up2 z 0 17 w3_z0_17) (0 + 6) 10 h3_z_0_6_10) (0 + 6) 11 h3_z_0_6_11, dr, pg, t) H → va_S ω.2.2.1 s.heap H locs → lv_has ls 9 [(5, .int (nI i3)), (0, .ref (ω.2.1 0 99)), (1, .int (nI pn)), (2, .int bits), (3, .int (nI fr)), (4, .int (nI to))] → W p l e rmX0_worstTo s m args below meth c H locs 0 0 QQ (F0 m 3 ls []) := by
    intro d3
    induction d3 with
    | zero =>
      intro i3 w3_z0_17 h3_y_0_6_12 h3_y_0_6_13 h3_y_0_6_14 h3_z_0_6_10 h3_z_0_6_11 H locs ls hi3 hS3 hH hS hl
      have hj3 : 10 = i3 := by omega
      subst hj3
      have e_w3_z0_17 := hS3
      refine lv_iload hF.1 hF.2.1 dX0_worstTo_3 (lv_at hl 0 rfl) ?_
      refine lv_bipush (v := nI 9) hF.1 hF.2.1 dX0_worstTo_5 (by decide) ?_
      refine n_gt (tgt := 33) hF.1 hF.2.1 dX0_worstTo_7 (by decide) (by omega) (by omega) (fun c1 => ?_) (fun c1 => ?_)
      · skip
        refine lv_iconst (v := nI 0) hF.1 hF.2.1 dX0_worstTo_33 (by decide) ?_
        refine lv_istore (lv' := [(5, .int (nI 0)), (0, .ref (ω.2.1 0 99)), (1, .int (nI pn)), (2, .int bits), (3, .int (nI fr)), (4, .int (nI to))]) hF.1 hF.2.1 dX0_worstTo_34 hl (by decide) rfl (fun ls hl => ?_)
        refine lv_iconst (v := nI 0) hF.1 hF.2.1 dX0_worstTo_36 (by decide) ?_
        refine lv_istore (lv' := [(6, .int (nI 0)), (5, .int (nI 0)), (0, .ref (ω.2.1 0 99)), (1, .int (nI pn)), (2, .int bits), (3, .int (nI fr)), (4, .int (nI to))]) hF.1 hF.2.1 dX0_worstTo_37 hl (by decide) rfl (fun ls hl => ?_)
        have lp39_97 : ∀ (d39 i39 : Nat) (x39_5 : Int32) (ls : Array Slot), i39 + d39 = 10 → x39_5 = it (fX0_worstTo_b39 bits w3_z0_17) i39 (nI 0) → lv_has ls 9 [(6, .int (nI i39)), (5, .int x39_5), (0, .ref (ω.2.1 0 99)), (2, .int bits)] → W p l e rmX0_worstTo s m args below meth c H locs 0 0 QQ (F0 m 39 ls []) := by
          intro d39
          induction d39 with
          | zero =>
            intro i39 x39_5 ls hi39 hS39 hl
            have hj39 : 10 = i39 := by omega
            subst hj39
            have e_x39_5 := hS39
            refine lv_iload hF.1 hF.2.1 dX0_worstTo_39 (lv_at hl 0 rfl) ?_
            refine lv_bipush (v := nI 9) hF.1 hF.2.1 dX0_worstTo_41 (by decide) ?_
            refine n_gt (tgt := 125) hF.1 hF.2.1 dX0_worstTo_43 (by decide) (by omega) (by omega) (fun c2 => ?_) (fun c2 => ?_)
            · skip
              refine lv_iload hF.1 hF.2.1 dX0_worstTo_125 (lv_at hl 1 rfl) ?_
              exact hret _ _ _ _ _ _ dX0_worstTo_127 ⟨_, _, _, _, _, _, by subst e_x39_5; subst e_w3_z0_17; rfl, rfl⟩ hH hS
            · exact absurd (by omega) c2
          | succ d39 ih =>
            intro i39 x39_5 ls hi39 hS39 hl
            refine lv_iload hF.1 hF.2.1 dX0_worstTo_39 (lv_at hl 0 rfl) ?_
            refine lv_bipush (v := nI 9) hF.1 hF.2.1 dX0_worstTo_41 (by decide) ?_
            refine n_gt (tgt := 125) hF.1 hF.2.1 dX0_worstTo_43 (by decide) (by omega) (by omega) (fun c3 => ?_) (fun c3 => ?_)
            · exact absurd c3 (by omega)
            · skip
              refine lv_iconst (v := nI 0) hF.1 hF.2.1 dX0_worstTo_46 (by decide) ?_
              refine lv_istore (lv' := [(7, .int (nI 0)), (6, .int (nI i39)), (5, .int x39_5), (0, .ref (ω.2.1 0 99)), (2, .int bits)]) hF.1 hF.2.1 dX0_worstTo_47 hl (by decide) rfl (fun ls hl => ?_)
              refine lv_iconst (v := nI 0) hF.1 hF.2.1 dX0_worstTo_49 (by decide) ?_
              refine lv_istore (lv' := [(8, .int (nI 0)), (7, .int (nI 0)), (6, .int (nI i39)), (5, .int x39_5), (0, .ref (ω.2.1 0 99)), (2, .int bits)]) hF.1 hF.2.1 dX0_worstTo_50 hl (by decide) rfl (fun ls hl => ?_)
              have lp52_99 : ∀ (d52 i52 : Nat) (x52_7 : Int32) (ls : Array Slot), i52 + d52 = 10 → x52_7 = it (fX0_worstTo_b52 bits w3_z0_17 i39) i52 (nI 0) → lv_has ls 9 [(8, .int (nI i52)), (7, .int x52_7), (6, .int (nI i39)), (5, .int x39_5), (0, .ref (ω.2.1 0 99)), (2, .int bits)] → W p l e rmX0_worstTo s m args below meth c H locs 0 0 QQ (F0 m 52 ls []) := by
                intro d52
                induction d52 with
                | zero =>
                  intro i52 x52_7 ls hi52 hS52 hl
                  have hj52 : 10 = i52 := by omega
                  subst hj52
                  have e_x52_7 := hS52
                  refine lv_iload hF.1 hF.2.1 dX0_worstTo_52 (lv_at hl 0 rfl) ?_
                  refine lv_bipush (v := nI 9) hF.1 hF.2.1 dX0_worstTo_54 (by decide) ?_
                  refine n_gt (tgt := 110) hF.1 hF.2.1 dX0_worstTo_56 (by decide) (by omega) (by omega) (fun c4 => ?_) (fun c4 => ?_)
                  · skip
                    refine lv_iload hF.1 hF.2.1 dX0_worstTo_110 (lv_at hl 3 rfl) ?_
                    refine lv_iload hF.1 hF.2.1 dX0_worstTo_112 (lv_at hl 1 rfl) ?_
                    refine va_mmax hF.1 hF.2.1 (hF.2.2.1.trans hl.1.symm) hF.2.2.2.1 (hF.2.2.2.2 _ q903) (hF.2.2.2.2 _ q515) (hF.2.2.2.2 _ q108) (hF.2.2.2.2 _ q516) (Nat.le_of_ble_eq_true rfl) (Nat.le_of_ble_eq_true rfl) (Nat.zero_le _) (Nat.zero_le _) dX0_worstTo_114 ?_
                    refine n_top (y := jmax x39_5 x52_7) rfl ?_
                    refine lv_istore (lv' := [(5, .int (jmax x39_5 x52_7)), (8, .int (nI 10)), (7, .int x52_7), (6, .int (nI i39)), (0, .ref (ω.2.1 0 99)), (2, .int bits)]) hF.1 hF.2.1 dX0_worstTo_117 hl (by decide) rfl (fun ls hl => ?_)
                    refine n_iinc (lv' := [(6, .int (nI (i39 + 1))), (5, .int (jmax x39_5 x52_7)), (8, .int (nI 10)), (7, .int x52_7), (0, .ref (ω.2.1 0 99)), (2, .int bits)]) hF.1 hF.2.1 dX0_worstTo_119 hl (k := 3) rfl (by decide) rfl (fun ls hl => ?_)
                    refine lv_goto (tgt := 39) hF.1 hF.2.1 dX0_worstTo_122 (by decide) ?_
                    exact ih (i39 + 1) _ _ (by omega) (by subst e_x52_7; rw [it_succ (fX0_worstTo_b39 bits w3_z0_17) i39 _, ← hS39]; try rfl) (lv_sub hl [0, 1, 4, 5] rfl)
                  · exact absurd (by omega) c4
                | succ d52 ih =>
                  intro i52 x52_7 ls hi52 hS52 hl
                  refine lv_iload hF.1 hF.2.1 dX0_worstTo_52 (lv_at hl 0 rfl) ?_
                  refine lv_bipush (v := nI 9) hF.1 hF.2.1 dX0_worstTo_54 (by decide) ?_
                  refine n_gt (tgt := 110) hF.1 hF.2.1 dX0_worstTo_56 (by decide) (by omega) (by omega) (fun c5 => ?_) (fun c5 => ?_)
                  · exact absurd c5 (by omega)
                  · skip
                    refine lv_iload hF.1 hF.2.1 dX0_worstTo_59 (lv_at hl 1 rfl) ?_
                    refine lv_iload_n hF.1 hF.2.1 dX0_worstTo_61 rfl (lv_at hl 5 rfl) ?_
                    refine lv_iload hF.1 hF.2.1 dX0_worstTo_62 (lv_at hl 2 rfl) ?_
                    refine g_sPi (As := [.int bits, .int (nI i39)]) (rest := [.int x52_7]) hF (kX0_isIn l bits (nI i39)) (lw_S q718 q626 q92 q627) 2 hdX0_isIn.2 rfl rfl ⟨Nat.le_of_ble_eq_true rfl, Nat.le_of_ble_eq_true rfl⟩ g_pre0 rfl hl.1 rfl (Nat.le_of_ble_eq_true rfl) dX0_worstTo_64 ⟨Nat.zero_le _, Nat.zero_le _⟩ (fun r6 e_r6 => ?_)
                    refine lv_if_eq (tgt := 100) hF.1 hF.2.1 dX0_worstTo_67 (by decide) (fun c7 => ?_) (fun c7 => ?_)
                    · skip
                      refine lv_iconst (v := nI 0) hF.1 hF.2.1 dX0_worstTo_100 (by decide) ?_
                      refine lv_iadd hF.1 hF.2.1 dX0_worstTo_101 ?_
                      refine lv_istore (lv' := [(7, .int (x52_7 + (nI 0))), (8, .int (nI i52)), (6, .int (nI i39)), (5, .int x39_5), (0, .ref (ω.2.1 0 99)), (2, .int bits)]) hF.1 hF.2.1 dX0_worstTo_102 hl (by decide) rfl (fun ls hl => ?_)
                      refine n_iinc (lv' := [(8, .int (nI (i52 + 1))), (7, .int (x52_7 + (nI 0))), (6, .int (nI i39)), (5, .int x39_5), (0, .ref (ω.2.1 0 99)), (2, .int bits)]) hF.1 hF.2.1 dX0_worstTo_104 hl (k := 1) rfl (by decide) rfl (fun ls hl => ?_)
                      refine lv_goto (tgt := 52) hF.1 hF.2.1 dX0_worstTo_107 (by decide) ?_
                      exact ih (i52 + 1) _ _ (by omega) (by subst e_r6; rw [it_succ (fX0_worstTo_b52 bits w3_z0_17 i39) i52 _, ← hS52]; unfold fX0_worstTo_b52; first | (rw [if_pos c7]; done) | (simp only [if_pos c7])) (lv_sub hl [0, 1, 2, 3, 4, 5] rfl)
                    · skip
                      refine lv_iload_n hF.1 hF.2.1 dX0_worstTo_70 rfl (lv_at hl 5 rfl) ?_
                      refine lv_iload hF.1 hF.2.1 dX0_worstTo_71 (lv_at hl 0 rfl) ?_
                      refine g_sPi (As := [.int bits, .int (nI i52)]) (rest := [.int x52_7]) hF (kX0_isIn l bits (nI i52)) (lw_S q718 q626 q92 q627) 2 hdX0_isIn.2 rfl rfl ⟨Nat.le_of_ble_eq_true rfl, Nat.le_of_ble_eq_true rfl⟩ g_pre0 rfl hl.1 rfl (Nat.le_of_ble_eq_true rfl) dX0_worstTo_73 ⟨Nat.zero_le _, Nat.zero_le _⟩ (fun r8 e_r8 => ?_)
                      refine lv_if_eq (tgt := 100) hF.1 hF.2.1 dX0_worstTo_76 (by decide) (fun c9 => ?_) (fun c9 => ?_)
                      · skip
                        refine lv_iconst (v := nI 0) hF.1 hF.2.1 dX0_worstTo_100 (by decide) ?_
                        refine lv_iadd hF.1 hF.2.1 dX0_worstTo_101 ?_
                        refine lv_istore (lv' := [(7, .int (x52_7 + (nI 0))), (8, .int (nI i52)), (6, .int (nI i39)), (5, .int x39_5), (0, .ref (ω.2.1 0 99)), (2, .int bits)]) hF.1 hF.2.1 dX0_worstTo_102 hl (by decide) rfl (fun ls hl => ?_)
                        refine n_iinc (lv' := [(8, .int (nI (i52 + 1))), (7, .int (x52_7 + (nI 0))), (6, .int (nI i39)), (5, .int x39_5), (0, .ref (ω.2.1 0 99)), (2, .int bits)]) hF.1 hF.2.1 dX0_worstTo_104 hl (k := 1) rfl (by decide) rfl (fun ls hl => ?_)
                        refine lv_goto (tgt := 52) hF.1 hF.2.1 dX0_worstTo_107 (by decide) ?_
                        exact ih (i52 + 1) _ _ (by omega) (by subst e_r8; subst e_r6; rw [it_succ (fX0_worstTo_b52 bits w3_z0_17 i39) i52 _, ← hS52]; unfold fX0_worstTo_b52; first | (rw [if_neg c7, if_pos c9]; done) | (simp only [if_neg c7, if_pos c9])) (lv_sub hl [0, 1, 2, 3, 4, 5] rfl)
                      · skip
                        refine lv_aload_n hF.1 hF.2.1 dX0_worstTo_79 rfl (lv_at hl 4 rfl) ?_
                        refine xg0_17 hF hK hH q237 dX0_worstTo_80 ?_
                        refine lv_iload hF.1 hF.2.1 dX0_worstTo_83 (lv_at hl 2 rfl) ?_
                        refine x0_zld hF hK hH 17 (n := 10) rfl rfl (by decide) (by decide) rfl (f := w3_z0_17) (by simp [up2]) (i := i39) (by omega) (by decide) dX0_worstTo_85 ?_
                        refine lv_aload_n hF.1 hF.2.1 dX0_worstTo_86 rfl (lv_at hl 4 rfl) ?_
                        refine xg0_17 hF hK hH q237 dX0_worstTo_87 ?_
                        refine lv_iload hF.1 hF.2.1 dX0_worstTo_90 (lv_at hl 0 rfl) ?_
                        refine x0_zld hF hK hH 17 (n := 10) rfl rfl (by decide) (by decide) rfl (f := w3_z0_17) (by simp [up2]) (i := i52) (by omega) (by decide) dX0_worstTo_92 ?_
                        refine lv_icmp_ne (tgt := 100) hF.1 hF.2.1 dX0_worstTo_93 (by decide) (fun c10 => ?_) (fun c10 => ?_)
                        · skip
                          refine lv_iconst (v := nI 0) hF.1 hF.2.1 dX0_worstTo_100 (by decide) ?_
                          refine lv_iadd hF.1 hF.2.1 dX0_worstTo_101 ?_
                          refine lv_istore (lv' := [(7, .int (x52_7 + (nI 0))), (8, .int (nI i52)), (6, .int (nI i39)), (5, .int x39_5), (0, .ref (ω.2.1 0 99)), (2, .int bits)]) hF.1 hF.2.1 dX0_worstTo_102 hl (by decide) rfl (fun ls hl => ?_)
                          refine n_iinc (lv' := [(8, .int (nI (i52 + 1))), (7, .int (x52_7 + (nI 0))), (6, .int (nI i39)), (5, .int x39_5), (0, .ref (ω.2.1 0 99)), (2, .int bits)]) hF.1 hF.2.1 dX0_worstTo_104 hl (k := 1) rfl (by decide) rfl (fun ls hl => ?_)
                          refine lv_goto (tgt := 52) hF.1 hF.2.1 dX0_worstTo_107 (by decide) ?_
                          exact ih (i52 + 1) _ _ (by omega) (by subst e_r8; subst e_r6; rw [it_succ (fX0_worstTo_b52 bits w3_z0_17 i39) i52 _, ← hS52]; unfold fX0_worstTo_b52; first | (rw [if_neg c7, if_neg c9, if_neg c10]; done) | (simp only [if_neg c7, if_neg c9, if_neg c10])) (lv_sub hl [0, 1, 2, 3, 4, 5] rfl)
                        · skip
                          refine lv_iconst (v := nI 1) hF.1 hF.2.1 dX0_worstTo_96 (by decide) ?_
                          refine lv_goto (tgt := 101) hF.1 hF.2.1 dX0_worstTo_97 (by decide) ?_
                          refine lv_iadd hF.1 hF.2.1 dX0_worstTo_101 ?_
                          refine lv_istore (lv' := [(7, .int (x52_7 + (nI 1))), (8, .int (nI i52)), (6, .int (nI i39)), (5, .int x39_5), (0, .ref (ω.2.1 0 99)), (2, .int bits)]) hF.1 hF.2.1 dX0_worstTo_102 hl (by decide) rfl (fun ls hl => ?_)
                          refine n_iinc (lv' := [(8, .int (nI (i52 + 1))), (7, .int (x52_7 + (nI 1))), (6, .int (nI i39)), (5, .int x39_5), (0, .ref (ω.2.1 0 99)), (2, .int bits)]) hF.1 hF.2.1 dX0_worstTo_104 hl (k := 1) rfl (by decide) rfl (fun ls hl => ?_)
                          refine lv_goto (tgt := 52) hF.1 hF.2.1 dX0_worstTo_107 (by decide) ?_
                          exact ih (i52 + 1) _ _ (by omega) (by subst e_r8; subst e_r6; rw [it_succ (fX0_worstTo_b52 bits w3_z0_17 i39) i52 _, ← hS52]; unfold fX0_worstTo_b52; first | (rw [if_neg c7, if_neg c9, if_pos c10]; done) | (simp only [if_neg c7, if_neg c9, if_pos c10])) (lv_sub hl [0, 1, 2, 3, 4, 5] rfl)
              exact lp52_99 10 0 _ _ (by omega) rfl (lv_sub hl [0, 1, 2, 3, 4, 5] rfl)
        exact lp39_97 10 0 _ _ (by omega) rfl (lv_sub hl [0, 1, 2, 4] rfl)
      · exact absurd (by omega) c1
    | succ d3 ih =>
      intro i3 w3_z0_17 h3_y_0_6_12 h3_y_0_6_13 h3_y_0_6_14 h3_z_0_6_10 h3_z_0_6_11 H locs ls hi3 hS3 hH hS hl
      refine lv_iload hF.1 hF.2.1 dX0_worstTo_3 (lv_at hl 0 rfl) ?_
      refine lv_bipush (v := nI 9) hF.1 hF.2.1 dX0_worstTo_5 (by decide) ?_
      refine n_gt (tgt := 33) hF.1 hF.2.1 dX0_worstTo_7 (by decide) (by omega) (by omega) (fun c11 => ?_) (fun c11 => ?_)
      · exact absurd c11 (by omega)
      · skip
        refine lv_aload_n hF.1 hF.2.1 dX0_worstTo_10 rfl (lv_at hl 1 rfl) ?_
        refine xg0_17 hF hK hH q237 dX0_worstTo_11 ?_
        refine lv_iload hF.1 hF.2.1 dX0_worstTo_14 (lv_at hl 0 rfl) ?_
        refine lv_aload_n hF.1 hF.2.1 dX0_worstTo_16 rfl (lv_at hl 1 rfl) ?_
        refine lv_iload_n hF.1 hF.2.1 dX0_worstTo_17 rfl (lv_at hl 2 rfl) ?_
        refine lv_iload hF.1 hF.2.1 dX0_worstTo_18 (lv_at hl 0 rfl) ?_
        refine lv_iload_n hF.1 hF.2.1 dX0_worstTo_20 rfl (lv_at hl 4 rfl) ?_
        refine lv_iload hF.1 hF.2.1 dX0_worstTo_21 (lv_at hl 5 rfl) ?_
        refine g_vWi (As := [.int (nI pn), .int (nI i3), .int (nI fr), .int (nI to)]) (rest := [.int (nI i3), .ref (ω.2.1 0 17)]) hF (kX0_firstBy l ω g (up2 (up2 (up2 y (0 + 6) 12 h3_y_0_6_12) (0 + 6) 13 h3_y_0_6_13) (0 + 6) 14 h3_y_0_6_14) a (up2 (up2 (up2 z 0 17 w3_z0_17) (0 + 6) 10 h3_z_0_6_10) (0 + 6) 11 h3_z_0_6_11) dr pg t td of hc pn i3 fr to (by omega) (by omega) (by omega) (by omega) (by omega) hsd) (lw_V q605 q607 qs13 q92 q608) 4 hdX0_firstBy rfl rfl ⟨Nat.le_of_ble_eq_true rfl, Nat.le_of_ble_eq_true rfl⟩ (x_preV0 hK hH) rfl hl.1 rfl (Nat.le_of_ble_eq_true rfl) dX0_worstTo_23 ⟨Nat.le_of_ble_eq_true rfl, Nat.le_of_ble_eq_true rfl⟩ hS (fun r12 ur12 H locs hqr12 hH hS => ?_)
        obtain ⟨r12h0, r12h1, r12h2, r12h3, r12h4, hr12, rfl⟩ := hqr12
        have e_r12 := hr12
        have hH : xH ω (g, up2 (up2 (up2 y (0 + 6) 12 r12h0) (0 + 6) 13 r12h1) (0 + 6) 14 r12h2, a, up2 (up2 (up2 z 0 17 w3_z0_17) (0 + 6) 10 r12h3) (0 + 6) 11 r12h4, dr, pg, t) H := x_ext (fun _ _ => rfl) (by intro o k; by_cases h0 : o = (0 + 6) ∧ k = 12; (obtain ⟨rfl, rfl⟩ := h0; simp [up2]); by_cases h1 : o = (0 + 6) ∧ k = 13; (obtain ⟨rfl, rfl⟩ := h1; simp [up2]); by_cases h2 : o = (0 + 6) ∧ k = 14; (obtain ⟨rfl, rfl⟩ := h2; simp [up2]); simp only [up2, if_neg h0, if_neg h1, if_neg h2]) (fun _ _ => rfl) (by intro o k; by_cases h0 : o = (0 + 6) ∧ k = 10; (obtain ⟨rfl, rfl⟩ := h0; simp [up2]); by_cases h1 : o = (0 + 6) ∧ k = 11; (obtain ⟨rfl, rfl⟩ := h1; simp [up2]); simp only [up2, if_neg h0, if_neg h1]) hH
        refine x0_zst (z' := up2 (up2 (up2 z 0 17 (upd w3_z0_17 i3 r12)) (0 + 6) 10 r12h3) (0 + 6) 11 r12h4) hF hK hH hS 17 (n := 10) rfl rfl (by decide) (by decide) rfl (f := w3_z0_17) (by simp [up2]) (i := i3) (by omega) (by decide) dX0_worstTo_26 (by simp [up2]) (by intro i q hq; simp only [up2, if_neg hq]) (fun H locs hH hS => ?_)
        refine n_iinc (lv' := [(5, .int (nI (i3 + 1))), (0, .ref (ω.2.1 0 99)), (1, .int (nI pn)), (2, .int bits), (3, .int (nI fr)), (4, .int (nI to))]) hF.1 hF.2.1 dX0_worstTo_27 hl (k := 0) rfl (by decide) rfl (fun ls hl => ?_)
        refine lv_goto (tgt := 3) hF.1 hF.2.1 dX0_worstTo_30 (by decide) ?_
        exact ih (i3 + 1) _ _ _ _ _ _ _ _ _ (by omega) (by subst e_r12; rw [it_succ (fX0_worstTo_b3 g t of pn fr to) i3 _, ← hS3]; try rfl) hH hS (lv_sub hl [0, 1, 2, 3, 4, 5] rfl)
  have hH : xH ω (g, up2 (up2 (up2 y (0 + 6) 12 (y (0 + 6) 12)) (0 + 6) 13 (y (0 + 6) 13)) (0 + 6) 14 (y (0 + 6) 14), a, up2 (up2 (up2 z 0 17 (z 0 17)) (0 + 6) 10 (z (0 + 6) 10)) (0 + 6) 11 (z (0 + 6) 11), dr, pg, t) H := x_ext (fun _ _ => rfl) (by intro o k; by_cases h0 : o = (0 + 6) ∧ k = 12; (obtain ⟨rfl, rfl⟩ := h0; simp [up2]); by_cases h1 : o = (0 + 6) ∧ k = 13; (obtain ⟨rfl, rfl⟩ := h1; simp [up2]); by_cases h2 : o = (0 + 6) ∧ k = 14; (obtain ⟨rfl, rfl⟩ := h2; simp [up2]); simp only [up2, if_neg h0, if_neg h1, if_neg h2]) (fun _ _ => rfl) (by intro o k; by_cases h0 : o = (0 + 6) ∧ k = 10; (obtain ⟨rfl, rfl⟩ := h0; simp [up2]); by_cases h1 : o = (0 + 6) ∧ k = 11; (obtain ⟨rfl, rfl⟩ := h1; simp [up2]); by_cases h2 : o = 0 ∧ k = 17; (obtain ⟨rfl, rfl⟩ := h2; simp [up2]); simp only [up2, if_neg h0, if_neg h1, if_neg h2]) hH
  exact lp3_93 10 0 _ _ _ _ _ _ _ _ _ (by omega) rfl hH hS (lv_sub hl [0, 1, 2, 3, 4, 5] rfl)

def fX0_watchFrom_b24 (g : Nat → Nat → Nat) (t : TW) (of : Nat → Nat → Nat) (pn : Nat) (fr : Nat) (r1 : Int32) (i24 : Nat) (S : Int32 × Int32 × (Nat → Int32)) : Int32 × Int32 × (Nat → Int32) := if S.1 ≤ (if i24 = fr then nI 268435456 else ((fX0_worstTo g t of pn r1 fr i24 S.2.2).1)) then (jmin S.1 (if i24 = fr then nI 268435456 else ((fX0_worstTo g t of pn r1 fr i24 S.2.2).1)), S.2.1, (if i24 = fr then S.2.2 else ((fX0_worstTo g t of pn r1 fr i24 S.2.2).2))) else (jmin S.1 (if i24 = fr then nI 268435456 else ((fX0_worstTo g t of pn r1 fr i24 S.2.2).1)), nI i24, (if i24 = fr then S.2.2 else ((fX0_worstTo g t of pn r1 fr i24 S.2.2).2)))
def fX0_watchFrom (g : Nat → Nat → Nat) (a : Nat → Nat → Nat → Int32) (t : TW) (of : Nat → Nat → Nat) (pn : Nat) (fr : Nat) (z_0_17 : Nat → Int32) : Int32 × (Nat → Int32) := (((it (fX0_watchFrom_b24 g t of pn fr (fX0_tendersOf g a t of pn)) 8 ((if (fX0_tendersOf g a t of pn) = 0 then nI 0 else nI 268435456), (-1), z_0_17)).2.1), ((it (fX0_watchFrom_b24 g t of pn fr (fX0_tendersOf g a t of pn)) 8 ((if (fX0_tendersOf g a t of pn) = 0 then nI 0 else nI 268435456), (-1), z_0_17)).2.2))
def rmX0_watchFrom : Room := { frames := 10, cells := 0, slots := 0, locals := 244 }
theorem hdX0_watchFrom : yX0_watchFrom.cls = RX0 ∧ yX0_watchFrom.cls ≠ "java/lang/invoke/MethodHandle" ∧ yX0_watchFrom.cls ≠ "java/lang/invoke/VarHandle" ∧ (parseMethodDescriptor yX0_watchFrom.desc).map (fun d => d.parameters.length) = some 2 := by decide +kernel
set_option maxHeartbeats 4000000 in
theorem kX0_watchFrom (l : Launch) (ω : OM) (g : Nat → Nat → Nat) (y : Nat → Nat → Int32) (a z : Nat → Nat → Nat → Int32) (dr : Int64) (pg : Nat → Int32) (t : TW) (td : Nat → Nat) (of : Nat → Nat → Nat) (hc : xCore g a t 0 td of) (pn : Nat) (fr : Nat) (hpn : pn < 3) (hfr : fr < 8) (hsd : xSide g a) : Met l yX0_watchFrom (ws_ yX0_watchFrom cX0_watchFrom 8 (some .int)) rmX0_watchFrom (va_Pc [.ref (ω.2.1 0 99), .int (nI pn), .int (nI fr)] (fun U => xK ω U ∧ xH ω (g, y, a, z, dr, pg, t) U.heap)) (va_Qi (fun (r : Int32) (u : XS) => ∃ (o0 : Nat → Int32) (q0 : Int32) (q1 : Int32) (q2 : Int32) (q3 : Nat → Int32) (q4 : Nat → Int32), (r, o0) = (fX0_watchFrom g a t of pn fr (z 0 17)) ∧ u = (g, up2 (up2 (up2 y (0 + 6) 12 q0) (0 + 6) 13 q1) (0 + 6) 14 q2, a, up2 (up2 (up2 z 0 17 o0) (0 + 6) 10 q3) (0 + 6) 11 q4, dr, pg, t)) (fun u t => xH ω u t.heap) ω.2.2.1) 0 0 ω.2.2.1 := by
  refine g_entWi (C := RX0) rfl (by decide) (Nat.le_of_ble_eq_true rfl) ?_
  intro p e s m args below meth c QQ ls H locs hF hK hH hS hl hret
  have hl : lv_has ls 8 [(0, .ref (ω.2.1 0 99)), (1, .int (nI pn)), (2, .int (nI fr))] := hl
  have hn9 : tn t ≤ 9 := hH.2.2.1
  have hok := hc.ok
  have hp3 := hsd.1
  have hs6 := hsd.2.1
  have hp50 := hsd.2.2.1
  refine lv_aload_n hF.1 hF.2.1 dX0_watchFrom_0 rfl (lv_at hl 0 rfl) ?_
  refine lv_iload_n hF.1 hF.2.1 dX0_watchFrom_1 rfl (lv_at hl 1 rfl) ?_
  refine g_vWi (As := [.int (nI pn)]) (rest := []) hF (kX0_tendersOf l ω g y a z dr pg t td of hc pn (by omega) hsd) (lw_V q601 q603 qs12 q92 q604) 1 hdX0_tendersOf rfl rfl ⟨Nat.le_of_ble_eq_true rfl, Nat.le_of_ble_eq_true rfl⟩ (x_preV0 hK hH) rfl hl.1 rfl (Nat.le_of_ble_eq_true rfl) dX0_watchFrom_2 ⟨Nat.le_of_ble_eq_true rfl, Nat.le_of_ble_eq_true rfl⟩ hS (fun r1 ur1 H locs hqr1 hH hS => ?_)
  obtain ⟨r1h0, r1h1, r1h2, r1h3, r1h4, hr1, rfl⟩ := hqr1
  have e_r1 := hr1
  refine lv_istore_n (lv' := [(3, .int r1), (0, .ref (ω.2.1 0 99)), (1, .int (nI pn)), (2, .int (nI fr))]) hF.1 hF.2.1 dX0_watchFrom_5 rfl hl (by decide) rfl (fun ls hl => ?_)
  refine lv_iconst (v := (-1)) hF.1 hF.2.1 dX0_watchFrom_6 (by decide) ?_
  refine lv_istore (lv' := [(4, .int (-1)), (3, .int r1), (0, .ref (ω.2.1 0 99)), (1, .int (nI pn)), (2, .int (nI fr))]) hF.1 hF.2.1 dX0_watchFrom_7 hl (by decide) rfl (fun ls hl => ?_)
  refine lv_iload_n hF.1 hF.2.1 dX0_watchFrom_9 rfl (lv_at hl 1 rfl) ?_
  have k19_4 : ∀ (v3 : Int32) (ls : Array Slot), v3 = (if r1 = 0 then nI 0 else nI 268435456) → lv_has ls 8 [(4, .int (-1)), (3, .int r1), (0, .ref (ω.2.1 0 99)), (1, .int (nI pn)), (2, .int (nI fr))] → W p l e rmX0_watchFrom s m args below meth c H locs 0 0 QQ (F0 m 19 ls [.int v3]) := by
    intro v3 ls e_v3 hl
    refine lv_istore (lv' := [(5, .int v3), (4, .int (-1)), (3, .int r1), (0, .ref (ω.2.1 0 99)), (1, .int (nI pn)), (2, .int (nI fr))]) hF.1 hF.2.1 dX0_watchFrom_19 hl (by decide) rfl (fun ls hl => ?_)
    refine lv_iconst (v := nI 0) hF.1 hF.2.1 dX0_watchFrom_21 (by decide) ?_
    refine lv_istore (lv' := [(6, .int (nI 0)), (5, .int v3), (4, .int (-1)), (3, .int r1), (0, .ref (ω.2.1 0 99)), (1, .int (nI pn)), (2, .int (nI fr))]) hF.1 hF.2.1 dX0_watchFrom_22 hl (by decide) rfl (fun ls hl => ?_)
    have lp24_101 : ∀ (d24 i24 : Nat) (x24_5 : Int32) (x24_4 : Int32) (w24_z0_17 : Nat → Int32) (h24_y_0_6_12 : Int32) (h24_y_0_6_13 : Int32) (h24_y_0_6_14 : Int32) (h24_z_0_6_10 : Nat → Int32) (h24_z_0_6_11 : Nat → Int32) (H : Heap) (locs : List Loc) (ls : Array Slot), i24 + d24 = 8 → (x24_5, x24_4, w24_z0_17) = it (fX0_watchFrom_b24 g t of pn fr r1) i24 (v3, (-1), z 0 17) → xH ω (g, up2 (up2 (up2 y (0 + 6) 12 h24_y_0_6_12) (0 + 6) 13 h24_y_0_6_13) (0 + 6) 14 h24_y_0_6_14, a, up2 (up2 (up2 z 0 17 w24_z0_17) (0 + 6) 10 h24_z_0_6_10) (0 + 6) 11 h24_z_0_6_11, dr, pg, t) H → va_S ω.2.2.1 s.heap H locs → lv_has ls 8 [(6, .int (nI i24)), (5, .int x24_5), (4, .int x24_4), (3, .int r1), (0, .ref (ω.2.1 0 99)), (1, .int (nI pn)), (2, .int (nI fr))] → W p l e rmX0_watchFrom s m args below meth c H locs 0 0 QQ (F0 m 24 ls []) := by
      intro d24
      induction d24 with
      | zero =>
        intro i24 x24_5 x24_4 w24_z0_17 h24_y_0_6_12 h24_y_0_6_13 h24_y_0_6_14 h24_z_0_6_10 h24_z_0_6_11 H locs ls hi24 hS24 hH hS hl
        have hj24 : 8 = i24 := by omega
        subst hj24
        have e_x24_5 : x24_5 = (it (fX0_watchFrom_b24 g t of pn fr r1) 8 (v3, (-1), z 0 17)).1 := by rw [← hS24]
        have e_x24_4 : x24_4 = (it (fX0_watchFrom_b24 g t of pn fr r1) 8 (v3, (-1), z 0 17)).2.1 := by rw [← hS24]
        have e_w24_z0_17 : w24_z0_17 = (it (fX0_watchFrom_b24 g t of pn fr r1) 8 (v3, (-1), z 0 17)).2.2 := by rw [← hS24]
        refine lv_iload hF.1 hF.2.1 dX0_watchFrom_24 (lv_at hl 0 rfl) ?_
        refine lv_bipush (v := nI 8) hF.1 hF.2.1 dX0_watchFrom_26 (by decide) ?_
        refine n_ge (tgt := 84) hF.1 hF.2.1 dX0_watchFrom_28 (by decide) (by omega) (by omega) (fun c5 => ?_) (fun c5 => ?_)
        · skip
          refine lv_iload hF.1 hF.2.1 dX0_watchFrom_84 (lv_at hl 2 rfl) ?_
          exact hret _ _ _ _ _ _ dX0_watchFrom_86 ⟨_, _, _, _, _, _, by subst e_w24_z0_17; subst e_x24_4; subst e_x24_5; subst e_v3; subst e_r1; rfl, rfl⟩ hH hS
        · exact absurd (by omega) c5
      | succ d24 ih =>
        intro i24 x24_5 x24_4 w24_z0_17 h24_y_0_6_12 h24_y_0_6_13 h24_y_0_6_14 h24_z_0_6_10 h24_z_0_6_11 H locs ls hi24 hS24 hH hS hl
        refine lv_iload hF.1 hF.2.1 dX0_watchFrom_24 (lv_at hl 0 rfl) ?_
        refine lv_bipush (v := nI 8) hF.1 hF.2.1 dX0_watchFrom_26 (by decide) ?_
        refine n_ge (tgt := 84) hF.1 hF.2.1 dX0_watchFrom_28 (by decide) (by omega) (by omega) (fun c6 => ?_) (fun c6 => ?_)
        · exact absurd c6 (by omega)
        · skip
          refine lv_iload hF.1 hF.2.1 dX0_watchFrom_31 (lv_at hl 0 rfl) ?_
          refine lv_iload_n hF.1 hF.2.1 dX0_watchFrom_33 rfl (lv_at hl 6 rfl) ?_
          have k51_16 : ∀ (v9 : Int32) (u15 : Nat → Int32) (u10 : Int32) (u11 : Int32) (u12 : Int32) (u13 : Nat → Int32) (u14 : Nat → Int32) (H : Heap) (locs : List Loc) (ls : Array Slot), v9 = (if i24 = fr then nI 268435456 else ((fX0_worstTo g t of pn r1 fr i24 w24_z0_17).1)) → u15 = (if i24 = fr then w24_z0_17 else ((fX0_worstTo g t of pn r1 fr i24 w24_z0_17).2)) → xH ω (g, up2 (up2 (up2 y (0 + 6) 12 u10) (0 + 6) 13 u11) (0 + 6) 14 u12, a, up2 (up2 (up2 z 0 17 u15) (0 + 6) 10 u13) (0 + 6) 11 u14, dr, pg, t) H → va_S ω.2.2.1 s.heap H locs → lv_has ls 8 [(6, .int (nI i24)), (5, .int x24_5), (4, .int x24_4), (3, .int r1), (0, .ref (ω.2.1 0 99)), (1, .int (nI pn)), (2, .int (nI fr))] → W p l e rmX0_watchFrom s m args below meth c H locs 0 0 QQ (F0 m 51 ls [.int v9]) := by
            intro v9 u15 u10 u11 u12 u13 u14 H locs ls e_v9 e_u15 hH hS hl
            refine lv_istore (lv' := [(7, .int v9), (6, .int (nI i24)), (5, .int x24_5), (4, .int x24_4), (3, .int r1), (0, .ref (ω.2.1 0 99)), (1, .int (nI pn)), (2, .int (nI fr))]) hF.1 hF.2.1 dX0_watchFrom_51 hl (by decide) rfl (fun ls hl => ?_)
            refine lv_iload hF.1 hF.2.1 dX0_watchFrom_53 (lv_at hl 0 rfl) ?_
            refine lv_iload hF.1 hF.2.1 dX0_watchFrom_55 (lv_at hl 2 rfl) ?_
            refine lv_icmp_ge (tgt := 65) hF.1 hF.2.1 dX0_watchFrom_57 (by decide) (fun c17 => ?_) (fun c17 => ?_)
            · skip
              refine lv_iload hF.1 hF.2.1 dX0_watchFrom_65 (lv_at hl 3 rfl) ?_
              refine lv_istore (lv' := [(4, .int x24_4), (7, .int v9), (6, .int (nI i24)), (5, .int x24_5), (3, .int r1), (0, .ref (ω.2.1 0 99)), (1, .int (nI pn)), (2, .int (nI fr))]) hF.1 hF.2.1 dX0_watchFrom_67 hl (by decide) rfl (fun ls hl => ?_)
              refine lv_iload hF.1 hF.2.1 dX0_watchFrom_69 (lv_at hl 3 rfl) ?_
              refine lv_iload hF.1 hF.2.1 dX0_watchFrom_71 (lv_at hl 1 rfl) ?_
              refine va_mmin hF.1 hF.2.1 (hF.2.2.1.trans hl.1.symm) hF.2.2.2.1 (hF.2.2.2.2 _ q788) (hF.2.2.2.2 _ q546) (hF.2.2.2.2 _ q108) (hF.2.2.2.2 _ q547) (Nat.le_of_ble_eq_true rfl) (Nat.le_of_ble_eq_true rfl) (Nat.zero_le _) (Nat.zero_le _) dX0_watchFrom_73 ?_
              refine n_top (y := jmin x24_5 v9) rfl ?_
              refine lv_istore (lv' := [(5, .int (jmin x24_5 v9)), (4, .int x24_4), (7, .int v9), (6, .int (nI i24)), (3, .int r1), (0, .ref (ω.2.1 0 99)), (1, .int (nI pn)), (2, .int (nI fr))]) hF.1 hF.2.1 dX0_watchFrom_76 hl (by decide) rfl (fun ls hl => ?_)
              refine n_iinc (lv' := [(6, .int (nI (i24 + 1))), (5, .int (jmin x24_5 v9)), (4, .int x24_4), (7, .int v9), (3, .int r1), (0, .ref (ω.2.1 0 99)), (1, .int (nI pn)), (2, .int (nI fr))]) hF.1 hF.2.1 dX0_watchFrom_78 hl (k := 3) rfl (by decide) rfl (fun ls hl => ?_)
              refine lv_goto (tgt := 24) hF.1 hF.2.1 dX0_watchFrom_81 (by decide) ?_
              exact ih (i24 + 1) _ _ _ _ _ _ _ _ _ _ _ (by omega) (by subst e_u15; subst e_v9; rw [it_succ (fX0_watchFrom_b24 g t of pn fr r1) i24 _, ← hS24]; unfold fX0_watchFrom_b24; dsimp only; first | (rw [if_pos c17]; done) | (simp only [if_pos c17])) hH hS (lv_sub hl [0, 1, 2, 4, 5, 6, 7] rfl)
            · skip
              refine lv_iload hF.1 hF.2.1 dX0_watchFrom_60 (lv_at hl 1 rfl) ?_
              refine lv_goto (tgt := 67) hF.1 hF.2.1 dX0_watchFrom_62 (by decide) ?_
              refine lv_istore (lv' := [(4, .int (nI i24)), (7, .int v9), (6, .int (nI i24)), (5, .int x24_5), (3, .int r1), (0, .ref (ω.2.1 0 99)), (1, .int (nI pn)), (2, .int (nI fr))]) hF.1 hF.2.1 dX0_watchFrom_67 hl (by decide) rfl (fun ls hl => ?_)
              refine lv_iload hF.1 hF.2.1 dX0_watchFrom_69 (lv_at hl 3 rfl) ?_
              refine lv_iload hF.1 hF.2.1 dX0_watchFrom_71 (lv_at hl 1 rfl) ?_
              refine va_mmin hF.1 hF.2.1 (hF.2.2.1.trans hl.1.symm) hF.2.2.2.1 (hF.2.2.2.2 _ q788) (hF.2.2.2.2 _ q546) (hF.2.2.2.2 _ q108) (hF.2.2.2.2 _ q547) (Nat.le_of_ble_eq_true rfl) (Nat.le_of_ble_eq_true rfl) (Nat.zero_le _) (Nat.zero_le _) dX0_watchFrom_73 ?_
              refine n_top (y := jmin x24_5 v9) rfl ?_
              refine lv_istore (lv' := [(5, .int (jmin x24_5 v9)), (4, .int (nI i24)), (7, .int v9), (6, .int (nI i24)), (3, .int r1), (0, .ref (ω.2.1 0 99)), (1, .int (nI pn)), (2, .int (nI fr))]) hF.1 hF.2.1 dX0_watchFrom_76 hl (by decide) rfl (fun ls hl => ?_)
              refine n_iinc (lv' := [(6, .int (nI (i24 + 1))), (5, .int (jmin x24_5 v9)), (4, .int (nI i24)), (7, .int v9), (3, .int r1), (0, .ref (ω.2.1 0 99)), (1, .int (nI pn)), (2, .int (nI fr))]) hF.1 hF.2.1 dX0_watchFrom_78 hl (k := 3) rfl (by decide) rfl (fun ls hl => ?_)
              refine lv_goto (tgt := 24) hF.1 hF.2.1 dX0_watchFrom_81 (by decide) ?_
              exact ih (i24 + 1) _ _ _ _ _ _ _ _ _ _ _ (by omega) (by subst e_u15; subst e_v9; rw [it_succ (fX0_watchFrom_b24 g t of pn fr r1) i24 _, ← hS24]; unfold fX0_watchFrom_b24; dsimp only; first | (rw [if_neg c17]; done) | (simp only [if_neg c17])) hH hS (lv_sub hl [0, 1, 2, 4, 5, 6, 7] rfl)
          refine n_ne (tgt := 42) hF.1 hF.2.1 dX0_watchFrom_34 (by decide) (by omega) (by omega) (fun c7 => ?_) (fun c7 => ?_)
          · skip
            refine lv_aload_n hF.1 hF.2.1 dX0_watchFrom_42 rfl (lv_at hl 4 rfl) ?_
            refine lv_iload_n hF.1 hF.2.1 dX0_watchFrom_43 rfl (lv_at hl 5 rfl) ?_
            refine lv_iload_n hF.1 hF.2.1 dX0_watchFrom_44 rfl (lv_at hl 3 rfl) ?_
            refine lv_iload_n hF.1 hF.2.1 dX0_watchFrom_45 rfl (lv_at hl 6 rfl) ?_
            refine lv_iload hF.1 hF.2.1 dX0_watchFrom_46 (lv_at hl 0 rfl) ?_
            refine g_vWi (As := [.int (nI pn), .int r1, .int (nI fr), .int (nI i24)]) (rest := []) hF (kX0_worstTo l ω g (up2 (up2 (up2 y (0 + 6) 12 h24_y_0_6_12) (0 + 6) 13 h24_y_0_6_13) (0 + 6) 14 h24_y_0_6_14) a (up2 (up2 (up2 z 0 17 w24_z0_17) (0 + 6) 10 h24_z_0_6_10) (0 + 6) 11 h24_z_0_6_11) dr pg t td of hc pn r1 fr i24 (by omega) (by omega) (by omega) (by omega) hsd) (lw_V q899 q901 qs39 q92 q902) 4 hdX0_worstTo rfl rfl ⟨Nat.le_of_ble_eq_true rfl, Nat.le_of_ble_eq_true rfl⟩ (x_preV0 hK hH) rfl hl.1 rfl (Nat.le_of_ble_eq_true rfl) dX0_watchFrom_48 ⟨Nat.le_of_ble_eq_true rfl, Nat.le_of_ble_eq_true rfl⟩ hS (fun r8 ur8 H locs hqr8 hH hS => ?_)
            obtain ⟨r8o0, r8h0, r8h1, r8h2, r8h3, r8h4, hr8, rfl⟩ := hqr8
            have hr8 : (r8, r8o0) = fX0_worstTo g t of pn r1 fr i24 w24_z0_17 := hr8.trans (by simp [up2])
            have e_r8 : r8 = (fX0_worstTo g t of pn r1 fr i24 w24_z0_17).1 := by rw [← hr8]
            have e_r8o0 : r8o0 = (fX0_worstTo g t of pn r1 fr i24 w24_z0_17).2 := by rw [← hr8]
            have hH : xH ω (g, up2 (up2 (up2 y (0 + 6) 12 r8h0) (0 + 6) 13 r8h1) (0 + 6) 14 r8h2, a, up2 (up2 (up2 z 0 17 r8o0) (0 + 6) 10 r8h3) (0 + 6) 11 r8h4, dr, pg, t) H := x_ext (fun _ _ => rfl) (by intro o k; by_cases h0 : o = (0 + 6) ∧ k = 12; (obtain ⟨rfl, rfl⟩ := h0; simp [up2]); by_cases h1 : o = (0 + 6) ∧ k = 13; (obtain ⟨rfl, rfl⟩ := h1; simp [up2]); by_cases h2 : o = (0 + 6) ∧ k = 14; (obtain ⟨rfl, rfl⟩ := h2; simp [up2]); simp only [up2, if_neg h0, if_neg h1, if_neg h2]) (fun _ _ => rfl) (by intro o k; by_cases h0 : o = (0 + 6) ∧ k = 10; (obtain ⟨rfl, rfl⟩ := h0; simp [up2]); by_cases h1 : o = (0 + 6) ∧ k = 11; (obtain ⟨rfl, rfl⟩ := h1; simp [up2]); by_cases h2 : o = 0 ∧ k = 17; (obtain ⟨rfl, rfl⟩ := h2; simp [up2]); simp only [up2, if_neg h0, if_neg h1, if_neg h2]) hH
            exact k51_16 _ _ _ _ _ _ _ _ _ _ (by subst e_r8o0; subst e_r8; first | (rw [if_neg c7]; done) | (simp only [if_neg c7])) (by subst e_r8o0; subst e_r8; first | (rw [if_neg c7]; done) | (simp only [if_neg c7])) hH hS (lv_sub hl [0, 1, 2, 3, 4, 5, 6] rfl)
          · skip
            refine lv_ldc (v := nI 268435456) hF.1 hF.2.1 hF.2.2.2.1 (hF.2.2.2.2 _ q783) dX0_watchFrom_37 ?_
            refine lv_goto (tgt := 51) hF.1 hF.2.1 dX0_watchFrom_39 (by decide) ?_
            exact k51_16 _ _ _ _ _ _ _ _ _ _ (by first | (rw [if_pos c7]; done) | (simp only [if_pos c7])) (by first | (rw [if_pos c7]; done) | (simp only [if_pos c7])) hH hS (lv_sub hl [0, 1, 2, 3, 4, 5, 6] rfl)
    have hH : xH ω (g, up2 (up2 (up2 y (0 + 6) 12 r1h0) (0 + 6) 13 r1h1) (0 + 6) 14 r1h2, a, up2 (up2 (up2 z 0 17 (z 0 17)) (0 + 6) 10 r1h3) (0 + 6) 11 r1h4, dr, pg, t) H := x_ext (fun _ _ => rfl) (fun _ _ => rfl) (fun _ _ => rfl) (by intro o k; by_cases h0 : o = 0 ∧ k = 17; (obtain ⟨rfl, rfl⟩ := h0; simp [up2]); simp only [up2, if_neg h0]) hH
    exact lp24_101 8 0 _ _ _ _ _ _ _ _ _ _ _ (by omega) rfl hH hS (lv_sub hl [0, 1, 2, 3, 4, 5, 6] rfl)
  refine lv_if_ne (tgt := 17) hF.1 hF.2.1 dX0_watchFrom_10 (by decide) (fun c2 => ?_) (fun c2 => ?_)
  · skip
    refine lv_ldc (v := nI 268435456) hF.1 hF.2.1 hF.2.2.2.1 (hF.2.2.2.2 _ q783) dX0_watchFrom_17 ?_
    exact k19_4 _ _ (by first | (rw [if_neg c2]; done) | (simp only [if_neg c2])) (lv_sub hl [0, 1, 2, 3, 4] rfl)
  · skip
    refine lv_iconst (v := nI 0) hF.1 hF.2.1 dX0_watchFrom_13 (by decide) ?_
    refine lv_goto (tgt := 19) hF.1 hF.2.1 dX0_watchFrom_14 (by decide) ?_
    exact k19_4 _ _ (by first | (rw [if_pos c2]; done) | (simp only [if_pos c2])) (lv_sub hl [0, 1, 2, 3, 4] rfl)

def fX0_watch (g : Nat → Nat → Nat) (a : Nat → Nat → Nat → Int32) (t : TW) (of : Nat → Nat → Nat) (pn : Int32) (fr : Int32) (z_0_17 : Nat → Int32) : Int32 × (Nat → Int32) := if (fX0_isPerson g pn) = 0 then ((-101), z_0_17) else if (fX0_isCorner fr) = 0 then ((-101), z_0_17) else (((fX0_watchFrom g a t of (toN pn) (toN fr) (z_0_17)).1), ((fX0_watchFrom g a t of (toN pn) (toN fr) (z_0_17)).2))
def rmX0_watch : Room := { frames := 11, cells := 0, slots := 0, locals := 271 }
theorem hdX0_watch : yX0_watch.cls = RX0 ∧ yX0_watch.cls ≠ "java/lang/invoke/MethodHandle" ∧ yX0_watch.cls ≠ "java/lang/invoke/VarHandle" ∧ (parseMethodDescriptor yX0_watch.desc).map (fun d => d.parameters.length) = some 2 := by decide +kernel
set_option maxHeartbeats 4000000 in
theorem kX0_watch (l : Launch) (ω : OM) (g : Nat → Nat → Nat) (y : Nat → Nat → Int32) (a z : Nat → Nat → Nat → Int32) (dr : Int64) (pg : Nat → Int32) (t : TW) (td : Nat → Nat) (of : Nat → Nat → Nat) (hc : xCore g a t 0 td of) (pn : Int32) (fr : Int32) (hsd : xSide g a) : Met l yX0_watch (ws_ yX0_watch cX0_watch 3 (some .int)) rmX0_watch (va_Pc [.ref (ω.2.1 0 99), .int pn, .int fr] (fun U => xK ω U ∧ xH ω (g, y, a, z, dr, pg, t) U.heap)) (va_Qi (fun (r : Int32) (u : XS) => ∃ (o0 : Nat → Int32) (q0 : Int32) (q1 : Int32) (q2 : Int32) (q3 : Nat → Int32) (q4 : Nat → Int32), (r, o0) = (fX0_watch g a t of pn fr (z 0 17)) ∧ u = (g, up2 (up2 (up2 y (0 + 6) 12 q0) (0 + 6) 13 q1) (0 + 6) 14 q2, a, up2 (up2 (up2 z 0 17 o0) (0 + 6) 10 q3) (0 + 6) 11 q4, dr, pg, t)) (fun u t => xH ω u t.heap) ω.2.2.1) 0 0 ω.2.2.1 := by
  refine g_entWi (C := RX0) rfl (by decide) (Nat.le_of_ble_eq_true rfl) ?_
  intro p e s m args below meth c QQ ls H locs hF hK hH hS hl hret
  have hl : lv_has ls 3 [(0, .ref (ω.2.1 0 99)), (1, .int pn), (2, .int fr)] := hl
  have hn9 : tn t ≤ 9 := hH.2.2.1
  have hok := hc.ok
  have hp3 := hsd.1
  have hs6 := hsd.2.1
  have hp50 := hsd.2.2.1
  refine lv_aload_n hF.1 hF.2.1 dX0_watch_0 rfl (lv_at hl 0 rfl) ?_
  refine lv_iload_n hF.1 hF.2.1 dX0_watch_1 rfl (lv_at hl 1 rfl) ?_
  refine g_vPi (As := [.int pn]) (rest := []) hF (kX0_isPerson l ω g y a z dr pg t pn) (lw_V q593 q595 qs10 q92 q596) 1 hdX0_isPerson rfl rfl ⟨Nat.le_of_ble_eq_true rfl, Nat.le_of_ble_eq_true rfl⟩ (x_preV0 hK hH) rfl hl.1 rfl (Nat.le_of_ble_eq_true rfl) dX0_watch_2 ⟨Nat.zero_le _, Nat.zero_le _⟩ (fun r1 e_r1 => ?_)
  refine lv_if_eq (tgt := 24) hF.1 hF.2.1 dX0_watch_5 (by decide) (fun c2 => ?_) (fun c2 => ?_)
  · skip
    refine lv_bipush (v := (-101)) hF.1 hF.2.1 dX0_watch_24 (by decide) ?_
    have hH : xH ω (g, up2 (up2 (up2 y (0 + 6) 12 (y (0 + 6) 12)) (0 + 6) 13 (y (0 + 6) 13)) (0 + 6) 14 (y (0 + 6) 14), a, up2 (up2 (up2 z 0 17 (z 0 17)) (0 + 6) 10 (z (0 + 6) 10)) (0 + 6) 11 (z (0 + 6) 11), dr, pg, t) H := x_ext (fun _ _ => rfl) (by intro o k; by_cases h0 : o = (0 + 6) ∧ k = 12; (obtain ⟨rfl, rfl⟩ := h0; simp [up2]); by_cases h1 : o = (0 + 6) ∧ k = 13; (obtain ⟨rfl, rfl⟩ := h1; simp [up2]); by_cases h2 : o = (0 + 6) ∧ k = 14; (obtain ⟨rfl, rfl⟩ := h2; simp [up2]); simp only [up2, if_neg h0, if_neg h1, if_neg h2]) (fun _ _ => rfl) (by intro o k; by_cases h0 : o = (0 + 6) ∧ k = 10; (obtain ⟨rfl, rfl⟩ := h0; simp [up2]); by_cases h1 : o = (0 + 6) ∧ k = 11; (obtain ⟨rfl, rfl⟩ := h1; simp [up2]); by_cases h2 : o = 0 ∧ k = 17; (obtain ⟨rfl, rfl⟩ := h2; simp [up2]); simp only [up2, if_neg h0, if_neg h1, if_neg h2]) hH
    exact hret _ _ _ _ _ _ dX0_watch_26 ⟨_, _, _, _, _, _, by subst e_r1; unfold fX0_watch; first | (rw [if_pos c2]; done) | (simp only [if_pos c2]), rfl⟩ hH hS
  · skip
    refine lv_iload_n hF.1 hF.2.1 dX0_watch_8 rfl (lv_at hl 2 rfl) ?_
    refine g_sPi (As := [.int fr]) (rest := []) hF (kX0_isCorner l fr) (lw_S q764 q765 q92 q766) 1 hdX0_isCorner.2 rfl rfl ⟨Nat.le_of_ble_eq_true rfl, Nat.le_of_ble_eq_true rfl⟩ g_pre0 rfl hl.1 rfl (Nat.le_of_ble_eq_true rfl) dX0_watch_9 ⟨Nat.zero_le _, Nat.zero_le _⟩ (fun r3 e_r3 => ?_)
    refine lv_if_eq (tgt := 24) hF.1 hF.2.1 dX0_watch_12 (by decide) (fun c4 => ?_) (fun c4 => ?_)
    · skip
      refine lv_bipush (v := (-101)) hF.1 hF.2.1 dX0_watch_24 (by decide) ?_
      have hH : xH ω (g, up2 (up2 (up2 y (0 + 6) 12 (y (0 + 6) 12)) (0 + 6) 13 (y (0 + 6) 13)) (0 + 6) 14 (y (0 + 6) 14), a, up2 (up2 (up2 z 0 17 (z 0 17)) (0 + 6) 10 (z (0 + 6) 10)) (0 + 6) 11 (z (0 + 6) 11), dr, pg, t) H := x_ext (fun _ _ => rfl) (by intro o k; by_cases h0 : o = (0 + 6) ∧ k = 12; (obtain ⟨rfl, rfl⟩ := h0; simp [up2]); by_cases h1 : o = (0 + 6) ∧ k = 13; (obtain ⟨rfl, rfl⟩ := h1; simp [up2]); by_cases h2 : o = (0 + 6) ∧ k = 14; (obtain ⟨rfl, rfl⟩ := h2; simp [up2]); simp only [up2, if_neg h0, if_neg h1, if_neg h2]) (fun _ _ => rfl) (by intro o k; by_cases h0 : o = (0 + 6) ∧ k = 10; (obtain ⟨rfl, rfl⟩ := h0; simp [up2]); by_cases h1 : o = (0 + 6) ∧ k = 11; (obtain ⟨rfl, rfl⟩ := h1; simp [up2]); by_cases h2 : o = 0 ∧ k = 17; (obtain ⟨rfl, rfl⟩ := h2; simp [up2]); simp only [up2, if_neg h0, if_neg h1, if_neg h2]) hH
      exact hret _ _ _ _ _ _ dX0_watch_26 ⟨_, _, _, _, _, _, by subst e_r3; subst e_r1; unfold fX0_watch; first | (rw [if_neg c2, if_pos c4]; done) | (simp only [if_neg c2, if_pos c4]), rfl⟩ hH hS
    · skip
      obtain ⟨b5e, b5l⟩ := g_lift (r := pn) (n := 3) (xPerson_lift3 hp3 (by rw [← e_r1]; exact c2)) (by omega)
      obtain ⟨b6e, b6l⟩ := g_lift (r := fr) (n := 8) (xCorner_lift (by rw [← e_r3]; exact c4)) (by omega)
      refine lv_aload_n hF.1 hF.2.1 dX0_watch_15 rfl (lv_at hl 0 rfl) ?_
      refine lv_iload_n hF.1 hF.2.1 dX0_watch_16 rfl (lv_at hl 1 rfl) ?_
      refine n_top b5e ?_
      refine lv_iload_n hF.1 hF.2.1 dX0_watch_17 rfl (lv_at hl 2 rfl) ?_
      refine n_top b6e ?_
      refine g_vWi (As := [.int (nI (toN pn)), .int (nI (toN fr))]) (rest := []) hF (kX0_watchFrom l ω g y a z dr pg t td of hc (toN pn) (toN fr) (by omega) (by omega) hsd) (lw_V q895 q897 qs38 q92 q898) 2 hdX0_watchFrom rfl rfl ⟨Nat.le_of_ble_eq_true rfl, Nat.le_of_ble_eq_true rfl⟩ (x_preV0 hK hH) rfl hl.1 rfl (Nat.le_of_ble_eq_true rfl) dX0_watch_18 ⟨Nat.le_of_ble_eq_true rfl, Nat.le_of_ble_eq_true rfl⟩ hS (fun r7 ur7 H locs hqr7 hH hS => ?_)
      obtain ⟨r7o0, r7h0, r7h1, r7h2, r7h3, r7h4, hr7, rfl⟩ := hqr7
      have e_r7 : r7 = (fX0_watchFrom g a t of (toN pn) (toN fr) (z 0 17)).1 := by rw [← hr7]
      have e_r7o0 : r7o0 = (fX0_watchFrom g a t of (toN pn) (toN fr) (z 0 17)).2 := by rw [← hr7]
      refine lv_goto (tgt := 26) hF.1 hF.2.1 dX0_watch_21 (by decide) ?_
      exact hret _ _ _ _ _ _ dX0_watch_26 ⟨_, _, _, _, _, _, by subst e_r7o0; subst e_r7; subst e_r3; subst e_r1; unfold fX0_watch; first | (rw [if_neg c2, if_neg c4]; done) | (simp only [if_neg c2, if_neg c4]), rfl⟩ hH hS

def fX0_ride (g : Nat → Nat → Nat) (a : Nat → Nat → Nat → Int32) (t : TW) (td : Nat → Nat) (of : Nat → Nat → Nat) (dn : Int32) (pn : Int32) (to : Int32) : Int32 × (Nat → Int32) × (Nat → Int32) × (Nat → Int32) × (Nat → Int32) × (Nat → Int32) := if (fX0_isDriver g dn) = 0 then ((-101), a (0 + 6) 1, a (0 + 6) 2, a (0 + 6) 3, a (0 + 6) 6, a (0 + 6) 8) else if (fX0_isPerson g pn) = 0 then ((-101), a (0 + 6) 1, a (0 + 6) 2, a (0 + 6) 3, a (0 + 6) 6, a (0 + 6) 8) else if (fX0_isCorner to) = 0 then ((-101), a (0 + 6) 1, a (0 + 6) 2, a (0 + 6) 3, a (0 + 6) 6, a (0 + 6) 8) else if (fX1_layWayS t (g (0 + 6) 9) (td (toN pn)) (of (toN pn)) (toN (a (0 + 6) 6 (toN dn))) (toN to) (a (0 + 6) 7 (toN dn))) = 0 then ((-103), a (0 + 6) 1, a (0 + 6) 2, a (0 + 6) 3, a (0 + 6) 6, a (0 + 6) 8) else (nI ((cds t (g (0 + 6) 9) (td (toN pn)) (of (toN pn)) (a (0 + 6) 7 (toN dn)) (toN to) (toN (a (0 + 6) 6 (toN dn)))) / 1000), (fX1_takeS (a (0 + 6) 1) (toN pn) (cwl t (g (0 + 6) 9) (td (toN pn)) (of (toN pn)) (a (0 + 6) 7 (toN dn)) (toN (a (0 + 6) 6 (toN dn))) (toN to)) (cws t (g (0 + 6) 9) (td (toN pn)) (of (toN pn)) (a (0 + 6) 7 (toN dn)) (toN (a (0 + 6) 6 (toN dn))) (toN to))), upd (a (0 + 6) 2) (toN pn) ((a (0 + 6) 2 (toN pn)) + (nI 1)), upd (a (0 + 6) 3) (toN pn) ((a (0 + 6) 3 (toN pn)) + (nI ((cds t (g (0 + 6) 9) (td (toN pn)) (of (toN pn)) (a (0 + 6) 7 (toN dn)) (toN to) (toN (a (0 + 6) 6 (toN dn)))) / 1000))), upd (a (0 + 6) 6) (toN dn) (nI (toN to)), upd (a (0 + 6) 8) (toN dn) ((a (0 + 6) 8 (toN dn)) + (nI 1)))
def rmX0_ride : Room := { frames := 8, cells := 0, slots := 0, locals := 190 }
theorem hdX0_ride : yX0_ride.cls = RX0 ∧ yX0_ride.cls ≠ "java/lang/invoke/MethodHandle" ∧ yX0_ride.cls ≠ "java/lang/invoke/VarHandle" ∧ (parseMethodDescriptor yX0_ride.desc).map (fun d => d.parameters.length) = some 3 := by decide +kernel
set_option maxHeartbeats 4000000 in
theorem kX0_ride (l : Launch) (ω : OM) (g : Nat → Nat → Nat) (y : Nat → Nat → Int32) (a z : Nat → Nat → Nat → Int32) (dr : Int64) (pg : Nat → Int32) (t : TW) (td : Nat → Nat) (of : Nat → Nat → Nat) (hc : xCore g a t 0 td of) (dn : Int32) (pn : Int32) (to : Int32) (hsd : xSide g a) : Met l yX0_ride (ws_ yX0_ride cX0_ride 4 (some .int)) rmX0_ride (va_Pc [.ref (ω.2.1 0 99), .int dn, .int pn, .int to] (fun U => xK ω U ∧ xH ω (g, y, a, z, dr, pg, t) U.heap)) (va_Qi (fun (r : Int32) (u : XS) => ∃ (o0 : Nat → Int32) (o1 : Nat → Int32) (o2 : Nat → Int32) (o3 : Nat → Int32) (o4 : Nat → Int32) (q0 : Int32) (q1 : Int32) (q2 : Int32) (q3 : Nat → Int32) (q4 : Nat → Int32), (r, o0, o1, o2, o3, o4) = (fX0_ride g a t td of dn pn to) ∧ u = (g, up2 (up2 (up2 y (0 + 6) 12 q0) (0 + 6) 13 q1) (0 + 6) 14 q2, up2 (up2 (up2 (up2 (up2 a (0 + 6) 1 o0) (0 + 6) 2 o1) (0 + 6) 3 o2) (0 + 6) 6 o3) (0 + 6) 8 o4, up2 (up2 z (0 + 6) 10 q3) (0 + 6) 11 q4, dr, pg, t)) (fun u t => xH ω u t.heap) ω.2.2.1) 0 0 ω.2.2.1 := by
  refine g_entWi (C := RX0) rfl (by decide) (Nat.le_of_ble_eq_true rfl) ?_
  intro p e s m args below meth c QQ ls H locs hF hK hH hS hl hret
  have hl : lv_has ls 4 [(0, .ref (ω.2.1 0 99)), (1, .int dn), (2, .int pn), (3, .int to)] := hl
  have hn9 : tn t ≤ 9 := hH.2.2.1
  have hok := hc.ok
  have hp3 := hsd.1
  have hs6 := hsd.2.1
  have hp50 := hsd.2.2.1
  refine lv_aload_n hF.1 hF.2.1 dX0_ride_0 rfl (lv_at hl 0 rfl) ?_
  refine lv_iload_n hF.1 hF.2.1 dX0_ride_1 rfl (lv_at hl 1 rfl) ?_
  refine g_vPi (As := [.int dn]) (rest := []) hF (kX0_isDriver l ω g y a z dr pg t dn (by omega)) (lw_V q817 q819 qs30 q92 q820) 1 hdX0_isDriver rfl rfl ⟨Nat.le_of_ble_eq_true rfl, Nat.le_of_ble_eq_true rfl⟩ (x_preV0 hK hH) rfl hl.1 rfl (Nat.le_of_ble_eq_true rfl) dX0_ride_2 ⟨Nat.zero_le _, Nat.zero_le _⟩ (fun r1 e_r1 => ?_)
  refine lv_if_eq (tgt := 23) hF.1 hF.2.1 dX0_ride_5 (by decide) (fun c2 => ?_) (fun c2 => ?_)
  · skip
    refine lv_bipush (v := (-101)) hF.1 hF.2.1 dX0_ride_23 (by decide) ?_
    have hH : xH ω (g, up2 (up2 (up2 y (0 + 6) 12 (y (0 + 6) 12)) (0 + 6) 13 (y (0 + 6) 13)) (0 + 6) 14 (y (0 + 6) 14), up2 (up2 (up2 (up2 (up2 a (0 + 6) 1 (a (0 + 6) 1)) (0 + 6) 2 (a (0 + 6) 2)) (0 + 6) 3 (a (0 + 6) 3)) (0 + 6) 6 (a (0 + 6) 6)) (0 + 6) 8 (a (0 + 6) 8), up2 (up2 z (0 + 6) 10 (z (0 + 6) 10)) (0 + 6) 11 (z (0 + 6) 11), dr, pg, t) H := x_ext (fun _ _ => rfl) (by intro o k; by_cases h0 : o = (0 + 6) ∧ k = 12; (obtain ⟨rfl, rfl⟩ := h0; simp [up2]); by_cases h1 : o = (0 + 6) ∧ k = 13; (obtain ⟨rfl, rfl⟩ := h1; simp [up2]); by_cases h2 : o = (0 + 6) ∧ k = 14; (obtain ⟨rfl, rfl⟩ := h2; simp [up2]); simp only [up2, if_neg h0, if_neg h1, if_neg h2]) (by intro o k; by_cases h0 : o = (0 + 6) ∧ k = 1; (obtain ⟨rfl, rfl⟩ := h0; simp [up2]); by_cases h1 : o = (0 + 6) ∧ k = 2; (obtain ⟨rfl, rfl⟩ := h1; simp [up2]); by_cases h2 : o = (0 + 6) ∧ k = 3; (obtain ⟨rfl, rfl⟩ := h2; simp [up2]); by_cases h3 : o = (0 + 6) ∧ k = 6; (obtain ⟨rfl, rfl⟩ := h3; simp [up2]); by_cases h4 : o = (0 + 6) ∧ k = 8; (obtain ⟨rfl, rfl⟩ := h4; simp [up2]); simp only [up2, if_neg h0, if_neg h1, if_neg h2, if_neg h3, if_neg h4]) (by intro o k; by_cases h0 : o = (0 + 6) ∧ k = 10; (obtain ⟨rfl, rfl⟩ := h0; simp [up2]); by_cases h1 : o = (0 + 6) ∧ k = 11; (obtain ⟨rfl, rfl⟩ := h1; simp [up2]); simp only [up2, if_neg h0, if_neg h1]) hH
    exact hret _ _ _ _ _ _ dX0_ride_25 ⟨_, _, _, _, _, _, _, _, _, _, by subst e_r1; unfold fX0_ride; first | (rw [if_pos c2]; done) | (simp only [if_pos c2]), rfl⟩ hH hS
  · skip
    refine lv_aload_n hF.1 hF.2.1 dX0_ride_8 rfl (lv_at hl 0 rfl) ?_
    refine lv_iload_n hF.1 hF.2.1 dX0_ride_9 rfl (lv_at hl 2 rfl) ?_
    refine g_vPi (As := [.int pn]) (rest := []) hF (kX0_isPerson l ω g y a z dr pg t pn) (lw_V q593 q595 qs10 q92 q596) 1 hdX0_isPerson rfl rfl ⟨Nat.le_of_ble_eq_true rfl, Nat.le_of_ble_eq_true rfl⟩ (x_preV0 hK hH) rfl hl.1 rfl (Nat.le_of_ble_eq_true rfl) dX0_ride_10 ⟨Nat.zero_le _, Nat.zero_le _⟩ (fun r3 e_r3 => ?_)
    refine lv_if_eq (tgt := 23) hF.1 hF.2.1 dX0_ride_13 (by decide) (fun c4 => ?_) (fun c4 => ?_)
    · skip
      refine lv_bipush (v := (-101)) hF.1 hF.2.1 dX0_ride_23 (by decide) ?_
      have hH : xH ω (g, up2 (up2 (up2 y (0 + 6) 12 (y (0 + 6) 12)) (0 + 6) 13 (y (0 + 6) 13)) (0 + 6) 14 (y (0 + 6) 14), up2 (up2 (up2 (up2 (up2 a (0 + 6) 1 (a (0 + 6) 1)) (0 + 6) 2 (a (0 + 6) 2)) (0 + 6) 3 (a (0 + 6) 3)) (0 + 6) 6 (a (0 + 6) 6)) (0 + 6) 8 (a (0 + 6) 8), up2 (up2 z (0 + 6) 10 (z (0 + 6) 10)) (0 + 6) 11 (z (0 + 6) 11), dr, pg, t) H := x_ext (fun _ _ => rfl) (by intro o k; by_cases h0 : o = (0 + 6) ∧ k = 12; (obtain ⟨rfl, rfl⟩ := h0; simp [up2]); by_cases h1 : o = (0 + 6) ∧ k = 13; (obtain ⟨rfl, rfl⟩ := h1; simp [up2]); by_cases h2 : o = (0 + 6) ∧ k = 14; (obtain ⟨rfl, rfl⟩ := h2; simp [up2]); simp only [up2, if_neg h0, if_neg h1, if_neg h2]) (by intro o k; by_cases h0 : o = (0 + 6) ∧ k = 1; (obtain ⟨rfl, rfl⟩ := h0; simp [up2]); by_cases h1 : o = (0 + 6) ∧ k = 2; (obtain ⟨rfl, rfl⟩ := h1; simp [up2]); by_cases h2 : o = (0 + 6) ∧ k = 3; (obtain ⟨rfl, rfl⟩ := h2; simp [up2]); by_cases h3 : o = (0 + 6) ∧ k = 6; (obtain ⟨rfl, rfl⟩ := h3; simp [up2]); by_cases h4 : o = (0 + 6) ∧ k = 8; (obtain ⟨rfl, rfl⟩ := h4; simp [up2]); simp only [up2, if_neg h0, if_neg h1, if_neg h2, if_neg h3, if_neg h4]) (by intro o k; by_cases h0 : o = (0 + 6) ∧ k = 10; (obtain ⟨rfl, rfl⟩ := h0; simp [up2]); by_cases h1 : o = (0 + 6) ∧ k = 11; (obtain ⟨rfl, rfl⟩ := h1; simp [up2]); simp only [up2, if_neg h0, if_neg h1]) hH
      exact hret _ _ _ _ _ _ dX0_ride_25 ⟨_, _, _, _, _, _, _, _, _, _, by subst e_r3; subst e_r1; unfold fX0_ride; first | (rw [if_neg c2, if_pos c4]; done) | (simp only [if_neg c2, if_pos c4]), rfl⟩ hH hS
    · skip
      refine lv_iload_n hF.1 hF.2.1 dX0_ride_16 rfl (lv_at hl 3 rfl) ?_
      refine g_sPi (As := [.int to]) (rest := []) hF (kX0_isCorner l to) (lw_S q764 q765 q92 q766) 1 hdX0_isCorner.2 rfl rfl ⟨Nat.le_of_ble_eq_true rfl, Nat.le_of_ble_eq_true rfl⟩ g_pre0 rfl hl.1 rfl (Nat.le_of_ble_eq_true rfl) dX0_ride_17 ⟨Nat.zero_le _, Nat.zero_le _⟩ (fun r5 e_r5 => ?_)
      refine lv_if_ne (tgt := 26) hF.1 hF.2.1 dX0_ride_20 (by decide) (fun c6 => ?_) (fun c6 => ?_)
      · skip
        obtain ⟨b7e, b7l⟩ := g_lift (r := dn) (n := 2) (xDriver_lift (by rw [← e_r1]; exact c2)) (by omega)
        obtain ⟨b8e, b8l⟩ := g_lift (r := pn) (n := 3) (xPerson_lift3 hp3 (by rw [← e_r3]; exact c4)) (by omega)
        obtain ⟨b9e, b9l⟩ := g_lift (r := to) (n := 8) (xCorner_lift (by rw [← e_r5]; exact c6)) (by omega)
        refine lv_aload_n hF.1 hF.2.1 dX0_ride_26 rfl (lv_at hl 0 rfl) ?_
        refine xg0_3 hF hK hH q221 dX0_ride_27 ?_
        refine lv_iload_n hF.1 hF.2.1 dX0_ride_30 rfl (lv_at hl 2 rfl) ?_
        refine n_top b8e ?_
        refine lv_aload_n hF.1 hF.2.1 dX0_ride_31 rfl (lv_at hl 0 rfl) ?_
        refine xg0_3 hF hK hH q221 dX0_ride_32 ?_
        refine xgN_q166 (j := 0) (by decide) hF hK hH dX0_ride_35 ?_
        refine lv_iload_n hF.1 hF.2.1 dX0_ride_38 rfl (lv_at hl 1 rfl) ?_
        refine n_top b7e ?_
        refine x1_ald (j := 0) (by decide) hF hK hH 6 (n := 2) rfl rfl (by decide) rfl (f := a (0 + 6) 6) rfl (i := toN dn) (by omega) (by decide) dX0_ride_39 ?_
        obtain ⟨b10e, b10l⟩ := g_lift (r := a (0 + 6) 6 (toN dn)) (n := 8) (hsd.2.2.2.1 _ (by omega)) (by omega)
        refine n_top b10e ?_
        refine lv_iload_n hF.1 hF.2.1 dX0_ride_40 rfl (lv_at hl 3 rfl) ?_
        refine n_top b9e ?_
        refine lv_aload_n hF.1 hF.2.1 dX0_ride_41 rfl (lv_at hl 0 rfl) ?_
        refine xg0_3 hF hK hH q221 dX0_ride_42 ?_
        refine xgN_q168 (j := 0) (by decide) hF hK hH dX0_ride_45 ?_
        refine lv_iload_n hF.1 hF.2.1 dX0_ride_48 rfl (lv_at hl 1 rfl) ?_
        refine n_top b7e ?_
        refine x1_ald (j := 0) (by decide) hF hK hH 7 (n := 2) rfl rfl (by decide) rfl (f := a (0 + 6) 7) rfl (i := toN dn) (by omega) (by decide) dX0_ride_49 ?_
        refine g_vWi (As := [.int (nI (toN pn)), .int (nI (toN (a (0 + 6) 6 (toN dn)))), .int (nI (toN to)), .int (a (0 + 6) 7 (toN dn))]) (rest := []) hF (kX1_layWayS l ω g y a z dr pg t 0 (by decide) (toN pn) (toN (a (0 + 6) 6 (toN dn))) (toN to) (a (0 + 6) 7 (toN dn)) (td (toN pn)) (of (toN pn)) (hc.P (pn := toN pn) (by omega)) (by omega) (by omega)) (lw_V q613 q614 q615 q96 q616) 4 hdX1_layWayS rfl rfl ⟨Nat.le_of_ble_eq_true rfl, Nat.le_of_ble_eq_true rfl⟩ (x_preV1 (by decide) hK hH) rfl hl.1 rfl (Nat.le_of_ble_eq_true rfl) dX0_ride_50 ⟨Nat.le_of_ble_eq_true rfl, Nat.le_of_ble_eq_true rfl⟩ hS (fun r11 ur11 H locs hqr11 hH hS => ?_)
        obtain ⟨r11h0, r11h1, r11h2, r11h3, r11h4, hr11, hr11_0, rfl⟩ := hqr11
        have e_r11 := hr11
        have hfarr11 := cds_far (dy := (g (0 + 6) 9)) hok (hc.P (pn := toN pn) (by omega)).td9 (hc.P (pn := toN pn) (by omega)).of5 (a (0 + 6) 7 (toN dn)) (show toN to < 8 by omega) (fr := toN (a (0 + 6) 6 (toN dn)))
        refine lv_if_ne (tgt := 59) hF.1 hF.2.1 dX0_ride_53 (by decide) (fun c12 => ?_) (fun c12 => ?_)
        · skip
          have hwd := fX1_layWayS_lift (by rw [← e_r11]; exact c12)
          have hwl := cwl_lt (dy := (g (0 + 6) 9)) hok (hc.P (pn := toN pn) (by omega)).td9 (hc.P (pn := toN pn) (by omega)).of5 (a (0 + 6) 7 (toN dn)) (show toN to < 8 by omega) (show toN (a (0 + 6) 6 (toN dn)) < 8 by omega) hwd
          refine lv_aload_n hF.1 hF.2.1 dX0_ride_59 rfl (lv_at hl 0 rfl) ?_
          refine xg0_3 hF hK hH q221 dX0_ride_60 ?_
          refine lv_iload_n hF.1 hF.2.1 dX0_ride_63 rfl (lv_at hl 2 rfl) ?_
          refine n_top b8e ?_
          refine g_vWv (As := [.int (nI (toN pn))]) (rest := []) hF (kX1_takeS l ω g (up2 (up2 (up2 y (0 + 6) 12 r11h0) (0 + 6) 13 r11h1) (0 + 6) 14 r11h2) a (up2 (up2 z (0 + 6) 10 r11h3) (0 + 6) 11 r11h4) dr pg t 0 (by decide) (toN pn) (cwl t (g (0 + 6) 9) (td (toN pn)) (of (toN pn)) (a (0 + 6) 7 (toN dn)) (toN (a (0 + 6) 6 (toN dn))) (toN to)) (cws t (g (0 + 6) 9) (td (toN pn)) (of (toN pn)) (a (0 + 6) 7 (toN dn)) (toN (a (0 + 6) 6 (toN dn))) (toN to)) (by omega) (by omega) (by omega) ((show (up2 (up2 (up2 y (0 + 6) 12 r11h0) (0 + 6) 13 r11h1) (0 + 6) 14 r11h2) (0 + 6) 12 = r11h0 from by simp [up2]).trans (hr11_0 hwd).1) (by intro k hk; rw [show (up2 (up2 z (0 + 6) 10 r11h3) (0 + 6) 11 r11h4) (0 + 6) 11 = r11h4 from by simp [up2]]; exact (hr11_0 hwd).2.2.2 k hk) hwl.2) (lw_V q859 q860 q861 q96 q862) 1 hdX1_takeS rfl rfl ⟨Nat.le_of_ble_eq_true rfl, Nat.le_of_ble_eq_true rfl⟩ (x_preV1 (by decide) hK hH) rfl hl.1 rfl (Nat.le_of_ble_eq_true rfl) dX0_ride_64 ⟨Nat.le_of_ble_eq_true rfl, Nat.le_of_ble_eq_true rfl⟩ hS (fun ur13 H locs hqr13 hH hS => ?_)
          obtain ⟨r13o0, hr13, rfl⟩ := hqr13
          have e_r13o0 := hr13
          refine lv_aload_n hF.1 hF.2.1 dX0_ride_67 rfl (lv_at hl 0 rfl) ?_
          refine xg0_3 hF hK hH q221 dX0_ride_68 ?_
          refine xgN_q166 (j := 0) (by decide) hF hK hH dX0_ride_71 ?_
          refine lv_iload_n hF.1 hF.2.1 dX0_ride_74 rfl (lv_at hl 1 rfl) ?_
          refine n_top b7e ?_
          refine lv_iload_n hF.1 hF.2.1 dX0_ride_75 rfl (lv_at hl 3 rfl) ?_
          refine n_top b9e ?_
          refine x1_ast (a' := up2 (up2 a (0 + 6) 1 r13o0) (0 + 6) 6 (upd (a (0 + 6) 6) (toN dn) (nI (toN to)))) (j := 0) (by decide) hF hK hH hS 6 (n := 2) rfl rfl (by decide) rfl (f := a (0 + 6) 6) (by simp [up2]) (i := toN dn) (by omega) (by decide) dX0_ride_76 (by simp [up2]) (by intro i q hq; simp only [up2, if_neg hq]) (fun H locs hH hS => ?_)
          refine lv_aload_n hF.1 hF.2.1 dX0_ride_77 rfl (lv_at hl 0 rfl) ?_
          refine xg0_3 hF hK hH q221 dX0_ride_78 ?_
          refine xgN_q170 (j := 0) (by decide) hF hK hH dX0_ride_81 ?_
          refine lv_iload_n hF.1 hF.2.1 dX0_ride_84 rfl (lv_at hl 1 rfl) ?_
          refine n_top b7e ?_
          refine lv_dup2_11 hF.1 hF.2.1 dX0_ride_85 rfl rfl ?_
          refine x1_ald (j := 0) (by decide) hF hK hH 8 (n := 2) rfl rfl (by decide) rfl (f := a (0 + 6) 8) (by simp [up2]) (i := toN dn) (by omega) (by decide) dX0_ride_86 ?_
          refine lv_iconst (v := nI 1) hF.1 hF.2.1 dX0_ride_87 (by decide) ?_
          refine lv_iadd hF.1 hF.2.1 dX0_ride_88 ?_
          refine x1_ast (a' := up2 (up2 (up2 a (0 + 6) 1 r13o0) (0 + 6) 6 (upd (a (0 + 6) 6) (toN dn) (nI (toN to)))) (0 + 6) 8 (upd (a (0 + 6) 8) (toN dn) ((a (0 + 6) 8 (toN dn)) + (nI 1)))) (j := 0) (by decide) hF hK hH hS 8 (n := 2) rfl rfl (by decide) rfl (f := a (0 + 6) 8) (by simp [up2]) (i := toN dn) (by omega) (by decide) dX0_ride_89 (by simp [up2]) (by intro i q hq; simp only [up2, if_neg hq]) (fun H locs hH hS => ?_)
          refine lv_aload_n hF.1 hF.2.1 dX0_ride_90 rfl (lv_at hl 0 rfl) ?_
          refine xg0_3 hF hK hH q221 dX0_ride_91 ?_
          refine xgN_q158 (j := 0) (by decide) hF hK hH dX0_ride_94 ?_
          refine lv_iload_n hF.1 hF.2.1 dX0_ride_97 rfl (lv_at hl 2 rfl) ?_
          refine n_top b8e ?_
          refine lv_dup2_11 hF.1 hF.2.1 dX0_ride_98 rfl rfl ?_
          refine x1_ald (j := 0) (by decide) hF hK hH 2 (n := 3) rfl rfl (by decide) rfl (f := a (0 + 6) 2) (by simp [up2]) (i := toN pn) (by omega) (by decide) dX0_ride_99 ?_
          refine lv_iconst (v := nI 1) hF.1 hF.2.1 dX0_ride_100 (by decide) ?_
          refine lv_iadd hF.1 hF.2.1 dX0_ride_101 ?_
          refine x1_ast (a' := up2 (up2 (up2 (up2 a (0 + 6) 1 r13o0) (0 + 6) 2 (upd (a (0 + 6) 2) (toN pn) ((a (0 + 6) 2 (toN pn)) + (nI 1)))) (0 + 6) 6 (upd (a (0 + 6) 6) (toN dn) (nI (toN to)))) (0 + 6) 8 (upd (a (0 + 6) 8) (toN dn) ((a (0 + 6) 8 (toN dn)) + (nI 1)))) (j := 0) (by decide) hF hK hH hS 2 (n := 3) rfl rfl (by decide) rfl (f := a (0 + 6) 2) (by simp [up2]) (i := toN pn) (by omega) (by decide) dX0_ride_102 (by simp [up2]) (by intro i q hq; simp only [up2, if_neg hq]) (fun H locs hH hS => ?_)
          refine lv_aload_n hF.1 hF.2.1 dX0_ride_103 rfl (lv_at hl 0 rfl) ?_
          refine xg0_3 hF hK hH q221 dX0_ride_104 ?_
          refine xgN_q160 (j := 0) (by decide) hF hK hH dX0_ride_107 ?_
          refine lv_iload_n hF.1 hF.2.1 dX0_ride_110 rfl (lv_at hl 2 rfl) ?_
          refine n_top b8e ?_
          refine lv_dup2_11 hF.1 hF.2.1 dX0_ride_111 rfl rfl ?_
          refine x1_ald (j := 0) (by decide) hF hK hH 3 (n := 3) rfl rfl (by decide) rfl (f := a (0 + 6) 3) (by simp [up2]) (i := toN pn) (by omega) (by decide) dX0_ride_112 ?_
          refine lv_aload_n hF.1 hF.2.1 dX0_ride_113 rfl (lv_at hl 0 rfl) ?_
          refine xg0_3 hF hK hH q221 dX0_ride_114 ?_
          refine xgN_q179 (j := 0) (by decide) hF hK hH dX0_ride_117 (v := r11h1) (by simp [up2]) ?_
          refine n_top (y := nI ((cds t (g (0 + 6) 9) (td (toN pn)) (of (toN pn)) (a (0 + 6) 7 (toN dn)) (toN to) (toN (a (0 + 6) 6 (toN dn)))) / 1000)) ((hr11_0 hwd).2.1) ?_
          refine lv_iadd hF.1 hF.2.1 dX0_ride_120 ?_
          refine x1_ast (a' := up2 (up2 (up2 (up2 (up2 a (0 + 6) 1 r13o0) (0 + 6) 2 (upd (a (0 + 6) 2) (toN pn) ((a (0 + 6) 2 (toN pn)) + (nI 1)))) (0 + 6) 3 (upd (a (0 + 6) 3) (toN pn) ((a (0 + 6) 3 (toN pn)) + (nI ((cds t (g (0 + 6) 9) (td (toN pn)) (of (toN pn)) (a (0 + 6) 7 (toN dn)) (toN to) (toN (a (0 + 6) 6 (toN dn)))) / 1000))))) (0 + 6) 6 (upd (a (0 + 6) 6) (toN dn) (nI (toN to)))) (0 + 6) 8 (upd (a (0 + 6) 8) (toN dn) ((a (0 + 6) 8 (toN dn)) + (nI 1)))) (j := 0) (by decide) hF hK hH hS 3 (n := 3) rfl rfl (by decide) rfl (f := a (0 + 6) 3) (by simp [up2]) (i := toN pn) (by omega) (by decide) dX0_ride_121 (by simp [up2]) (by intro i q hq; simp only [up2, if_neg hq]) (fun H locs hH hS => ?_)
          refine lv_aload_n hF.1 hF.2.1 dX0_ride_122 rfl (lv_at hl 0 rfl) ?_
          refine xg0_3 hF hK hH q221 dX0_ride_123 ?_
          refine xgN_q179 (j := 0) (by decide) hF hK hH dX0_ride_126 (v := r11h1) (by simp [up2]) ?_
          refine n_top (y := nI ((cds t (g (0 + 6) 9) (td (toN pn)) (of (toN pn)) (a (0 + 6) 7 (toN dn)) (toN to) (toN (a (0 + 6) 6 (toN dn)))) / 1000)) ((hr11_0 hwd).2.1) ?_
          exact hret _ _ _ _ _ _ dX0_ride_129 ⟨_, _, _, _, _, _, _, _, _, _, by subst e_r13o0; subst e_r11; subst e_r5; subst e_r3; subst e_r1; unfold fX0_ride; first | (rw [if_neg c2, if_neg c4, if_neg c6, if_neg c12]; done) | (simp only [if_neg c2, if_neg c4, if_neg c6, if_neg c12]), rfl⟩ hH hS
        · skip
          refine lv_bipush (v := (-103)) hF.1 hF.2.1 dX0_ride_56 (by decide) ?_
          have hH : xH ω (g, up2 (up2 (up2 y (0 + 6) 12 r11h0) (0 + 6) 13 r11h1) (0 + 6) 14 r11h2, up2 (up2 (up2 (up2 (up2 a (0 + 6) 1 (a (0 + 6) 1)) (0 + 6) 2 (a (0 + 6) 2)) (0 + 6) 3 (a (0 + 6) 3)) (0 + 6) 6 (a (0 + 6) 6)) (0 + 6) 8 (a (0 + 6) 8), up2 (up2 z (0 + 6) 10 r11h3) (0 + 6) 11 r11h4, dr, pg, t) H := x_ext (fun _ _ => rfl) (fun _ _ => rfl) (by intro o k; by_cases h0 : o = (0 + 6) ∧ k = 1; (obtain ⟨rfl, rfl⟩ := h0; simp [up2]); by_cases h1 : o = (0 + 6) ∧ k = 2; (obtain ⟨rfl, rfl⟩ := h1; simp [up2]); by_cases h2 : o = (0 + 6) ∧ k = 3; (obtain ⟨rfl, rfl⟩ := h2; simp [up2]); by_cases h3 : o = (0 + 6) ∧ k = 6; (obtain ⟨rfl, rfl⟩ := h3; simp [up2]); by_cases h4 : o = (0 + 6) ∧ k = 8; (obtain ⟨rfl, rfl⟩ := h4; simp [up2]); simp only [up2, if_neg h0, if_neg h1, if_neg h2, if_neg h3, if_neg h4]) (fun _ _ => rfl) hH
          exact hret _ _ _ _ _ _ dX0_ride_58 ⟨_, _, _, _, _, _, _, _, _, _, by subst e_r11; subst e_r5; subst e_r3; subst e_r1; unfold fX0_ride; first | (rw [if_neg c2, if_neg c4, if_neg c6, if_pos c12]; done) | (simp only [if_neg c2, if_neg c4, if_neg c6, if_pos c12]), rfl⟩ hH hS
      · skip
        refine lv_bipush (v := (-101)) hF.1 hF.2.1 dX0_ride_23 (by decide) ?_
        have hH : xH ω (g, up2 (up2 (up2 y (0 + 6) 12 (y (0 + 6) 12)) (0 + 6) 13 (y (0 + 6) 13)) (0 + 6) 14 (y (0 + 6) 14), up2 (up2 (up2 (up2 (up2 a (0 + 6) 1 (a (0 + 6) 1)) (0 + 6) 2 (a (0 + 6) 2)) (0 + 6) 3 (a (0 + 6) 3)) (0 + 6) 6 (a (0 + 6) 6)) (0 + 6) 8 (a (0 + 6) 8), up2 (up2 z (0 + 6) 10 (z (0 + 6) 10)) (0 + 6) 11 (z (0 + 6) 11), dr, pg, t) H := x_ext (fun _ _ => rfl) (by intro o k; by_cases h0 : o = (0 + 6) ∧ k = 12; (obtain ⟨rfl, rfl⟩ := h0; simp [up2]); by_cases h1 : o = (0 + 6) ∧ k = 13; (obtain ⟨rfl, rfl⟩ := h1; simp [up2]); by_cases h2 : o = (0 + 6) ∧ k = 14; (obtain ⟨rfl, rfl⟩ := h2; simp [up2]); simp only [up2, if_neg h0, if_neg h1, if_neg h2]) (by intro o k; by_cases h0 : o = (0 + 6) ∧ k = 1; (obtain ⟨rfl, rfl⟩ := h0; simp [up2]); by_cases h1 : o = (0 + 6) ∧ k = 2; (obtain ⟨rfl, rfl⟩ := h1; simp [up2]); by_cases h2 : o = (0 + 6) ∧ k = 3; (obtain ⟨rfl, rfl⟩ := h2; simp [up2]); by_cases h3 : o = (0 + 6) ∧ k = 6; (obtain ⟨rfl, rfl⟩ := h3; simp [up2]); by_cases h4 : o = (0 + 6) ∧ k = 8; (obtain ⟨rfl, rfl⟩ := h4; simp [up2]); simp only [up2, if_neg h0, if_neg h1, if_neg h2, if_neg h3, if_neg h4]) (by intro o k; by_cases h0 : o = (0 + 6) ∧ k = 10; (obtain ⟨rfl, rfl⟩ := h0; simp [up2]); by_cases h1 : o = (0 + 6) ∧ k = 11; (obtain ⟨rfl, rfl⟩ := h1; simp [up2]); simp only [up2, if_neg h0, if_neg h1]) hH
        exact hret _ _ _ _ _ _ dX0_ride_25 ⟨_, _, _, _, _, _, _, _, _, _, by subst e_r5; subst e_r3; subst e_r1; unfold fX0_ride; first | (rw [if_neg c2, if_neg c4, if_pos c6]; done) | (simp only [if_neg c2, if_neg c4, if_pos c6]), rfl⟩ hH hS

def fX0_hurtsBy (g : Nat → Nat → Nat) (a : Nat → Nat → Nat → Int32) (t : TW) (td : Nat → Nat) (of : Nat → Nat → Nat) (dn : Nat) (pn : Nat) : Int32 := if (a (0 + 6) 4 pn) = (-1) then (-1) else if (fX0_isIn (fX1_reach t (a (0 + 6) 6 dn) (a (0 + 6) 7 dn)) (a (0 + 6) 4 pn)) = 0 then (-1) else if (fX1_layWayS t (g (0 + 6) 9) (td pn) (of pn) (toN (a (0 + 6) 4 pn)) (toN (a (0 + 6) 5 pn)) (a (0 + 6) 7 dn)) = 0 then (-1) else nI ((cds t (g (0 + 6) 9) (td pn) (of pn) (a (0 + 6) 7 dn) (toN (a (0 + 6) 5 pn)) (toN (a (0 + 6) 4 pn))) / 1000)
def rmX0_hurtsBy : Room := { frames := 8, cells := 0, slots := 0, locals := 190 }
theorem hdX0_hurtsBy : yX0_hurtsBy.cls = RX0 ∧ yX0_hurtsBy.cls ≠ "java/lang/invoke/MethodHandle" ∧ yX0_hurtsBy.cls ≠ "java/lang/invoke/VarHandle" ∧ (parseMethodDescriptor yX0_hurtsBy.desc).map (fun d => d.parameters.length) = some 2 := by decide +kernel
set_option maxHeartbeats 4000000 in
theorem kX0_hurtsBy (l : Launch) (ω : OM) (g : Nat → Nat → Nat) (y : Nat → Nat → Int32) (a z : Nat → Nat → Nat → Int32) (dr : Int64) (pg : Nat → Int32) (t : TW) (td : Nat → Nat) (of : Nat → Nat → Nat) (hc : xCore g a t 0 td of) (dn : Nat) (pn : Nat) (hdn : dn < 2) (hpn : pn < 3) (hsd : xSide g a) : Met l yX0_hurtsBy (ws_ yX0_hurtsBy cX0_hurtsBy 3 (some .int)) rmX0_hurtsBy (va_Pc [.ref (ω.2.1 0 99), .int (nI dn), .int (nI pn)] (fun U => xK ω U ∧ xH ω (g, y, a, z, dr, pg, t) U.heap)) (va_Qi (fun (r : Int32) (u : XS) => ∃ (q0 : Int32) (q1 : Int32) (q2 : Int32) (q3 : Nat → Int32) (q4 : Nat → Int32), r = (fX0_hurtsBy g a t td of dn pn) ∧ u = (g, up2 (up2 (up2 y (0 + 6) 12 q0) (0 + 6) 13 q1) (0 + 6) 14 q2, a, up2 (up2 z (0 + 6) 10 q3) (0 + 6) 11 q4, dr, pg, t)) (fun u t => xH ω u t.heap) ω.2.2.1) 0 0 ω.2.2.1 := by
  refine g_entWi (C := RX0) rfl (by decide) (Nat.le_of_ble_eq_true rfl) ?_
  intro p e s m args below meth c QQ ls H locs hF hK hH hS hl hret
  have hl : lv_has ls 3 [(0, .ref (ω.2.1 0 99)), (1, .int (nI dn)), (2, .int (nI pn))] := hl
  have hn9 : tn t ≤ 9 := hH.2.2.1
  have hok := hc.ok
  have hp3 := hsd.1
  have hs6 := hsd.2.1
  have hp50 := hsd.2.2.1
  refine lv_aload_n hF.1 hF.2.1 dX0_hurtsBy_0 rfl (lv_at hl 0 rfl) ?_
  refine xg0_3 hF hK hH q221 dX0_hurtsBy_1 ?_
  refine xgN_q162 (j := 0) (by decide) hF hK hH dX0_hurtsBy_4 ?_
  refine lv_iload_n hF.1 hF.2.1 dX0_hurtsBy_7 rfl (lv_at hl 2 rfl) ?_
  refine x1_ald (j := 0) (by decide) hF hK hH 4 (n := 3) rfl rfl (by decide) rfl (f := a (0 + 6) 4) rfl (i := pn) (by omega) (by decide) dX0_hurtsBy_8 ?_
  refine lv_iconst (v := (-1)) hF.1 hF.2.1 dX0_hurtsBy_9 (by decide) ?_
  refine lv_icmp_eq (tgt := 53) hF.1 hF.2.1 dX0_hurtsBy_10 (by decide) (fun c1 => ?_) (fun c1 => ?_)
  · skip
    refine lv_iconst (v := (-1)) hF.1 hF.2.1 dX0_hurtsBy_53 (by decide) ?_
    have hH : xH ω (g, up2 (up2 (up2 y (0 + 6) 12 (y (0 + 6) 12)) (0 + 6) 13 (y (0 + 6) 13)) (0 + 6) 14 (y (0 + 6) 14), a, up2 (up2 z (0 + 6) 10 (z (0 + 6) 10)) (0 + 6) 11 (z (0 + 6) 11), dr, pg, t) H := x_ext (fun _ _ => rfl) (by intro o k; by_cases h0 : o = (0 + 6) ∧ k = 12; (obtain ⟨rfl, rfl⟩ := h0; simp [up2]); by_cases h1 : o = (0 + 6) ∧ k = 13; (obtain ⟨rfl, rfl⟩ := h1; simp [up2]); by_cases h2 : o = (0 + 6) ∧ k = 14; (obtain ⟨rfl, rfl⟩ := h2; simp [up2]); simp only [up2, if_neg h0, if_neg h1, if_neg h2]) (fun _ _ => rfl) (by intro o k; by_cases h0 : o = (0 + 6) ∧ k = 10; (obtain ⟨rfl, rfl⟩ := h0; simp [up2]); by_cases h1 : o = (0 + 6) ∧ k = 11; (obtain ⟨rfl, rfl⟩ := h1; simp [up2]); simp only [up2, if_neg h0, if_neg h1]) hH
    exact hret _ _ _ _ _ _ dX0_hurtsBy_54 ⟨_, _, _, _, _, by unfold fX0_hurtsBy; first | (rw [if_pos c1]; done) | (simp only [if_pos c1]), rfl⟩ hH hS
  · skip
    refine lv_aload_n hF.1 hF.2.1 dX0_hurtsBy_13 rfl (lv_at hl 0 rfl) ?_
    refine xg0_3 hF hK hH q221 dX0_hurtsBy_14 ?_
    refine lv_aload_n hF.1 hF.2.1 dX0_hurtsBy_17 rfl (lv_at hl 0 rfl) ?_
    refine xg0_3 hF hK hH q221 dX0_hurtsBy_18 ?_
    refine xgN_q166 (j := 0) (by decide) hF hK hH dX0_hurtsBy_21 ?_
    refine lv_iload_n hF.1 hF.2.1 dX0_hurtsBy_24 rfl (lv_at hl 1 rfl) ?_
    refine x1_ald (j := 0) (by decide) hF hK hH 6 (n := 2) rfl rfl (by decide) rfl (f := a (0 + 6) 6) rfl (i := dn) (by omega) (by decide) dX0_hurtsBy_25 ?_
    refine lv_aload_n hF.1 hF.2.1 dX0_hurtsBy_26 rfl (lv_at hl 0 rfl) ?_
    refine xg0_3 hF hK hH q221 dX0_hurtsBy_27 ?_
    refine xgN_q168 (j := 0) (by decide) hF hK hH dX0_hurtsBy_30 ?_
    refine lv_iload_n hF.1 hF.2.1 dX0_hurtsBy_33 rfl (lv_at hl 1 rfl) ?_
    refine x1_ald (j := 0) (by decide) hF hK hH 7 (n := 2) rfl rfl (by decide) rfl (f := a (0 + 6) 7) rfl (i := dn) (by omega) (by decide) dX0_hurtsBy_34 ?_
    refine g_vPi (As := [.int (a (0 + 6) 6 dn), .int (a (0 + 6) 7 dn)]) (rest := []) hF (kX1_reach l ω g y a z dr pg t 0 (by decide) (a (0 + 6) 6 dn) (a (0 + 6) 7 dn)) (lw_V q809 q810 q811 q96 q812) 2 hdX1_reach rfl rfl ⟨Nat.le_of_ble_eq_true rfl, Nat.le_of_ble_eq_true rfl⟩ (x_preV1 (by decide) hK hH) rfl hl.1 rfl (Nat.le_of_ble_eq_true rfl) dX0_hurtsBy_35 ⟨Nat.zero_le _, Nat.zero_le _⟩ (fun r2 e_r2 => ?_)
    refine lv_aload_n hF.1 hF.2.1 dX0_hurtsBy_38 rfl (lv_at hl 0 rfl) ?_
    refine xg0_3 hF hK hH q221 dX0_hurtsBy_39 ?_
    refine xgN_q162 (j := 0) (by decide) hF hK hH dX0_hurtsBy_42 ?_
    refine lv_iload_n hF.1 hF.2.1 dX0_hurtsBy_45 rfl (lv_at hl 2 rfl) ?_
    refine x1_ald (j := 0) (by decide) hF hK hH 4 (n := 3) rfl rfl (by decide) rfl (f := a (0 + 6) 4) rfl (i := pn) (by omega) (by decide) dX0_hurtsBy_46 ?_
    refine g_sPi (As := [.int r2, .int (a (0 + 6) 4 pn)]) (rest := []) hF (kX0_isIn l r2 (a (0 + 6) 4 pn)) (lw_S q718 q626 q92 q627) 2 hdX0_isIn.2 rfl rfl ⟨Nat.le_of_ble_eq_true rfl, Nat.le_of_ble_eq_true rfl⟩ g_pre0 rfl hl.1 rfl (Nat.le_of_ble_eq_true rfl) dX0_hurtsBy_47 ⟨Nat.zero_le _, Nat.zero_le _⟩ (fun r3 e_r3 => ?_)
    refine lv_if_ne (tgt := 55) hF.1 hF.2.1 dX0_hurtsBy_50 (by decide) (fun c4 => ?_) (fun c4 => ?_)
    · skip
      refine lv_aload_n hF.1 hF.2.1 dX0_hurtsBy_55 rfl (lv_at hl 0 rfl) ?_
      refine xg0_3 hF hK hH q221 dX0_hurtsBy_56 ?_
      refine lv_iload_n hF.1 hF.2.1 dX0_hurtsBy_59 rfl (lv_at hl 2 rfl) ?_
      refine lv_aload_n hF.1 hF.2.1 dX0_hurtsBy_60 rfl (lv_at hl 0 rfl) ?_
      refine xg0_3 hF hK hH q221 dX0_hurtsBy_61 ?_
      refine xgN_q162 (j := 0) (by decide) hF hK hH dX0_hurtsBy_64 ?_
      refine lv_iload_n hF.1 hF.2.1 dX0_hurtsBy_67 rfl (lv_at hl 2 rfl) ?_
      refine x1_ald (j := 0) (by decide) hF hK hH 4 (n := 3) rfl rfl (by decide) rfl (f := a (0 + 6) 4) rfl (i := pn) (by omega) (by decide) dX0_hurtsBy_68 ?_
      obtain ⟨b5e, b5l⟩ := g_lift (r := a (0 + 6) 4 pn) (n := 8) ((hsd.2.2.2.2.1 pn (by omega) c1).1) (by omega)
      refine n_top b5e ?_
      refine lv_aload_n hF.1 hF.2.1 dX0_hurtsBy_69 rfl (lv_at hl 0 rfl) ?_
      refine xg0_3 hF hK hH q221 dX0_hurtsBy_70 ?_
      refine xgN_q164 (j := 0) (by decide) hF hK hH dX0_hurtsBy_73 ?_
      refine lv_iload_n hF.1 hF.2.1 dX0_hurtsBy_76 rfl (lv_at hl 2 rfl) ?_
      refine x1_ald (j := 0) (by decide) hF hK hH 5 (n := 3) rfl rfl (by decide) rfl (f := a (0 + 6) 5) rfl (i := pn) (by omega) (by decide) dX0_hurtsBy_77 ?_
      obtain ⟨b6e, b6l⟩ := g_lift (r := a (0 + 6) 5 pn) (n := 8) ((hsd.2.2.2.2.1 pn (by omega) c1).2) (by omega)
      refine n_top b6e ?_
      refine lv_aload_n hF.1 hF.2.1 dX0_hurtsBy_78 rfl (lv_at hl 0 rfl) ?_
      refine xg0_3 hF hK hH q221 dX0_hurtsBy_79 ?_
      refine xgN_q168 (j := 0) (by decide) hF hK hH dX0_hurtsBy_82 ?_
      refine lv_iload_n hF.1 hF.2.1 dX0_hurtsBy_85 rfl (lv_at hl 1 rfl) ?_
      refine x1_ald (j := 0) (by decide) hF hK hH 7 (n := 2) rfl rfl (by decide) rfl (f := a (0 + 6) 7) rfl (i := dn) (by omega) (by decide) dX0_hurtsBy_86 ?_
      refine g_vWi (As := [.int (nI pn), .int (nI (toN (a (0 + 6) 4 pn))), .int (nI (toN (a (0 + 6) 5 pn))), .int (a (0 + 6) 7 dn)]) (rest := []) hF (kX1_layWayS l ω g y a z dr pg t 0 (by decide) pn (toN (a (0 + 6) 4 pn)) (toN (a (0 + 6) 5 pn)) (a (0 + 6) 7 dn) (td pn) (of pn) (hc.P (pn := pn) (by omega)) (by omega) (by omega)) (lw_V q613 q614 q615 q96 q616) 4 hdX1_layWayS rfl rfl ⟨Nat.le_of_ble_eq_true rfl, Nat.le_of_ble_eq_true rfl⟩ (x_preV1 (by decide) hK hH) rfl hl.1 rfl (Nat.le_of_ble_eq_true rfl) dX0_hurtsBy_87 ⟨Nat.le_of_ble_eq_true rfl, Nat.le_of_ble_eq_true rfl⟩ hS (fun r7 ur7 H locs hqr7 hH hS => ?_)
      obtain ⟨r7h0, r7h1, r7h2, r7h3, r7h4, hr7, hr7_0, rfl⟩ := hqr7
      have e_r7 := hr7
      have hfarr7 := cds_far (dy := (g (0 + 6) 9)) hok (hc.P (pn := pn) (by omega)).td9 (hc.P (pn := pn) (by omega)).of5 (a (0 + 6) 7 dn) (show toN (a (0 + 6) 5 pn) < 8 by omega) (fr := toN (a (0 + 6) 4 pn))
      refine lv_if_eq (tgt := 103) hF.1 hF.2.1 dX0_hurtsBy_90 (by decide) (fun c8 => ?_) (fun c8 => ?_)
      · skip
        refine lv_iconst (v := (-1)) hF.1 hF.2.1 dX0_hurtsBy_103 (by decide) ?_
        exact hret _ _ _ _ _ _ dX0_hurtsBy_104 ⟨_, _, _, _, _, by subst e_r7; subst e_r3; subst e_r2; unfold fX0_hurtsBy; first | (rw [if_neg c1, if_neg c4, if_pos c8]; done) | (simp only [if_neg c1, if_neg c4, if_pos c8]), rfl⟩ hH hS
      · skip
        have hwd := fX1_layWayS_lift (by rw [← e_r7]; exact c8)
        have hwl := cwl_lt (dy := (g (0 + 6) 9)) hok (hc.P (pn := pn) (by omega)).td9 (hc.P (pn := pn) (by omega)).of5 (a (0 + 6) 7 dn) (show toN (a (0 + 6) 5 pn) < 8 by omega) (show toN (a (0 + 6) 4 pn) < 8 by omega) hwd
        refine lv_aload_n hF.1 hF.2.1 dX0_hurtsBy_93 rfl (lv_at hl 0 rfl) ?_
        refine xg0_3 hF hK hH q221 dX0_hurtsBy_94 ?_
        refine xgN_q179 (j := 0) (by decide) hF hK hH dX0_hurtsBy_97 (v := r7h1) (by simp [up2]) ?_
        refine n_top (y := nI ((cds t (g (0 + 6) 9) (td pn) (of pn) (a (0 + 6) 7 dn) (toN (a (0 + 6) 5 pn)) (toN (a (0 + 6) 4 pn))) / 1000)) ((hr7_0 hwd).2.1) ?_
        refine lv_goto (tgt := 104) hF.1 hF.2.1 dX0_hurtsBy_100 (by decide) ?_
        exact hret _ _ _ _ _ _ dX0_hurtsBy_104 ⟨_, _, _, _, _, by subst e_r7; subst e_r3; subst e_r2; unfold fX0_hurtsBy; first | (rw [if_neg c1, if_neg c4, if_neg c8]; done) | (simp only [if_neg c1, if_neg c4, if_neg c8]), rfl⟩ hH hS
    · skip
      refine lv_iconst (v := (-1)) hF.1 hF.2.1 dX0_hurtsBy_53 (by decide) ?_
      have hH : xH ω (g, up2 (up2 (up2 y (0 + 6) 12 (y (0 + 6) 12)) (0 + 6) 13 (y (0 + 6) 13)) (0 + 6) 14 (y (0 + 6) 14), a, up2 (up2 z (0 + 6) 10 (z (0 + 6) 10)) (0 + 6) 11 (z (0 + 6) 11), dr, pg, t) H := x_ext (fun _ _ => rfl) (by intro o k; by_cases h0 : o = (0 + 6) ∧ k = 12; (obtain ⟨rfl, rfl⟩ := h0; simp [up2]); by_cases h1 : o = (0 + 6) ∧ k = 13; (obtain ⟨rfl, rfl⟩ := h1; simp [up2]); by_cases h2 : o = (0 + 6) ∧ k = 14; (obtain ⟨rfl, rfl⟩ := h2; simp [up2]); simp only [up2, if_neg h0, if_neg h1, if_neg h2]) (fun _ _ => rfl) (by intro o k; by_cases h0 : o = (0 + 6) ∧ k = 10; (obtain ⟨rfl, rfl⟩ := h0; simp [up2]); by_cases h1 : o = (0 + 6) ∧ k = 11; (obtain ⟨rfl, rfl⟩ := h1; simp [up2]); simp only [up2, if_neg h0, if_neg h1]) hH
      exact hret _ _ _ _ _ _ dX0_hurtsBy_54 ⟨_, _, _, _, _, by subst e_r3; subst e_r2; unfold fX0_hurtsBy; first | (rw [if_neg c1, if_pos c4]; done) | (simp only [if_neg c1, if_pos c4]), rfl⟩ hH hS

def fX0_layMatch_b23 (g : Nat → Nat → Nat) (a : Nat → Nat → Nat → Int32) (t : TW) (td : Nat → Nat) (of : Nat → Nat → Nat) (i13 : Nat) (i23 : Nat) (S : Int32 × Int32 × (Nat → Int32)) : Int32 × Int32 × (Nat → Int32) := if (if (if (nI i13 - 1) = (-1) then nI 0 else (fX0_hurtsBy g a t td of 0 (i13 - 1))) = (-1) then nI 0 else if (if (nI i23 - 1) = (-1) then nI 0 else (fX0_hurtsBy g a t td of 1 (i23 - 1))) = (-1) then nI 0 else if (nI i13 - 1) = (-1) then nI 1 else if (nI i13 - 1) = (nI i23 - 1) then nI 0 else nI 1) = 0 then (S.1, S.2.1, S.2.2) else if S.2.1 < ((if (nI i13 - 1) = (-1) then nI 0 else nI 1) + (if (nI i23 - 1) = (-1) then nI 0 else nI 1)) then ((if (nI i13 - 1) = (-1) then nI 0 else (fX0_hurtsBy g a t td of 0 (i13 - 1))) + (if (nI i23 - 1) = (-1) then nI 0 else (fX0_hurtsBy g a t td of 1 (i23 - 1))), (if (nI i13 - 1) = (-1) then nI 0 else nI 1) + (if (nI i23 - 1) = (-1) then nI 0 else nI 1), upd (upd S.2.2 0 (nI i13 - 1)) 1 (nI i23 - 1)) else if ((if (nI i13 - 1) = (-1) then nI 0 else nI 1) + (if (nI i23 - 1) = (-1) then nI 0 else nI 1)) = S.2.1 then if S.1 ≤ ((if (nI i13 - 1) = (-1) then nI 0 else (fX0_hurtsBy g a t td of 0 (i13 - 1))) + (if (nI i23 - 1) = (-1) then nI 0 else (fX0_hurtsBy g a t td of 1 (i23 - 1)))) then (S.1, S.2.1, S.2.2) else ((if (nI i13 - 1) = (-1) then nI 0 else (fX0_hurtsBy g a t td of 0 (i13 - 1))) + (if (nI i23 - 1) = (-1) then nI 0 else (fX0_hurtsBy g a t td of 1 (i23 - 1))), (if (nI i13 - 1) = (-1) then nI 0 else nI 1) + (if (nI i23 - 1) = (-1) then nI 0 else nI 1), upd (upd S.2.2 0 (nI i13 - 1)) 1 (nI i23 - 1)) else (S.1, S.2.1, S.2.2)
def fX0_layMatch_b13 (g : Nat → Nat → Nat) (a : Nat → Nat → Nat → Int32) (t : TW) (td : Nat → Nat) (of : Nat → Nat → Nat) (i13 : Nat) (S : Int32 × Int32 × (Nat → Int32)) : Int32 × Int32 × (Nat → Int32) := (((it (fX0_layMatch_b23 g a t td of i13) (g 0 1 + 1) (S.2.1, S.1, S.2.2)).2.1), ((it (fX0_layMatch_b23 g a t td of i13) (g 0 1 + 1) (S.2.1, S.1, S.2.2)).1), ((it (fX0_layMatch_b23 g a t td of i13) (g 0 1 + 1) (S.2.1, S.1, S.2.2)).2.2))
def fX0_layMatch (g : Nat → Nat → Nat) (a : Nat → Nat → Nat → Int32) (t : TW) (td : Nat → Nat) (of : Nat → Nat → Nat) (z_0_11 : Nat → Int32) : Int32 × Int32 × (Nat → Int32) := (((it (fX0_layMatch_b13 g a t td of) (g 0 1 + 1) ((-1), nI 268435456, z_0_11)).2.1), ((it (fX0_layMatch_b13 g a t td of) (g 0 1 + 1) ((-1), nI 268435456, z_0_11)).1), ((it (fX0_layMatch_b13 g a t td of) (g 0 1 + 1) ((-1), nI 268435456, z_0_11)).2.2))
def rmX0_layMatch : Room := { frames := 9, cells := 0, slots := 0, locals := 212 }
theorem hdX0_layMatch : yX0_layMatch.cls = RX0 ∧ yX0_layMatch.cls ≠ "java/lang/invoke/MethodHandle" ∧ yX0_layMatch.cls ≠ "java/lang/invoke/VarHandle" ∧ (parseMethodDescriptor yX0_layMatch.desc).map (fun d => d.parameters.length) = some 0 := by decide +kernel
set_option maxHeartbeats 4000000 in
theorem kX0_layMatch (l : Launch) (ω : OM) (g : Nat → Nat → Nat) (y : Nat → Nat → Int32) (a z : Nat → Nat → Nat → Int32) (dr : Int64) (pg : Nat → Int32) (t : TW) (td : Nat → Nat) (of : Nat → Nat → Nat) (hc : xCore g a t 0 td of) (hsd : xSide g a) : Met l yX0_layMatch (ws_ yX0_layMatch cX0_layMatch 7 none) rmX0_layMatch (va_Pc [.ref (ω.2.1 0 99)] (fun U => xK ω U ∧ xH ω (g, y, a, z, dr, pg, t) U.heap)) (va_Qv (fun (u : XS) => ∃ (o0 : Int32) (o1 : Int32) (o2 : Nat → Int32) (q0 : Int32) (q1 : Int32) (q2 : Int32) (q3 : Nat → Int32) (q4 : Nat → Int32), (o0, o1, o2) = (fX0_layMatch g a t td of (z 0 11)) ∧ u = (g, up2 (up2 (up2 (up2 (up2 y 0 9 o1) 0 10 o0) (0 + 6) 12 q0) (0 + 6) 13 q1) (0 + 6) 14 q2, a, up2 (up2 (up2 z 0 11 o2) (0 + 6) 10 q3) (0 + 6) 11 q4, dr, pg, t)) (fun u t => xH ω u t.heap) ω.2.2.1) 0 0 ω.2.2.1 := by
  refine g_entWv (C := RX0) rfl (by decide) (Nat.le_of_ble_eq_true rfl) ?_
  intro p e s m args below meth c QQ ls H locs hF hK hH hS hl hret
  have hl : lv_has ls 7 [(0, .ref (ω.2.1 0 99))] := hl
  have hn9 : tn t ≤ 9 := hH.2.2.1
  have hok := hc.ok
  have hp3 := hsd.1
  have hs6 := hsd.2.1
  have hp50 := hsd.2.2.1
  refine lv_aload_n hF.1 hF.2.1 dX0_layMatch_0 rfl (lv_at hl 0 rfl) ?_
  refine lv_iconst (v := (-1)) hF.1 hF.2.1 dX0_layMatch_1 (by decide) ?_
  refine xp0_9 hF hK hH hS q229 dX0_layMatch_2 (y' := up2 y 0 9 (-1)) (by simp [up2]) (by intro i q hq; simp only [up2, if_neg hq]) (fun H locs hH hS => ?_)
  refine lv_aload_n hF.1 hF.2.1 dX0_layMatch_5 rfl (lv_at hl 0 rfl) ?_
  refine lv_ldc (v := nI 268435456) hF.1 hF.2.1 hF.2.2.2.1 (hF.2.2.2.2 _ q783) dX0_layMatch_6 ?_
  refine xp0_10 hF hK hH hS q230 dX0_layMatch_8 (y' := up2 (up2 y 0 9 (-1)) 0 10 (nI 268435456)) (by simp [up2]) (by intro i q hq; simp only [up2, if_neg hq]) (fun H locs hH hS => ?_)
  refine lv_iconst (v := (-1)) hF.1 hF.2.1 dX0_layMatch_11 (by decide) ?_
  refine lv_istore_n (lv' := [(1, .int (-1)), (0, .ref (ω.2.1 0 99))]) hF.1 hF.2.1 dX0_layMatch_12 rfl hl (by decide) rfl (fun ls hl => ?_)
  have lp13_107 : ∀ (d13 i13 : Nat) (w13_y0_9 : Int32) (w13_y0_10 : Int32) (w13_z0_11 : Nat → Int32) (h13_y_0_6_12 : Int32) (h13_y_0_6_13 : Int32) (h13_y_0_6_14 : Int32) (h13_z_0_6_10 : Nat → Int32) (h13_z_0_6_11 : Nat → Int32) (H : Heap) (locs : List Loc) (ls : Array Slot), i13 + d13 = g 0 1 + 1 → (w13_y0_9, w13_y0_10, w13_z0_11) = it (fX0_layMatch_b13 g a t td of) i13 ((-1), nI 268435456, z 0 11) → xH ω (g, up2 (up2 (up2 (up2 (up2 y 0 9 w13_y0_9) 0 10 w13_y0_10) (0 + 6) 12 h13_y_0_6_12) (0 + 6) 13 h13_y_0_6_13) (0 + 6) 14 h13_y_0_6_14, a, up2 (up2 (up2 z 0 11 w13_z0_11) (0 + 6) 10 h13_z_0_6_10) (0 + 6) 11 h13_z_0_6_11, dr, pg, t) H → va_S ω.2.2.1 s.heap H locs → lv_has ls 7 [(1, .int (nI i13 - 1)), (0, .ref (ω.2.1 0 99))] → W p l e rmX0_layMatch s m args below meth c H locs 0 0 QQ (F0 m 13 ls []) := by
    intro d13
    induction d13 with
    | zero =>
      intro i13 w13_y0_9 w13_y0_10 w13_z0_11 h13_y_0_6_12 h13_y_0_6_13 h13_y_0_6_14 h13_z_0_6_10 h13_z_0_6_11 H locs ls hi13 hS13 hH hS hl
      have hj13 : g 0 1 + 1 = i13 := by omega
      subst hj13
      have e_w13_y0_9 : w13_y0_9 = (it (fX0_layMatch_b13 g a t td of) (g 0 1 + 1) ((-1), nI 268435456, z 0 11)).1 := by rw [← hS13]
      have e_w13_y0_10 : w13_y0_10 = (it (fX0_layMatch_b13 g a t td of) (g 0 1 + 1) ((-1), nI 268435456, z 0 11)).2.1 := by rw [← hS13]
      have e_w13_z0_11 : w13_z0_11 = (it (fX0_layMatch_b13 g a t td of) (g 0 1 + 1) ((-1), nI 268435456, z 0 11)).2.2 := by rw [← hS13]
      refine lv_iload_n hF.1 hF.2.1 dX0_layMatch_13 rfl (lv_at hl 0 rfl) ?_
      refine lv_aload_n hF.1 hF.2.1 dX0_layMatch_14 rfl (lv_at hl 1 rfl) ?_
      refine xg0_1 hF hK hH q219 dX0_layMatch_15 (v := g 0 1) rfl ?_
      refine lv_icmp_ge (tgt := 189) hF.1 hF.2.1 dX0_layMatch_18 (by decide) (fun c1 => ?_) (fun c1 => ?_)
      · skip
        exact hret _ _ _ _ _ dX0_layMatch_189 ⟨_, _, _, _, _, _, _, _, by subst e_w13_z0_11; subst e_w13_y0_10; subst e_w13_y0_9; rfl, rfl⟩ hH hS
      · exact absurd (up_end (by omega)) c1
    | succ d13 ih =>
      intro i13 w13_y0_9 w13_y0_10 w13_z0_11 h13_y_0_6_12 h13_y_0_6_13 h13_y_0_6_14 h13_z_0_6_10 h13_z_0_6_11 H locs ls hi13 hS13 hH hS hl
      refine lv_iload_n hF.1 hF.2.1 dX0_layMatch_13 rfl (lv_at hl 0 rfl) ?_
      refine lv_aload_n hF.1 hF.2.1 dX0_layMatch_14 rfl (lv_at hl 1 rfl) ?_
      refine xg0_1 hF hK hH q219 dX0_layMatch_15 (v := g 0 1) rfl ?_
      refine lv_icmp_ge (tgt := 189) hF.1 hF.2.1 dX0_layMatch_18 (by decide) (fun c2 => ?_) (fun c2 => ?_)
      · exact absurd c2 (up_not (by omega) (by omega))
      · skip
        refine lv_iconst (v := (-1)) hF.1 hF.2.1 dX0_layMatch_21 (by decide) ?_
        refine lv_istore_n (lv' := [(2, .int (-1)), (1, .int (nI i13 - 1)), (0, .ref (ω.2.1 0 99))]) hF.1 hF.2.1 dX0_layMatch_22 rfl hl (by decide) rfl (fun ls hl => ?_)
        have lp23_109 : ∀ (d23 i23 : Nat) (w23_y0_10 : Int32) (w23_y0_9 : Int32) (w23_z0_11 : Nat → Int32) (h23_y_0_6_12 : Int32) (h23_y_0_6_13 : Int32) (h23_y_0_6_14 : Int32) (h23_z_0_6_10 : Nat → Int32) (h23_z_0_6_11 : Nat → Int32) (H : Heap) (locs : List Loc) (ls : Array Slot), i23 + d23 = g 0 1 + 1 → (w23_y0_10, w23_y0_9, w23_z0_11) = it (fX0_layMatch_b23 g a t td of i13) i23 (w13_y0_10, w13_y0_9, w13_z0_11) → xH ω (g, up2 (up2 (up2 (up2 (up2 y 0 9 w23_y0_9) 0 10 w23_y0_10) (0 + 6) 12 h23_y_0_6_12) (0 + 6) 13 h23_y_0_6_13) (0 + 6) 14 h23_y_0_6_14, a, up2 (up2 (up2 z 0 11 w23_z0_11) (0 + 6) 10 h23_z_0_6_10) (0 + 6) 11 h23_z_0_6_11, dr, pg, t) H → va_S ω.2.2.1 s.heap H locs → lv_has ls 7 [(2, .int (nI i23 - 1)), (1, .int (nI i13 - 1)), (0, .ref (ω.2.1 0 99))] → W p l e rmX0_layMatch s m args below meth c H locs 0 0 QQ (F0 m 23 ls []) := by
          intro d23
          induction d23 with
          | zero =>
            intro i23 w23_y0_10 w23_y0_9 w23_z0_11 h23_y_0_6_12 h23_y_0_6_13 h23_y_0_6_14 h23_z_0_6_10 h23_z_0_6_11 H locs ls hi23 hS23 hH hS hl
            have hj23 : g 0 1 + 1 = i23 := by omega
            subst hj23
            have e_w23_y0_10 : w23_y0_10 = (it (fX0_layMatch_b23 g a t td of i13) (g 0 1 + 1) (w13_y0_10, w13_y0_9, w13_z0_11)).1 := by rw [← hS23]
            have e_w23_y0_9 : w23_y0_9 = (it (fX0_layMatch_b23 g a t td of i13) (g 0 1 + 1) (w13_y0_10, w13_y0_9, w13_z0_11)).2.1 := by rw [← hS23]
            have e_w23_z0_11 : w23_z0_11 = (it (fX0_layMatch_b23 g a t td of i13) (g 0 1 + 1) (w13_y0_10, w13_y0_9, w13_z0_11)).2.2 := by rw [← hS23]
            refine lv_iload_n hF.1 hF.2.1 dX0_layMatch_23 rfl (lv_at hl 0 rfl) ?_
            refine lv_aload_n hF.1 hF.2.1 dX0_layMatch_24 rfl (lv_at hl 2 rfl) ?_
            refine xg0_1 hF hK hH q219 dX0_layMatch_25 (v := g 0 1) rfl ?_
            refine lv_icmp_ge (tgt := 183) hF.1 hF.2.1 dX0_layMatch_28 (by decide) (fun c3 => ?_) (fun c3 => ?_)
            · skip
              refine lv_iinc (v := nI (i13 + 1) - 1) (lv' := [(1, .int (nI (i13 + 1) - 1)), (2, .int (nI (g 0 1 + 1) - 1)), (0, .ref (ω.2.1 0 99))]) hF.1 hF.2.1 dX0_layMatch_183 hl (k := 1) rfl (up_step _) (by decide) rfl (fun ls hl => ?_)
              refine lv_goto (tgt := 13) hF.1 hF.2.1 dX0_layMatch_186 (by decide) ?_
              exact ih (i13 + 1) _ _ _ _ _ _ _ _ _ _ _ (by omega) (by subst e_w23_z0_11; subst e_w23_y0_9; subst e_w23_y0_10; rw [it_succ (fX0_layMatch_b13 g a t td of) i13 _, ← hS13]; try rfl) hH hS (lv_sub hl [0, 2] rfl)
            · exact absurd (up_end (by omega)) c3
          | succ d23 ih =>
            intro i23 w23_y0_10 w23_y0_9 w23_z0_11 h23_y_0_6_12 h23_y_0_6_13 h23_y_0_6_14 h23_z_0_6_10 h23_z_0_6_11 H locs ls hi23 hS23 hH hS hl
            refine lv_iload_n hF.1 hF.2.1 dX0_layMatch_23 rfl (lv_at hl 0 rfl) ?_
            refine lv_aload_n hF.1 hF.2.1 dX0_layMatch_24 rfl (lv_at hl 2 rfl) ?_
            refine xg0_1 hF hK hH q219 dX0_layMatch_25 (v := g 0 1) rfl ?_
            refine lv_icmp_ge (tgt := 183) hF.1 hF.2.1 dX0_layMatch_28 (by decide) (fun c4 => ?_) (fun c4 => ?_)
            · exact absurd c4 (up_not (by omega) (by omega))
            · skip
              refine lv_iload_n hF.1 hF.2.1 dX0_layMatch_31 rfl (lv_at hl 1 rfl) ?_
              refine lv_iconst (v := (-1)) hF.1 hF.2.1 dX0_layMatch_32 (by decide) ?_
              have k46_14 : ∀ (v8 : Int32) (u9 : Int32) (u10 : Int32) (u11 : Int32) (u12 : Nat → Int32) (u13 : Nat → Int32) (H : Heap) (locs : List Loc) (ls : Array Slot), v8 = (if (nI i13 - 1) = (-1) then nI 0 else (fX0_hurtsBy g a t td of 0 (i13 - 1))) → xH ω (g, up2 (up2 (up2 (up2 (up2 y 0 9 w23_y0_9) 0 10 w23_y0_10) (0 + 6) 12 u9) (0 + 6) 13 u10) (0 + 6) 14 u11, a, up2 (up2 (up2 z 0 11 w23_z0_11) (0 + 6) 10 u12) (0 + 6) 11 u13, dr, pg, t) H → va_S ω.2.2.1 s.heap H locs → lv_has ls 7 [(2, .int (nI i23 - 1)), (1, .int (nI i13 - 1)), (0, .ref (ω.2.1 0 99))] → W p l e rmX0_layMatch s m args below meth c H locs 0 0 QQ (F0 m 46 ls [.int v8]) := by
                intro v8 u9 u10 u11 u12 u13 H locs ls e_v8 hH hS hl
                refine lv_istore_n (lv' := [(3, .int v8), (2, .int (nI i23 - 1)), (1, .int (nI i13 - 1)), (0, .ref (ω.2.1 0 99))]) hF.1 hF.2.1 dX0_layMatch_46 rfl hl (by decide) rfl (fun ls hl => ?_)
                refine lv_iload_n hF.1 hF.2.1 dX0_layMatch_47 rfl (lv_at hl 1 rfl) ?_
                refine lv_iconst (v := (-1)) hF.1 hF.2.1 dX0_layMatch_48 (by decide) ?_
                have k62_24 : ∀ (v18 : Int32) (u19 : Int32) (u20 : Int32) (u21 : Int32) (u22 : Nat → Int32) (u23 : Nat → Int32) (H : Heap) (locs : List Loc) (ls : Array Slot), v18 = (if (nI i23 - 1) = (-1) then nI 0 else (fX0_hurtsBy g a t td of 1 (i23 - 1))) → xH ω (g, up2 (up2 (up2 (up2 (up2 y 0 9 w23_y0_9) 0 10 w23_y0_10) (0 + 6) 12 u19) (0 + 6) 13 u20) (0 + 6) 14 u21, a, up2 (up2 (up2 z 0 11 w23_z0_11) (0 + 6) 10 u22) (0 + 6) 11 u23, dr, pg, t) H → va_S ω.2.2.1 s.heap H locs → lv_has ls 7 [(3, .int v8), (2, .int (nI i23 - 1)), (1, .int (nI i13 - 1)), (0, .ref (ω.2.1 0 99))] → W p l e rmX0_layMatch s m args below meth c H locs 0 0 QQ (F0 m 62 ls [.int v18]) := by
                  intro v18 u19 u20 u21 u22 u23 H locs ls e_v18 hH hS hl
                  refine lv_istore (lv' := [(4, .int v18), (3, .int v8), (2, .int (nI i23 - 1)), (1, .int (nI i13 - 1)), (0, .ref (ω.2.1 0 99))]) hF.1 hF.2.1 dX0_layMatch_62 hl (by decide) rfl (fun ls hl => ?_)
                  refine lv_iload_n hF.1 hF.2.1 dX0_layMatch_64 rfl (lv_at hl 1 rfl) ?_
                  refine lv_iconst (v := (-1)) hF.1 hF.2.1 dX0_layMatch_65 (by decide) ?_
                  have k90_30 : ∀ (v29 : Int32) (ls : Array Slot), v29 = (if v8 = (-1) then nI 0 else if v18 = (-1) then nI 0 else if (nI i13 - 1) = (-1) then nI 1 else if (nI i13 - 1) = (nI i23 - 1) then nI 0 else nI 1) → lv_has ls 7 [(4, .int v18), (3, .int v8), (2, .int (nI i23 - 1)), (1, .int (nI i13 - 1)), (0, .ref (ω.2.1 0 99))] → W p l e rmX0_layMatch s m args below meth c H locs 0 0 QQ (F0 m 90 ls [.int v29]) := by
                    intro v29 ls e_v29 hl
                    refine lv_istore (lv' := [(5, .int v29), (4, .int v18), (3, .int v8), (2, .int (nI i23 - 1)), (1, .int (nI i13 - 1)), (0, .ref (ω.2.1 0 99))]) hF.1 hF.2.1 dX0_layMatch_90 hl (by decide) rfl (fun ls hl => ?_)
                    refine lv_iload_n hF.1 hF.2.1 dX0_layMatch_92 rfl (lv_at hl 4 rfl) ?_
                    refine lv_iconst (v := (-1)) hF.1 hF.2.1 dX0_layMatch_93 (by decide) ?_
                    have k102_33 : ∀ (v32 : Int32) (ls : Array Slot), v32 = (if (nI i13 - 1) = (-1) then nI 0 else nI 1) → lv_has ls 7 [(5, .int v29), (4, .int v18), (3, .int v8), (2, .int (nI i23 - 1)), (1, .int (nI i13 - 1)), (0, .ref (ω.2.1 0 99))] → W p l e rmX0_layMatch s m args below meth c H locs 0 0 QQ (F0 m 102 ls [.int v32]) := by
                      intro v32 ls e_v32 hl
                      refine lv_iload_n hF.1 hF.2.1 dX0_layMatch_102 rfl (lv_at hl 3 rfl) ?_
                      refine lv_iconst (v := (-1)) hF.1 hF.2.1 dX0_layMatch_103 (by decide) ?_
                      have k112_36 : ∀ (v35 : Int32) (ls : Array Slot), v35 = (if (nI i23 - 1) = (-1) then nI 0 else nI 1) → lv_has ls 7 [(5, .int v29), (4, .int v18), (3, .int v8), (2, .int (nI i23 - 1)), (1, .int (nI i13 - 1)), (0, .ref (ω.2.1 0 99))] → W p l e rmX0_layMatch s m args below meth c H locs 0 0 QQ (F0 m 112 ls [.int v35, .int v32]) := by
                        intro v35 ls e_v35 hl
                        refine lv_iadd hF.1 hF.2.1 dX0_layMatch_112 ?_
                        refine lv_istore (lv' := [(6, .int (v32 + v35)), (5, .int v29), (4, .int v18), (3, .int v8), (2, .int (nI i23 - 1)), (1, .int (nI i13 - 1)), (0, .ref (ω.2.1 0 99))]) hF.1 hF.2.1 dX0_layMatch_113 hl (by decide) rfl (fun ls hl => ?_)
                        refine lv_iload hF.1 hF.2.1 dX0_layMatch_115 (lv_at hl 1 rfl) ?_
                        refine lv_if_eq (tgt := 177) hF.1 hF.2.1 dX0_layMatch_117 (by decide) (fun c37 => ?_) (fun c37 => ?_)
                        · skip
                          refine lv_iinc (v := nI (i23 + 1) - 1) (lv' := [(2, .int (nI (i23 + 1) - 1)), (6, .int (v32 + v35)), (5, .int v29), (4, .int v18), (3, .int v8), (1, .int (nI i13 - 1)), (0, .ref (ω.2.1 0 99))]) hF.1 hF.2.1 dX0_layMatch_177 hl (k := 4) rfl (up_step _) (by decide) rfl (fun ls hl => ?_)
                          refine lv_goto (tgt := 23) hF.1 hF.2.1 dX0_layMatch_180 (by decide) ?_
                          exact ih (i23 + 1) _ _ _ _ _ _ _ _ _ _ _ (by omega) (by subst e_v35; subst e_v32; subst e_v29; subst e_v18; subst e_v8; rw [it_succ (fX0_layMatch_b23 g a t td of i13) i23 _, ← hS23]; unfold fX0_layMatch_b23; dsimp only; first | (rw [if_pos c37]; done) | (simp only [if_pos c37])) hH hS (lv_sub hl [0, 5, 6] rfl)
                        · skip
                          refine lv_iload hF.1 hF.2.1 dX0_layMatch_120 (lv_at hl 0 rfl) ?_
                          refine lv_aload_n hF.1 hF.2.1 dX0_layMatch_122 rfl (lv_at hl 6 rfl) ?_
                          refine xg0_9 hF hK hH q229 dX0_layMatch_123 (v := w23_y0_9) (by simp [up2]) ?_
                          refine lv_icmp_gt (tgt := 149) hF.1 hF.2.1 dX0_layMatch_126 (by decide) (fun c38 => ?_) (fun c38 => ?_)
                          · skip
                            refine lv_aload_n hF.1 hF.2.1 dX0_layMatch_149 rfl (lv_at hl 6 rfl) ?_
                            refine lv_iload hF.1 hF.2.1 dX0_layMatch_150 (lv_at hl 0 rfl) ?_
                            refine xp0_9 hF hK hH hS q229 dX0_layMatch_152 (y' := up2 (up2 (up2 (up2 (up2 y 0 9 (v32 + v35)) 0 10 w23_y0_10) (0 + 6) 12 u19) (0 + 6) 13 u20) (0 + 6) 14 u21) (by simp [up2]) (by intro i q hq; simp only [up2, if_neg hq]) (fun H locs hH hS => ?_)
                            refine lv_aload_n hF.1 hF.2.1 dX0_layMatch_155 rfl (lv_at hl 6 rfl) ?_
                            refine lv_iload_n hF.1 hF.2.1 dX0_layMatch_156 rfl (lv_at hl 3 rfl) ?_
                            refine lv_iload hF.1 hF.2.1 dX0_layMatch_157 (lv_at hl 2 rfl) ?_
                            refine lv_iadd hF.1 hF.2.1 dX0_layMatch_159 ?_
                            refine xp0_10 hF hK hH hS q230 dX0_layMatch_160 (y' := up2 (up2 (up2 (up2 (up2 y 0 9 (v32 + v35)) 0 10 (v8 + v18)) (0 + 6) 12 u19) (0 + 6) 13 u20) (0 + 6) 14 u21) (by simp [up2]) (by intro i q hq; simp only [up2, if_neg hq]) (fun H locs hH hS => ?_)
                            refine lv_aload_n hF.1 hF.2.1 dX0_layMatch_163 rfl (lv_at hl 6 rfl) ?_
                            refine xg0_11 hF hK hH q231 dX0_layMatch_164 ?_
                            refine lv_iconst (v := nI 0) hF.1 hF.2.1 dX0_layMatch_167 (by decide) ?_
                            refine lv_iload_n hF.1 hF.2.1 dX0_layMatch_168 rfl (lv_at hl 5 rfl) ?_
                            refine x0_zst (z' := up2 (up2 (up2 z 0 11 (upd w23_z0_11 0 (nI i13 - 1))) (0 + 6) 10 u22) (0 + 6) 11 u23) hF hK hH hS 11 (n := 2) rfl rfl (by decide) (by decide) rfl (f := w23_z0_11) (by simp [up2]) (i := 0) (by omega) (by decide) dX0_layMatch_169 (by simp [up2]) (by intro i q hq; simp only [up2, if_neg hq]) (fun H locs hH hS => ?_)
                            refine lv_aload_n hF.1 hF.2.1 dX0_layMatch_170 rfl (lv_at hl 6 rfl) ?_
                            refine xg0_11 hF hK hH q231 dX0_layMatch_171 ?_
                            refine lv_iconst (v := nI 1) hF.1 hF.2.1 dX0_layMatch_174 (by decide) ?_
                            refine lv_iload_n hF.1 hF.2.1 dX0_layMatch_175 rfl (lv_at hl 4 rfl) ?_
                            refine x0_zst (z' := up2 (up2 (up2 z 0 11 (upd (upd w23_z0_11 0 (nI i13 - 1)) 1 (nI i23 - 1))) (0 + 6) 10 u22) (0 + 6) 11 u23) hF hK hH hS 11 (n := 2) rfl rfl (by decide) (by decide) rfl (f := upd w23_z0_11 0 (nI i13 - 1)) (by simp [up2]) (i := 1) (by omega) (by decide) dX0_layMatch_176 (by simp [up2]) (by intro i q hq; simp only [up2, if_neg hq]) (fun H locs hH hS => ?_)
                            refine lv_iinc (v := nI (i23 + 1) - 1) (lv' := [(2, .int (nI (i23 + 1) - 1)), (6, .int (v32 + v35)), (5, .int v29), (4, .int v18), (3, .int v8), (1, .int (nI i13 - 1)), (0, .ref (ω.2.1 0 99))]) hF.1 hF.2.1 dX0_layMatch_177 hl (k := 4) rfl (up_step _) (by decide) rfl (fun ls hl => ?_)
                            refine lv_goto (tgt := 23) hF.1 hF.2.1 dX0_layMatch_180 (by decide) ?_
                            exact ih (i23 + 1) _ _ _ _ _ _ _ _ _ _ _ (by omega) (by subst e_v35; subst e_v32; subst e_v29; subst e_v18; subst e_v8; rw [it_succ (fX0_layMatch_b23 g a t td of i13) i23 _, ← hS23]; unfold fX0_layMatch_b23; dsimp only; first | (rw [if_neg c37, if_pos c38]; done) | (simp only [if_neg c37, if_pos c38])) hH hS (lv_sub hl [0, 5, 6] rfl)
                          · skip
                            refine lv_iload hF.1 hF.2.1 dX0_layMatch_129 (lv_at hl 0 rfl) ?_
                            refine lv_aload_n hF.1 hF.2.1 dX0_layMatch_131 rfl (lv_at hl 6 rfl) ?_
                            refine xg0_9 hF hK hH q229 dX0_layMatch_132 (v := w23_y0_9) (by simp [up2]) ?_
                            refine lv_icmp_ne (tgt := 177) hF.1 hF.2.1 dX0_layMatch_135 (by decide) (fun c39 => ?_) (fun c39 => ?_)
                            · skip
                              refine lv_iinc (v := nI (i23 + 1) - 1) (lv' := [(2, .int (nI (i23 + 1) - 1)), (6, .int (v32 + v35)), (5, .int v29), (4, .int v18), (3, .int v8), (1, .int (nI i13 - 1)), (0, .ref (ω.2.1 0 99))]) hF.1 hF.2.1 dX0_layMatch_177 hl (k := 4) rfl (up_step _) (by decide) rfl (fun ls hl => ?_)
                              refine lv_goto (tgt := 23) hF.1 hF.2.1 dX0_layMatch_180 (by decide) ?_
                              exact ih (i23 + 1) _ _ _ _ _ _ _ _ _ _ _ (by omega) (by subst e_v35; subst e_v32; subst e_v29; subst e_v18; subst e_v8; rw [it_succ (fX0_layMatch_b23 g a t td of i13) i23 _, ← hS23]; unfold fX0_layMatch_b23; dsimp only; first | (rw [if_neg c37, if_neg c38, if_neg c39]; done) | (simp only [if_neg c37, if_neg c38, if_neg c39])) hH hS (lv_sub hl [0, 5, 6] rfl)
                            · skip
                              refine lv_iload_n hF.1 hF.2.1 dX0_layMatch_138 rfl (lv_at hl 3 rfl) ?_
                              refine lv_iload hF.1 hF.2.1 dX0_layMatch_139 (lv_at hl 2 rfl) ?_
                              refine lv_iadd hF.1 hF.2.1 dX0_layMatch_141 ?_
                              refine lv_aload_n hF.1 hF.2.1 dX0_layMatch_142 rfl (lv_at hl 6 rfl) ?_
                              refine xg0_10 hF hK hH q230 dX0_layMatch_143 (v := w23_y0_10) (by simp [up2]) ?_
                              refine lv_icmp_ge (tgt := 177) hF.1 hF.2.1 dX0_layMatch_146 (by decide) (fun c40 => ?_) (fun c40 => ?_)
                              · skip
                                refine lv_iinc (v := nI (i23 + 1) - 1) (lv' := [(2, .int (nI (i23 + 1) - 1)), (6, .int (v32 + v35)), (5, .int v29), (4, .int v18), (3, .int v8), (1, .int (nI i13 - 1)), (0, .ref (ω.2.1 0 99))]) hF.1 hF.2.1 dX0_layMatch_177 hl (k := 4) rfl (up_step _) (by decide) rfl (fun ls hl => ?_)
                                refine lv_goto (tgt := 23) hF.1 hF.2.1 dX0_layMatch_180 (by decide) ?_
                                exact ih (i23 + 1) _ _ _ _ _ _ _ _ _ _ _ (by omega) (by subst e_v35; subst e_v32; subst e_v29; subst e_v18; subst e_v8; rw [it_succ (fX0_layMatch_b23 g a t td of i13) i23 _, ← hS23]; unfold fX0_layMatch_b23; dsimp only; first | (rw [if_neg c37, if_neg c38, if_pos c39, if_pos c40]; done) | (simp only [if_neg c37, if_neg c38, if_pos c39, if_pos c40])) hH hS (lv_sub hl [0, 5, 6] rfl)
                              · skip
                                refine lv_aload_n hF.1 hF.2.1 dX0_layMatch_149 rfl (lv_at hl 6 rfl) ?_
                                refine lv_iload hF.1 hF.2.1 dX0_layMatch_150 (lv_at hl 0 rfl) ?_
                                refine xp0_9 hF hK hH hS q229 dX0_layMatch_152 (y' := up2 (up2 (up2 (up2 (up2 y 0 9 (v32 + v35)) 0 10 w23_y0_10) (0 + 6) 12 u19) (0 + 6) 13 u20) (0 + 6) 14 u21) (by simp [up2]) (by intro i q hq; simp only [up2, if_neg hq]) (fun H locs hH hS => ?_)
                                refine lv_aload_n hF.1 hF.2.1 dX0_layMatch_155 rfl (lv_at hl 6 rfl) ?_
                                refine lv_iload_n hF.1 hF.2.1 dX0_layMatch_156 rfl (lv_at hl 3 rfl) ?_
                                refine lv_iload hF.1 hF.2.1 dX0_layMatch_157 (lv_at hl 2 rfl) ?_
                                refine lv_iadd hF.1 hF.2.1 dX0_layMatch_159 ?_
                                refine xp0_10 hF hK hH hS q230 dX0_layMatch_160 (y' := up2 (up2 (up2 (up2 (up2 y 0 9 (v32 + v35)) 0 10 (v8 + v18)) (0 + 6) 12 u19) (0 + 6) 13 u20) (0 + 6) 14 u21) (by simp [up2]) (by intro i q hq; simp only [up2, if_neg hq]) (fun H locs hH hS => ?_)
                                refine lv_aload_n hF.1 hF.2.1 dX0_layMatch_163 rfl (lv_at hl 6 rfl) ?_
                                refine xg0_11 hF hK hH q231 dX0_layMatch_164 ?_
                                refine lv_iconst (v := nI 0) hF.1 hF.2.1 dX0_layMatch_167 (by decide) ?_
                                refine lv_iload_n hF.1 hF.2.1 dX0_layMatch_168 rfl (lv_at hl 5 rfl) ?_
                                refine x0_zst (z' := up2 (up2 (up2 z 0 11 (upd w23_z0_11 0 (nI i13 - 1))) (0 + 6) 10 u22) (0 + 6) 11 u23) hF hK hH hS 11 (n := 2) rfl rfl (by decide) (by decide) rfl (f := w23_z0_11) (by simp [up2]) (i := 0) (by omega) (by decide) dX0_layMatch_169 (by simp [up2]) (by intro i q hq; simp only [up2, if_neg hq]) (fun H locs hH hS => ?_)
                                refine lv_aload_n hF.1 hF.2.1 dX0_layMatch_170 rfl (lv_at hl 6 rfl) ?_
                                refine xg0_11 hF hK hH q231 dX0_layMatch_171 ?_
                                refine lv_iconst (v := nI 1) hF.1 hF.2.1 dX0_layMatch_174 (by decide) ?_
                                refine lv_iload_n hF.1 hF.2.1 dX0_layMatch_175 rfl (lv_at hl 4 rfl) ?_
                                refine x0_zst (z' := up2 (up2 (up2 z 0 11 (upd (upd w23_z0_11 0 (nI i13 - 1)) 1 (nI i23 - 1))) (0 + 6) 10 u22) (0 + 6) 11 u23) hF hK hH hS 11 (n := 2) rfl rfl (by decide) (by decide) rfl (f := upd w23_z0_11 0 (nI i13 - 1)) (by simp [up2]) (i := 1) (by omega) (by decide) dX0_layMatch_176 (by simp [up2]) (by intro i q hq; simp only [up2, if_neg hq]) (fun H locs hH hS => ?_)
                                refine lv_iinc (v := nI (i23 + 1) - 1) (lv' := [(2, .int (nI (i23 + 1) - 1)), (6, .int (v32 + v35)), (5, .int v29), (4, .int v18), (3, .int v8), (1, .int (nI i13 - 1)), (0, .ref (ω.2.1 0 99))]) hF.1 hF.2.1 dX0_layMatch_177 hl (k := 4) rfl (up_step _) (by decide) rfl (fun ls hl => ?_)
                                refine lv_goto (tgt := 23) hF.1 hF.2.1 dX0_layMatch_180 (by decide) ?_
                                exact ih (i23 + 1) _ _ _ _ _ _ _ _ _ _ _ (by omega) (by subst e_v35; subst e_v32; subst e_v29; subst e_v18; subst e_v8; rw [it_succ (fX0_layMatch_b23 g a t td of i13) i23 _, ← hS23]; unfold fX0_layMatch_b23; dsimp only; first | (rw [if_neg c37, if_neg c38, if_pos c39, if_neg c40]; done) | (simp only [if_neg c37, if_neg c38, if_pos c39, if_neg c40])) hH hS (lv_sub hl [0, 5, 6] rfl)
                      refine lv_icmp_ne (tgt := 111) hF.1 hF.2.1 dX0_layMatch_104 (by decide) (fun c34 => ?_) (fun c34 => ?_)
                      · skip
                        refine lv_iconst (v := nI 1) hF.1 hF.2.1 dX0_layMatch_111 (by decide) ?_
                        exact k112_36 _ _ (by first | (rw [if_neg c34]; done) | (simp only [if_neg c34])) (lv_sub hl [0, 1, 2, 3, 4, 5] rfl)
                      · skip
                        refine lv_iconst (v := nI 0) hF.1 hF.2.1 dX0_layMatch_107 (by decide) ?_
                        refine lv_goto (tgt := 112) hF.1 hF.2.1 dX0_layMatch_108 (by decide) ?_
                        exact k112_36 _ _ (by first | (rw [if_pos c34]; done) | (simp only [if_pos c34])) (lv_sub hl [0, 1, 2, 3, 4, 5] rfl)
                    refine lv_icmp_ne (tgt := 101) hF.1 hF.2.1 dX0_layMatch_94 (by decide) (fun c31 => ?_) (fun c31 => ?_)
                    · skip
                      refine lv_iconst (v := nI 1) hF.1 hF.2.1 dX0_layMatch_101 (by decide) ?_
                      exact k102_33 _ _ (by first | (rw [if_neg c31]; done) | (simp only [if_neg c31])) (lv_sub hl [0, 1, 2, 3, 4, 5] rfl)
                    · skip
                      refine lv_iconst (v := nI 0) hF.1 hF.2.1 dX0_layMatch_97 (by decide) ?_
                      refine lv_goto (tgt := 102) hF.1 hF.2.1 dX0_layMatch_98 (by decide) ?_
                      exact k102_33 _ _ (by first | (rw [if_pos c31]; done) | (simp only [if_pos c31])) (lv_sub hl [0, 1, 2, 3, 4, 5] rfl)
                  refine lv_icmp_eq (tgt := 89) hF.1 hF.2.1 dX0_layMatch_66 (by decide) (fun c25 => ?_) (fun c25 => ?_)
                  · skip
                    refine lv_iconst (v := nI 0) hF.1 hF.2.1 dX0_layMatch_89 (by decide) ?_
                    exact k90_30 _ _ (by first | (rw [if_pos c25]; done) | (simp only [if_pos c25])) (lv_sub hl [0, 1, 2, 3, 4] rfl)
                  · skip
                    refine lv_iload hF.1 hF.2.1 dX0_layMatch_69 (lv_at hl 0 rfl) ?_
                    refine lv_iconst (v := (-1)) hF.1 hF.2.1 dX0_layMatch_71 (by decide) ?_
                    refine lv_icmp_eq (tgt := 89) hF.1 hF.2.1 dX0_layMatch_72 (by decide) (fun c26 => ?_) (fun c26 => ?_)
                    · skip
                      refine lv_iconst (v := nI 0) hF.1 hF.2.1 dX0_layMatch_89 (by decide) ?_
                      exact k90_30 _ _ (by first | (rw [if_neg c25, if_pos c26]; done) | (simp only [if_neg c25, if_pos c26])) (lv_sub hl [0, 1, 2, 3, 4] rfl)
                    · skip
                      refine lv_iload_n hF.1 hF.2.1 dX0_layMatch_75 rfl (lv_at hl 3 rfl) ?_
                      refine lv_iconst (v := (-1)) hF.1 hF.2.1 dX0_layMatch_76 (by decide) ?_
                      refine lv_icmp_eq (tgt := 85) hF.1 hF.2.1 dX0_layMatch_77 (by decide) (fun c27 => ?_) (fun c27 => ?_)
                      · skip
                        refine lv_iconst (v := nI 1) hF.1 hF.2.1 dX0_layMatch_85 (by decide) ?_
                        refine lv_goto (tgt := 90) hF.1 hF.2.1 dX0_layMatch_86 (by decide) ?_
                        exact k90_30 _ _ (by first | (rw [if_neg c25, if_neg c26, if_pos c27]; done) | (simp only [if_neg c25, if_neg c26, if_pos c27])) (lv_sub hl [0, 1, 2, 3, 4] rfl)
                      · skip
                        refine lv_iload_n hF.1 hF.2.1 dX0_layMatch_80 rfl (lv_at hl 3 rfl) ?_
                        refine lv_iload_n hF.1 hF.2.1 dX0_layMatch_81 rfl (lv_at hl 2 rfl) ?_
                        refine lv_icmp_eq (tgt := 89) hF.1 hF.2.1 dX0_layMatch_82 (by decide) (fun c28 => ?_) (fun c28 => ?_)
                        · skip
                          refine lv_iconst (v := nI 0) hF.1 hF.2.1 dX0_layMatch_89 (by decide) ?_
                          exact k90_30 _ _ (by first | (rw [if_neg c25, if_neg c26, if_neg c27, if_pos c28]; done) | (simp only [if_neg c25, if_neg c26, if_neg c27, if_pos c28])) (lv_sub hl [0, 1, 2, 3, 4] rfl)
                        · skip
                          refine lv_iconst (v := nI 1) hF.1 hF.2.1 dX0_layMatch_85 (by decide) ?_
                          refine lv_goto (tgt := 90) hF.1 hF.2.1 dX0_layMatch_86 (by decide) ?_
                          exact k90_30 _ _ (by first | (rw [if_neg c25, if_neg c26, if_neg c27, if_neg c28]; done) | (simp only [if_neg c25, if_neg c26, if_neg c27, if_neg c28])) (lv_sub hl [0, 1, 2, 3, 4] rfl)
                refine lv_icmp_ne (tgt := 56) hF.1 hF.2.1 dX0_layMatch_49 (by decide) (fun c15 => ?_) (fun c15 => ?_)
                · skip
                  have hu56 := up_lift (i := i23) (by omega) c15
                  have b16 : nI i23 - 1 = nI (i23 - 1) := hu56.2
                  refine lv_aload_n hF.1 hF.2.1 dX0_layMatch_56 rfl (lv_at hl 3 rfl) ?_
                  refine lv_iconst (v := nI 1) hF.1 hF.2.1 dX0_layMatch_57 (by decide) ?_
                  refine lv_iload_n hF.1 hF.2.1 dX0_layMatch_58 rfl (lv_at hl 1 rfl) ?_
                  refine n_top b16 ?_
                  refine g_vWi (As := [.int (nI 1), .int (nI (i23 - 1))]) (rest := []) hF (kX0_hurtsBy l ω g (up2 (up2 (up2 (up2 (up2 y 0 9 w23_y0_9) 0 10 w23_y0_10) (0 + 6) 12 u9) (0 + 6) 13 u10) (0 + 6) 14 u11) a (up2 (up2 (up2 z 0 11 w23_z0_11) (0 + 6) 10 u12) (0 + 6) 11 u13) dr pg t td of hc 1 (i23 - 1) (by omega) (by omega) hsd) (lw_V q875 q877 qs36 q92 q878) 2 hdX0_hurtsBy rfl rfl ⟨Nat.le_of_ble_eq_true rfl, Nat.le_of_ble_eq_true rfl⟩ (x_preV0 hK hH) rfl hl.1 rfl (Nat.le_of_ble_eq_true rfl) dX0_layMatch_59 ⟨Nat.le_of_ble_eq_true rfl, Nat.le_of_ble_eq_true rfl⟩ hS (fun r17 ur17 H locs hqr17 hH hS => ?_)
                  obtain ⟨r17h0, r17h1, r17h2, r17h3, r17h4, hr17, rfl⟩ := hqr17
                  have e_r17 := hr17
                  have hH : xH ω (g, up2 (up2 (up2 (up2 (up2 y 0 9 w23_y0_9) 0 10 w23_y0_10) (0 + 6) 12 r17h0) (0 + 6) 13 r17h1) (0 + 6) 14 r17h2, a, up2 (up2 (up2 z 0 11 w23_z0_11) (0 + 6) 10 r17h3) (0 + 6) 11 r17h4, dr, pg, t) H := x_ext (fun _ _ => rfl) (by intro o k; by_cases h0 : o = (0 + 6) ∧ k = 12; (obtain ⟨rfl, rfl⟩ := h0; simp [up2]); by_cases h1 : o = (0 + 6) ∧ k = 13; (obtain ⟨rfl, rfl⟩ := h1; simp [up2]); by_cases h2 : o = (0 + 6) ∧ k = 14; (obtain ⟨rfl, rfl⟩ := h2; simp [up2]); simp only [up2, if_neg h0, if_neg h1, if_neg h2]) (fun _ _ => rfl) (by intro o k; by_cases h0 : o = (0 + 6) ∧ k = 10; (obtain ⟨rfl, rfl⟩ := h0; simp [up2]); by_cases h1 : o = (0 + 6) ∧ k = 11; (obtain ⟨rfl, rfl⟩ := h1; simp [up2]); simp only [up2, if_neg h0, if_neg h1]) hH
                  exact k62_24 _ _ _ _ _ _ _ _ _ (by subst e_r17; first | (rw [if_neg c15]; done) | (simp only [if_neg c15])) hH hS (lv_sub hl [0, 1, 2, 3] rfl)
                · skip
                  refine lv_iconst (v := nI 0) hF.1 hF.2.1 dX0_layMatch_52 (by decide) ?_
                  refine lv_goto (tgt := 62) hF.1 hF.2.1 dX0_layMatch_53 (by decide) ?_
                  exact k62_24 _ _ _ _ _ _ _ _ _ (by first | (rw [if_pos c15]; done) | (simp only [if_pos c15])) hH hS (lv_sub hl [0, 1, 2, 3] rfl)
              refine lv_icmp_ne (tgt := 40) hF.1 hF.2.1 dX0_layMatch_33 (by decide) (fun c5 => ?_) (fun c5 => ?_)
              · skip
                have hu40 := up_lift (i := i13) (by omega) c5
                have b6 : nI i13 - 1 = nI (i13 - 1) := hu40.2
                refine lv_aload_n hF.1 hF.2.1 dX0_layMatch_40 rfl (lv_at hl 2 rfl) ?_
                refine lv_iconst (v := nI 0) hF.1 hF.2.1 dX0_layMatch_41 (by decide) ?_
                refine lv_iload_n hF.1 hF.2.1 dX0_layMatch_42 rfl (lv_at hl 1 rfl) ?_
                refine n_top b6 ?_
                refine g_vWi (As := [.int (nI 0), .int (nI (i13 - 1))]) (rest := []) hF (kX0_hurtsBy l ω g (up2 (up2 (up2 (up2 (up2 y 0 9 w23_y0_9) 0 10 w23_y0_10) (0 + 6) 12 h23_y_0_6_12) (0 + 6) 13 h23_y_0_6_13) (0 + 6) 14 h23_y_0_6_14) a (up2 (up2 (up2 z 0 11 w23_z0_11) (0 + 6) 10 h23_z_0_6_10) (0 + 6) 11 h23_z_0_6_11) dr pg t td of hc 0 (i13 - 1) (by omega) (by omega) hsd) (lw_V q875 q877 qs36 q92 q878) 2 hdX0_hurtsBy rfl rfl ⟨Nat.le_of_ble_eq_true rfl, Nat.le_of_ble_eq_true rfl⟩ (x_preV0 hK hH) rfl hl.1 rfl (Nat.le_of_ble_eq_true rfl) dX0_layMatch_43 ⟨Nat.le_of_ble_eq_true rfl, Nat.le_of_ble_eq_true rfl⟩ hS (fun r7 ur7 H locs hqr7 hH hS => ?_)
                obtain ⟨r7h0, r7h1, r7h2, r7h3, r7h4, hr7, rfl⟩ := hqr7
                have e_r7 := hr7
                have hH : xH ω (g, up2 (up2 (up2 (up2 (up2 y 0 9 w23_y0_9) 0 10 w23_y0_10) (0 + 6) 12 r7h0) (0 + 6) 13 r7h1) (0 + 6) 14 r7h2, a, up2 (up2 (up2 z 0 11 w23_z0_11) (0 + 6) 10 r7h3) (0 + 6) 11 r7h4, dr, pg, t) H := x_ext (fun _ _ => rfl) (by intro o k; by_cases h0 : o = (0 + 6) ∧ k = 12; (obtain ⟨rfl, rfl⟩ := h0; simp [up2]); by_cases h1 : o = (0 + 6) ∧ k = 13; (obtain ⟨rfl, rfl⟩ := h1; simp [up2]); by_cases h2 : o = (0 + 6) ∧ k = 14; (obtain ⟨rfl, rfl⟩ := h2; simp [up2]); simp only [up2, if_neg h0, if_neg h1, if_neg h2]) (fun _ _ => rfl) (by intro o k; by_cases h0 : o = (0 + 6) ∧ k = 10; (obtain ⟨rfl, rfl⟩ := h0; simp [up2]); by_cases h1 : o = (0 + 6) ∧ k = 11; (obtain ⟨rfl, rfl⟩ := h1; simp [up2]); simp only [up2, if_neg h0, if_neg h1]) hH
                exact k46_14 _ _ _ _ _ _ _ _ _ (by subst e_r7; first | (rw [if_neg c5]; done) | (simp only [if_neg c5])) hH hS (lv_sub hl [0, 1, 2] rfl)
              · skip
                refine lv_iconst (v := nI 0) hF.1 hF.2.1 dX0_layMatch_36 (by decide) ?_
                refine lv_goto (tgt := 46) hF.1 hF.2.1 dX0_layMatch_37 (by decide) ?_
                exact k46_14 _ _ _ _ _ _ _ _ _ (by first | (rw [if_pos c5]; done) | (simp only [if_pos c5])) hH hS (lv_sub hl [0, 1, 2] rfl)
        exact lp23_109 (g 0 1 + 1) 0 _ _ _ _ _ _ _ _ _ _ _ (by omega) rfl hH hS (lv_sub hl [0, 1, 2] rfl)
  have hH : xH ω (g, up2 (up2 (up2 (up2 (up2 y 0 9 (-1)) 0 10 (nI 268435456)) (0 + 6) 12 (y (0 + 6) 12)) (0 + 6) 13 (y (0 + 6) 13)) (0 + 6) 14 (y (0 + 6) 14), a, up2 (up2 (up2 z 0 11 (z 0 11)) (0 + 6) 10 (z (0 + 6) 10)) (0 + 6) 11 (z (0 + 6) 11), dr, pg, t) H := x_ext (fun _ _ => rfl) (by intro o k; by_cases h0 : o = (0 + 6) ∧ k = 12; (obtain ⟨rfl, rfl⟩ := h0; simp [up2]); by_cases h1 : o = (0 + 6) ∧ k = 13; (obtain ⟨rfl, rfl⟩ := h1; simp [up2]); by_cases h2 : o = (0 + 6) ∧ k = 14; (obtain ⟨rfl, rfl⟩ := h2; simp [up2]); simp only [up2, if_neg h0, if_neg h1, if_neg h2]) (fun _ _ => rfl) (by intro o k; by_cases h0 : o = (0 + 6) ∧ k = 10; (obtain ⟨rfl, rfl⟩ := h0; simp [up2]); by_cases h1 : o = (0 + 6) ∧ k = 11; (obtain ⟨rfl, rfl⟩ := h1; simp [up2]); by_cases h2 : o = 0 ∧ k = 11; (obtain ⟨rfl, rfl⟩ := h2; simp [up2]); simp only [up2, if_neg h0, if_neg h1, if_neg h2]) hH
  exact lp13_107 (g 0 1 + 1) 0 _ _ _ _ _ _ _ _ _ _ _ (by omega) rfl hH hS (lv_sub hl [0, 1] rfl)

def fX0_match (g : Nat → Nat → Nat) (a : Nat → Nat → Nat → Int32) (t : TW) (td : Nat → Nat) (of : Nat → Nat → Nat) (wh : Int32) (z_0_11 : Nat → Int32) (y_0_10 : Int32) (y_0_9 : Int32) : Int32 × Int32 × Int32 × (Nat → Int32) := if (fX0_in wh (nI 0) (nI 1)) = 0 then if (fX0_in wh (nI 10) (nI 11)) = 0 then ((-102), y_0_10, y_0_9, z_0_11) else if (fX0_isTown g) = 0 then ((-103), y_0_10, y_0_9, z_0_11) else ((fX0_matchToldS ((fX0_layMatch g a t td of (z_0_11)).2.1) ((fX0_layMatch g a t td of (z_0_11)).1) ((fX0_layMatch g a t td of (z_0_11)).2.2) wh), ((fX0_layMatch g a t td of (z_0_11)).1), ((fX0_layMatch g a t td of (z_0_11)).2.1), ((fX0_layMatch g a t td of (z_0_11)).2.2)) else if (fX0_isTown g) = 0 then ((-103), y_0_10, y_0_9, z_0_11) else ((fX0_matchToldS ((fX0_layMatch g a t td of (z_0_11)).2.1) ((fX0_layMatch g a t td of (z_0_11)).1) ((fX0_layMatch g a t td of (z_0_11)).2.2) wh), ((fX0_layMatch g a t td of (z_0_11)).1), ((fX0_layMatch g a t td of (z_0_11)).2.1), ((fX0_layMatch g a t td of (z_0_11)).2.2))
def rmX0_match : Room := { frames := 10, cells := 0, slots := 0, locals := 238 }
theorem hdX0_match : yX0_match.cls = RX0 ∧ yX0_match.cls ≠ "java/lang/invoke/MethodHandle" ∧ yX0_match.cls ≠ "java/lang/invoke/VarHandle" ∧ (parseMethodDescriptor yX0_match.desc).map (fun d => d.parameters.length) = some 1 := by decide +kernel
set_option maxHeartbeats 4000000 in
theorem kX0_match (l : Launch) (ω : OM) (g : Nat → Nat → Nat) (y : Nat → Nat → Int32) (a z : Nat → Nat → Nat → Int32) (dr : Int64) (pg : Nat → Int32) (t : TW) (td : Nat → Nat) (of : Nat → Nat → Nat) (hc : xCore g a t 0 td of) (wh : Int32) (hsd : xSide g a) : Met l yX0_match (ws_ yX0_match cX0_match 2 (some .int)) rmX0_match (va_Pc [.ref (ω.2.1 0 99), .int wh] (fun U => xK ω U ∧ xH ω (g, y, a, z, dr, pg, t) U.heap)) (va_Qi (fun (r : Int32) (u : XS) => ∃ (o0 : Int32) (o1 : Int32) (o2 : Nat → Int32) (q0 : Int32) (q1 : Int32) (q2 : Int32) (q3 : Nat → Int32) (q4 : Nat → Int32), (r, o0, o1, o2) = (fX0_match g a t td of wh (z 0 11) (y 0 10) (y 0 9)) ∧ u = (g, up2 (up2 (up2 (up2 (up2 y 0 9 o1) 0 10 o0) (0 + 6) 12 q0) (0 + 6) 13 q1) (0 + 6) 14 q2, a, up2 (up2 (up2 z 0 11 o2) (0 + 6) 10 q3) (0 + 6) 11 q4, dr, pg, t)) (fun u t => xH ω u t.heap) ω.2.2.1) 0 0 ω.2.2.1 := by
  refine g_entWi (C := RX0) rfl (by decide) (Nat.le_of_ble_eq_true rfl) ?_
  intro p e s m args below meth c QQ ls H locs hF hK hH hS hl hret
  have hl : lv_has ls 2 [(0, .ref (ω.2.1 0 99)), (1, .int wh)] := hl
  have hn9 : tn t ≤ 9 := hH.2.2.1
  have hok := hc.ok
  have hp3 := hsd.1
  have hs6 := hsd.2.1
  have hp50 := hsd.2.2.1
  refine lv_iload_n hF.1 hF.2.1 dX0_match_0 rfl (lv_at hl 1 rfl) ?_
  refine lv_iconst (v := nI 0) hF.1 hF.2.1 dX0_match_1 (by decide) ?_
  refine lv_iconst (v := nI 1) hF.1 hF.2.1 dX0_match_2 (by decide) ?_
  refine g_sPi (As := [.int wh, .int (nI 0), .int (nI 1)]) (rest := []) hF (kX0_in l wh (nI 0) (nI 1)) (lw_S q301 q302 q92 q303) 3 hdX0_in.2 rfl rfl ⟨Nat.le_of_ble_eq_true rfl, Nat.le_of_ble_eq_true rfl⟩ g_pre0 rfl hl.1 rfl (Nat.le_of_ble_eq_true rfl) dX0_match_3 ⟨Nat.zero_le _, Nat.zero_le _⟩ (fun r1 e_r1 => ?_)
  refine lv_if_ne (tgt := 23) hF.1 hF.2.1 dX0_match_6 (by decide) (fun c2 => ?_) (fun c2 => ?_)
  · skip
    refine lv_aload_n hF.1 hF.2.1 dX0_match_23 rfl (lv_at hl 0 rfl) ?_
    refine g_vPi (As := []) (rest := []) hF (kX0_isTown l ω g y a z dr pg t (by omega)) (lw_V q752 q754 qs21 q92 q755) 0 hdX0_isTown rfl rfl ⟨Nat.le_of_ble_eq_true rfl, Nat.le_of_ble_eq_true rfl⟩ (x_preV0 hK hH) rfl hl.1 rfl (Nat.le_of_ble_eq_true rfl) dX0_match_24 ⟨Nat.zero_le _, Nat.zero_le _⟩ (fun r3 e_r3 => ?_)
    refine lv_if_ne (tgt := 33) hF.1 hF.2.1 dX0_match_27 (by decide) (fun c4 => ?_) (fun c4 => ?_)
    · skip
      have hwh := x_match_in (Or.inl (by rw [← e_r1]; exact c2))
      refine lv_aload_n hF.1 hF.2.1 dX0_match_33 rfl (lv_at hl 0 rfl) ?_
      refine g_vWv (As := []) (rest := []) hF (kX0_layMatch l ω g y a z dr pg t td of hc hsd) (lw_V q871 q873 qs35 q92 q874) 0 hdX0_layMatch rfl rfl ⟨Nat.le_of_ble_eq_true rfl, Nat.le_of_ble_eq_true rfl⟩ (x_preV0 hK hH) rfl hl.1 rfl (Nat.le_of_ble_eq_true rfl) dX0_match_34 ⟨Nat.le_of_ble_eq_true rfl, Nat.le_of_ble_eq_true rfl⟩ hS (fun ur5 H locs hqr5 hH hS => ?_)
      obtain ⟨r5o0, r5o1, r5o2, r5h0, r5h1, r5h2, r5h3, r5h4, hr5, rfl⟩ := hqr5
      have e_r5o0 : r5o0 = (fX0_layMatch g a t td of (z 0 11)).1 := by rw [← hr5]
      have e_r5o1 : r5o1 = (fX0_layMatch g a t td of (z 0 11)).2.1 := by rw [← hr5]
      have e_r5o2 : r5o2 = (fX0_layMatch g a t td of (z 0 11)).2.2 := by rw [← hr5]
      refine lv_aload_n hF.1 hF.2.1 dX0_match_37 rfl (lv_at hl 0 rfl) ?_
      refine lv_iload_n hF.1 hF.2.1 dX0_match_38 rfl (lv_at hl 1 rfl) ?_
      refine g_vPi (As := [.int wh]) (rest := []) hF (kX0_matchToldS l ω g (up2 (up2 (up2 (up2 (up2 y 0 9 r5o1) 0 10 r5o0) (0 + 6) 12 r5h0) (0 + 6) 13 r5h1) (0 + 6) 14 r5h2) a (up2 (up2 (up2 z 0 11 r5o2) (0 + 6) 10 r5h3) (0 + 6) 11 r5h4) dr pg t wh hwh) (lw_V q879 q881 qs37 q92 q882) 1 hdX0_matchToldS rfl rfl ⟨Nat.le_of_ble_eq_true rfl, Nat.le_of_ble_eq_true rfl⟩ (x_preV0 hK hH) rfl hl.1 rfl (Nat.le_of_ble_eq_true rfl) dX0_match_39 ⟨Nat.zero_le _, Nat.zero_le _⟩ (fun r6 e_r6 => ?_)
      have e_r6 : r6 = fX0_matchToldS r5o1 r5o0 r5o2 wh := e_r6.trans (by simp [up2])
      exact hret _ _ _ _ _ _ dX0_match_42 ⟨_, _, _, _, _, _, _, _, by subst e_r6; subst e_r5o2; subst e_r5o1; subst e_r5o0; subst e_r3; subst e_r1; unfold fX0_match; first | (rw [if_neg c2, if_neg c4]; done) | (simp only [if_neg c2, if_neg c4]), rfl⟩ hH hS
    · skip
      refine lv_bipush (v := (-103)) hF.1 hF.2.1 dX0_match_30 (by decide) ?_
      have hH : xH ω (g, up2 (up2 (up2 (up2 (up2 y 0 9 (y 0 9)) 0 10 (y 0 10)) (0 + 6) 12 (y (0 + 6) 12)) (0 + 6) 13 (y (0 + 6) 13)) (0 + 6) 14 (y (0 + 6) 14), a, up2 (up2 (up2 z 0 11 (z 0 11)) (0 + 6) 10 (z (0 + 6) 10)) (0 + 6) 11 (z (0 + 6) 11), dr, pg, t) H := x_ext (fun _ _ => rfl) (by intro o k; by_cases h0 : o = (0 + 6) ∧ k = 12; (obtain ⟨rfl, rfl⟩ := h0; simp [up2]); by_cases h1 : o = (0 + 6) ∧ k = 13; (obtain ⟨rfl, rfl⟩ := h1; simp [up2]); by_cases h2 : o = (0 + 6) ∧ k = 14; (obtain ⟨rfl, rfl⟩ := h2; simp [up2]); by_cases h3 : o = 0 ∧ k = 10; (obtain ⟨rfl, rfl⟩ := h3; simp [up2]); by_cases h4 : o = 0 ∧ k = 9; (obtain ⟨rfl, rfl⟩ := h4; simp [up2]); simp only [up2, if_neg h0, if_neg h1, if_neg h2, if_neg h3, if_neg h4]) (fun _ _ => rfl) (by intro o k; by_cases h0 : o = (0 + 6) ∧ k = 10; (obtain ⟨rfl, rfl⟩ := h0; simp [up2]); by_cases h1 : o = (0 + 6) ∧ k = 11; (obtain ⟨rfl, rfl⟩ := h1; simp [up2]); by_cases h2 : o = 0 ∧ k = 11; (obtain ⟨rfl, rfl⟩ := h2; simp [up2]); simp only [up2, if_neg h0, if_neg h1, if_neg h2]) hH
      exact hret _ _ _ _ _ _ dX0_match_32 ⟨_, _, _, _, _, _, _, _, by subst e_r3; subst e_r1; unfold fX0_match; first | (rw [if_neg c2, if_pos c4]; done) | (simp only [if_neg c2, if_pos c4]), rfl⟩ hH hS
  · skip
    refine lv_iload_n hF.1 hF.2.1 dX0_match_9 rfl (lv_at hl 1 rfl) ?_
    refine lv_bipush (v := nI 10) hF.1 hF.2.1 dX0_match_10 (by decide) ?_
    refine lv_bipush (v := nI 11) hF.1 hF.2.1 dX0_match_12 (by decide) ?_
    refine g_sPi (As := [.int wh, .int (nI 10), .int (nI 11)]) (rest := []) hF (kX0_in l wh (nI 10) (nI 11)) (lw_S q301 q302 q92 q303) 3 hdX0_in.2 rfl rfl ⟨Nat.le_of_ble_eq_true rfl, Nat.le_of_ble_eq_true rfl⟩ g_pre0 rfl hl.1 rfl (Nat.le_of_ble_eq_true rfl) dX0_match_14 ⟨Nat.zero_le _, Nat.zero_le _⟩ (fun r7 e_r7 => ?_)
    refine lv_if_ne (tgt := 23) hF.1 hF.2.1 dX0_match_17 (by decide) (fun c8 => ?_) (fun c8 => ?_)
    · skip
      refine lv_aload_n hF.1 hF.2.1 dX0_match_23 rfl (lv_at hl 0 rfl) ?_
      refine g_vPi (As := []) (rest := []) hF (kX0_isTown l ω g y a z dr pg t (by omega)) (lw_V q752 q754 qs21 q92 q755) 0 hdX0_isTown rfl rfl ⟨Nat.le_of_ble_eq_true rfl, Nat.le_of_ble_eq_true rfl⟩ (x_preV0 hK hH) rfl hl.1 rfl (Nat.le_of_ble_eq_true rfl) dX0_match_24 ⟨Nat.zero_le _, Nat.zero_le _⟩ (fun r9 e_r9 => ?_)
      refine lv_if_ne (tgt := 33) hF.1 hF.2.1 dX0_match_27 (by decide) (fun c10 => ?_) (fun c10 => ?_)
      · skip
        have hwh := x_match_in (Or.inr (by rw [← e_r7]; exact c8))
        refine lv_aload_n hF.1 hF.2.1 dX0_match_33 rfl (lv_at hl 0 rfl) ?_
        refine g_vWv (As := []) (rest := []) hF (kX0_layMatch l ω g y a z dr pg t td of hc hsd) (lw_V q871 q873 qs35 q92 q874) 0 hdX0_layMatch rfl rfl ⟨Nat.le_of_ble_eq_true rfl, Nat.le_of_ble_eq_true rfl⟩ (x_preV0 hK hH) rfl hl.1 rfl (Nat.le_of_ble_eq_true rfl) dX0_match_34 ⟨Nat.le_of_ble_eq_true rfl, Nat.le_of_ble_eq_true rfl⟩ hS (fun ur11 H locs hqr11 hH hS => ?_)
        obtain ⟨r11o0, r11o1, r11o2, r11h0, r11h1, r11h2, r11h3, r11h4, hr11, rfl⟩ := hqr11
        have e_r11o0 : r11o0 = (fX0_layMatch g a t td of (z 0 11)).1 := by rw [← hr11]
        have e_r11o1 : r11o1 = (fX0_layMatch g a t td of (z 0 11)).2.1 := by rw [← hr11]
        have e_r11o2 : r11o2 = (fX0_layMatch g a t td of (z 0 11)).2.2 := by rw [← hr11]
        refine lv_aload_n hF.1 hF.2.1 dX0_match_37 rfl (lv_at hl 0 rfl) ?_
        refine lv_iload_n hF.1 hF.2.1 dX0_match_38 rfl (lv_at hl 1 rfl) ?_
        refine g_vPi (As := [.int wh]) (rest := []) hF (kX0_matchToldS l ω g (up2 (up2 (up2 (up2 (up2 y 0 9 r11o1) 0 10 r11o0) (0 + 6) 12 r11h0) (0 + 6) 13 r11h1) (0 + 6) 14 r11h2) a (up2 (up2 (up2 z 0 11 r11o2) (0 + 6) 10 r11h3) (0 + 6) 11 r11h4) dr pg t wh hwh) (lw_V q879 q881 qs37 q92 q882) 1 hdX0_matchToldS rfl rfl ⟨Nat.le_of_ble_eq_true rfl, Nat.le_of_ble_eq_true rfl⟩ (x_preV0 hK hH) rfl hl.1 rfl (Nat.le_of_ble_eq_true rfl) dX0_match_39 ⟨Nat.zero_le _, Nat.zero_le _⟩ (fun r12 e_r12 => ?_)
        have e_r12 : r12 = fX0_matchToldS r11o1 r11o0 r11o2 wh := e_r12.trans (by simp [up2])
        exact hret _ _ _ _ _ _ dX0_match_42 ⟨_, _, _, _, _, _, _, _, by subst e_r12; subst e_r11o2; subst e_r11o1; subst e_r11o0; subst e_r9; subst e_r7; subst e_r1; unfold fX0_match; first | (rw [if_pos c2, if_neg c8, if_neg c10]; done) | (simp only [if_pos c2, if_neg c8, if_neg c10]), rfl⟩ hH hS
      · skip
        refine lv_bipush (v := (-103)) hF.1 hF.2.1 dX0_match_30 (by decide) ?_
        have hH : xH ω (g, up2 (up2 (up2 (up2 (up2 y 0 9 (y 0 9)) 0 10 (y 0 10)) (0 + 6) 12 (y (0 + 6) 12)) (0 + 6) 13 (y (0 + 6) 13)) (0 + 6) 14 (y (0 + 6) 14), a, up2 (up2 (up2 z 0 11 (z 0 11)) (0 + 6) 10 (z (0 + 6) 10)) (0 + 6) 11 (z (0 + 6) 11), dr, pg, t) H := x_ext (fun _ _ => rfl) (by intro o k; by_cases h0 : o = (0 + 6) ∧ k = 12; (obtain ⟨rfl, rfl⟩ := h0; simp [up2]); by_cases h1 : o = (0 + 6) ∧ k = 13; (obtain ⟨rfl, rfl⟩ := h1; simp [up2]); by_cases h2 : o = (0 + 6) ∧ k = 14; (obtain ⟨rfl, rfl⟩ := h2; simp [up2]); by_cases h3 : o = 0 ∧ k = 10; (obtain ⟨rfl, rfl⟩ := h3; simp [up2]); by_cases h4 : o = 0 ∧ k = 9; (obtain ⟨rfl, rfl⟩ := h4; simp [up2]); simp only [up2, if_neg h0, if_neg h1, if_neg h2, if_neg h3, if_neg h4]) (fun _ _ => rfl) (by intro o k; by_cases h0 : o = (0 + 6) ∧ k = 10; (obtain ⟨rfl, rfl⟩ := h0; simp [up2]); by_cases h1 : o = (0 + 6) ∧ k = 11; (obtain ⟨rfl, rfl⟩ := h1; simp [up2]); by_cases h2 : o = 0 ∧ k = 11; (obtain ⟨rfl, rfl⟩ := h2; simp [up2]); simp only [up2, if_neg h0, if_neg h1, if_neg h2]) hH
        exact hret _ _ _ _ _ _ dX0_match_32 ⟨_, _, _, _, _, _, _, _, by subst e_r9; subst e_r7; subst e_r1; unfold fX0_match; first | (rw [if_pos c2, if_neg c8, if_pos c10]; done) | (simp only [if_pos c2, if_neg c8, if_pos c10]), rfl⟩ hH hS
    · skip
      refine lv_bipush (v := (-102)) hF.1 hF.2.1 dX0_match_20 (by decide) ?_
      have hH : xH ω (g, up2 (up2 (up2 (up2 (up2 y 0 9 (y 0 9)) 0 10 (y 0 10)) (0 + 6) 12 (y (0 + 6) 12)) (0 + 6) 13 (y (0 + 6) 13)) (0 + 6) 14 (y (0 + 6) 14), a, up2 (up2 (up2 z 0 11 (z 0 11)) (0 + 6) 10 (z (0 + 6) 10)) (0 + 6) 11 (z (0 + 6) 11), dr, pg, t) H := x_ext (fun _ _ => rfl) (by intro o k; by_cases h0 : o = (0 + 6) ∧ k = 12; (obtain ⟨rfl, rfl⟩ := h0; simp [up2]); by_cases h1 : o = (0 + 6) ∧ k = 13; (obtain ⟨rfl, rfl⟩ := h1; simp [up2]); by_cases h2 : o = (0 + 6) ∧ k = 14; (obtain ⟨rfl, rfl⟩ := h2; simp [up2]); by_cases h3 : o = 0 ∧ k = 10; (obtain ⟨rfl, rfl⟩ := h3; simp [up2]); by_cases h4 : o = 0 ∧ k = 9; (obtain ⟨rfl, rfl⟩ := h4; simp [up2]); simp only [up2, if_neg h0, if_neg h1, if_neg h2, if_neg h3, if_neg h4]) (fun _ _ => rfl) (by intro o k; by_cases h0 : o = (0 + 6) ∧ k = 10; (obtain ⟨rfl, rfl⟩ := h0; simp [up2]); by_cases h1 : o = (0 + 6) ∧ k = 11; (obtain ⟨rfl, rfl⟩ := h1; simp [up2]); by_cases h2 : o = 0 ∧ k = 11; (obtain ⟨rfl, rfl⟩ := h2; simp [up2]); simp only [up2, if_neg h0, if_neg h1, if_neg h2]) hH
      exact hret _ _ _ _ _ _ dX0_match_22 ⟨_, _, _, _, _, _, _, _, by subst e_r7; subst e_r1; unfold fX0_match; first | (rw [if_pos c2, if_pos c8]; done) | (simp only [if_pos c2, if_pos c8]), rfl⟩ hH hS

