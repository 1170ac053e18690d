/-! MODEL: ways, lengths, rails: answers by the core -/
set_option maxRecDepth 100000
def fX2_tellWay (g : Nat → Nat) (t : TW) (td : Nat → Nat) (of : Nat → Nat → Nat) (pn : Nat) (fr : Nat) (to : Nat) (wh : Nat) : Int32 := if (fX2_layWayS g t td of pn fr to (fX2_everyStreet g)) = (-1) then (-1) else if wh ≤ 9 then if wh = 0 then nI ((cds t (g 5) (td pn) (of pn) (fX2_everyStreet g) to fr) / 1000) else if wh = 1 then nI ((cds t (g 5) (td pn) (of pn) (fX2_everyStreet g) to fr) % 1000) else nI (cwl t (g 5) (td pn) (of pn) (fX2_everyStreet g) fr to) else if (cwl t (g 5) (td pn) (of pn) (fX2_everyStreet g) fr to) ≤ (wh - 10) then (-1) else nI (cws t (g 5) (td pn) (of pn) (fX2_everyStreet g) fr to (wh - 10))
def rmX2_tellWay : Room := { frames := 5, cells := 0, slots := 0, locals := 127 }
theorem hdX2_tellWay : yX2_tellWay.cls = RX2 ∧ yX2_tellWay.cls ≠ "java/lang/invoke/MethodHandle" ∧ yX2_tellWay.cls ≠ "java/lang/invoke/VarHandle" ∧ (parseMethodDescriptor yX2_tellWay.desc).map (fun d => d.parameters.length) = some 4 := by decide +kernel
set_option maxHeartbeats 4000000 in
theorem kX2_tellWay (l : Launch) (ω : OM) (g : Nat → Nat) (y : Nat → Int32) (a z : Nat → Nat → Int32) (kt : Int32) (hs : Int64) (t : TW) (td : Nat → Nat) (of : Nat → Nat → Nat) (hc : mCore g a t td of) (pn : Nat) (fr : Nat) (to : Nat) (wh : Nat) (hpn : pn < 3) (hfr : fr < 8) (hto : to < 8) (hwh : wh < 20) (hsd : mSide g a) : Met l yX2_tellWay (ws_ yX2_tellWay cX2_tellWay 6 (some .int)) rmX2_tellWay (va_Pc [.ref (ω.2.1 0 99), .int (nI pn), .int (nI fr), .int (nI to), .int (nI wh)] (fun U => mK ω U ∧ mH ω (g, y, a, z, kt, hs) U.heap)) (va_Qi (fun (r : Int32) (u : MS) => ∃ (q0 : Nat → Int32) (q1 : Nat → Int32), r = (fX2_tellWay g t td of pn fr to wh) ∧ u = (g, y, a, va_up (va_up z 11 q0) 12 q1, kt, hs)) (fun u t => mH ω u t.heap) ω.2.2.1) 0 0 ω.2.2.1 := by
  refine g_entWi (C := RX2) rfl (by decide) (Nat.le_of_ble_eq_true rfl) ?_
  intro p e s m args below meth c QQ ls H locs hF hK hH hS hl hret
  have hl : lv_has ls 6 [(0, .ref (ω.2.1 0 99)), (1, .int (nI pn)), (2, .int (nI fr)), (3, .int (nI to)), (4, .int (nI wh))] := hl
  have hok := hc.ok
  have hr := hc.rows
  have hn := hr.1
  have hp3 := hsd.1
  have hs6 := hsd.2.1
  refine lv_aload_n hF.1 hF.2.1 dX2_tellWay_0 rfl (lv_at hl 0 rfl) ?_
  refine lv_iload_n hF.1 hF.2.1 dX2_tellWay_1 rfl (lv_at hl 1 rfl) ?_
  refine lv_iload_n hF.1 hF.2.1 dX2_tellWay_2 rfl (lv_at hl 2 rfl) ?_
  refine lv_iload_n hF.1 hF.2.1 dX2_tellWay_3 rfl (lv_at hl 3 rfl) ?_
  refine lv_aload_n hF.1 hF.2.1 dX2_tellWay_4 rfl (lv_at hl 0 rfl) ?_
  refine g_vPi (As := []) (rest := [.int (nI to), .int (nI fr), .int (nI pn), .ref (ω.2.1 0 99)]) hF (kX2_everyStreet l ω g y a z kt hs) (lw_V q1118 q1120 qs53 q97 q1121) 0 hdX2_everyStreet rfl rfl ⟨Nat.le_of_ble_eq_true rfl, Nat.le_of_ble_eq_true rfl⟩ (m_preV hK hH) rfl hl.1 rfl (Nat.le_of_ble_eq_true rfl) dX2_tellWay_5 ⟨Nat.zero_le _, Nat.zero_le _⟩ (fun r1 e_r1 => ?_)
  refine g_vWi (As := [.int (nI pn), .int (nI fr), .int (nI to), .int r1]) (rest := []) hF (kX2_layWayS l ω g y a z kt hs t td of hc pn fr to r1 (by omega) (by omega) (by omega)) (lw_V q1122 q1124 qs54 q97 q1125) 4 hdX2_layWayS rfl rfl ⟨Nat.le_of_ble_eq_true rfl, Nat.le_of_ble_eq_true rfl⟩ (m_preV hK hH) rfl hl.1 rfl (Nat.le_of_ble_eq_true rfl) dX2_tellWay_8 ⟨Nat.le_of_ble_eq_true rfl, Nat.le_of_ble_eq_true rfl⟩ hS (fun r2 ur2 H locs hqr2 hH hS => ?_)
  obtain ⟨r2h0, r2h1, hr2, hr2_0, hr2_1, rfl⟩ := hqr2
  have e_r2 := hr2
  have hfarr2 := mds_far hc (show pn < 3 by omega) r1 (show to < 8 by omega) fr
  refine lv_istore (lv' := [(5, .int r2), (0, .ref (ω.2.1 0 99)), (1, .int (nI pn)), (2, .int (nI fr)), (3, .int (nI to)), (4, .int (nI wh))]) hF.1 hF.2.1 dX2_tellWay_11 hl (by decide) rfl (fun ls hl => ?_)
  refine lv_iload hF.1 hF.2.1 dX2_tellWay_13 (lv_at hl 0 rfl) ?_
  refine lv_iconst (v := (-1)) hF.1 hF.2.1 dX2_tellWay_15 (by decide) ?_
  refine lv_icmp_ne (tgt := 21) hF.1 hF.2.1 dX2_tellWay_16 (by decide) (fun c3 => ?_) (fun c3 => ?_)
  · skip
    have hwd := fX2_layWayS_lift (by rw [← e_r2]; exact c3)
    have hwl := mwl_lt hc (show pn < 3 by omega) (show to < 8 by omega) (show fr < 8 by omega) hwd.1
    have b4 : r2 = nI (cwl t (g 5) (td pn) (of pn) r1 fr to) := e_r2.trans hwd.2
    refine lv_iload hF.1 hF.2.1 dX2_tellWay_21 (lv_at hl 5 rfl) ?_
    refine lv_bipush (v := nI 9) hF.1 hF.2.1 dX2_tellWay_23 (by decide) ?_
    refine n_le (tgt := 53) hF.1 hF.2.1 dX2_tellWay_25 (by decide) (by omega) (by omega) (fun c5 => ?_) (fun c5 => ?_)
    · skip
      refine lv_iload hF.1 hF.2.1 dX2_tellWay_53 (lv_at hl 5 rfl) ?_
      refine n_ifne (tgt := 71) hF.1 hF.2.1 dX2_tellWay_55 (by decide) (by omega) (fun c6 => ?_) (fun c6 => ?_)
      · skip
        refine lv_iload hF.1 hF.2.1 dX2_tellWay_71 (lv_at hl 5 rfl) ?_
        refine lv_iconst (v := nI 1) hF.1 hF.2.1 dX2_tellWay_73 (by decide) ?_
        refine n_ne (tgt := 90) hF.1 hF.2.1 dX2_tellWay_74 (by decide) (by omega) (by omega) (fun c7 => ?_) (fun c7 => ?_)
        · skip
          refine lv_iload hF.1 hF.2.1 dX2_tellWay_90 (lv_at hl 0 rfl) ?_
          refine n_top b4 ?_
          exact hret _ _ _ _ _ _ dX2_tellWay_92 ⟨_, _, by subst e_r2; subst e_r1; unfold fX2_tellWay; first | (rw [if_neg c3, if_pos c5, if_neg c6, if_neg c7]; done) | (simp only [if_neg c3, if_pos c5, if_neg c6, if_neg c7]), rfl⟩ hH hS
        · skip
          refine lv_aload_n hF.1 hF.2.1 dX2_tellWay_77 rfl (lv_at hl 1 rfl) ?_
          refine mg_11 hF hK hH q982 dX2_tellWay_78 ?_
          refine lv_iload_n hF.1 hF.2.1 dX2_tellWay_81 rfl (lv_at hl 3 rfl) ?_
          refine m_zld hF hK hH 11 (n := 8) rfl rfl (by decide) rfl (f := r2h0) rfl (i := fr) (by omega) (by decide) dX2_tellWay_82 ?_
          refine n_top (y := nI (cds t (g 5) (td pn) (of pn) r1 to fr)) (hr2_0 _ (by omega)) ?_
          refine lv_sipush (v := nI 1000) hF.1 hF.2.1 dX2_tellWay_83 (by decide) ?_
          refine n_irem hF.1 hF.2.1 dX2_tellWay_86 (by omega) (by omega) (by omega) ?_
          refine lv_goto (tgt := 92) hF.1 hF.2.1 dX2_tellWay_87 (by decide) ?_
          exact hret _ _ _ _ _ _ dX2_tellWay_92 ⟨_, _, by subst e_r2; subst e_r1; unfold fX2_tellWay; first | (rw [if_neg c3, if_pos c5, if_neg c6, if_pos c7]; done) | (simp only [if_neg c3, if_pos c5, if_neg c6, if_pos c7]), rfl⟩ hH hS
      · skip
        refine lv_aload_n hF.1 hF.2.1 dX2_tellWay_58 rfl (lv_at hl 1 rfl) ?_
        refine mg_11 hF hK hH q982 dX2_tellWay_59 ?_
        refine lv_iload_n hF.1 hF.2.1 dX2_tellWay_62 rfl (lv_at hl 3 rfl) ?_
        refine m_zld hF hK hH 11 (n := 8) rfl rfl (by decide) rfl (f := r2h0) rfl (i := fr) (by omega) (by decide) dX2_tellWay_63 ?_
        refine n_top (y := nI (cds t (g 5) (td pn) (of pn) r1 to fr)) (hr2_0 _ (by omega)) ?_
        refine lv_sipush (v := nI 1000) hF.1 hF.2.1 dX2_tellWay_64 (by decide) ?_
        refine n_idiv hF.1 hF.2.1 dX2_tellWay_67 (by omega) (by omega) (by omega) ?_
        refine lv_goto (tgt := 92) hF.1 hF.2.1 dX2_tellWay_68 (by decide) ?_
        exact hret _ _ _ _ _ _ dX2_tellWay_92 ⟨_, _, by subst e_r2; subst e_r1; unfold fX2_tellWay; first | (rw [if_neg c3, if_pos c5, if_pos c6]; done) | (simp only [if_neg c3, if_pos c5, if_pos c6]), rfl⟩ hH hS
    · skip
      refine lv_iload hF.1 hF.2.1 dX2_tellWay_28 (lv_at hl 5 rfl) ?_
      refine lv_bipush (v := nI 10) hF.1 hF.2.1 dX2_tellWay_30 (by decide) ?_
      refine n_isub hF.1 hF.2.1 dX2_tellWay_32 (by omega) ?_
      refine lv_iload hF.1 hF.2.1 dX2_tellWay_33 (lv_at hl 0 rfl) ?_
      refine n_top b4 ?_
      refine n_ge (tgt := 51) hF.1 hF.2.1 dX2_tellWay_35 (by decide) (by omega) (by omega) (fun c8 => ?_) (fun c8 => ?_)
      · skip
        refine lv_iconst (v := (-1)) hF.1 hF.2.1 dX2_tellWay_51 (by decide) ?_
        exact hret _ _ _ _ _ _ dX2_tellWay_52 ⟨_, _, by subst e_r2; subst e_r1; unfold fX2_tellWay; first | (rw [if_neg c3, if_neg c5, if_pos c8]; done) | (simp only [if_neg c3, if_neg c5, if_pos c8]), rfl⟩ hH hS
      · skip
        refine lv_aload_n hF.1 hF.2.1 dX2_tellWay_38 rfl (lv_at hl 1 rfl) ?_
        refine mg_12 hF hK hH q983 dX2_tellWay_39 ?_
        refine lv_iload hF.1 hF.2.1 dX2_tellWay_42 (lv_at hl 5 rfl) ?_
        refine lv_bipush (v := nI 10) hF.1 hF.2.1 dX2_tellWay_44 (by decide) ?_
        refine n_isub hF.1 hF.2.1 dX2_tellWay_46 (by omega) ?_
        refine m_zld hF hK hH 12 (n := 8) rfl rfl (by decide) rfl (f := r2h1) rfl (i := wh - 10) (by omega) (by decide) dX2_tellWay_47 ?_
        refine n_top (y := nI (cws t (g 5) (td pn) (of pn) r1 fr to (wh - 10))) (hr2_1 hwd.1 _ (by omega)) ?_
        refine lv_goto (tgt := 52) hF.1 hF.2.1 dX2_tellWay_48 (by decide) ?_
        exact hret _ _ _ _ _ _ dX2_tellWay_52 ⟨_, _, by subst e_r2; subst e_r1; unfold fX2_tellWay; first | (rw [if_neg c3, if_neg c5, if_neg c8]; done) | (simp only [if_neg c3, if_neg c5, if_neg c8]), rfl⟩ hH hS
  · skip
    refine lv_iconst (v := (-1)) hF.1 hF.2.1 dX2_tellWay_19 (by decide) ?_
    exact hret _ _ _ _ _ _ dX2_tellWay_20 ⟨_, _, by subst e_r2; subst e_r1; unfold fX2_tellWay; first | (rw [if_pos c3]; done) | (simp only [if_pos c3]), rfl⟩ hH hS

def fX2_way (g : Nat → Nat) (t : TW) (td : Nat → Nat) (of : Nat → Nat → Nat) (pn : Int32) (fr : Int32) (to : Int32) (wh : Int32) : Int32 := if (fX2_isTrip g pn fr to) = 0 then (-101) else if (fX2_in wh.toInt64 0 2) = 0 then if (fX2_in wh.toInt64 10 16) = 0 then (-102) else (fX2_tellWay g t td of (toN pn) (toN fr) (toN to) (toN wh)) else (fX2_tellWay g t td of (toN pn) (toN fr) (toN to) (toN wh))
def rmX2_way : Room := { frames := 6, cells := 0, slots := 0, locals := 152 }
theorem hdX2_way : yX2_way.cls = RX2 ∧ yX2_way.cls ≠ "java/lang/invoke/MethodHandle" ∧ yX2_way.cls ≠ "java/lang/invoke/VarHandle" ∧ (parseMethodDescriptor yX2_way.desc).map (fun d => d.parameters.length) = some 4 := by decide +kernel
set_option maxHeartbeats 4000000 in
theorem kX2_way (l : Launch) (ω : OM) (g : Nat → Nat) (y : Nat → Int32) (a z : Nat → Nat → Int32) (kt : Int32) (hs : Int64) (t : TW) (td : Nat → Nat) (of : Nat → Nat → Nat) (hc : mCore g a t td of) (pn : Int32) (fr : Int32) (to : Int32) (wh : Int32) (hsd : mSide g a) : Met l yX2_way (ws_ yX2_way cX2_way 5 (some .int)) rmX2_way (va_Pc [.ref (ω.2.1 0 99), .int pn, .int fr, .int to, .int wh] (fun U => mK ω U ∧ mH ω (g, y, a, z, kt, hs) U.heap)) (va_Qi (fun (r : Int32) (u : MS) => ∃ (q0 : Nat → Int32) (q1 : Nat → Int32), r = (fX2_way g t td of pn fr to wh) ∧ u = (g, y, a, va_up (va_up z 11 q0) 12 q1, kt, hs)) (fun u t => mH ω u t.heap) ω.2.2.1) 0 0 ω.2.2.1 := by
  refine g_entWi (C := RX2) rfl (by decide) (Nat.le_of_ble_eq_true rfl) ?_
  intro p e s m args below meth c QQ ls H locs hF hK hH hS hl hret
  have hl : lv_has ls 5 [(0, .ref (ω.2.1 0 99)), (1, .int pn), (2, .int fr), (3, .int to), (4, .int wh)] := hl
  have hok := hc.ok
  have hr := hc.rows
  have hn := hr.1
  have hp3 := hsd.1
  have hs6 := hsd.2.1
  refine lv_aload_n hF.1 hF.2.1 dX2_way_0 rfl (lv_at hl 0 rfl) ?_
  refine lv_iload_n hF.1 hF.2.1 dX2_way_1 rfl (lv_at hl 1 rfl) ?_
  refine lv_iload_n hF.1 hF.2.1 dX2_way_2 rfl (lv_at hl 2 rfl) ?_
  refine lv_iload_n hF.1 hF.2.1 dX2_way_3 rfl (lv_at hl 3 rfl) ?_
  refine g_vPi (As := [.int pn, .int fr, .int to]) (rest := []) hF (kX2_isTrip l ω g y a z kt hs pn fr to) (lw_V q1099 q1101 qs50 q97 q1102) 3 hdX2_isTrip rfl rfl ⟨Nat.le_of_ble_eq_true rfl, Nat.le_of_ble_eq_true rfl⟩ (m_preV hK hH) rfl hl.1 rfl (Nat.le_of_ble_eq_true rfl) dX2_way_4 ⟨Nat.zero_le _, Nat.zero_le _⟩ (fun r1 e_r1 => ?_)
  refine lv_if_ne (tgt := 13) hF.1 hF.2.1 dX2_way_7 (by decide) (fun c2 => ?_) (fun c2 => ?_)
  · skip
    refine lv_iload hF.1 hF.2.1 dX2_way_13 (lv_at hl 4 rfl) ?_
    refine lv_i2l (v := wh.toInt64) hF.1 hF.2.1 dX2_way_15 rfl ?_
    refine lv_lconst (v := 0) hF.1 hF.2.1 dX2_way_16 (by decide) ?_
    refine lv_ldc2 (v := 2) hF.1 hF.2.1 hF.2.2.2.1 (hF.2.2.2.2 _ q1111) dX2_way_17 ?_
    refine g_sPi (As := [.long wh.toInt64, .long 0, .long 2]) (rest := []) hF (kX2_in l wh.toInt64 0 2) (lw_S q1061 q1062 q97 q1063) 3 hdX2_in.2 rfl rfl ⟨Nat.le_of_ble_eq_true rfl, Nat.le_of_ble_eq_true rfl⟩ g_pre0 rfl hl.1 rfl (Nat.le_of_ble_eq_true rfl) dX2_way_20 ⟨Nat.zero_le _, Nat.zero_le _⟩ (fun r3 e_r3 => ?_)
    refine lv_if_ne (tgt := 41) hF.1 hF.2.1 dX2_way_23 (by decide) (fun c4 => ?_) (fun c4 => ?_)
    · skip
      obtain ⟨b5e, b5l⟩ := g_lift (r := pn) (n := 3) (mTripP hp3 (by rw [← e_r1]; exact c2)) (by omega)
      obtain ⟨b6e, b6l⟩ := g_lift (r := fr) (n := 8) (mTripF (by rw [← e_r1]; exact c2)) (by omega)
      obtain ⟨b7e, b7l⟩ := g_lift (r := to) (n := 8) (mTripT (by rw [← e_r1]; exact c2)) (by omega)
      obtain ⟨b8e, b8l⟩ := g_lift (r := wh) (n := 3) (in64_lift2 (m := 0) rfl rfl (by omega) (by rw [← e_r3]; exact c4)) (by omega)
      refine lv_aload_n hF.1 hF.2.1 dX2_way_41 rfl (lv_at hl 0 rfl) ?_
      refine lv_iload_n hF.1 hF.2.1 dX2_way_42 rfl (lv_at hl 1 rfl) ?_
      refine n_top b5e ?_
      refine lv_iload_n hF.1 hF.2.1 dX2_way_43 rfl (lv_at hl 2 rfl) ?_
      refine n_top b6e ?_
      refine lv_iload_n hF.1 hF.2.1 dX2_way_44 rfl (lv_at hl 3 rfl) ?_
      refine n_top b7e ?_
      refine lv_iload hF.1 hF.2.1 dX2_way_45 (lv_at hl 4 rfl) ?_
      refine n_top b8e ?_
      refine g_vWi (As := [.int (nI (toN pn)), .int (nI (toN fr)), .int (nI (toN to)), .int (nI (toN wh))]) (rest := []) hF (kX2_tellWay l ω g y a z kt hs t td of hc (toN pn) (toN fr) (toN to) (toN wh) (by omega) (by omega) (by omega) (by omega) hsd) (lw_V q1114 q1116 qs52 q97 q1117) 4 hdX2_tellWay rfl rfl ⟨Nat.le_of_ble_eq_true rfl, Nat.le_of_ble_eq_true rfl⟩ (m_preV hK hH) rfl hl.1 rfl (Nat.le_of_ble_eq_true rfl) dX2_way_47 ⟨Nat.le_of_ble_eq_true rfl, Nat.le_of_ble_eq_true rfl⟩ hS (fun r9 ur9 H locs hqr9 hH hS => ?_)
      obtain ⟨r9h0, r9h1, hr9, rfl⟩ := hqr9
      have e_r9 := hr9
      refine lv_goto (tgt := 55) hF.1 hF.2.1 dX2_way_50 (by decide) ?_
      exact hret _ _ _ _ _ _ dX2_way_55 ⟨_, _, by subst e_r9; subst e_r3; subst e_r1; unfold fX2_way; first | (rw [if_neg c2, if_neg c4]; done) | (simp only [if_neg c2, if_neg c4]), rfl⟩ hH hS
    · skip
      refine lv_iload hF.1 hF.2.1 dX2_way_26 (lv_at hl 4 rfl) ?_
      refine lv_i2l (v := wh.toInt64) hF.1 hF.2.1 dX2_way_28 rfl ?_
      refine lv_ldc2 (v := 10) hF.1 hF.2.1 hF.2.2.2.1 (hF.2.2.2.2 _ q1112) dX2_way_29 ?_
      refine lv_ldc2 (v := 16) hF.1 hF.2.1 hF.2.2.2.1 (hF.2.2.2.2 _ q1113) dX2_way_32 ?_
      refine g_sPi (As := [.long wh.toInt64, .long 10, .long 16]) (rest := []) hF (kX2_in l wh.toInt64 10 16) (lw_S q1061 q1062 q97 q1063) 3 hdX2_in.2 rfl rfl ⟨Nat.le_of_ble_eq_true rfl, Nat.le_of_ble_eq_true rfl⟩ g_pre0 rfl hl.1 rfl (Nat.le_of_ble_eq_true rfl) dX2_way_35 ⟨Nat.zero_le _, Nat.zero_le _⟩ (fun r10 e_r10 => ?_)
      refine lv_if_eq (tgt := 53) hF.1 hF.2.1 dX2_way_38 (by decide) (fun c11 => ?_) (fun c11 => ?_)
      · skip
        refine lv_bipush (v := (-102)) hF.1 hF.2.1 dX2_way_53 (by decide) ?_
        have hH : mH ω (g, y, a, va_up (va_up z 11 (z 11)) 12 (z 12), kt, hs) H := m_ext (fun _ => rfl) (fun _ => rfl) (fun _ => rfl) (by intro k; by_cases h0 : k = 11; (subst h0; simp [va_up]); by_cases h1 : k = 12; (subst h1; simp [va_up]); simp only [va_up, if_neg h0, if_neg h1]) hH
        exact hret _ _ _ _ _ _ dX2_way_55 ⟨_, _, by subst e_r10; subst e_r3; subst e_r1; unfold fX2_way; first | (rw [if_neg c2, if_pos c4, if_pos c11]; done) | (simp only [if_neg c2, if_pos c4, if_pos c11]), rfl⟩ hH hS
      · skip
        obtain ⟨b12e, b12l⟩ := g_lift (r := pn) (n := 3) (mTripP hp3 (by rw [← e_r1]; exact c2)) (by omega)
        obtain ⟨b13e, b13l⟩ := g_lift (r := fr) (n := 8) (mTripF (by rw [← e_r1]; exact c2)) (by omega)
        obtain ⟨b14e, b14l⟩ := g_lift (r := to) (n := 8) (mTripT (by rw [← e_r1]; exact c2)) (by omega)
        obtain ⟨b15e, b15l⟩ := g_lift (r := wh) (n := 17) (in64_lift2 (m := 10) rfl rfl (by omega) (by rw [← e_r10]; exact c11)) (by omega)
        refine lv_aload_n hF.1 hF.2.1 dX2_way_41 rfl (lv_at hl 0 rfl) ?_
        refine lv_iload_n hF.1 hF.2.1 dX2_way_42 rfl (lv_at hl 1 rfl) ?_
        refine n_top b12e ?_
        refine lv_iload_n hF.1 hF.2.1 dX2_way_43 rfl (lv_at hl 2 rfl) ?_
        refine n_top b13e ?_
        refine lv_iload_n hF.1 hF.2.1 dX2_way_44 rfl (lv_at hl 3 rfl) ?_
        refine n_top b14e ?_
        refine lv_iload hF.1 hF.2.1 dX2_way_45 (lv_at hl 4 rfl) ?_
        refine n_top b15e ?_
        refine g_vWi (As := [.int (nI (toN pn)), .int (nI (toN fr)), .int (nI (toN to)), .int (nI (toN wh))]) (rest := []) hF (kX2_tellWay l ω g y a z kt hs t td of hc (toN pn) (toN fr) (toN to) (toN wh) (by omega) (by omega) (by omega) (by omega) hsd) (lw_V q1114 q1116 qs52 q97 q1117) 4 hdX2_tellWay rfl rfl ⟨Nat.le_of_ble_eq_true rfl, Nat.le_of_ble_eq_true rfl⟩ (m_preV hK hH) rfl hl.1 rfl (Nat.le_of_ble_eq_true rfl) dX2_way_47 ⟨Nat.le_of_ble_eq_true rfl, Nat.le_of_ble_eq_true rfl⟩ hS (fun r16 ur16 H locs hqr16 hH hS => ?_)
        obtain ⟨r16h0, r16h1, hr16, rfl⟩ := hqr16
        have e_r16 := hr16
        refine lv_goto (tgt := 55) hF.1 hF.2.1 dX2_way_50 (by decide) ?_
        exact hret _ _ _ _ _ _ dX2_way_55 ⟨_, _, by subst e_r16; subst e_r10; subst e_r3; subst e_r1; unfold fX2_way; first | (rw [if_neg c2, if_pos c4, if_neg c11]; done) | (simp only [if_neg c2, if_pos c4, if_neg c11]), rfl⟩ hH hS
  · skip
    refine lv_bipush (v := (-101)) hF.1 hF.2.1 dX2_way_10 (by decide) ?_
    have hH : mH ω (g, y, a, va_up (va_up z 11 (z 11)) 12 (z 12), kt, hs) H := m_ext (fun _ => rfl) (fun _ => rfl) (fun _ => rfl) (by intro k; by_cases h0 : k = 11; (subst h0; simp [va_up]); by_cases h1 : k = 12; (subst h1; simp [va_up]); simp only [va_up, if_neg h0, if_neg h1]) hH
    exact hret _ _ _ _ _ _ dX2_way_12 ⟨_, _, by subst e_r1; unfold fX2_way; first | (rw [if_pos c2]; done) | (simp only [if_pos c2]), rfl⟩ hH hS

def fX2_withinOf_b13 (g : Nat → Nat) (t : TW) (td : Nat → Nat) (of : Nat → Nat → Nat) (pn : Nat) (fr : Nat) (to : Nat) (i13 : Nat) (S : Int32) : Int32 := if S ≤ (nI (cll t (g 5) (td pn) (of pn) fr ((8 * i13) + to))) then S else nI (cll t (g 5) (td pn) (of pn) fr ((8 * i13) + to))
def fX2_withinOf (g : Nat → Nat) (t : TW) (td : Nat → Nat) (of : Nat → Nat → Nat) (pn : Nat) (fr : Nat) (to : Nat) (len : Nat) : Int32 := if (it (fX2_withinOf_b13 g t td of pn fr to) (len + 1) (nI 1000000000)) < (nI 1000000000) then (it (fX2_withinOf_b13 g t td of pn fr to) (len + 1) (nI 1000000000)) else (-1)
def rmX2_withinOf : Room := { frames := 4, cells := 0, slots := 0, locals := 98 }
theorem hdX2_withinOf : yX2_withinOf.cls = RX2 ∧ yX2_withinOf.cls ≠ "java/lang/invoke/MethodHandle" ∧ yX2_withinOf.cls ≠ "java/lang/invoke/VarHandle" ∧ (parseMethodDescriptor yX2_withinOf.desc).map (fun d => d.parameters.length) = some 4 := by decide +kernel
set_option maxHeartbeats 4000000 in
theorem kX2_withinOf (l : Launch) (ω : OM) (g : Nat → Nat) (y : Nat → Int32) (a z : Nat → Nat → Int32) (kt : Int32) (hs : Int64) (t : TW) (td : Nat → Nat) (of : Nat → Nat → Nat) (hc : mCore g a t td of) (pn : Nat) (fr : Nat) (to : Nat) (len : Nat) (hpn : pn < 3) (hfr : fr < 8) (hto : to < 8) (hlen : len < 82) (hsd : mSide g a) : Met l yX2_withinOf (ws_ yX2_withinOf cX2_withinOf 7 (some .int)) rmX2_withinOf (va_Pc [.ref (ω.2.1 0 99), .int (nI pn), .int (nI fr), .int (nI to), .int (nI len)] (fun U => mK ω U ∧ mH ω (g, y, a, z, kt, hs) U.heap)) (va_Qi (fun (r : Int32) (u : MS) => ∃ (q0 : Nat → Int32), r = (fX2_withinOf g t td of pn fr to len) ∧ u = (g, y, a, va_up z 13 q0, kt, hs)) (fun u t => mH ω u t.heap) ω.2.2.1) 0 0 ω.2.2.1 := by
  refine g_entWi (C := RX2) rfl (by decide) (Nat.le_of_ble_eq_true rfl) ?_
  intro p e s m args below meth c QQ ls H locs hF hK hH hS hl hret
  have hl : lv_has ls 7 [(0, .ref (ω.2.1 0 99)), (1, .int (nI pn)), (2, .int (nI fr)), (3, .int (nI to)), (4, .int (nI len))] := hl
  have hok := hc.ok
  have hr := hc.rows
  have hn := hr.1
  have hp3 := hsd.1
  have hs6 := hsd.2.1
  refine lv_aload_n hF.1 hF.2.1 dX2_withinOf_0 rfl (lv_at hl 0 rfl) ?_
  refine lv_iload_n hF.1 hF.2.1 dX2_withinOf_1 rfl (lv_at hl 1 rfl) ?_
  refine lv_iload_n hF.1 hF.2.1 dX2_withinOf_2 rfl (lv_at hl 2 rfl) ?_
  refine g_vWv (As := [.int (nI pn), .int (nI fr)]) (rest := []) hF (kX2_layLittleS l ω g y a z kt hs t td of hc pn fr (by omega) (by omega)) (lw_V q1156 q1158 qs61 q97 q1159) 2 hdX2_layLittleS rfl rfl ⟨Nat.le_of_ble_eq_true rfl, Nat.le_of_ble_eq_true rfl⟩ (m_preV hK hH) rfl hl.1 rfl (Nat.le_of_ble_eq_true rfl) dX2_withinOf_3 ⟨Nat.le_of_ble_eq_true rfl, Nat.le_of_ble_eq_true rfl⟩ hS (fun ur1 H locs hqr1 hH hS => ?_)
  obtain ⟨r1h0, hr1_0, rfl⟩ := hqr1
  refine lv_ldc (v := nI 1000000000) hF.1 hF.2.1 hF.2.2.2.1 (hF.2.2.2.2 _ q1130) dX2_withinOf_6 ?_
  refine lv_istore (lv' := [(5, .int (nI 1000000000)), (0, .ref (ω.2.1 0 99)), (1, .int (nI pn)), (2, .int (nI fr)), (3, .int (nI to)), (4, .int (nI len))]) hF.1 hF.2.1 dX2_withinOf_8 hl (by decide) rfl (fun ls hl => ?_)
  refine lv_iconst (v := nI 0) hF.1 hF.2.1 dX2_withinOf_10 (by decide) ?_
  refine lv_istore (lv' := [(6, .int (nI 0)), (5, .int (nI 1000000000)), (0, .ref (ω.2.1 0 99)), (1, .int (nI pn)), (2, .int (nI fr)), (3, .int (nI to)), (4, .int (nI len))]) hF.1 hF.2.1 dX2_withinOf_11 hl (by decide) rfl (fun ls hl => ?_)
  have lp13_139 : ∀ (d13 i13 : Nat) (x13_5 : Int32) (ls : Array Slot), i13 + d13 = len + 1 → x13_5 = it (fX2_withinOf_b13 g t td of pn fr to) i13 (nI 1000000000) → lv_has ls 7 [(6, .int (nI i13)), (5, .int x13_5), (0, .ref (ω.2.1 0 99)), (3, .int (nI to)), (4, .int (nI len))] → W p l e rmX2_withinOf s m args below meth c H locs 0 0 QQ (F0 m 13 ls []) := by
    intro d13
    induction d13 with
    | zero =>
      intro i13 x13_5 ls hi13 hS13 hl
      have hj13 : len + 1 = i13 := by omega
      subst hj13
      have e_x13_5 := hS13
      refine lv_iload hF.1 hF.2.1 dX2_withinOf_13 (lv_at hl 0 rfl) ?_
      refine lv_iload hF.1 hF.2.1 dX2_withinOf_15 (lv_at hl 4 rfl) ?_
      refine n_gt (tgt := 62) hF.1 hF.2.1 dX2_withinOf_17 (by decide) (by omega) (by omega) (fun c2 => ?_) (fun c2 => ?_)
      · skip
        refine lv_iload hF.1 hF.2.1 dX2_withinOf_62 (lv_at hl 1 rfl) ?_
        refine lv_ldc (v := nI 1000000000) hF.1 hF.2.1 hF.2.2.2.1 (hF.2.2.2.2 _ q1130) dX2_withinOf_64 ?_
        refine lv_icmp_lt (tgt := 73) hF.1 hF.2.1 dX2_withinOf_66 (by decide) (fun c3 => ?_) (fun c3 => ?_)
        · skip
          refine lv_iload hF.1 hF.2.1 dX2_withinOf_73 (lv_at hl 1 rfl) ?_
          exact hret _ _ _ _ _ _ dX2_withinOf_75 ⟨_, by subst e_x13_5; unfold fX2_withinOf; first | (rw [if_pos c3]; done) | (simp only [if_pos c3]), rfl⟩ hH hS
        · skip
          refine lv_iconst (v := (-1)) hF.1 hF.2.1 dX2_withinOf_69 (by decide) ?_
          refine lv_goto (tgt := 75) hF.1 hF.2.1 dX2_withinOf_70 (by decide) ?_
          exact hret _ _ _ _ _ _ dX2_withinOf_75 ⟨_, by subst e_x13_5; unfold fX2_withinOf; first | (rw [if_neg c3]; done) | (simp only [if_neg c3]), rfl⟩ hH hS
      · exact absurd (by omega) c2
    | succ d13 ih =>
      intro i13 x13_5 ls hi13 hS13 hl
      refine lv_iload hF.1 hF.2.1 dX2_withinOf_13 (lv_at hl 0 rfl) ?_
      refine lv_iload hF.1 hF.2.1 dX2_withinOf_15 (lv_at hl 4 rfl) ?_
      refine n_gt (tgt := 62) hF.1 hF.2.1 dX2_withinOf_17 (by decide) (by omega) (by omega) (fun c4 => ?_) (fun c4 => ?_)
      · exact absurd c4 (by omega)
      · skip
        refine lv_aload_n hF.1 hF.2.1 dX2_withinOf_20 rfl (lv_at hl 2 rfl) ?_
        refine mg_13 hF hK hH q984 dX2_withinOf_21 ?_
        refine lv_bipush (v := nI 8) hF.1 hF.2.1 dX2_withinOf_24 (by decide) ?_
        refine lv_iload hF.1 hF.2.1 dX2_withinOf_26 (lv_at hl 0 rfl) ?_
        refine n_imul hF.1 hF.2.1 dX2_withinOf_28 ?_
        refine lv_iload_n hF.1 hF.2.1 dX2_withinOf_29 rfl (lv_at hl 3 rfl) ?_
        refine n_iadd hF.1 hF.2.1 dX2_withinOf_30 ?_
        refine m_zld hF hK hH 13 (n := 656) rfl rfl (by decide) rfl (f := r1h0) rfl (i := (8 * i13) + to) (by omega) (by decide) dX2_withinOf_31 ?_
        refine n_top (y := nI (cll t (g 5) (td pn) (of pn) fr ((8 * i13) + to))) (hr1_0 _ (by omega)) ?_
        refine lv_iload hF.1 hF.2.1 dX2_withinOf_32 (lv_at hl 1 rfl) ?_
        refine lv_icmp_ge (tgt := 52) hF.1 hF.2.1 dX2_withinOf_34 (by decide) (fun c5 => ?_) (fun c5 => ?_)
        · skip
          refine lv_iload hF.1 hF.2.1 dX2_withinOf_52 (lv_at hl 1 rfl) ?_
          refine lv_istore (lv' := [(5, .int x13_5), (6, .int (nI i13)), (0, .ref (ω.2.1 0 99)), (3, .int (nI to)), (4, .int (nI len))]) hF.1 hF.2.1 dX2_withinOf_54 hl (by decide) rfl (fun ls hl => ?_)
          refine n_iinc (lv' := [(6, .int (nI (i13 + 1))), (5, .int x13_5), (0, .ref (ω.2.1 0 99)), (3, .int (nI to)), (4, .int (nI len))]) hF.1 hF.2.1 dX2_withinOf_56 hl (k := 1) rfl (by decide) rfl (fun ls hl => ?_)
          refine lv_goto (tgt := 13) hF.1 hF.2.1 dX2_withinOf_59 (by decide) ?_
          exact ih (i13 + 1) _ _ (by omega) (by rw [it_succ (fX2_withinOf_b13 g t td of pn fr to) i13 _, ← hS13]; unfold fX2_withinOf_b13; first | (rw [if_pos c5]; done) | (simp only [if_pos c5])) (lv_sub hl [0, 1, 2, 3, 4] rfl)
        · skip
          refine lv_aload_n hF.1 hF.2.1 dX2_withinOf_37 rfl (lv_at hl 2 rfl) ?_
          refine mg_13 hF hK hH q984 dX2_withinOf_38 ?_
          refine lv_bipush (v := nI 8) hF.1 hF.2.1 dX2_withinOf_41 (by decide) ?_
          refine lv_iload hF.1 hF.2.1 dX2_withinOf_43 (lv_at hl 0 rfl) ?_
          refine n_imul hF.1 hF.2.1 dX2_withinOf_45 ?_
          refine lv_iload_n hF.1 hF.2.1 dX2_withinOf_46 rfl (lv_at hl 3 rfl) ?_
          refine n_iadd hF.1 hF.2.1 dX2_withinOf_47 ?_
          refine m_zld hF hK hH 13 (n := 656) rfl rfl (by decide) rfl (f := r1h0) rfl (i := (8 * i13) + to) (by omega) (by decide) dX2_withinOf_48 ?_
          refine n_top (y := nI (cll t (g 5) (td pn) (of pn) fr ((8 * i13) + to))) (hr1_0 _ (by omega)) ?_
          refine lv_goto (tgt := 54) hF.1 hF.2.1 dX2_withinOf_49 (by decide) ?_
          refine lv_istore (lv' := [(5, .int (nI (cll t (g 5) (td pn) (of pn) fr ((8 * i13) + to)))), (6, .int (nI i13)), (0, .ref (ω.2.1 0 99)), (3, .int (nI to)), (4, .int (nI len))]) hF.1 hF.2.1 dX2_withinOf_54 hl (by decide) rfl (fun ls hl => ?_)
          refine n_iinc (lv' := [(6, .int (nI (i13 + 1))), (5, .int (nI (cll t (g 5) (td pn) (of pn) fr ((8 * i13) + to)))), (0, .ref (ω.2.1 0 99)), (3, .int (nI to)), (4, .int (nI len))]) hF.1 hF.2.1 dX2_withinOf_56 hl (k := 1) rfl (by decide) rfl (fun ls hl => ?_)
          refine lv_goto (tgt := 13) hF.1 hF.2.1 dX2_withinOf_59 (by decide) ?_
          exact ih (i13 + 1) _ _ (by omega) (by rw [it_succ (fX2_withinOf_b13 g t td of pn fr to) i13 _, ← hS13]; unfold fX2_withinOf_b13; first | (rw [if_neg c5]; done) | (simp only [if_neg c5])) (lv_sub hl [0, 1, 2, 3, 4] rfl)
  exact lp13_139 (len + 1) 0 _ _ (by omega) rfl (lv_sub hl [0, 1, 2, 5, 6] rfl)

def fX2_within (g : Nat → Nat) (t : TW) (td : Nat → Nat) (of : Nat → Nat → Nat) (pn : Int32) (fr : Int32) (to : Int32) (len : Int32) : Int32 := if (fX2_isTrip g pn fr to) = 0 then (-101) else if (fX2_in len.toInt64 0 81) = 0 then (-102) else (fX2_withinOf g t td of (toN pn) (toN fr) (toN to) (toN len))
def rmX2_within : Room := { frames := 5, cells := 0, slots := 0, locals := 124 }
theorem hdX2_within : yX2_within.cls = RX2 ∧ yX2_within.cls ≠ "java/lang/invoke/MethodHandle" ∧ yX2_within.cls ≠ "java/lang/invoke/VarHandle" ∧ (parseMethodDescriptor yX2_within.desc).map (fun d => d.parameters.length) = some 4 := by decide +kernel
set_option maxHeartbeats 4000000 in
theorem kX2_within (l : Launch) (ω : OM) (g : Nat → Nat) (y : Nat → Int32) (a z : Nat → Nat → Int32) (kt : Int32) (hs : Int64) (t : TW) (td : Nat → Nat) (of : Nat → Nat → Nat) (hc : mCore g a t td of) (pn : Int32) (fr : Int32) (to : Int32) (len : Int32) (hsd : mSide g a) : Met l yX2_within (ws_ yX2_within cX2_within 5 (some .int)) rmX2_within (va_Pc [.ref (ω.2.1 0 99), .int pn, .int fr, .int to, .int len] (fun U => mK ω U ∧ mH ω (g, y, a, z, kt, hs) U.heap)) (va_Qi (fun (r : Int32) (u : MS) => ∃ (q0 : Nat → Int32), r = (fX2_within g t td of pn fr to len) ∧ u = (g, y, a, va_up z 13 q0, kt, hs)) (fun u t => mH ω u t.heap) ω.2.2.1) 0 0 ω.2.2.1 := by
  refine g_entWi (C := RX2) rfl (by decide) (Nat.le_of_ble_eq_true rfl) ?_
  intro p e s m args below meth c QQ ls H locs hF hK hH hS hl hret
  have hl : lv_has ls 5 [(0, .ref (ω.2.1 0 99)), (1, .int pn), (2, .int fr), (3, .int to), (4, .int len)] := hl
  have hok := hc.ok
  have hr := hc.rows
  have hn := hr.1
  have hp3 := hsd.1
  have hs6 := hsd.2.1
  refine lv_aload_n hF.1 hF.2.1 dX2_within_0 rfl (lv_at hl 0 rfl) ?_
  refine lv_iload_n hF.1 hF.2.1 dX2_within_1 rfl (lv_at hl 1 rfl) ?_
  refine lv_iload_n hF.1 hF.2.1 dX2_within_2 rfl (lv_at hl 2 rfl) ?_
  refine lv_iload_n hF.1 hF.2.1 dX2_within_3 rfl (lv_at hl 3 rfl) ?_
  refine g_vPi (As := [.int pn, .int fr, .int to]) (rest := []) hF (kX2_isTrip l ω g y a z kt hs pn fr to) (lw_V q1099 q1101 qs50 q97 q1102) 3 hdX2_isTrip rfl rfl ⟨Nat.le_of_ble_eq_true rfl, Nat.le_of_ble_eq_true rfl⟩ (m_preV hK hH) rfl hl.1 rfl (Nat.le_of_ble_eq_true rfl) dX2_within_4 ⟨Nat.zero_le _, Nat.zero_le _⟩ (fun r1 e_r1 => ?_)
  refine lv_if_ne (tgt := 13) hF.1 hF.2.1 dX2_within_7 (by decide) (fun c2 => ?_) (fun c2 => ?_)
  · skip
    refine lv_iload hF.1 hF.2.1 dX2_within_13 (lv_at hl 4 rfl) ?_
    refine lv_i2l (v := len.toInt64) hF.1 hF.2.1 dX2_within_15 rfl ?_
    refine lv_lconst (v := 0) hF.1 hF.2.1 dX2_within_16 (by decide) ?_
    refine lv_ldc2 (v := 81) hF.1 hF.2.1 hF.2.2.2.1 (hF.2.2.2.2 _ q1151) dX2_within_17 ?_
    refine g_sPi (As := [.long len.toInt64, .long 0, .long 81]) (rest := []) hF (kX2_in l len.toInt64 0 81) (lw_S q1061 q1062 q97 q1063) 3 hdX2_in.2 rfl rfl ⟨Nat.le_of_ble_eq_true rfl, Nat.le_of_ble_eq_true rfl⟩ g_pre0 rfl hl.1 rfl (Nat.le_of_ble_eq_true rfl) dX2_within_20 ⟨Nat.zero_le _, Nat.zero_le _⟩ (fun r3 e_r3 => ?_)
    refine lv_if_eq (tgt := 38) hF.1 hF.2.1 dX2_within_23 (by decide) (fun c4 => ?_) (fun c4 => ?_)
    · skip
      refine lv_bipush (v := (-102)) hF.1 hF.2.1 dX2_within_38 (by decide) ?_
      have hH : mH ω (g, y, a, va_up z 13 (z 13), kt, hs) H := m_ext (fun _ => rfl) (fun _ => rfl) (fun _ => rfl) (by intro k; by_cases h0 : k = 13; (subst h0; simp [va_up]); simp only [va_up, if_neg h0]) hH
      exact hret _ _ _ _ _ _ dX2_within_40 ⟨_, by subst e_r3; subst e_r1; unfold fX2_within; first | (rw [if_neg c2, if_pos c4]; done) | (simp only [if_neg c2, if_pos c4]), rfl⟩ hH hS
    · skip
      obtain ⟨b5e, b5l⟩ := g_lift (r := pn) (n := 3) (mTripP hp3 (by rw [← e_r1]; exact c2)) (by omega)
      obtain ⟨b6e, b6l⟩ := g_lift (r := fr) (n := 8) (mTripF (by rw [← e_r1]; exact c2)) (by omega)
      obtain ⟨b7e, b7l⟩ := g_lift (r := to) (n := 8) (mTripT (by rw [← e_r1]; exact c2)) (by omega)
      obtain ⟨b8e, b8l⟩ := g_lift (r := len) (n := 82) (in64_lift (k := 81) rfl (by omega) (by rw [← e_r3]; exact c4)) (by omega)
      refine lv_aload_n hF.1 hF.2.1 dX2_within_26 rfl (lv_at hl 0 rfl) ?_
      refine lv_iload_n hF.1 hF.2.1 dX2_within_27 rfl (lv_at hl 1 rfl) ?_
      refine n_top b5e ?_
      refine lv_iload_n hF.1 hF.2.1 dX2_within_28 rfl (lv_at hl 2 rfl) ?_
      refine n_top b6e ?_
      refine lv_iload_n hF.1 hF.2.1 dX2_within_29 rfl (lv_at hl 3 rfl) ?_
      refine n_top b7e ?_
      refine lv_iload hF.1 hF.2.1 dX2_within_30 (lv_at hl 4 rfl) ?_
      refine n_top b8e ?_
      refine g_vWi (As := [.int (nI (toN pn)), .int (nI (toN fr)), .int (nI (toN to)), .int (nI (toN len))]) (rest := []) hF (kX2_withinOf l ω g y a z kt hs t td of hc (toN pn) (toN fr) (toN to) (toN len) (by omega) (by omega) (by omega) (by omega) hsd) (lw_V q1152 q1154 qs60 q97 q1155) 4 hdX2_withinOf rfl rfl ⟨Nat.le_of_ble_eq_true rfl, Nat.le_of_ble_eq_true rfl⟩ (m_preV hK hH) rfl hl.1 rfl (Nat.le_of_ble_eq_true rfl) dX2_within_32 ⟨Nat.le_of_ble_eq_true rfl, Nat.le_of_ble_eq_true rfl⟩ hS (fun r9 ur9 H locs hqr9 hH hS => ?_)
      obtain ⟨r9h0, hr9, rfl⟩ := hqr9
      have e_r9 := hr9
      refine lv_goto (tgt := 40) hF.1 hF.2.1 dX2_within_35 (by decide) ?_
      exact hret _ _ _ _ _ _ dX2_within_40 ⟨_, by subst e_r9; subst e_r3; subst e_r1; unfold fX2_within; first | (rw [if_neg c2, if_neg c4]; done) | (simp only [if_neg c2, if_neg c4]), rfl⟩ hH hS
  · skip
    refine lv_bipush (v := (-101)) hF.1 hF.2.1 dX2_within_10 (by decide) ?_
    have hH : mH ω (g, y, a, va_up z 13 (z 13), kt, hs) H := m_ext (fun _ => rfl) (fun _ => rfl) (fun _ => rfl) (by intro k; by_cases h0 : k = 13; (subst h0; simp [va_up]); simp only [va_up, if_neg h0]) hH
    exact hret _ _ _ _ _ _ dX2_within_12 ⟨_, by subst e_r1; unfold fX2_within; first | (rw [if_pos c2]; done) | (simp only [if_pos c2]), rfl⟩ hH hS

def fX2_edgeOf_b19 (g : Nat → Nat) (t : TW) (td : Nat → Nat) (of : Nat → Nat → Nat) (pn : Nat) (fr : Nat) (to : Nat) (wh : Int32) (i19 : Nat) (S : Int32 × Int32 × Int32) : Int32 × Int32 × Int32 := if S.2.2 ≤ (nI (cll t (g 5) (td pn) (of pn) fr ((8 * i19) + to))) then (S.1, S.2.1, S.2.2) else if (S.2.1 + 1) = wh then (nI ((10000 * i19) + (cll t (g 5) (td pn) (of pn) fr ((8 * i19) + to))), S.2.1 + 1, nI (cll t (g 5) (td pn) (of pn) fr ((8 * i19) + to))) else (S.1, S.2.1 + 1, nI (cll t (g 5) (td pn) (of pn) fr ((8 * i19) + to)))
def fX2_edgeOf (g : Nat → Nat) (t : TW) (td : Nat → Nat) (of : Nat → Nat → Nat) (pn : Nat) (fr : Nat) (to : Nat) (wh : Int32) : Int32 := if wh = 0 then ((it (fX2_edgeOf_b19 g t td of pn fr to wh) 82 ((-1), nI 0, nI 1000000000)).2.1) else ((it (fX2_edgeOf_b19 g t td of pn fr to wh) 82 ((-1), nI 0, nI 1000000000)).1)
def rmX2_edgeOf : Room := { frames := 4, cells := 0, slots := 0, locals := 98 }
theorem hdX2_edgeOf : yX2_edgeOf.cls = RX2 ∧ yX2_edgeOf.cls ≠ "java/lang/invoke/MethodHandle" ∧ yX2_edgeOf.cls ≠ "java/lang/invoke/VarHandle" ∧ (parseMethodDescriptor yX2_edgeOf.desc).map (fun d => d.parameters.length) = some 4 := by decide +kernel
set_option maxHeartbeats 4000000 in
theorem kX2_edgeOf (l : Launch) (ω : OM) (g : Nat → Nat) (y : Nat → Int32) (a z : Nat → Nat → Int32) (kt : Int32) (hs : Int64) (t : TW) (td : Nat → Nat) (of : Nat → Nat → Nat) (hc : mCore g a t td of) (pn : Nat) (fr : Nat) (to : Nat) (wh : Int32) (hpn : pn < 3) (hfr : fr < 8) (hto : to < 8) (hsd : mSide g a) : Met l yX2_edgeOf (ws_ yX2_edgeOf cX2_edgeOf 10 (some .int)) rmX2_edgeOf (va_Pc [.ref (ω.2.1 0 99), .int (nI pn), .int (nI fr), .int (nI to), .int wh] (fun U => mK ω U ∧ mH ω (g, y, a, z, kt, hs) U.heap)) (va_Qi (fun (r : Int32) (u : MS) => ∃ (q0 : Nat → Int32), r = (fX2_edgeOf g t td of pn fr to wh) ∧ u = (g, y, a, va_up z 13 q0, kt, hs)) (fun u t => mH ω u t.heap) ω.2.2.1) 0 0 ω.2.2.1 := by
  refine g_entWi (C := RX2) rfl (by decide) (Nat.le_of_ble_eq_true rfl) ?_
  intro p e s m args below meth c QQ ls H locs hF hK hH hS hl hret
  have hl : lv_has ls 10 [(0, .ref (ω.2.1 0 99)), (1, .int (nI pn)), (2, .int (nI fr)), (3, .int (nI to)), (4, .int wh)] := hl
  have hok := hc.ok
  have hr := hc.rows
  have hn := hr.1
  have hp3 := hsd.1
  have hs6 := hsd.2.1
  refine lv_aload_n hF.1 hF.2.1 dX2_edgeOf_0 rfl (lv_at hl 0 rfl) ?_
  refine lv_iload_n hF.1 hF.2.1 dX2_edgeOf_1 rfl (lv_at hl 1 rfl) ?_
  refine lv_iload_n hF.1 hF.2.1 dX2_edgeOf_2 rfl (lv_at hl 2 rfl) ?_
  refine g_vWv (As := [.int (nI pn), .int (nI fr)]) (rest := []) hF (kX2_layLittleS l ω g y a z kt hs t td of hc pn fr (by omega) (by omega)) (lw_V q1156 q1158 qs61 q97 q1159) 2 hdX2_layLittleS rfl rfl ⟨Nat.le_of_ble_eq_true rfl, Nat.le_of_ble_eq_true rfl⟩ (m_preV hK hH) rfl hl.1 rfl (Nat.le_of_ble_eq_true rfl) dX2_edgeOf_3 ⟨Nat.le_of_ble_eq_true rfl, Nat.le_of_ble_eq_true rfl⟩ hS (fun ur1 H locs hqr1 hH hS => ?_)
  obtain ⟨r1h0, hr1_0, rfl⟩ := hqr1
  refine lv_ldc (v := nI 1000000000) hF.1 hF.2.1 hF.2.2.2.1 (hF.2.2.2.2 _ q1130) dX2_edgeOf_6 ?_
  refine lv_istore (lv' := [(5, .int (nI 1000000000)), (0, .ref (ω.2.1 0 99)), (1, .int (nI pn)), (2, .int (nI fr)), (3, .int (nI to)), (4, .int wh)]) hF.1 hF.2.1 dX2_edgeOf_8 hl (by decide) rfl (fun ls hl => ?_)
  refine lv_iconst (v := nI 0) hF.1 hF.2.1 dX2_edgeOf_10 (by decide) ?_
  refine lv_istore (lv' := [(6, .int (nI 0)), (5, .int (nI 1000000000)), (0, .ref (ω.2.1 0 99)), (1, .int (nI pn)), (2, .int (nI fr)), (3, .int (nI to)), (4, .int wh)]) hF.1 hF.2.1 dX2_edgeOf_11 hl (by decide) rfl (fun ls hl => ?_)
  refine lv_iconst (v := (-1)) hF.1 hF.2.1 dX2_edgeOf_13 (by decide) ?_
  refine lv_istore (lv' := [(7, .int (-1)), (6, .int (nI 0)), (5, .int (nI 1000000000)), (0, .ref (ω.2.1 0 99)), (1, .int (nI pn)), (2, .int (nI fr)), (3, .int (nI to)), (4, .int wh)]) hF.1 hF.2.1 dX2_edgeOf_14 hl (by decide) rfl (fun ls hl => ?_)
  refine lv_iconst (v := nI 0) hF.1 hF.2.1 dX2_edgeOf_16 (by decide) ?_
  refine lv_istore (lv' := [(8, .int (nI 0)), (7, .int (-1)), (6, .int (nI 0)), (5, .int (nI 1000000000)), (0, .ref (ω.2.1 0 99)), (1, .int (nI pn)), (2, .int (nI fr)), (3, .int (nI to)), (4, .int wh)]) hF.1 hF.2.1 dX2_edgeOf_17 hl (by decide) rfl (fun ls hl => ?_)
  have lp19_141 : ∀ (d19 i19 : Nat) (x19_7 : Int32) (x19_6 : Int32) (x19_5 : Int32) (ls : Array Slot), i19 + d19 = 82 → (x19_7, x19_6, x19_5) = it (fX2_edgeOf_b19 g t td of pn fr to wh) i19 ((-1), nI 0, nI 1000000000) → lv_has ls 10 [(8, .int (nI i19)), (7, .int x19_7), (6, .int x19_6), (5, .int x19_5), (0, .ref (ω.2.1 0 99)), (3, .int (nI to)), (4, .int wh)] → W p l e rmX2_edgeOf s m args below meth c H locs 0 0 QQ (F0 m 19 ls []) := by
    intro d19
    induction d19 with
    | zero =>
      intro i19 x19_7 x19_6 x19_5 ls hi19 hS19 hl
      have hj19 : 82 = i19 := by omega
      subst hj19
      have e_x19_7 : x19_7 = (it (fX2_edgeOf_b19 g t td of pn fr to wh) 82 ((-1), nI 0, nI 1000000000)).1 := by rw [← hS19]
      have e_x19_6 : x19_6 = (it (fX2_edgeOf_b19 g t td of pn fr to wh) 82 ((-1), nI 0, nI 1000000000)).2.1 := by rw [← hS19]
      have e_x19_5 : x19_5 = (it (fX2_edgeOf_b19 g t td of pn fr to wh) 82 ((-1), nI 0, nI 1000000000)).2.2 := by rw [← hS19]
      refine lv_iload hF.1 hF.2.1 dX2_edgeOf_19 (lv_at hl 0 rfl) ?_
      refine lv_bipush (v := nI 82) hF.1 hF.2.1 dX2_edgeOf_21 (by decide) ?_
      refine n_ge (tgt := 83) hF.1 hF.2.1 dX2_edgeOf_23 (by decide) (by omega) (by omega) (fun c2 => ?_) (fun c2 => ?_)
      · skip
        refine lv_iload hF.1 hF.2.1 dX2_edgeOf_83 (lv_at hl 6 rfl) ?_
        refine lv_if_ne (tgt := 93) hF.1 hF.2.1 dX2_edgeOf_85 (by decide) (fun c3 => ?_) (fun c3 => ?_)
        · skip
          refine lv_iload hF.1 hF.2.1 dX2_edgeOf_93 (lv_at hl 1 rfl) ?_
          exact hret _ _ _ _ _ _ dX2_edgeOf_95 ⟨_, by subst e_x19_5; subst e_x19_6; subst e_x19_7; unfold fX2_edgeOf; first | (rw [if_neg c3]; done) | (simp only [if_neg c3]), rfl⟩ hH hS
        · skip
          refine lv_iload hF.1 hF.2.1 dX2_edgeOf_88 (lv_at hl 2 rfl) ?_
          refine lv_goto (tgt := 95) hF.1 hF.2.1 dX2_edgeOf_90 (by decide) ?_
          exact hret _ _ _ _ _ _ dX2_edgeOf_95 ⟨_, by subst e_x19_5; subst e_x19_6; subst e_x19_7; unfold fX2_edgeOf; first | (rw [if_pos c3]; done) | (simp only [if_pos c3]), rfl⟩ hH hS
      · exact absurd (by omega) c2
    | succ d19 ih =>
      intro i19 x19_7 x19_6 x19_5 ls hi19 hS19 hl
      refine lv_iload hF.1 hF.2.1 dX2_edgeOf_19 (lv_at hl 0 rfl) ?_
      refine lv_bipush (v := nI 82) hF.1 hF.2.1 dX2_edgeOf_21 (by decide) ?_
      refine n_ge (tgt := 83) hF.1 hF.2.1 dX2_edgeOf_23 (by decide) (by omega) (by omega) (fun c4 => ?_) (fun c4 => ?_)
      · exact absurd c4 (by omega)
      · skip
        refine lv_aload_n hF.1 hF.2.1 dX2_edgeOf_26 rfl (lv_at hl 4 rfl) ?_
        refine mg_13 hF hK hH q984 dX2_edgeOf_27 ?_
        refine lv_bipush (v := nI 8) hF.1 hF.2.1 dX2_edgeOf_30 (by decide) ?_
        refine lv_iload hF.1 hF.2.1 dX2_edgeOf_32 (lv_at hl 0 rfl) ?_
        refine n_imul hF.1 hF.2.1 dX2_edgeOf_34 ?_
        refine lv_iload_n hF.1 hF.2.1 dX2_edgeOf_35 rfl (lv_at hl 5 rfl) ?_
        refine n_iadd hF.1 hF.2.1 dX2_edgeOf_36 ?_
        refine m_zld hF hK hH 13 (n := 656) rfl rfl (by decide) rfl (f := r1h0) rfl (i := (8 * i19) + to) (by omega) (by decide) dX2_edgeOf_37 ?_
        refine n_top (y := nI (cll t (g 5) (td pn) (of pn) fr ((8 * i19) + to))) (hr1_0 _ (by omega)) ?_
        refine lv_istore (lv' := [(9, .int (nI (cll t (g 5) (td pn) (of pn) fr ((8 * i19) + to)))), (8, .int (nI i19)), (7, .int x19_7), (6, .int x19_6), (5, .int x19_5), (0, .ref (ω.2.1 0 99)), (3, .int (nI to)), (4, .int wh)]) hF.1 hF.2.1 dX2_edgeOf_38 hl (by decide) rfl (fun ls hl => ?_)
        refine lv_iload hF.1 hF.2.1 dX2_edgeOf_40 (lv_at hl 0 rfl) ?_
        refine lv_iload hF.1 hF.2.1 dX2_edgeOf_42 (lv_at hl 4 rfl) ?_
        refine lv_icmp_ge (tgt := 77) hF.1 hF.2.1 dX2_edgeOf_44 (by decide) (fun c5 => ?_) (fun c5 => ?_)
        · skip
          refine n_iinc (lv' := [(8, .int (nI (i19 + 1))), (9, .int (nI (cll t (g 5) (td pn) (of pn) fr ((8 * i19) + to)))), (7, .int x19_7), (6, .int x19_6), (5, .int x19_5), (0, .ref (ω.2.1 0 99)), (3, .int (nI to)), (4, .int wh)]) hF.1 hF.2.1 dX2_edgeOf_77 hl (k := 1) rfl (by decide) rfl (fun ls hl => ?_)
          refine lv_goto (tgt := 19) hF.1 hF.2.1 dX2_edgeOf_80 (by decide) ?_
          exact ih (i19 + 1) _ _ _ _ (by omega) (by rw [it_succ (fX2_edgeOf_b19 g t td of pn fr to wh) i19 _, ← hS19]; unfold fX2_edgeOf_b19; dsimp only; first | (rw [if_pos c5]; done) | (simp only [if_pos c5])) (lv_sub hl [0, 2, 3, 4, 5, 6, 7] rfl)
        · skip
          refine lv_iload hF.1 hF.2.1 dX2_edgeOf_47 (lv_at hl 0 rfl) ?_
          refine lv_istore (lv' := [(5, .int (nI (cll t (g 5) (td pn) (of pn) fr ((8 * i19) + to)))), (9, .int (nI (cll t (g 5) (td pn) (of pn) fr ((8 * i19) + to)))), (8, .int (nI i19)), (7, .int x19_7), (6, .int x19_6), (0, .ref (ω.2.1 0 99)), (3, .int (nI to)), (4, .int wh)]) hF.1 hF.2.1 dX2_edgeOf_49 hl (by decide) rfl (fun ls hl => ?_)
          refine lv_iinc (v := x19_6 + 1) (lv' := [(6, .int (x19_6 + 1)), (5, .int (nI (cll t (g 5) (td pn) (of pn) fr ((8 * i19) + to)))), (9, .int (nI (cll t (g 5) (td pn) (of pn) fr ((8 * i19) + to)))), (8, .int (nI i19)), (7, .int x19_7), (0, .ref (ω.2.1 0 99)), (3, .int (nI to)), (4, .int wh)]) hF.1 hF.2.1 dX2_edgeOf_51 hl (k := 4) rfl (by rfl) (by decide) rfl (fun ls hl => ?_)
          refine lv_iload hF.1 hF.2.1 dX2_edgeOf_54 (lv_at hl 0 rfl) ?_
          refine lv_iload hF.1 hF.2.1 dX2_edgeOf_56 (lv_at hl 7 rfl) ?_
          refine lv_icmp_ne (tgt := 73) hF.1 hF.2.1 dX2_edgeOf_58 (by decide) (fun c6 => ?_) (fun c6 => ?_)
          · skip
            refine lv_iload hF.1 hF.2.1 dX2_edgeOf_73 (lv_at hl 4 rfl) ?_
            refine lv_istore (lv' := [(7, .int x19_7), (6, .int (x19_6 + 1)), (5, .int (nI (cll t (g 5) (td pn) (of pn) fr ((8 * i19) + to)))), (9, .int (nI (cll t (g 5) (td pn) (of pn) fr ((8 * i19) + to)))), (8, .int (nI i19)), (0, .ref (ω.2.1 0 99)), (3, .int (nI to)), (4, .int wh)]) hF.1 hF.2.1 dX2_edgeOf_75 hl (by decide) rfl (fun ls hl => ?_)
            refine n_iinc (lv' := [(8, .int (nI (i19 + 1))), (7, .int x19_7), (6, .int (x19_6 + 1)), (5, .int (nI (cll t (g 5) (td pn) (of pn) fr ((8 * i19) + to)))), (9, .int (nI (cll t (g 5) (td pn) (of pn) fr ((8 * i19) + to)))), (0, .ref (ω.2.1 0 99)), (3, .int (nI to)), (4, .int wh)]) hF.1 hF.2.1 dX2_edgeOf_77 hl (k := 4) rfl (by decide) rfl (fun ls hl => ?_)
            refine lv_goto (tgt := 19) hF.1 hF.2.1 dX2_edgeOf_80 (by decide) ?_
            exact ih (i19 + 1) _ _ _ _ (by omega) (by rw [it_succ (fX2_edgeOf_b19 g t td of pn fr to wh) i19 _, ← hS19]; unfold fX2_edgeOf_b19; dsimp only; first | (rw [if_neg c5, if_neg c6]; done) | (simp only [if_neg c5, if_neg c6])) (lv_sub hl [0, 1, 2, 3, 5, 6, 7] rfl)
          · skip
            refine lv_sipush (v := nI 10000) hF.1 hF.2.1 dX2_edgeOf_61 (by decide) ?_
            refine lv_iload hF.1 hF.2.1 dX2_edgeOf_64 (lv_at hl 3 rfl) ?_
            refine n_imul hF.1 hF.2.1 dX2_edgeOf_66 ?_
            refine lv_iload hF.1 hF.2.1 dX2_edgeOf_67 (lv_at hl 2 rfl) ?_
            refine n_iadd hF.1 hF.2.1 dX2_edgeOf_69 ?_
            refine lv_goto (tgt := 75) hF.1 hF.2.1 dX2_edgeOf_70 (by decide) ?_
            refine lv_istore (lv' := [(7, .int (nI ((10000 * i19) + (cll t (g 5) (td pn) (of pn) fr ((8 * i19) + to))))), (6, .int (x19_6 + 1)), (5, .int (nI (cll t (g 5) (td pn) (of pn) fr ((8 * i19) + to)))), (9, .int (nI (cll t (g 5) (td pn) (of pn) fr ((8 * i19) + to)))), (8, .int (nI i19)), (0, .ref (ω.2.1 0 99)), (3, .int (nI to)), (4, .int wh)]) hF.1 hF.2.1 dX2_edgeOf_75 hl (by decide) rfl (fun ls hl => ?_)
            refine n_iinc (lv' := [(8, .int (nI (i19 + 1))), (7, .int (nI ((10000 * i19) + (cll t (g 5) (td pn) (of pn) fr ((8 * i19) + to))))), (6, .int (x19_6 + 1)), (5, .int (nI (cll t (g 5) (td pn) (of pn) fr ((8 * i19) + to)))), (9, .int (nI (cll t (g 5) (td pn) (of pn) fr ((8 * i19) + to)))), (0, .ref (ω.2.1 0 99)), (3, .int (nI to)), (4, .int wh)]) hF.1 hF.2.1 dX2_edgeOf_77 hl (k := 4) rfl (by decide) rfl (fun ls hl => ?_)
            refine lv_goto (tgt := 19) hF.1 hF.2.1 dX2_edgeOf_80 (by decide) ?_
            exact ih (i19 + 1) _ _ _ _ (by omega) (by rw [it_succ (fX2_edgeOf_b19 g t td of pn fr to wh) i19 _, ← hS19]; unfold fX2_edgeOf_b19; dsimp only; first | (rw [if_neg c5, if_pos c6]; done) | (simp only [if_neg c5, if_pos c6])) (lv_sub hl [0, 1, 2, 3, 5, 6, 7] rfl)
  exact lp19_141 82 0 _ _ _ _ (by omega) rfl (lv_sub hl [0, 1, 2, 3, 4, 7, 8] rfl)

def fX2_edge (g : Nat → Nat) (t : TW) (td : Nat → Nat) (of : Nat → Nat → Nat) (pn : Int32) (fr : Int32) (to : Int32) (wh : Int32) : Int32 := if (fX2_isTrip g pn fr to) = 0 then (-101) else if (fX2_in wh.toInt64 0 20) = 0 then (-102) else (fX2_edgeOf g t td of (toN pn) (toN fr) (toN to) wh)
def rmX2_edge : Room := { frames := 5, cells := 0, slots := 0, locals := 127 }
theorem hdX2_edge : yX2_edge.cls = RX2 ∧ yX2_edge.cls ≠ "java/lang/invoke/MethodHandle" ∧ yX2_edge.cls ≠ "java/lang/invoke/VarHandle" ∧ (parseMethodDescriptor yX2_edge.desc).map (fun d => d.parameters.length) = some 4 := by decide +kernel
set_option maxHeartbeats 4000000 in
theorem kX2_edge (l : Launch) (ω : OM) (g : Nat → Nat) (y : Nat → Int32) (a z : Nat → Nat → Int32) (kt : Int32) (hs : Int64) (t : TW) (td : Nat → Nat) (of : Nat → Nat → Nat) (hc : mCore g a t td of) (pn : Int32) (fr : Int32) (to : Int32) (wh : Int32) (hsd : mSide g a) : Met l yX2_edge (ws_ yX2_edge cX2_edge 5 (some .int)) rmX2_edge (va_Pc [.ref (ω.2.1 0 99), .int pn, .int fr, .int to, .int wh] (fun U => mK ω U ∧ mH ω (g, y, a, z, kt, hs) U.heap)) (va_Qi (fun (r : Int32) (u : MS) => ∃ (q0 : Nat → Int32), r = (fX2_edge g t td of pn fr to wh) ∧ u = (g, y, a, va_up z 13 q0, kt, hs)) (fun u t => mH ω u t.heap) ω.2.2.1) 0 0 ω.2.2.1 := by
  refine g_entWi (C := RX2) rfl (by decide) (Nat.le_of_ble_eq_true rfl) ?_
  intro p e s m args below meth c QQ ls H locs hF hK hH hS hl hret
  have hl : lv_has ls 5 [(0, .ref (ω.2.1 0 99)), (1, .int pn), (2, .int fr), (3, .int to), (4, .int wh)] := hl
  have hok := hc.ok
  have hr := hc.rows
  have hn := hr.1
  have hp3 := hsd.1
  have hs6 := hsd.2.1
  refine lv_aload_n hF.1 hF.2.1 dX2_edge_0 rfl (lv_at hl 0 rfl) ?_
  refine lv_iload_n hF.1 hF.2.1 dX2_edge_1 rfl (lv_at hl 1 rfl) ?_
  refine lv_iload_n hF.1 hF.2.1 dX2_edge_2 rfl (lv_at hl 2 rfl) ?_
  refine lv_iload_n hF.1 hF.2.1 dX2_edge_3 rfl (lv_at hl 3 rfl) ?_
  refine g_vPi (As := [.int pn, .int fr, .int to]) (rest := []) hF (kX2_isTrip l ω g y a z kt hs pn fr to) (lw_V q1099 q1101 qs50 q97 q1102) 3 hdX2_isTrip rfl rfl ⟨Nat.le_of_ble_eq_true rfl, Nat.le_of_ble_eq_true rfl⟩ (m_preV hK hH) rfl hl.1 rfl (Nat.le_of_ble_eq_true rfl) dX2_edge_4 ⟨Nat.zero_le _, Nat.zero_le _⟩ (fun r1 e_r1 => ?_)
  refine lv_if_ne (tgt := 13) hF.1 hF.2.1 dX2_edge_7 (by decide) (fun c2 => ?_) (fun c2 => ?_)
  · skip
    refine lv_iload hF.1 hF.2.1 dX2_edge_13 (lv_at hl 4 rfl) ?_
    refine lv_i2l (v := wh.toInt64) hF.1 hF.2.1 dX2_edge_15 rfl ?_
    refine lv_lconst (v := 0) hF.1 hF.2.1 dX2_edge_16 (by decide) ?_
    refine lv_ldc2 (v := 20) hF.1 hF.2.1 hF.2.2.2.1 (hF.2.2.2.2 _ q1168) dX2_edge_17 ?_
    refine g_sPi (As := [.long wh.toInt64, .long 0, .long 20]) (rest := []) hF (kX2_in l wh.toInt64 0 20) (lw_S q1061 q1062 q97 q1063) 3 hdX2_in.2 rfl rfl ⟨Nat.le_of_ble_eq_true rfl, Nat.le_of_ble_eq_true rfl⟩ g_pre0 rfl hl.1 rfl (Nat.le_of_ble_eq_true rfl) dX2_edge_20 ⟨Nat.zero_le _, Nat.zero_le _⟩ (fun r3 e_r3 => ?_)
    refine lv_if_eq (tgt := 38) hF.1 hF.2.1 dX2_edge_23 (by decide) (fun c4 => ?_) (fun c4 => ?_)
    · skip
      refine lv_bipush (v := (-102)) hF.1 hF.2.1 dX2_edge_38 (by decide) ?_
      have hH : mH ω (g, y, a, va_up z 13 (z 13), kt, hs) H := m_ext (fun _ => rfl) (fun _ => rfl) (fun _ => rfl) (by intro k; by_cases h0 : k = 13; (subst h0; simp [va_up]); simp only [va_up, if_neg h0]) hH
      exact hret _ _ _ _ _ _ dX2_edge_40 ⟨_, by subst e_r3; subst e_r1; unfold fX2_edge; first | (rw [if_neg c2, if_pos c4]; done) | (simp only [if_neg c2, if_pos c4]), rfl⟩ hH hS
    · skip
      obtain ⟨b5e, b5l⟩ := g_lift (r := pn) (n := 3) (mTripP hp3 (by rw [← e_r1]; exact c2)) (by omega)
      obtain ⟨b6e, b6l⟩ := g_lift (r := fr) (n := 8) (mTripF (by rw [← e_r1]; exact c2)) (by omega)
      obtain ⟨b7e, b7l⟩ := g_lift (r := to) (n := 8) (mTripT (by rw [← e_r1]; exact c2)) (by omega)
      refine lv_aload_n hF.1 hF.2.1 dX2_edge_26 rfl (lv_at hl 0 rfl) ?_
      refine lv_iload_n hF.1 hF.2.1 dX2_edge_27 rfl (lv_at hl 1 rfl) ?_
      refine n_top b5e ?_
      refine lv_iload_n hF.1 hF.2.1 dX2_edge_28 rfl (lv_at hl 2 rfl) ?_
      refine n_top b6e ?_
      refine lv_iload_n hF.1 hF.2.1 dX2_edge_29 rfl (lv_at hl 3 rfl) ?_
      refine n_top b7e ?_
      refine lv_iload hF.1 hF.2.1 dX2_edge_30 (lv_at hl 4 rfl) ?_
      refine g_vWi (As := [.int (nI (toN pn)), .int (nI (toN fr)), .int (nI (toN to)), .int wh]) (rest := []) hF (kX2_edgeOf l ω g y a z kt hs t td of hc (toN pn) (toN fr) (toN to) wh (by omega) (by omega) (by omega) hsd) (lw_V q1169 q1171 qs63 q97 q1172) 4 hdX2_edgeOf rfl rfl ⟨Nat.le_of_ble_eq_true rfl, Nat.le_of_ble_eq_true rfl⟩ (m_preV hK hH) rfl hl.1 rfl (Nat.le_of_ble_eq_true rfl) dX2_edge_32 ⟨Nat.le_of_ble_eq_true rfl, Nat.le_of_ble_eq_true rfl⟩ hS (fun r8 ur8 H locs hqr8 hH hS => ?_)
      obtain ⟨r8h0, hr8, rfl⟩ := hqr8
      have e_r8 := hr8
      refine lv_goto (tgt := 40) hF.1 hF.2.1 dX2_edge_35 (by decide) ?_
      exact hret _ _ _ _ _ _ dX2_edge_40 ⟨_, by subst e_r8; subst e_r3; subst e_r1; unfold fX2_edge; first | (rw [if_neg c2, if_neg c4]; done) | (simp only [if_neg c2, if_neg c4]), rfl⟩ hH hS
  · skip
    refine lv_bipush (v := (-101)) hF.1 hF.2.1 dX2_edge_10 (by decide) ?_
    have hH : mH ω (g, y, a, va_up z 13 (z 13), kt, hs) H := m_ext (fun _ => rfl) (fun _ => rfl) (fun _ => rfl) (by intro k; by_cases h0 : k = 13; (subst h0; simp [va_up]); simp only [va_up, if_neg h0]) hH
    exact hret _ _ _ _ _ _ dX2_edge_12 ⟨_, by subst e_r1; unfold fX2_edge; first | (rw [if_pos c2]; done) | (simp only [if_pos c2]), rfl⟩ hH hS

def fX2_rail (g : Nat → Nat) (t : TW) (td : Nat → Nat) (of : Nat → Nat → Nat) (pn : Int32) (fr : Int32) (to : Int32) : Int32 := if (fX2_isTrip g pn fr to) = 0 then (-101) else (fX2_railOfS g t td of (toN pn) (toN fr) (toN to))
def rmX2_rail : Room := { frames := 4, cells := 0, slots := 0, locals := 99 }
theorem hdX2_rail : yX2_rail.cls = RX2 ∧ yX2_rail.cls ≠ "java/lang/invoke/MethodHandle" ∧ yX2_rail.cls ≠ "java/lang/invoke/VarHandle" ∧ (parseMethodDescriptor yX2_rail.desc).map (fun d => d.parameters.length) = some 3 := by decide +kernel
set_option maxHeartbeats 4000000 in
theorem kX2_rail (l : Launch) (ω : OM) (g : Nat → Nat) (y : Nat → Int32) (a z : Nat → Nat → Int32) (kt : Int32) (hs : Int64) (t : TW) (td : Nat → Nat) (of : Nat → Nat → Nat) (hc : mCore g a t td of) (pn : Int32) (fr : Int32) (to : Int32) (hsd : mSide g a) : Met l yX2_rail (ws_ yX2_rail cX2_rail 4 (some .int)) rmX2_rail (va_Pc [.ref (ω.2.1 0 99), .int pn, .int fr, .int to] (fun U => mK ω U ∧ mH ω (g, y, a, z, kt, hs) U.heap)) (va_Qi (fun (r : Int32) (u : MS) => ∃ (q0 : Nat → Int32), r = (fX2_rail g t td of pn fr to) ∧ u = (g, y, a, va_up z 14 q0, kt, hs)) (fun u t => mH ω u t.heap) ω.2.2.1) 0 0 ω.2.2.1 := by
  refine g_entWi (C := RX2) rfl (by decide) (Nat.le_of_ble_eq_true rfl) ?_
  intro p e s m args below meth c QQ ls H locs hF hK hH hS hl hret
  have hl : lv_has ls 4 [(0, .ref (ω.2.1 0 99)), (1, .int pn), (2, .int fr), (3, .int to)] := hl
  have hok := hc.ok
  have hr := hc.rows
  have hn := hr.1
  have hp3 := hsd.1
  have hs6 := hsd.2.1
  refine lv_aload_n hF.1 hF.2.1 dX2_rail_0 rfl (lv_at hl 0 rfl) ?_
  refine lv_iload_n hF.1 hF.2.1 dX2_rail_1 rfl (lv_at hl 1 rfl) ?_
  refine lv_iload_n hF.1 hF.2.1 dX2_rail_2 rfl (lv_at hl 2 rfl) ?_
  refine lv_iload_n hF.1 hF.2.1 dX2_rail_3 rfl (lv_at hl 3 rfl) ?_
  refine g_vPi (As := [.int pn, .int fr, .int to]) (rest := []) hF (kX2_isTrip l ω g y a z kt hs pn fr to) (lw_V q1099 q1101 qs50 q97 q1102) 3 hdX2_isTrip rfl rfl ⟨Nat.le_of_ble_eq_true rfl, Nat.le_of_ble_eq_true rfl⟩ (m_preV hK hH) rfl hl.1 rfl (Nat.le_of_ble_eq_true rfl) dX2_rail_4 ⟨Nat.zero_le _, Nat.zero_le _⟩ (fun r1 e_r1 => ?_)
  refine lv_if_eq (tgt := 20) hF.1 hF.2.1 dX2_rail_7 (by decide) (fun c2 => ?_) (fun c2 => ?_)
  · skip
    refine lv_bipush (v := (-101)) hF.1 hF.2.1 dX2_rail_20 (by decide) ?_
    have hH : mH ω (g, y, a, va_up z 14 (z 14), kt, hs) H := m_ext (fun _ => rfl) (fun _ => rfl) (fun _ => rfl) (by intro k; by_cases h0 : k = 14; (subst h0; simp [va_up]); simp only [va_up, if_neg h0]) hH
    exact hret _ _ _ _ _ _ dX2_rail_22 ⟨_, by subst e_r1; unfold fX2_rail; first | (rw [if_pos c2]; done) | (simp only [if_pos c2]), rfl⟩ hH hS
  · skip
    obtain ⟨b3e, b3l⟩ := g_lift (r := pn) (n := 3) (mTripP hp3 (by rw [← e_r1]; exact c2)) (by omega)
    obtain ⟨b4e, b4l⟩ := g_lift (r := fr) (n := 8) (mTripF (by rw [← e_r1]; exact c2)) (by omega)
    obtain ⟨b5e, b5l⟩ := g_lift (r := to) (n := 8) (mTripT (by rw [← e_r1]; exact c2)) (by omega)
    refine lv_aload_n hF.1 hF.2.1 dX2_rail_10 rfl (lv_at hl 0 rfl) ?_
    refine lv_iload_n hF.1 hF.2.1 dX2_rail_11 rfl (lv_at hl 1 rfl) ?_
    refine n_top b3e ?_
    refine lv_iload_n hF.1 hF.2.1 dX2_rail_12 rfl (lv_at hl 2 rfl) ?_
    refine n_top b4e ?_
    refine lv_iload_n hF.1 hF.2.1 dX2_rail_13 rfl (lv_at hl 3 rfl) ?_
    refine n_top b5e ?_
    refine g_vWi (As := [.int (nI (toN pn)), .int (nI (toN fr)), .int (nI (toN to))]) (rest := []) hF (kX2_railOfS l ω g y a z kt hs t td of hc (toN pn) (toN fr) (toN to) (by omega) (by omega) (by omega)) (lw_V q1177 q1179 qs64 q97 q1180) 3 hdX2_railOfS rfl rfl ⟨Nat.le_of_ble_eq_true rfl, Nat.le_of_ble_eq_true rfl⟩ (m_preV hK hH) rfl hl.1 rfl (Nat.le_of_ble_eq_true rfl) dX2_rail_14 ⟨Nat.le_of_ble_eq_true rfl, Nat.le_of_ble_eq_true rfl⟩ hS (fun r6 ur6 H locs hqr6 hH hS => ?_)
    obtain ⟨r6h0, hr6, rfl⟩ := hqr6
    have e_r6 := hr6
    refine lv_goto (tgt := 22) hF.1 hF.2.1 dX2_rail_17 (by decide) ?_
    exact hret _ _ _ _ _ _ dX2_rail_22 ⟨_, by subst e_r6; subst e_r1; unfold fX2_rail; first | (rw [if_neg c2]; done) | (simp only [if_neg c2]), rfl⟩ hH hS

