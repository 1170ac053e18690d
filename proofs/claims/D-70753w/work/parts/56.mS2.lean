/-! MODEL: people, rides, matches: answers by the core -/
set_option maxRecDepth 100000
def fX2_firstBy (g : Nat → Nat) (t : TW) (of : Nat → Nat → Nat) (pn : Nat) (tv : Nat) (fr : Nat) (to : Nat) : Int32 := (fX2_firstStreetS g t of pn tv fr to (fX2_everyStreet g))
theorem fX2_firstBy_lift {g : Nat → Nat} {a : Nat → Nat → Int32} {t : TW} {td : Nat → Nat} {of : Nat → Nat → Nat} (hc : mCore g a t td of) {pn tv fr to : Nat} (hpn : pn < 3) (htv : tv ≤ 9) (hfr : fr < 8) (hto : to < 8) (hct : ¬ fr = to) : ∃ j, j < 10 ∧ fX2_firstBy g t of pn tv fr to + nI 1 = nI j := by
  show ∃ j, j < 10 ∧ cfs t (g 5) tv (of pn) (fX2_everyStreet g) fr to + nI 1 = nI j
  unfold cfs
  split
  · rename_i hf
    have hn9 := hc.ok.1
    have hw := cwl_pos hc.ok htv (hc.of5 hpn) (fX2_everyStreet g) hto hfr hf hct
    exact ⟨cws t (g 5) tv (of pn) (fX2_everyStreet g) fr to 0 + 1, by have := hw.2; omega, by rw [nI_add]⟩
  · exact ⟨0, by omega, by decide⟩
def rmX2_firstBy : Room := { frames := 4, cells := 0, slots := 0, locals := 100 }
theorem hdX2_firstBy : yX2_firstBy.cls = RX2 ∧ yX2_firstBy.cls ≠ "java/lang/invoke/MethodHandle" ∧ yX2_firstBy.cls ≠ "java/lang/invoke/VarHandle" ∧ (parseMethodDescriptor yX2_firstBy.desc).map (fun d => d.parameters.length) = some 4 := by decide +kernel
set_option maxHeartbeats 4000000 in
theorem kX2_firstBy (l : Launch) (ω : OM) (g : Nat → Nat) (y : Nat → Int32) (a z : Nat → Nat → Int32) (kt : Int32) (hs : Int64) (t : TW) (td : Nat → Nat) (of : Nat → Nat → Nat) (hc : mCore g a t td of) (pn : Nat) (tv : Nat) (fr : Nat) (to : Nat) (hpn : pn < 3) (htv : tv ≤ 9) (hfr : fr < 8) (hto : to < 8) (hct : ¬ fr = to) (hsd : mSide g a) : Met l yX2_firstBy (ws_ yX2_firstBy cX2_firstBy 5 (some .int)) rmX2_firstBy (va_Pc [.ref (ω.2.1 0 99), .int (nI pn), .int (nI tv), .int (nI fr), .int (nI to)] (fun U => mK ω U ∧ mH ω (g, y, a, z, kt, hs) U.heap)) (va_Qi (fun (r : Int32) (u : MS) => ∃ (q0 : Nat → Int32), r = (fX2_firstBy g t of pn tv fr to) ∧ u = (g, y, a, va_up z 11 q0, kt, hs)) (fun u t => mH ω u t.heap) ω.2.2.1) 0 0 ω.2.2.1 := by
  refine g_entWi (C := RX2) rfl (by decide) (Nat.le_of_ble_eq_true rfl) ?_
  intro p e s m args below meth c QQ ls H locs hF hK hH hS hl hret
  have hl : lv_has ls 5 [(0, .ref (ω.2.1 0 99)), (1, .int (nI pn)), (2, .int (nI tv)), (3, .int (nI fr)), (4, .int (nI to))] := hl
  have hok := hc.ok
  have hr := hc.rows
  have hn := hr.1
  have hp3 := hsd.1
  have hs6 := hsd.2.1
  refine lv_aload_n hF.1 hF.2.1 dX2_firstBy_0 rfl (lv_at hl 0 rfl) ?_
  refine lv_iload_n hF.1 hF.2.1 dX2_firstBy_1 rfl (lv_at hl 1 rfl) ?_
  refine lv_iload_n hF.1 hF.2.1 dX2_firstBy_2 rfl (lv_at hl 2 rfl) ?_
  refine lv_iload hF.1 hF.2.1 dX2_firstBy_3 (lv_at hl 4 rfl) ?_
  refine lv_aload_n hF.1 hF.2.1 dX2_firstBy_5 rfl (lv_at hl 0 rfl) ?_
  refine g_vPi (As := []) (rest := [.int (nI to), .int (nI tv), .int (nI pn), .ref (ω.2.1 0 99)]) hF (kX2_everyStreet l ω g y a z kt hs) (lw_V q1118 q1120 qs53 q97 q1121) 0 hdX2_everyStreet rfl rfl ⟨Nat.le_of_ble_eq_true rfl, Nat.le_of_ble_eq_true rfl⟩ (m_preV hK hH) rfl hl.1 rfl (Nat.le_of_ble_eq_true rfl) dX2_firstBy_6 ⟨Nat.zero_le _, Nat.zero_le _⟩ (fun r1 e_r1 => ?_)
  refine g_vWv (As := [.int (nI pn), .int (nI tv), .int (nI to), .int r1]) (rest := []) hF (kX2_layAwayS l ω g y a z kt hs t td of hc pn tv to r1 (by omega) (by omega) (by omega)) (lw_V q1126 q1128 qs55 q97 q1129) 4 hdX2_layAwayS rfl rfl ⟨Nat.le_of_ble_eq_true rfl, Nat.le_of_ble_eq_true rfl⟩ (m_preV hK hH) rfl hl.1 rfl (Nat.le_of_ble_eq_true rfl) dX2_firstBy_9 ⟨Nat.le_of_ble_eq_true rfl, Nat.le_of_ble_eq_true rfl⟩ hS (fun ur2 H locs hqr2 hH hS => ?_)
  obtain ⟨r2h0, hr2_0, rfl⟩ := hqr2
  refine lv_aload_n hF.1 hF.2.1 dX2_firstBy_12 rfl (lv_at hl 0 rfl) ?_
  refine lv_iload_n hF.1 hF.2.1 dX2_firstBy_13 rfl (lv_at hl 1 rfl) ?_
  refine lv_iload_n hF.1 hF.2.1 dX2_firstBy_14 rfl (lv_at hl 2 rfl) ?_
  refine lv_iload_n hF.1 hF.2.1 dX2_firstBy_15 rfl (lv_at hl 3 rfl) ?_
  refine lv_aload_n hF.1 hF.2.1 dX2_firstBy_16 rfl (lv_at hl 0 rfl) ?_
  refine g_vPi (As := []) (rest := [.int (nI fr), .int (nI tv), .int (nI pn), .ref (ω.2.1 0 99)]) hF (kX2_everyStreet l ω g y a (va_up z 11 r2h0) kt hs) (lw_V q1118 q1120 qs53 q97 q1121) 0 hdX2_everyStreet rfl rfl ⟨Nat.le_of_ble_eq_true rfl, Nat.le_of_ble_eq_true rfl⟩ (m_preV hK hH) rfl hl.1 rfl (Nat.le_of_ble_eq_true rfl) dX2_firstBy_17 ⟨Nat.zero_le _, Nat.zero_le _⟩ (fun r3 e_r3 => ?_)
  refine g_vPi (As := [.int (nI pn), .int (nI tv), .int (nI fr), .int r3]) (rest := []) hF (kX2_firstStreetS l ω g y a (va_up z 11 r2h0) kt hs t td of hc pn tv fr r3 to (by omega) (by omega) (by omega) (by omega) hct (by rw [e_r3, ← e_r1]; exact hr2_0)) (lw_V q1139 q1141 qs58 q97 q1142) 4 hdX2_firstStreetS rfl rfl ⟨Nat.le_of_ble_eq_true rfl, Nat.le_of_ble_eq_true rfl⟩ (m_preV hK hH) rfl hl.1 rfl (Nat.le_of_ble_eq_true rfl) dX2_firstBy_20 ⟨Nat.zero_le _, Nat.zero_le _⟩ (fun r4 e_r4 => ?_)
  exact hret _ _ _ _ _ _ dX2_firstBy_23 ⟨_, by subst e_r4; subst e_r3; subst e_r1; rfl, rfl⟩ hH hS

def fX2_tendersOf_b16 (g : Nat → Nat) (a : Nat → Nat → Int32) (t : TW) (of : Nat → Nat → Nat) (pn : Nat) (i4 : Nat) (i16 : Nat) (S : Int32) : Int32 := if (a 16 (4 * i16)) = (nI pn) then if S = 0 then nI 0 else if (fX2_firstBy g t of pn i4 (toN (a 16 ((4 * i16) + 1))) (toN (a 16 ((4 * i16) + 2)))) = (a 16 ((4 * i16) + 3)) then nI 1 else nI 0 else S
def fX2_tendersOf_b4 (g : Nat → Nat) (a : Nat → Nat → Int32) (t : TW) (of : Nat → Nat → Nat) (pn : Nat) (i4 : Nat) (S : Int32) : Int32 := if (it (fX2_tendersOf_b16 g a t of pn i4) (g 15) (nI 1)) = 0 then S ||| (nI 0) else S ||| ((nI 1) <<< ((nI i4) &&& 31))
def fX2_tendersOf (g : Nat → Nat) (a : Nat → Nat → Int32) (t : TW) (of : Nat → Nat → Nat) (pn : Nat) : Int32 := (it (fX2_tendersOf_b4 g a t of pn) 10 (nI 0))
def rmX2_tendersOf : Room := { frames := 5, cells := 0, slots := 0, locals := 124 }
theorem hdX2_tendersOf : yX2_tendersOf.cls = RX2 ∧ yX2_tendersOf.cls ≠ "java/lang/invoke/MethodHandle" ∧ yX2_tendersOf.cls ≠ "java/lang/invoke/VarHandle" ∧ (parseMethodDescriptor yX2_tendersOf.desc).map (fun d => d.parameters.length) = some 1 := by decide +kernel
set_option maxHeartbeats 4000000 in
theorem kX2_tendersOf (l : Launch) (ω : OM) (g : Nat → Nat) (y : Nat → Int32) (a z : Nat → Nat → Int32) (kt : Int32) (hs : Int64) (t : TW) (td : Nat → Nat) (of : Nat → Nat → Nat) (hc : mCore g a t td of) (pn : Nat) (hpn : pn < 3) (hsd : mSide g a) : Met l yX2_tendersOf (ws_ yX2_tendersOf cX2_tendersOf 6 (some .int)) rmX2_tendersOf (va_Pc [.ref (ω.2.1 0 99), .int (nI pn)] (fun U => mK ω U ∧ mH ω (g, y, a, z, kt, hs) U.heap)) (va_Qi (fun (r : Int32) (u : MS) => ∃ (q0 : Nat → Int32), r = (fX2_tendersOf g a t of pn) ∧ u = (g, y, a, va_up z 11 q0, kt, hs)) (fun u t => mH ω u t.heap) ω.2.2.1) 0 0 ω.2.2.1 := by
  refine g_entWi (C := RX2) rfl (by decide) (Nat.le_of_ble_eq_true rfl) ?_
  intro p e s m args below meth c QQ ls H locs hF hK hH hS hl hret
  have hl : lv_has ls 6 [(0, .ref (ω.2.1 0 99)), (1, .int (nI pn))] := hl
  have hok := hc.ok
  have hr := hc.rows
  have hn := hr.1
  have hp3 := hsd.1
  have hs6 := hsd.2.1
  refine lv_iconst (v := nI 0) hF.1 hF.2.1 dX2_tendersOf_0 (by decide) ?_
  refine lv_istore_n (lv' := [(2, .int (nI 0)), (0, .ref (ω.2.1 0 99)), (1, .int (nI pn))]) hF.1 hF.2.1 dX2_tendersOf_1 rfl hl (by decide) rfl (fun ls hl => ?_)
  refine lv_iconst (v := nI 0) hF.1 hF.2.1 dX2_tendersOf_2 (by decide) ?_
  refine lv_istore_n (lv' := [(3, .int (nI 0)), (2, .int (nI 0)), (0, .ref (ω.2.1 0 99)), (1, .int (nI pn))]) hF.1 hF.2.1 dX2_tendersOf_3 rfl hl (by decide) rfl (fun ls hl => ?_)
  have lp4_147 : ∀ (d4 i4 : Nat) (x4_2 : Int32) (h4_z11 : Nat → Int32) (H : Heap) (locs : List Loc) (ls : Array Slot), i4 + d4 = 10 → x4_2 = it (fX2_tendersOf_b4 g a t of pn) i4 (nI 0) → mH ω (g, y, a, va_up z 11 h4_z11, kt, hs) H → va_S ω.2.2.1 s.heap H locs → lv_has ls 6 [(3, .int (nI i4)), (2, .int x4_2), (0, .ref (ω.2.1 0 99)), (1, .int (nI pn))] → W p l e rmX2_tendersOf s m args below meth c H locs 0 0 QQ (F0 m 4 ls []) := by
    intro d4
    induction d4 with
    | zero =>
      intro i4 x4_2 h4_z11 H locs ls hi4 hS4 hH hS hl
      have hj4 : 10 = i4 := by omega
      subst hj4
      have e_x4_2 := hS4
      refine lv_iload_n hF.1 hF.2.1 dX2_tendersOf_4 rfl (lv_at hl 0 rfl) ?_
      refine lv_bipush (v := nI 10) hF.1 hF.2.1 dX2_tendersOf_5 (by decide) ?_
      refine n_ge (tgt := 113) hF.1 hF.2.1 dX2_tendersOf_7 (by decide) (by omega) (by omega) (fun c1 => ?_) (fun c1 => ?_)
      · skip
        refine lv_iload_n hF.1 hF.2.1 dX2_tendersOf_113 rfl (lv_at hl 1 rfl) ?_
        exact hret _ _ _ _ _ _ dX2_tendersOf_114 ⟨_, by subst e_x4_2; rfl, rfl⟩ hH hS
      · exact absurd (by omega) c1
    | succ d4 ih =>
      intro i4 x4_2 h4_z11 H locs ls hi4 hS4 hH hS hl
      refine lv_iload_n hF.1 hF.2.1 dX2_tendersOf_4 rfl (lv_at hl 0 rfl) ?_
      refine lv_bipush (v := nI 10) hF.1 hF.2.1 dX2_tendersOf_5 (by decide) ?_
      refine n_ge (tgt := 113) hF.1 hF.2.1 dX2_tendersOf_7 (by decide) (by omega) (by omega) (fun c2 => ?_) (fun c2 => ?_)
      · exact absurd c2 (by omega)
      · skip
        refine lv_iconst (v := nI 1) hF.1 hF.2.1 dX2_tendersOf_10 (by decide) ?_
        refine lv_istore (lv' := [(4, .int (nI 1)), (3, .int (nI i4)), (2, .int x4_2), (0, .ref (ω.2.1 0 99)), (1, .int (nI pn))]) hF.1 hF.2.1 dX2_tendersOf_11 hl (by decide) rfl (fun ls hl => ?_)
        refine lv_iconst (v := nI 0) hF.1 hF.2.1 dX2_tendersOf_13 (by decide) ?_
        refine lv_istore (lv' := [(5, .int (nI 0)), (4, .int (nI 1)), (3, .int (nI i4)), (2, .int x4_2), (0, .ref (ω.2.1 0 99)), (1, .int (nI pn))]) hF.1 hF.2.1 dX2_tendersOf_14 hl (by decide) rfl (fun ls hl => ?_)
        have lp16_149 : ∀ (d16 i16 : Nat) (x16_4 : Int32) (h16_z11 : Nat → Int32) (H : Heap) (locs : List Loc) (ls : Array Slot), i16 + d16 = g 15 → x16_4 = it (fX2_tendersOf_b16 g a t of pn i4) i16 (nI 1) → mH ω (g, y, a, va_up z 11 h16_z11, kt, hs) H → va_S ω.2.2.1 s.heap H locs → lv_has ls 6 [(5, .int (nI (4 * i16))), (4, .int x16_4), (3, .int (nI i4)), (2, .int x4_2), (0, .ref (ω.2.1 0 99)), (1, .int (nI pn))] → W p l e rmX2_tendersOf s m args below meth c H locs 0 0 QQ (F0 m 16 ls []) := by
          intro d16
          induction d16 with
          | zero =>
            intro i16 x16_4 h16_z11 H locs ls hi16 hS16 hH hS hl
            have hj16 : g 15 = i16 := by omega
            subst hj16
            have e_x16_4 := hS16
            refine lv_iload hF.1 hF.2.1 dX2_tendersOf_16 (lv_at hl 0 rfl) ?_
            refine lv_iconst (v := nI 4) hF.1 hF.2.1 dX2_tendersOf_18 (by decide) ?_
            refine lv_aload_n hF.1 hF.2.1 dX2_tendersOf_19 rfl (lv_at hl 4 rfl) ?_
            refine mg_15 hF hK hH q986 dX2_tendersOf_20 (v := g 15) rfl ?_
            refine n_imul hF.1 hF.2.1 dX2_tendersOf_23 ?_
            refine n_ge (tgt := 92) hF.1 hF.2.1 dX2_tendersOf_24 (by decide) (by omega) (by omega) (fun c3 => ?_) (fun c3 => ?_)
            · skip
              refine lv_iload_n hF.1 hF.2.1 dX2_tendersOf_92 rfl (lv_at hl 3 rfl) ?_
              refine lv_iload hF.1 hF.2.1 dX2_tendersOf_93 (lv_at hl 1 rfl) ?_
              refine lv_if_eq (tgt := 104) hF.1 hF.2.1 dX2_tendersOf_95 (by decide) (fun c4 => ?_) (fun c4 => ?_)
              · skip
                refine lv_iconst (v := nI 0) hF.1 hF.2.1 dX2_tendersOf_104 (by decide) ?_
                refine lv_ior hF.1 hF.2.1 dX2_tendersOf_105 ?_
                refine lv_istore_n (lv' := [(2, .int (x4_2 ||| (nI 0))), (5, .int (nI (4 * (g 15)))), (4, .int x16_4), (3, .int (nI i4)), (0, .ref (ω.2.1 0 99)), (1, .int (nI pn))]) hF.1 hF.2.1 dX2_tendersOf_106 rfl hl (by decide) rfl (fun ls hl => ?_)
                refine n_iinc (lv' := [(3, .int (nI (i4 + 1))), (2, .int (x4_2 ||| (nI 0))), (5, .int (nI (4 * (g 15)))), (4, .int x16_4), (0, .ref (ω.2.1 0 99)), (1, .int (nI pn))]) hF.1 hF.2.1 dX2_tendersOf_107 hl (k := 3) rfl (by decide) rfl (fun ls hl => ?_)
                refine lv_goto (tgt := 4) hF.1 hF.2.1 dX2_tendersOf_110 (by decide) ?_
                exact ih (i4 + 1) _ _ _ _ _ (by omega) (by subst e_x16_4; rw [it_succ (fX2_tendersOf_b4 g a t of pn) i4 _, ← hS4]; unfold fX2_tendersOf_b4; first | (rw [if_pos c4]; done) | (simp only [if_pos c4])) hH hS (lv_sub hl [0, 1, 4, 5] rfl)
              · skip
                refine lv_iconst (v := nI 1) hF.1 hF.2.1 dX2_tendersOf_98 (by decide) ?_
                refine lv_iload_n hF.1 hF.2.1 dX2_tendersOf_99 rfl (lv_at hl 2 rfl) ?_
                refine lv_ishl hF.1 hF.2.1 dX2_tendersOf_100 ?_
                refine lv_goto (tgt := 105) hF.1 hF.2.1 dX2_tendersOf_101 (by decide) ?_
                refine lv_ior hF.1 hF.2.1 dX2_tendersOf_105 ?_
                refine lv_istore_n (lv' := [(2, .int (x4_2 ||| ((nI 1) <<< ((nI i4) &&& 31)))), (5, .int (nI (4 * (g 15)))), (4, .int x16_4), (3, .int (nI i4)), (0, .ref (ω.2.1 0 99)), (1, .int (nI pn))]) hF.1 hF.2.1 dX2_tendersOf_106 rfl hl (by decide) rfl (fun ls hl => ?_)
                refine n_iinc (lv' := [(3, .int (nI (i4 + 1))), (2, .int (x4_2 ||| ((nI 1) <<< ((nI i4) &&& 31)))), (5, .int (nI (4 * (g 15)))), (4, .int x16_4), (0, .ref (ω.2.1 0 99)), (1, .int (nI pn))]) hF.1 hF.2.1 dX2_tendersOf_107 hl (k := 3) rfl (by decide) rfl (fun ls hl => ?_)
                refine lv_goto (tgt := 4) hF.1 hF.2.1 dX2_tendersOf_110 (by decide) ?_
                exact ih (i4 + 1) _ _ _ _ _ (by omega) (by subst e_x16_4; rw [it_succ (fX2_tendersOf_b4 g a t of pn) i4 _, ← hS4]; unfold fX2_tendersOf_b4; first | (rw [if_neg c4]; done) | (simp only [if_neg c4])) hH hS (lv_sub hl [0, 1, 4, 5] rfl)
            · exact absurd (by omega) c3
          | succ d16 ih =>
            intro i16 x16_4 h16_z11 H locs ls hi16 hS16 hH hS hl
            refine lv_iload hF.1 hF.2.1 dX2_tendersOf_16 (lv_at hl 0 rfl) ?_
            refine lv_iconst (v := nI 4) hF.1 hF.2.1 dX2_tendersOf_18 (by decide) ?_
            refine lv_aload_n hF.1 hF.2.1 dX2_tendersOf_19 rfl (lv_at hl 4 rfl) ?_
            refine mg_15 hF hK hH q986 dX2_tendersOf_20 (v := g 15) rfl ?_
            refine n_imul hF.1 hF.2.1 dX2_tendersOf_23 ?_
            refine n_ge (tgt := 92) hF.1 hF.2.1 dX2_tendersOf_24 (by decide) (by omega) (by omega) (fun c5 => ?_) (fun c5 => ?_)
            · exact absurd c5 (by omega)
            · skip
              refine lv_aload_n hF.1 hF.2.1 dX2_tendersOf_27 rfl (lv_at hl 4 rfl) ?_
              refine mg_16 hF hK hH q987 dX2_tendersOf_28 ?_
              refine lv_iload hF.1 hF.2.1 dX2_tendersOf_31 (lv_at hl 0 rfl) ?_
              refine m_ald hF hK hH 16 (n := 24) rfl rfl (by decide) rfl (f := a 16) rfl (i := 4 * i16) (by omega) (by decide) dX2_tendersOf_33 ?_
              refine lv_iload_n hF.1 hF.2.1 dX2_tendersOf_34 rfl (lv_at hl 5 rfl) ?_
              refine lv_icmp_ne (tgt := 86) hF.1 hF.2.1 dX2_tendersOf_35 (by decide) (fun c6 => ?_) (fun c6 => ?_)
              · skip
                refine lv_iinc (v := nI (4 * (i16 + 1))) (lv' := [(5, .int (nI (4 * (i16 + 1)))), (4, .int x16_4), (3, .int (nI i4)), (2, .int x4_2), (0, .ref (ω.2.1 0 99)), (1, .int (nI pn))]) hF.1 hF.2.1 dX2_tendersOf_86 hl (k := 0) rfl (st_step 4 _) (by decide) rfl (fun ls hl => ?_)
                refine lv_goto (tgt := 16) hF.1 hF.2.1 dX2_tendersOf_89 (by decide) ?_
                exact ih (i16 + 1) _ _ _ _ _ (by omega) (by rw [it_succ (fX2_tendersOf_b16 g a t of pn i4) i16 _, ← hS16]; unfold fX2_tendersOf_b16; first | (rw [if_neg c6]; done) | (simp only [if_neg c6])) hH hS (lv_sub hl [0, 1, 2, 3, 4, 5] rfl)
              · skip
                refine lv_iload hF.1 hF.2.1 dX2_tendersOf_38 (lv_at hl 1 rfl) ?_
                refine lv_if_eq (tgt := 83) hF.1 hF.2.1 dX2_tendersOf_40 (by decide) (fun c7 => ?_) (fun c7 => ?_)
                · skip
                  refine lv_iconst (v := nI 0) hF.1 hF.2.1 dX2_tendersOf_83 (by decide) ?_
                  refine lv_istore (lv' := [(4, .int (nI 0)), (5, .int (nI (4 * i16))), (3, .int (nI i4)), (2, .int x4_2), (0, .ref (ω.2.1 0 99)), (1, .int (nI pn))]) hF.1 hF.2.1 dX2_tendersOf_84 hl (by decide) rfl (fun ls hl => ?_)
                  refine lv_iinc (v := nI (4 * (i16 + 1))) (lv' := [(5, .int (nI (4 * (i16 + 1)))), (4, .int (nI 0)), (3, .int (nI i4)), (2, .int x4_2), (0, .ref (ω.2.1 0 99)), (1, .int (nI pn))]) hF.1 hF.2.1 dX2_tendersOf_86 hl (k := 1) rfl (st_step 4 _) (by decide) rfl (fun ls hl => ?_)
                  refine lv_goto (tgt := 16) hF.1 hF.2.1 dX2_tendersOf_89 (by decide) ?_
                  exact ih (i16 + 1) _ _ _ _ _ (by omega) (by rw [it_succ (fX2_tendersOf_b16 g a t of pn i4) i16 _, ← hS16]; unfold fX2_tendersOf_b16; first | (rw [if_pos c6, if_pos c7]; done) | (simp only [if_pos c6, if_pos c7])) hH hS (lv_sub hl [0, 1, 2, 3, 4, 5] rfl)
                · skip
                  refine lv_aload_n hF.1 hF.2.1 dX2_tendersOf_43 rfl (lv_at hl 4 rfl) ?_
                  refine lv_iload_n hF.1 hF.2.1 dX2_tendersOf_44 rfl (lv_at hl 5 rfl) ?_
                  refine lv_iload_n hF.1 hF.2.1 dX2_tendersOf_45 rfl (lv_at hl 2 rfl) ?_
                  refine lv_aload_n hF.1 hF.2.1 dX2_tendersOf_46 rfl (lv_at hl 4 rfl) ?_
                  refine mg_16 hF hK hH q987 dX2_tendersOf_47 ?_
                  refine lv_iload hF.1 hF.2.1 dX2_tendersOf_50 (lv_at hl 0 rfl) ?_
                  refine lv_iconst (v := nI 1) hF.1 hF.2.1 dX2_tendersOf_52 (by decide) ?_
                  refine n_iadd hF.1 hF.2.1 dX2_tendersOf_53 ?_
                  refine m_ald hF hK hH 16 (n := 24) rfl rfl (by decide) rfl (f := a 16) rfl (i := (4 * i16) + 1) (by omega) (by decide) dX2_tendersOf_54 ?_
                  obtain ⟨b8e, b8l⟩ := g_lift (r := a 16 ((4 * i16) + 1)) (n := 8) ((hsd.2.2.2.2.2 i16 (by omega)).1) (by omega)
                  refine n_top b8e ?_
                  refine lv_aload_n hF.1 hF.2.1 dX2_tendersOf_55 rfl (lv_at hl 4 rfl) ?_
                  refine mg_16 hF hK hH q987 dX2_tendersOf_56 ?_
                  refine lv_iload hF.1 hF.2.1 dX2_tendersOf_59 (lv_at hl 0 rfl) ?_
                  refine lv_iconst (v := nI 2) hF.1 hF.2.1 dX2_tendersOf_61 (by decide) ?_
                  refine n_iadd hF.1 hF.2.1 dX2_tendersOf_62 ?_
                  refine m_ald hF hK hH 16 (n := 24) rfl rfl (by decide) rfl (f := a 16) rfl (i := (4 * i16) + 2) (by omega) (by decide) dX2_tendersOf_63 ?_
                  obtain ⟨b9e, b9l⟩ := g_lift (r := a 16 ((4 * i16) + 2)) (n := 8) ((hsd.2.2.2.2.2 i16 (by omega)).2.1) (by omega)
                  refine n_top b9e ?_
                  have hne := toN_ne (hsd.2.2.2.2.2 i16 (by omega)).1 (hsd.2.2.2.2.2 i16 (by omega)).2.1 (hsd.2.2.2.2.2 i16 (by omega)).2.2
                  refine g_vWi (As := [.int (nI pn), .int (nI i4), .int (nI (toN (a 16 ((4 * i16) + 1)))), .int (nI (toN (a 16 ((4 * i16) + 2))))]) (rest := []) hF (kX2_firstBy l ω g y a (va_up z 11 h16_z11) kt hs t td of hc pn i4 (toN (a 16 ((4 * i16) + 1))) (toN (a 16 ((4 * i16) + 2))) (by omega) (by omega) (by omega) (by omega) (by omega) hsd) (lw_V q1193 q1195 qs67 q97 q1196) 4 hdX2_firstBy rfl rfl ⟨Nat.le_of_ble_eq_true rfl, Nat.le_of_ble_eq_true rfl⟩ (m_preV hK hH) rfl hl.1 rfl (Nat.le_of_ble_eq_true rfl) dX2_tendersOf_64 ⟨Nat.le_of_ble_eq_true rfl, Nat.le_of_ble_eq_true rfl⟩ hS (fun r10 ur10 H locs hqr10 hH hS => ?_)
                  obtain ⟨r10h0, hr10, rfl⟩ := hqr10
                  have e_r10 := hr10
                  have hH : mH ω (g, y, a, va_up z 11 r10h0, kt, hs) H := m_ext (fun _ => rfl) (fun _ => rfl) (fun _ => rfl) (by intro k; by_cases h0 : k = 11; (subst h0; simp [va_up]); simp only [va_up, if_neg h0]) hH
                  refine lv_aload_n hF.1 hF.2.1 dX2_tendersOf_67 rfl (lv_at hl 4 rfl) ?_
                  refine mg_16 hF hK hH q987 dX2_tendersOf_68 ?_
                  refine lv_iload hF.1 hF.2.1 dX2_tendersOf_71 (lv_at hl 0 rfl) ?_
                  refine lv_iconst (v := nI 3) hF.1 hF.2.1 dX2_tendersOf_73 (by decide) ?_
                  refine n_iadd hF.1 hF.2.1 dX2_tendersOf_74 ?_
                  refine m_ald hF hK hH 16 (n := 24) rfl rfl (by decide) rfl (f := a 16) rfl (i := (4 * i16) + 3) (by omega) (by decide) dX2_tendersOf_75 ?_
                  refine lv_icmp_ne (tgt := 83) hF.1 hF.2.1 dX2_tendersOf_76 (by decide) (fun c11 => ?_) (fun c11 => ?_)
                  · skip
                    refine lv_iconst (v := nI 0) hF.1 hF.2.1 dX2_tendersOf_83 (by decide) ?_
                    refine lv_istore (lv' := [(4, .int (nI 0)), (5, .int (nI (4 * i16))), (3, .int (nI i4)), (2, .int x4_2), (0, .ref (ω.2.1 0 99)), (1, .int (nI pn))]) hF.1 hF.2.1 dX2_tendersOf_84 hl (by decide) rfl (fun ls hl => ?_)
                    refine lv_iinc (v := nI (4 * (i16 + 1))) (lv' := [(5, .int (nI (4 * (i16 + 1)))), (4, .int (nI 0)), (3, .int (nI i4)), (2, .int x4_2), (0, .ref (ω.2.1 0 99)), (1, .int (nI pn))]) hF.1 hF.2.1 dX2_tendersOf_86 hl (k := 1) rfl (st_step 4 _) (by decide) rfl (fun ls hl => ?_)
                    refine lv_goto (tgt := 16) hF.1 hF.2.1 dX2_tendersOf_89 (by decide) ?_
                    exact ih (i16 + 1) _ _ _ _ _ (by omega) (by subst e_r10; rw [it_succ (fX2_tendersOf_b16 g a t of pn i4) i16 _, ← hS16]; unfold fX2_tendersOf_b16; first | (rw [if_pos c6, if_neg c7, if_neg c11]; done) | (simp only [if_pos c6, if_neg c7, if_neg c11])) hH hS (lv_sub hl [0, 1, 2, 3, 4, 5] rfl)
                  · skip
                    refine lv_iconst (v := nI 1) hF.1 hF.2.1 dX2_tendersOf_79 (by decide) ?_
                    refine lv_goto (tgt := 84) hF.1 hF.2.1 dX2_tendersOf_80 (by decide) ?_
                    refine lv_istore (lv' := [(4, .int (nI 1)), (5, .int (nI (4 * i16))), (3, .int (nI i4)), (2, .int x4_2), (0, .ref (ω.2.1 0 99)), (1, .int (nI pn))]) hF.1 hF.2.1 dX2_tendersOf_84 hl (by decide) rfl (fun ls hl => ?_)
                    refine lv_iinc (v := nI (4 * (i16 + 1))) (lv' := [(5, .int (nI (4 * (i16 + 1)))), (4, .int (nI 1)), (3, .int (nI i4)), (2, .int x4_2), (0, .ref (ω.2.1 0 99)), (1, .int (nI pn))]) hF.1 hF.2.1 dX2_tendersOf_86 hl (k := 1) rfl (st_step 4 _) (by decide) rfl (fun ls hl => ?_)
                    refine lv_goto (tgt := 16) hF.1 hF.2.1 dX2_tendersOf_89 (by decide) ?_
                    exact ih (i16 + 1) _ _ _ _ _ (by omega) (by subst e_r10; rw [it_succ (fX2_tendersOf_b16 g a t of pn i4) i16 _, ← hS16]; unfold fX2_tendersOf_b16; first | (rw [if_pos c6, if_neg c7, if_pos c11]; done) | (simp only [if_pos c6, if_neg c7, if_pos c11])) hH hS (lv_sub hl [0, 1, 2, 3, 4, 5] rfl)
        exact lp16_149 (g 15) 0 _ _ _ _ _ (by omega) rfl hH hS (lv_sub hl [0, 1, 2, 3, 4, 5] rfl)
  have hH : mH ω (g, y, a, va_up z 11 (z 11), kt, hs) H := m_ext (fun _ => rfl) (fun _ => rfl) (fun _ => rfl) (by intro k; by_cases h0 : k = 11; (subst h0; simp [va_up]); simp only [va_up, if_neg h0]) hH
  exact lp4_147 10 0 _ _ _ _ _ (by omega) rfl hH hS (lv_sub hl [0, 1, 2, 3] rfl)

def fX2_tellPerson (g : Nat → Nat) (a : Nat → Nat → Int32) (t : TW) (of : Nat → Nat → Nat) (pn : Nat) (wh : Int32) : Int32 := if wh = nI 0 then a 8 ((5 * pn) + 0) else if wh = nI 1 then a 8 ((5 * pn) + 1) else if wh = nI 2 then a 8 ((5 * pn) + 2) else if wh = nI 3 then (fX2_tendersOf g a t of pn) else if wh = nI 4 then a 8 (((5 * pn) + 4) - 1) else if wh = nI 5 then a 8 (((5 * pn) + 5) - 1) else (-102)
def rmX2_tellPerson : Room := { frames := 6, cells := 0, slots := 0, locals := 149 }
theorem hdX2_tellPerson : yX2_tellPerson.cls = RX2 ∧ yX2_tellPerson.cls ≠ "java/lang/invoke/MethodHandle" ∧ yX2_tellPerson.cls ≠ "java/lang/invoke/VarHandle" ∧ (parseMethodDescriptor yX2_tellPerson.desc).map (fun d => d.parameters.length) = some 2 := by decide +kernel
set_option maxHeartbeats 4000000 in
theorem kX2_tellPerson (l : Launch) (ω : OM) (g : Nat → Nat) (y : Nat → Int32) (a z : Nat → Nat → Int32) (kt : Int32) (hs : Int64) (t : TW) (td : Nat → Nat) (of : Nat → Nat → Nat) (hc : mCore g a t td of) (pn : Nat) (wh : Int32) (hpn : pn < 3) (hsd : mSide g a) : Met l yX2_tellPerson (ws_ yX2_tellPerson cX2_tellPerson 3 (some .int)) rmX2_tellPerson (va_Pc [.ref (ω.2.1 0 99), .int (nI pn), .int wh] (fun U => mK ω U ∧ mH ω (g, y, a, z, kt, hs) U.heap)) (va_Qi (fun (r : Int32) (u : MS) => ∃ (q0 : Nat → Int32), r = (fX2_tellPerson g a t of pn wh) ∧ u = (g, y, a, va_up z 11 q0, kt, hs)) (fun u t => mH ω u t.heap) ω.2.2.1) 0 0 ω.2.2.1 := by
  refine g_entWi (C := RX2) rfl (by decide) (Nat.le_of_ble_eq_true rfl) ?_
  intro p e s m args below meth c QQ ls H locs hF hK hH hS hl hret
  have hl : lv_has ls 3 [(0, .ref (ω.2.1 0 99)), (1, .int (nI pn)), (2, .int wh)] := hl
  have hok := hc.ok
  have hr := hc.rows
  have hn := hr.1
  have hp3 := hsd.1
  have hs6 := hsd.2.1
  refine lv_iload_n hF.1 hF.2.1 dX2_tellPerson_0 rfl (lv_at hl 2 rfl) ?_
  by_cases c2 : wh = nI 0
  · skip
    refine n_top (y := nI 0) c2 ?_
    refine lv_tableIn (off := 39) (tgt := 40) hF.1 hF.2.1 dX2_tellPerson_1 (by decide) (by decide) (by decide) (by decide) ?_
    refine lv_aload_n hF.1 hF.2.1 dX2_tellPerson_40 rfl (lv_at hl 0 rfl) ?_
    refine mg_8 hF hK hH q979 dX2_tellPerson_41 ?_
    refine lv_iconst (v := nI 5) hF.1 hF.2.1 dX2_tellPerson_44 (by decide) ?_
    refine lv_iload_n hF.1 hF.2.1 dX2_tellPerson_45 rfl (lv_at hl 1 rfl) ?_
    refine n_imul hF.1 hF.2.1 dX2_tellPerson_46 ?_
    refine lv_iload_n hF.1 hF.2.1 dX2_tellPerson_47 rfl (lv_at hl 2 rfl) ?_
    refine n_top c2 ?_
    refine n_iadd hF.1 hF.2.1 dX2_tellPerson_48 ?_
    refine m_ald hF hK hH 8 (n := 15) rfl rfl (by decide) rfl (f := a 8) rfl (i := (5 * pn) + 0) (by omega) (by decide) dX2_tellPerson_49 ?_
    have hH : mH ω (g, y, a, va_up z 11 (z 11), kt, hs) H := m_ext (fun _ => rfl) (fun _ => rfl) (fun _ => rfl) (by intro k; by_cases h0 : k = 11; (subst h0; simp [va_up]); simp only [va_up, if_neg h0]) hH
    exact hret _ _ _ _ _ _ dX2_tellPerson_50 ⟨_, by unfold fX2_tellPerson; first | (rw [if_pos c2]; done) | (simp only [if_pos c2]), rfl⟩ hH hS
  by_cases c3 : wh = nI 1
  · skip
    refine n_top (y := nI 1) c3 ?_
    refine lv_tableIn (off := 39) (tgt := 40) hF.1 hF.2.1 dX2_tellPerson_1 (by decide) (by decide) (by decide) (by decide) ?_
    refine lv_aload_n hF.1 hF.2.1 dX2_tellPerson_40 rfl (lv_at hl 0 rfl) ?_
    refine mg_8 hF hK hH q979 dX2_tellPerson_41 ?_
    refine lv_iconst (v := nI 5) hF.1 hF.2.1 dX2_tellPerson_44 (by decide) ?_
    refine lv_iload_n hF.1 hF.2.1 dX2_tellPerson_45 rfl (lv_at hl 1 rfl) ?_
    refine n_imul hF.1 hF.2.1 dX2_tellPerson_46 ?_
    refine lv_iload_n hF.1 hF.2.1 dX2_tellPerson_47 rfl (lv_at hl 2 rfl) ?_
    refine n_top c3 ?_
    refine n_iadd hF.1 hF.2.1 dX2_tellPerson_48 ?_
    refine m_ald hF hK hH 8 (n := 15) rfl rfl (by decide) rfl (f := a 8) rfl (i := (5 * pn) + 1) (by omega) (by decide) dX2_tellPerson_49 ?_
    have hH : mH ω (g, y, a, va_up z 11 (z 11), kt, hs) H := m_ext (fun _ => rfl) (fun _ => rfl) (fun _ => rfl) (by intro k; by_cases h0 : k = 11; (subst h0; simp [va_up]); simp only [va_up, if_neg h0]) hH
    exact hret _ _ _ _ _ _ dX2_tellPerson_50 ⟨_, by unfold fX2_tellPerson; first | (rw [if_neg c2, if_pos c3]; done) | (simp only [if_neg c2, if_pos c3]), rfl⟩ hH hS
  by_cases c4 : wh = nI 2
  · skip
    refine n_top (y := nI 2) c4 ?_
    refine lv_tableIn (off := 39) (tgt := 40) hF.1 hF.2.1 dX2_tellPerson_1 (by decide) (by decide) (by decide) (by decide) ?_
    refine lv_aload_n hF.1 hF.2.1 dX2_tellPerson_40 rfl (lv_at hl 0 rfl) ?_
    refine mg_8 hF hK hH q979 dX2_tellPerson_41 ?_
    refine lv_iconst (v := nI 5) hF.1 hF.2.1 dX2_tellPerson_44 (by decide) ?_
    refine lv_iload_n hF.1 hF.2.1 dX2_tellPerson_45 rfl (lv_at hl 1 rfl) ?_
    refine n_imul hF.1 hF.2.1 dX2_tellPerson_46 ?_
    refine lv_iload_n hF.1 hF.2.1 dX2_tellPerson_47 rfl (lv_at hl 2 rfl) ?_
    refine n_top c4 ?_
    refine n_iadd hF.1 hF.2.1 dX2_tellPerson_48 ?_
    refine m_ald hF hK hH 8 (n := 15) rfl rfl (by decide) rfl (f := a 8) rfl (i := (5 * pn) + 2) (by omega) (by decide) dX2_tellPerson_49 ?_
    have hH : mH ω (g, y, a, va_up z 11 (z 11), kt, hs) H := m_ext (fun _ => rfl) (fun _ => rfl) (fun _ => rfl) (by intro k; by_cases h0 : k = 11; (subst h0; simp [va_up]); simp only [va_up, if_neg h0]) hH
    exact hret _ _ _ _ _ _ dX2_tellPerson_50 ⟨_, by unfold fX2_tellPerson; first | (rw [if_neg c2, if_neg c3, if_pos c4]; done) | (simp only [if_neg c2, if_neg c3, if_pos c4]), rfl⟩ hH hS
  by_cases c5 : wh = nI 3
  · skip
    refine n_top (y := nI 3) c5 ?_
    refine lv_tableIn (off := 50) (tgt := 51) hF.1 hF.2.1 dX2_tellPerson_1 (by decide) (by decide) (by decide) (by decide) ?_
    refine lv_aload_n hF.1 hF.2.1 dX2_tellPerson_51 rfl (lv_at hl 0 rfl) ?_
    refine lv_iload_n hF.1 hF.2.1 dX2_tellPerson_52 rfl (lv_at hl 1 rfl) ?_
    refine g_vWi (As := [.int (nI pn)]) (rest := []) hF (kX2_tendersOf l ω g y a z kt hs t td of hc pn (by omega) hsd) (lw_V q1189 q1191 qs66 q97 q1192) 1 hdX2_tendersOf rfl rfl ⟨Nat.le_of_ble_eq_true rfl, Nat.le_of_ble_eq_true rfl⟩ (m_preV hK hH) rfl hl.1 rfl (Nat.le_of_ble_eq_true rfl) dX2_tellPerson_53 ⟨Nat.le_of_ble_eq_true rfl, Nat.le_of_ble_eq_true rfl⟩ hS (fun r6 ur6 H locs hqr6 hH hS => ?_)
    obtain ⟨r6h0, hr6, rfl⟩ := hqr6
    have e_r6 := hr6
    exact hret _ _ _ _ _ _ dX2_tellPerson_56 ⟨_, by subst e_r6; unfold fX2_tellPerson; first | (rw [if_neg c2, if_neg c3, if_neg c4, if_pos c5]; done) | (simp only [if_neg c2, if_neg c3, if_neg c4, if_pos c5]), rfl⟩ hH hS
  by_cases c7 : wh = nI 4
  · skip
    refine n_top (y := nI 4) c7 ?_
    refine lv_tableIn (off := 56) (tgt := 57) hF.1 hF.2.1 dX2_tellPerson_1 (by decide) (by decide) (by decide) (by decide) ?_
    refine lv_aload_n hF.1 hF.2.1 dX2_tellPerson_57 rfl (lv_at hl 0 rfl) ?_
    refine mg_8 hF hK hH q979 dX2_tellPerson_58 ?_
    refine lv_iconst (v := nI 5) hF.1 hF.2.1 dX2_tellPerson_61 (by decide) ?_
    refine lv_iload_n hF.1 hF.2.1 dX2_tellPerson_62 rfl (lv_at hl 1 rfl) ?_
    refine n_imul hF.1 hF.2.1 dX2_tellPerson_63 ?_
    refine lv_iload_n hF.1 hF.2.1 dX2_tellPerson_64 rfl (lv_at hl 2 rfl) ?_
    refine n_top c7 ?_
    refine n_iadd hF.1 hF.2.1 dX2_tellPerson_65 ?_
    refine lv_iconst (v := nI 1) hF.1 hF.2.1 dX2_tellPerson_66 (by decide) ?_
    refine n_isub hF.1 hF.2.1 dX2_tellPerson_67 (by omega) ?_
    refine m_ald hF hK hH 8 (n := 15) rfl rfl (by decide) rfl (f := a 8) rfl (i := ((5 * pn) + 4) - 1) (by omega) (by decide) dX2_tellPerson_68 ?_
    have hH : mH ω (g, y, a, va_up z 11 (z 11), kt, hs) H := m_ext (fun _ => rfl) (fun _ => rfl) (fun _ => rfl) (by intro k; by_cases h0 : k = 11; (subst h0; simp [va_up]); simp only [va_up, if_neg h0]) hH
    exact hret _ _ _ _ _ _ dX2_tellPerson_69 ⟨_, by unfold fX2_tellPerson; first | (rw [if_neg c2, if_neg c3, if_neg c4, if_neg c5, if_pos c7]; done) | (simp only [if_neg c2, if_neg c3, if_neg c4, if_neg c5, if_pos c7]), rfl⟩ hH hS
  by_cases c8 : wh = nI 5
  · skip
    refine n_top (y := nI 5) c8 ?_
    refine lv_tableIn (off := 56) (tgt := 57) hF.1 hF.2.1 dX2_tellPerson_1 (by decide) (by decide) (by decide) (by decide) ?_
    refine lv_aload_n hF.1 hF.2.1 dX2_tellPerson_57 rfl (lv_at hl 0 rfl) ?_
    refine mg_8 hF hK hH q979 dX2_tellPerson_58 ?_
    refine lv_iconst (v := nI 5) hF.1 hF.2.1 dX2_tellPerson_61 (by decide) ?_
    refine lv_iload_n hF.1 hF.2.1 dX2_tellPerson_62 rfl (lv_at hl 1 rfl) ?_
    refine n_imul hF.1 hF.2.1 dX2_tellPerson_63 ?_
    refine lv_iload_n hF.1 hF.2.1 dX2_tellPerson_64 rfl (lv_at hl 2 rfl) ?_
    refine n_top c8 ?_
    refine n_iadd hF.1 hF.2.1 dX2_tellPerson_65 ?_
    refine lv_iconst (v := nI 1) hF.1 hF.2.1 dX2_tellPerson_66 (by decide) ?_
    refine n_isub hF.1 hF.2.1 dX2_tellPerson_67 (by omega) ?_
    refine m_ald hF hK hH 8 (n := 15) rfl rfl (by decide) rfl (f := a 8) rfl (i := ((5 * pn) + 5) - 1) (by omega) (by decide) dX2_tellPerson_68 ?_
    have hH : mH ω (g, y, a, va_up z 11 (z 11), kt, hs) H := m_ext (fun _ => rfl) (fun _ => rfl) (fun _ => rfl) (by intro k; by_cases h0 : k = 11; (subst h0; simp [va_up]); simp only [va_up, if_neg h0]) hH
    exact hret _ _ _ _ _ _ dX2_tellPerson_69 ⟨_, by unfold fX2_tellPerson; first | (rw [if_neg c2, if_neg c3, if_neg c4, if_neg c5, if_neg c7, if_pos c8]; done) | (simp only [if_neg c2, if_neg c3, if_neg c4, if_neg c5, if_neg c7, if_pos c8]), rfl⟩ hH hS
  have kd1 : W p l e rmX2_tellPerson s m args below meth c H locs 0 0 QQ (F0 m 70 ls []) := by
    skip
    refine lv_bipush (v := (-102)) hF.1 hF.2.1 dX2_tellPerson_70 (by decide) ?_
    have hH : mH ω (g, y, a, va_up z 11 (z 11), kt, hs) H := m_ext (fun _ => rfl) (fun _ => rfl) (fun _ => rfl) (by intro k; by_cases h0 : k = 11; (subst h0; simp [va_up]); simp only [va_up, if_neg h0]) hH
    exact hret _ _ _ _ _ _ dX2_tellPerson_72 ⟨_, by unfold fX2_tellPerson; first | (rw [if_neg c2, if_neg c3, if_neg c4, if_neg c5, if_neg c7, if_neg c8]; done) | (simp only [if_neg c2, if_neg c3, if_neg c4, if_neg c5, if_neg c7, if_neg c8]), rfl⟩ hH hS
  by_cases hlo : wh.toInt < 0
  · exact lv_tableOut (tgt := 70) hF.1 hF.2.1 dX2_tellPerson_1 (Or.inl hlo) (by decide) kd1
  by_cases hhi : 5 < wh.toInt
  · exact lv_tableOut (tgt := 70) hF.1 hF.2.1 dX2_tellPerson_1 (Or.inr hhi) (by decide) kd1
  by_cases hv0 : wh.toInt = 0
  · exact absurd (Int32.toInt_inj.mp (hv0.trans (by decide)) : wh = nI 0) c2
  by_cases hv1 : wh.toInt = 1
  · exact absurd (Int32.toInt_inj.mp (hv1.trans (by decide)) : wh = nI 1) c3
  by_cases hv2 : wh.toInt = 2
  · exact absurd (Int32.toInt_inj.mp (hv2.trans (by decide)) : wh = nI 2) c4
  by_cases hv3 : wh.toInt = 3
  · exact absurd (Int32.toInt_inj.mp (hv3.trans (by decide)) : wh = nI 3) c5
  by_cases hv4 : wh.toInt = 4
  · exact absurd (Int32.toInt_inj.mp (hv4.trans (by decide)) : wh = nI 4) c7
  by_cases hv5 : wh.toInt = 5
  · exact absurd (Int32.toInt_inj.mp (hv5.trans (by decide)) : wh = nI 5) c8
  exfalso
  omega

def fX2_person (g : Nat → Nat) (a : Nat → Nat → Int32) (t : TW) (of : Nat → Nat → Nat) (pn : Int32) (wh : Int32) : Int32 := if (fX2_isPerson g pn) = 0 then (-101) else (fX2_tellPerson g a t of (toN pn) wh)
def rmX2_person : Room := { frames := 7, cells := 0, slots := 0, locals := 171 }
theorem hdX2_person : yX2_person.cls = RX2 ∧ yX2_person.cls ≠ "java/lang/invoke/MethodHandle" ∧ yX2_person.cls ≠ "java/lang/invoke/VarHandle" ∧ (parseMethodDescriptor yX2_person.desc).map (fun d => d.parameters.length) = some 2 := by decide +kernel
set_option maxHeartbeats 4000000 in
theorem kX2_person (l : Launch) (ω : OM) (g : Nat → Nat) (y : Nat → Int32) (a z : Nat → Nat → Int32) (kt : Int32) (hs : Int64) (t : TW) (td : Nat → Nat) (of : Nat → Nat → Nat) (hc : mCore g a t td of) (pn : Int32) (wh : Int32) (hsd : mSide g a) : Met l yX2_person (ws_ yX2_person cX2_person 3 (some .int)) rmX2_person (va_Pc [.ref (ω.2.1 0 99), .int pn, .int wh] (fun U => mK ω U ∧ mH ω (g, y, a, z, kt, hs) U.heap)) (va_Qi (fun (r : Int32) (u : MS) => ∃ (q0 : Nat → Int32), r = (fX2_person g a t of pn wh) ∧ u = (g, y, a, va_up z 11 q0, kt, hs)) (fun u t => mH ω u t.heap) ω.2.2.1) 0 0 ω.2.2.1 := by
  refine g_entWi (C := RX2) rfl (by decide) (Nat.le_of_ble_eq_true rfl) ?_
  intro p e s m args below meth c QQ ls H locs hF hK hH hS hl hret
  have hl : lv_has ls 3 [(0, .ref (ω.2.1 0 99)), (1, .int pn), (2, .int wh)] := hl
  have hok := hc.ok
  have hr := hc.rows
  have hn := hr.1
  have hp3 := hsd.1
  have hs6 := hsd.2.1
  refine lv_aload_n hF.1 hF.2.1 dX2_person_0 rfl (lv_at hl 0 rfl) ?_
  refine lv_iload_n hF.1 hF.2.1 dX2_person_1 rfl (lv_at hl 1 rfl) ?_
  refine g_vPi (As := [.int pn]) (rest := []) hF (kX2_isPerson l ω g y a z kt hs pn) (lw_V q1103 q1105 qs51 q97 q1106) 1 hdX2_isPerson rfl rfl ⟨Nat.le_of_ble_eq_true rfl, Nat.le_of_ble_eq_true rfl⟩ (m_preV hK hH) rfl hl.1 rfl (Nat.le_of_ble_eq_true rfl) dX2_person_2 ⟨Nat.zero_le _, Nat.zero_le _⟩ (fun r1 e_r1 => ?_)
  refine lv_if_eq (tgt := 17) hF.1 hF.2.1 dX2_person_5 (by decide) (fun c2 => ?_) (fun c2 => ?_)
  · skip
    refine lv_bipush (v := (-101)) hF.1 hF.2.1 dX2_person_17 (by decide) ?_
    have hH : mH ω (g, y, a, va_up z 11 (z 11), kt, hs) H := m_ext (fun _ => rfl) (fun _ => rfl) (fun _ => rfl) (by intro k; by_cases h0 : k = 11; (subst h0; simp [va_up]); simp only [va_up, if_neg h0]) hH
    exact hret _ _ _ _ _ _ dX2_person_19 ⟨_, by subst e_r1; unfold fX2_person; first | (rw [if_pos c2]; done) | (simp only [if_pos c2]), rfl⟩ hH hS
  · skip
    obtain ⟨b3e, b3l⟩ := g_lift (r := pn) (n := 3) (isPerson_lift3 hp3 (by rw [← e_r1]; exact c2)) (by omega)
    refine lv_aload_n hF.1 hF.2.1 dX2_person_8 rfl (lv_at hl 0 rfl) ?_
    refine lv_iload_n hF.1 hF.2.1 dX2_person_9 rfl (lv_at hl 1 rfl) ?_
    refine n_top b3e ?_
    refine lv_iload_n hF.1 hF.2.1 dX2_person_10 rfl (lv_at hl 2 rfl) ?_
    refine g_vWi (As := [.int (nI (toN pn)), .int wh]) (rest := []) hF (kX2_tellPerson l ω g y a z kt hs t td of hc (toN pn) wh (by omega) hsd) (lw_V q1185 q1187 qs65 q97 q1188) 2 hdX2_tellPerson rfl rfl ⟨Nat.le_of_ble_eq_true rfl, Nat.le_of_ble_eq_true rfl⟩ (m_preV hK hH) rfl hl.1 rfl (Nat.le_of_ble_eq_true rfl) dX2_person_11 ⟨Nat.le_of_ble_eq_true rfl, Nat.le_of_ble_eq_true rfl⟩ hS (fun r4 ur4 H locs hqr4 hH hS => ?_)
    obtain ⟨r4h0, hr4, rfl⟩ := hqr4
    have e_r4 := hr4
    refine lv_goto (tgt := 19) hF.1 hF.2.1 dX2_person_14 (by decide) ?_
    exact hret _ _ _ _ _ _ dX2_person_19 ⟨_, by subst e_r4; subst e_r1; unfold fX2_person; first | (rw [if_neg c2]; done) | (simp only [if_neg c2]), rfl⟩ hH hS

def fX2_watchOf_b57 (g : Nat → Nat) (t : TW) (of : Nat → Nat → Nat) (pn : Nat) (fr : Nat) (r1 : Int32) (i16 : Nat) (i57 : Nat) (S : (Int32 × (Nat → Int32)) × Bool) : (Int32 × (Nat → Int32)) × Bool := if S.2 = true then S else if i16 = fr then ((S.1.1, S.1.2), true) else if ((upd S.1.2 (toN ((fX2_firstBy g t of pn i57 fr i16) + (nI 1))) ((S.1.2 (toN ((fX2_firstBy g t of pn i57 fr i16) + (nI 1)))) + ((r1 >>> ((nI i57) &&& 31)) &&& (nI 1)))) (toN ((fX2_firstBy g t of pn i57 fr i16) + (nI 1)))) ≤ S.1.1 then ((S.1.1, upd S.1.2 (toN ((fX2_firstBy g t of pn i57 fr i16) + (nI 1))) ((S.1.2 (toN ((fX2_firstBy g t of pn i57 fr i16) + (nI 1)))) + ((r1 >>> ((nI i57) &&& 31)) &&& (nI 1)))), false) else (((upd S.1.2 (toN ((fX2_firstBy g t of pn i57 fr i16) + (nI 1))) ((S.1.2 (toN ((fX2_firstBy g t of pn i57 fr i16) + (nI 1)))) + ((r1 >>> ((nI i57) &&& 31)) &&& (nI 1)))) (toN ((fX2_firstBy g t of pn i57 fr i16) + (nI 1))), upd S.1.2 (toN ((fX2_firstBy g t of pn i57 fr i16) + (nI 1))) ((S.1.2 (toN ((fX2_firstBy g t of pn i57 fr i16) + (nI 1)))) + ((r1 >>> ((nI i57) &&& 31)) &&& (nI 1)))), false)
theorem fX2_watchOf_b57_s (g : Nat → Nat) (t : TW) (of : Nat → Nat → Nat) (pn : Nat) (fr : Nat) (r1 : Int32) (i16 : Nat) : ∀ (i : Nat) (S : (Int32 × (Nat → Int32)) × Bool), S.2 = true → fX2_watchOf_b57 g t of pn fr r1 i16 i S = S := fun _ _ h => if_pos h
def fX2_watchOf_b30 (i30 : Nat) (S : (Nat → Int32)) : (Nat → Int32) := upd S i30 (nI 0)
def fX2_watchOf_b16 (g : Nat → Nat) (t : TW) (of : Nat → Nat → Nat) (pn : Nat) (fr : Nat) (r1 : Int32) (i16 : Nat) (S : (Int32 × Int32 × (Nat → Int32)) × Bool) : (Int32 × Int32 × (Nat → Int32)) × Bool := if S.2 = true then S else if r1 = 0 then ((S.1.1, S.1.2.1, S.1.2.2), true) else if i16 = fr then ((S.1.1, (if i16 = fr then S.1.2.1 else if S.1.1 ≤ ((it (fX2_watchOf_b57 g t of pn fr r1 i16) 10 ((nI 0, (it fX2_watchOf_b30 10 S.1.2.2)), false)).1.1) then S.1.2.1 else nI i16), ((it (fX2_watchOf_b57 g t of pn fr r1 i16) 10 ((nI 0, (it fX2_watchOf_b30 10 S.1.2.2)), false)).1.2)), false) else if S.1.1 ≤ ((it (fX2_watchOf_b57 g t of pn fr r1 i16) 10 ((nI 0, (it fX2_watchOf_b30 10 S.1.2.2)), false)).1.1) then ((S.1.1, (if i16 = fr then S.1.2.1 else if S.1.1 ≤ ((it (fX2_watchOf_b57 g t of pn fr r1 i16) 10 ((nI 0, (it fX2_watchOf_b30 10 S.1.2.2)), false)).1.1) then S.1.2.1 else nI i16), ((it (fX2_watchOf_b57 g t of pn fr r1 i16) 10 ((nI 0, (it fX2_watchOf_b30 10 S.1.2.2)), false)).1.2)), false) else ((((it (fX2_watchOf_b57 g t of pn fr r1 i16) 10 ((nI 0, (it fX2_watchOf_b30 10 S.1.2.2)), false)).1.1), (if i16 = fr then S.1.2.1 else if S.1.1 ≤ ((it (fX2_watchOf_b57 g t of pn fr r1 i16) 10 ((nI 0, (it fX2_watchOf_b30 10 S.1.2.2)), false)).1.1) then S.1.2.1 else nI i16), ((it (fX2_watchOf_b57 g t of pn fr r1 i16) 10 ((nI 0, (it fX2_watchOf_b30 10 S.1.2.2)), false)).1.2)), false)
theorem fX2_watchOf_b16_s (g : Nat → Nat) (t : TW) (of : Nat → Nat → Nat) (pn : Nat) (fr : Nat) (r1 : Int32) : ∀ (i : Nat) (S : (Int32 × Int32 × (Nat → Int32)) × Bool), S.2 = true → fX2_watchOf_b16 g t of pn fr r1 i S = S := fun _ _ h => if_pos h
def fX2_watchOf (g : Nat → Nat) (a : Nat → Nat → Int32) (t : TW) (of : Nat → Nat → Nat) (pn : Nat) (fr : Nat) (z_17 : Nat → Int32) : Int32 × (Nat → Int32) := (((it (fX2_watchOf_b16 g t of pn fr (fX2_tendersOf g a t of pn)) 8 ((nI 11, (-1), z_17), false)).1.2.1), ((it (fX2_watchOf_b16 g t of pn fr (fX2_tendersOf g a t of pn)) 8 ((nI 11, (-1), z_17), false)).1.2.2))
def rmX2_watchOf : Room := { frames := 6, cells := 0, slots := 0, locals := 149 }
theorem hdX2_watchOf : yX2_watchOf.cls = RX2 ∧ yX2_watchOf.cls ≠ "java/lang/invoke/MethodHandle" ∧ yX2_watchOf.cls ≠ "java/lang/invoke/VarHandle" ∧ (parseMethodDescriptor yX2_watchOf.desc).map (fun d => d.parameters.length) = some 2 := by decide +kernel
set_option maxHeartbeats 4000000 in
theorem kX2_watchOf (l : Launch) (ω : OM) (g : Nat → Nat) (y : Nat → Int32) (a z : Nat → Nat → Int32) (kt : Int32) (hs : Int64) (t : TW) (td : Nat → Nat) (of : Nat → Nat → Nat) (hc : mCore g a t td of) (pn : Nat) (fr : Nat) (hpn : pn < 3) (hfr : fr < 8) (hsd : mSide g a) : Met l yX2_watchOf (ws_ yX2_watchOf cX2_watchOf 10 (some .int)) rmX2_watchOf (va_Pc [.ref (ω.2.1 0 99), .int (nI pn), .int (nI fr)] (fun U => mK ω U ∧ mH ω (g, y, a, z, kt, hs) U.heap)) (va_Qi (fun (r : Int32) (u : MS) => ∃ (o0 : Nat → Int32) (q0 : Nat → Int32), (r, o0) = (fX2_watchOf g a t of pn fr (z 17)) ∧ u = (g, y, a, va_up (va_up z 11 q0) 17 o0, kt, hs)) (fun u t => mH ω u t.heap) ω.2.2.1) 0 0 ω.2.2.1 := by
  refine g_entWi (C := RX2) rfl (by decide) (Nat.le_of_ble_eq_true rfl) ?_
  intro p e s m args below meth c QQ ls H locs hF hK hH hS hl hret
  have hl : lv_has ls 10 [(0, .ref (ω.2.1 0 99)), (1, .int (nI pn)), (2, .int (nI fr))] := hl
  have hok := hc.ok
  have hr := hc.rows
  have hn := hr.1
  have hp3 := hsd.1
  have hs6 := hsd.2.1
  refine lv_aload_n hF.1 hF.2.1 dX2_watchOf_0 rfl (lv_at hl 0 rfl) ?_
  refine lv_iload_n hF.1 hF.2.1 dX2_watchOf_1 rfl (lv_at hl 1 rfl) ?_
  refine g_vWi (As := [.int (nI pn)]) (rest := []) hF (kX2_tendersOf l ω g y a z kt hs t td of hc pn (by omega) hsd) (lw_V q1189 q1191 qs66 q97 q1192) 1 hdX2_tendersOf rfl rfl ⟨Nat.le_of_ble_eq_true rfl, Nat.le_of_ble_eq_true rfl⟩ (m_preV hK hH) rfl hl.1 rfl (Nat.le_of_ble_eq_true rfl) dX2_watchOf_2 ⟨Nat.le_of_ble_eq_true rfl, Nat.le_of_ble_eq_true rfl⟩ hS (fun r1 ur1 H locs hqr1 hH hS => ?_)
  obtain ⟨r1h0, hr1, rfl⟩ := hqr1
  have e_r1 := hr1
  refine lv_istore_n (lv' := [(3, .int r1), (0, .ref (ω.2.1 0 99)), (1, .int (nI pn)), (2, .int (nI fr))]) hF.1 hF.2.1 dX2_watchOf_5 rfl hl (by decide) rfl (fun ls hl => ?_)
  refine lv_iconst (v := (-1)) hF.1 hF.2.1 dX2_watchOf_6 (by decide) ?_
  refine lv_istore (lv' := [(4, .int (-1)), (3, .int r1), (0, .ref (ω.2.1 0 99)), (1, .int (nI pn)), (2, .int (nI fr))]) hF.1 hF.2.1 dX2_watchOf_7 hl (by decide) rfl (fun ls hl => ?_)
  refine lv_bipush (v := nI 11) hF.1 hF.2.1 dX2_watchOf_9 (by decide) ?_
  refine lv_istore (lv' := [(5, .int (nI 11)), (4, .int (-1)), (3, .int r1), (0, .ref (ω.2.1 0 99)), (1, .int (nI pn)), (2, .int (nI fr))]) hF.1 hF.2.1 dX2_watchOf_11 hl (by decide) rfl (fun ls hl => ?_)
  refine lv_iconst (v := nI 0) hF.1 hF.2.1 dX2_watchOf_13 (by decide) ?_
  refine lv_istore (lv' := [(6, .int (nI 0)), (5, .int (nI 11)), (4, .int (-1)), (3, .int r1), (0, .ref (ω.2.1 0 99)), (1, .int (nI pn)), (2, .int (nI fr))]) hF.1 hF.2.1 dX2_watchOf_14 hl (by decide) rfl (fun ls hl => ?_)
  have kx16_162 : ∀ (x16_5 : Int32) (x16_4 : Int32) (w16_z17 : Nat → Int32) (h16_z11 : Nat → Int32) (H : Heap) (locs : List Loc) (ls : Array Slot), (x16_5, x16_4, w16_z17) = (it (fX2_watchOf_b16 g t of pn fr r1) 8 ((nI 11, (-1), z 17), false)).1 → mH ω (g, y, a, va_up (va_up z 11 h16_z11) 17 w16_z17, kt, hs) H → va_S ω.2.2.1 s.heap H locs → lv_has ls 10 [(4, .int x16_4)] → W p l e rmX2_watchOf s m args below meth c H locs 0 0 QQ (F0 m 182 ls []) := by
    intro x16_5 x16_4 w16_z17 h16_z11 H locs ls hE16 hH hS hl
    have e_x16_5 : x16_5 = (it (fX2_watchOf_b16 g t of pn fr r1) 8 ((nI 11, (-1), z 17), false)).1.1 := by rw [← hE16]
    have e_x16_4 : x16_4 = (it (fX2_watchOf_b16 g t of pn fr r1) 8 ((nI 11, (-1), z 17), false)).1.2.1 := by rw [← hE16]
    have e_w16_z17 : w16_z17 = (it (fX2_watchOf_b16 g t of pn fr r1) 8 ((nI 11, (-1), z 17), false)).1.2.2 := by rw [← hE16]
    refine lv_iload hF.1 hF.2.1 dX2_watchOf_182 (lv_at hl 0 rfl) ?_
    exact hret _ _ _ _ _ _ dX2_watchOf_184 ⟨_, _, by subst e_w16_z17; subst e_x16_4; subst e_x16_5; subst e_r1; rfl, rfl⟩ hH hS
  have lp16_161 : ∀ (d16 i16 : Nat) (x16_5 : Int32) (x16_4 : Int32) (w16_z17 : Nat → Int32) (h16_z11 : Nat → Int32) (H : Heap) (locs : List Loc) (ls : Array Slot), i16 + d16 = 8 → ((x16_5, x16_4, w16_z17), false) = it (fX2_watchOf_b16 g t of pn fr r1) i16 ((nI 11, (-1), z 17), false) → mH ω (g, y, a, va_up (va_up z 11 h16_z11) 17 w16_z17, kt, hs) H → va_S ω.2.2.1 s.heap H locs → lv_has ls 10 [(6, .int (nI i16)), (5, .int x16_5), (4, .int x16_4), (3, .int r1), (0, .ref (ω.2.1 0 99)), (1, .int (nI pn)), (2, .int (nI fr))] → W p l e rmX2_watchOf s m args below meth c H locs 0 0 QQ (F0 m 16 ls []) := by
    intro d16
    induction d16 with
    | zero =>
      intro i16 x16_5 x16_4 w16_z17 h16_z11 H locs ls hi16 hS16 hH hS hl
      have hj16 : 8 = i16 := by omega
      subst hj16
      refine lv_iload hF.1 hF.2.1 dX2_watchOf_16 (lv_at hl 0 rfl) ?_
      refine lv_bipush (v := nI 8) hF.1 hF.2.1 dX2_watchOf_18 (by decide) ?_
      refine n_ge (tgt := 182) hF.1 hF.2.1 dX2_watchOf_20 (by decide) (by omega) (by omega) (fun c2 => ?_) (fun c2 => ?_)
      · skip
        exact kx16_162 _ _ _ _ _ _ _ (by rw [← hS16]) hH hS (lv_sub hl [2] rfl)
      · exact absurd (by omega) c2
    | succ d16 ih =>
      intro i16 x16_5 x16_4 w16_z17 h16_z11 H locs ls hi16 hS16 hH hS hl
      refine lv_iload hF.1 hF.2.1 dX2_watchOf_16 (lv_at hl 0 rfl) ?_
      refine lv_bipush (v := nI 8) hF.1 hF.2.1 dX2_watchOf_18 (by decide) ?_
      refine n_ge (tgt := 182) hF.1 hF.2.1 dX2_watchOf_20 (by decide) (by omega) (by omega) (fun c3 => ?_) (fun c3 => ?_)
      · exact absurd c3 (by omega)
      · skip
        refine lv_iload_n hF.1 hF.2.1 dX2_watchOf_23 rfl (lv_at hl 3 rfl) ?_
        refine lv_if_eq (tgt := 182) hF.1 hF.2.1 dX2_watchOf_24 (by decide) (fun c4 => ?_) (fun c4 => ?_)
        · skip
          exact kx16_162 _ _ _ _ _ _ _ (by rw [it_stop (fX2_watchOf_b16_s g t of pn fr r1) (i := i16 + 1) (a := (x16_5, x16_4, w16_z17)) (by rw [it_succ (fX2_watchOf_b16 g t of pn fr r1) i16 _, ← hS16]; unfold fX2_watchOf_b16; dsimp only; first | (rw [if_neg (show ¬ (false = true) from Bool.false_ne_true), if_pos c4]; done) | (simp only [if_neg (show ¬ (false = true) from Bool.false_ne_true), if_pos c4])) 8 (by omega)]) hH hS (lv_sub hl [2] rfl)
        · skip
          refine lv_iconst (v := nI 0) hF.1 hF.2.1 dX2_watchOf_27 (by decide) ?_
          refine lv_istore (lv' := [(7, .int (nI 0)), (6, .int (nI i16)), (5, .int x16_5), (4, .int x16_4), (3, .int r1), (0, .ref (ω.2.1 0 99)), (1, .int (nI pn)), (2, .int (nI fr))]) hF.1 hF.2.1 dX2_watchOf_28 hl (by decide) rfl (fun ls hl => ?_)
          have lp30_164 : ∀ (d30 i30 : Nat) (w30_z17 : Nat → Int32) (H : Heap) (locs : List Loc) (ls : Array Slot), i30 + d30 = 10 → w30_z17 = it fX2_watchOf_b30 i30 w16_z17 → mH ω (g, y, a, va_up (va_up z 11 h16_z11) 17 w30_z17, kt, hs) H → va_S ω.2.2.1 s.heap H locs → lv_has ls 10 [(7, .int (nI i30)), (6, .int (nI i16)), (5, .int x16_5), (4, .int x16_4), (3, .int r1), (0, .ref (ω.2.1 0 99)), (1, .int (nI pn)), (2, .int (nI fr))] → W p l e rmX2_watchOf s m args below meth c H locs 0 0 QQ (F0 m 30 ls []) := by
            intro d30
            induction d30 with
            | zero =>
              intro i30 w30_z17 H locs ls hi30 hS30 hH hS hl
              have hj30 : 10 = i30 := by omega
              subst hj30
              have e_w30_z17 := hS30
              refine lv_iload hF.1 hF.2.1 dX2_watchOf_30 (lv_at hl 0 rfl) ?_
              refine lv_bipush (v := nI 10) hF.1 hF.2.1 dX2_watchOf_32 (by decide) ?_
              refine n_ge (tgt := 51) hF.1 hF.2.1 dX2_watchOf_34 (by decide) (by omega) (by omega) (fun c5 => ?_) (fun c5 => ?_)
              · skip
                refine lv_iconst (v := nI 0) hF.1 hF.2.1 dX2_watchOf_51 (by decide) ?_
                refine lv_istore (lv' := [(7, .int (nI 0)), (6, .int (nI i16)), (5, .int x16_5), (4, .int x16_4), (3, .int r1), (0, .ref (ω.2.1 0 99)), (1, .int (nI pn)), (2, .int (nI fr))]) hF.1 hF.2.1 dX2_watchOf_52 hl (by decide) rfl (fun ls hl => ?_)
                refine lv_iconst (v := nI 0) hF.1 hF.2.1 dX2_watchOf_54 (by decide) ?_
                refine lv_istore (lv' := [(8, .int (nI 0)), (7, .int (nI 0)), (6, .int (nI i16)), (5, .int x16_5), (4, .int x16_4), (3, .int r1), (0, .ref (ω.2.1 0 99)), (1, .int (nI pn)), (2, .int (nI fr))]) hF.1 hF.2.1 dX2_watchOf_55 hl (by decide) rfl (fun ls hl => ?_)
                have kx57_167 : ∀ (x57_7 : Int32) (w57_z17 : Nat → Int32) (h57_z11 : Nat → Int32) (H : Heap) (locs : List Loc) (ls : Array Slot), (x57_7, w57_z17) = (it (fX2_watchOf_b57 g t of pn fr r1 i16) 10 ((nI 0, w30_z17), false)).1 → mH ω (g, y, a, va_up (va_up z 11 h57_z11) 17 w57_z17, kt, hs) H → va_S ω.2.2.1 s.heap H locs → lv_has ls 10 [(7, .int x57_7), (6, .int (nI i16)), (5, .int x16_5), (4, .int x16_4), (3, .int r1), (0, .ref (ω.2.1 0 99)), (1, .int (nI pn)), (2, .int (nI fr))] → W p l e rmX2_watchOf s m args below meth c H locs 0 0 QQ (F0 m 132 ls []) := by
                  intro x57_7 w57_z17 h57_z11 H locs ls hE57 hH hS hl
                  have e_x57_7 : x57_7 = (it (fX2_watchOf_b57 g t of pn fr r1 i16) 10 ((nI 0, w30_z17), false)).1.1 := by rw [← hE57]
                  have e_w57_z17 : w57_z17 = (it (fX2_watchOf_b57 g t of pn fr r1 i16) 10 ((nI 0, w30_z17), false)).1.2 := by rw [← hE57]
                  refine lv_iload hF.1 hF.2.1 dX2_watchOf_132 (lv_at hl 1 rfl) ?_
                  refine lv_iload_n hF.1 hF.2.1 dX2_watchOf_134 rfl (lv_at hl 7 rfl) ?_
                  have k152_9 : ∀ (v8 : Int32) (ls : Array Slot), v8 = (if i16 = fr then x16_4 else if x16_5 ≤ x57_7 then x16_4 else nI i16) → lv_has ls 10 [(7, .int x57_7), (6, .int (nI i16)), (5, .int x16_5), (3, .int r1), (0, .ref (ω.2.1 0 99)), (1, .int (nI pn)), (2, .int (nI fr))] → W p l e rmX2_watchOf s m args below meth c H locs 0 0 QQ (F0 m 152 ls [.int v8]) := by
                    intro v8 ls e_v8 hl
                    refine lv_istore (lv' := [(4, .int v8), (7, .int x57_7), (6, .int (nI i16)), (5, .int x16_5), (3, .int r1), (0, .ref (ω.2.1 0 99)), (1, .int (nI pn)), (2, .int (nI fr))]) hF.1 hF.2.1 dX2_watchOf_152 hl (by decide) rfl (fun ls hl => ?_)
                    refine lv_iload hF.1 hF.2.1 dX2_watchOf_154 (lv_at hl 2 rfl) ?_
                    refine lv_iload_n hF.1 hF.2.1 dX2_watchOf_156 rfl (lv_at hl 7 rfl) ?_
                    refine n_eq (tgt := 172) hF.1 hF.2.1 dX2_watchOf_157 (by decide) (by omega) (by omega) (fun c10 => ?_) (fun c10 => ?_)
                    · skip
                      refine lv_iload hF.1 hF.2.1 dX2_watchOf_172 (lv_at hl 3 rfl) ?_
                      refine lv_istore (lv' := [(5, .int x16_5), (4, .int v8), (7, .int x57_7), (6, .int (nI i16)), (3, .int r1), (0, .ref (ω.2.1 0 99)), (1, .int (nI pn)), (2, .int (nI fr))]) hF.1 hF.2.1 dX2_watchOf_174 hl (by decide) rfl (fun ls hl => ?_)
                      refine n_iinc (lv' := [(6, .int (nI (i16 + 1))), (5, .int x16_5), (4, .int v8), (7, .int x57_7), (3, .int r1), (0, .ref (ω.2.1 0 99)), (1, .int (nI pn)), (2, .int (nI fr))]) hF.1 hF.2.1 dX2_watchOf_176 hl (k := 3) rfl (by decide) rfl (fun ls hl => ?_)
                      refine lv_goto (tgt := 16) hF.1 hF.2.1 dX2_watchOf_179 (by decide) ?_
                      exact ih (i16 + 1) _ _ _ _ _ _ _ (by omega) (by subst e_v8; subst e_w57_z17; subst e_x57_7; subst e_w30_z17; rw [it_succ (fX2_watchOf_b16 g t of pn fr r1) i16 _, ← hS16]; unfold fX2_watchOf_b16; dsimp only; first | (rw [if_neg (show ¬ (false = true) from Bool.false_ne_true), if_neg c4, if_pos c10]; done) | (simp only [if_neg (show ¬ (false = true) from Bool.false_ne_true), if_neg c4, if_pos c10])) hH hS (lv_sub hl [0, 1, 2, 4, 5, 6, 7] rfl)
                    · skip
                      refine lv_iload hF.1 hF.2.1 dX2_watchOf_160 (lv_at hl 1 rfl) ?_
                      refine lv_iload hF.1 hF.2.1 dX2_watchOf_162 (lv_at hl 3 rfl) ?_
                      refine lv_icmp_ge (tgt := 172) hF.1 hF.2.1 dX2_watchOf_164 (by decide) (fun c11 => ?_) (fun c11 => ?_)
                      · skip
                        refine lv_iload hF.1 hF.2.1 dX2_watchOf_172 (lv_at hl 3 rfl) ?_
                        refine lv_istore (lv' := [(5, .int x16_5), (4, .int v8), (7, .int x57_7), (6, .int (nI i16)), (3, .int r1), (0, .ref (ω.2.1 0 99)), (1, .int (nI pn)), (2, .int (nI fr))]) hF.1 hF.2.1 dX2_watchOf_174 hl (by decide) rfl (fun ls hl => ?_)
                        refine n_iinc (lv' := [(6, .int (nI (i16 + 1))), (5, .int x16_5), (4, .int v8), (7, .int x57_7), (3, .int r1), (0, .ref (ω.2.1 0 99)), (1, .int (nI pn)), (2, .int (nI fr))]) hF.1 hF.2.1 dX2_watchOf_176 hl (k := 3) rfl (by decide) rfl (fun ls hl => ?_)
                        refine lv_goto (tgt := 16) hF.1 hF.2.1 dX2_watchOf_179 (by decide) ?_
                        exact ih (i16 + 1) _ _ _ _ _ _ _ (by omega) (by subst e_v8; subst e_w57_z17; subst e_x57_7; subst e_w30_z17; rw [it_succ (fX2_watchOf_b16 g t of pn fr r1) i16 _, ← hS16]; unfold fX2_watchOf_b16; dsimp only; first | (rw [if_neg (show ¬ (false = true) from Bool.false_ne_true), if_neg c4, if_neg c10, if_pos c11]; done) | (simp only [if_neg (show ¬ (false = true) from Bool.false_ne_true), if_neg c4, if_neg c10, if_pos c11])) hH hS (lv_sub hl [0, 1, 2, 4, 5, 6, 7] rfl)
                      · skip
                        refine lv_iload hF.1 hF.2.1 dX2_watchOf_167 (lv_at hl 1 rfl) ?_
                        refine lv_goto (tgt := 174) hF.1 hF.2.1 dX2_watchOf_169 (by decide) ?_
                        refine lv_istore (lv' := [(5, .int x57_7), (4, .int v8), (7, .int x57_7), (6, .int (nI i16)), (3, .int r1), (0, .ref (ω.2.1 0 99)), (1, .int (nI pn)), (2, .int (nI fr))]) hF.1 hF.2.1 dX2_watchOf_174 hl (by decide) rfl (fun ls hl => ?_)
                        refine n_iinc (lv' := [(6, .int (nI (i16 + 1))), (5, .int x57_7), (4, .int v8), (7, .int x57_7), (3, .int r1), (0, .ref (ω.2.1 0 99)), (1, .int (nI pn)), (2, .int (nI fr))]) hF.1 hF.2.1 dX2_watchOf_176 hl (k := 3) rfl (by decide) rfl (fun ls hl => ?_)
                        refine lv_goto (tgt := 16) hF.1 hF.2.1 dX2_watchOf_179 (by decide) ?_
                        exact ih (i16 + 1) _ _ _ _ _ _ _ (by omega) (by subst e_v8; subst e_w57_z17; subst e_x57_7; subst e_w30_z17; rw [it_succ (fX2_watchOf_b16 g t of pn fr r1) i16 _, ← hS16]; unfold fX2_watchOf_b16; dsimp only; first | (rw [if_neg (show ¬ (false = true) from Bool.false_ne_true), if_neg c4, if_neg c10, if_neg c11]; done) | (simp only [if_neg (show ¬ (false = true) from Bool.false_ne_true), if_neg c4, if_neg c10, if_neg c11])) hH hS (lv_sub hl [0, 1, 2, 4, 5, 6, 7] rfl)
                  refine n_eq (tgt := 150) hF.1 hF.2.1 dX2_watchOf_135 (by decide) (by omega) (by omega) (fun c6 => ?_) (fun c6 => ?_)
                  · skip
                    refine lv_iload hF.1 hF.2.1 dX2_watchOf_150 (lv_at hl 3 rfl) ?_
                    exact k152_9 _ _ (by first | (rw [if_pos c6]; done) | (simp only [if_pos c6])) (lv_sub hl [0, 1, 2, 4, 5, 6, 7] rfl)
                  · skip
                    refine lv_iload hF.1 hF.2.1 dX2_watchOf_138 (lv_at hl 0 rfl) ?_
                    refine lv_iload hF.1 hF.2.1 dX2_watchOf_140 (lv_at hl 2 rfl) ?_
                    refine lv_icmp_ge (tgt := 150) hF.1 hF.2.1 dX2_watchOf_142 (by decide) (fun c7 => ?_) (fun c7 => ?_)
                    · skip
                      refine lv_iload hF.1 hF.2.1 dX2_watchOf_150 (lv_at hl 3 rfl) ?_
                      exact k152_9 _ _ (by first | (rw [if_neg c6, if_pos c7]; done) | (simp only [if_neg c6, if_pos c7])) (lv_sub hl [0, 1, 2, 4, 5, 6, 7] rfl)
                    · skip
                      refine lv_iload hF.1 hF.2.1 dX2_watchOf_145 (lv_at hl 1 rfl) ?_
                      refine lv_goto (tgt := 152) hF.1 hF.2.1 dX2_watchOf_147 (by decide) ?_
                      exact k152_9 _ _ (by first | (rw [if_neg c6, if_neg c7]; done) | (simp only [if_neg c6, if_neg c7])) (lv_sub hl [0, 1, 2, 4, 5, 6, 7] rfl)
                have lp57_166 : ∀ (d57 i57 : Nat) (x57_7 : Int32) (w57_z17 : Nat → Int32) (h57_z11 : Nat → Int32) (H : Heap) (locs : List Loc) (ls : Array Slot), i57 + d57 = 10 → ((x57_7, w57_z17), false) = it (fX2_watchOf_b57 g t of pn fr r1 i16) i57 ((nI 0, w30_z17), false) → mH ω (g, y, a, va_up (va_up z 11 h57_z11) 17 w57_z17, kt, hs) H → va_S ω.2.2.1 s.heap H locs → lv_has ls 10 [(8, .int (nI i57)), (7, .int x57_7), (6, .int (nI i16)), (5, .int x16_5), (4, .int x16_4), (3, .int r1), (0, .ref (ω.2.1 0 99)), (1, .int (nI pn)), (2, .int (nI fr))] → W p l e rmX2_watchOf s m args below meth c H locs 0 0 QQ (F0 m 57 ls []) := by
                  intro d57
                  induction d57 with
                  | zero =>
                    intro i57 x57_7 w57_z17 h57_z11 H locs ls hi57 hS57 hH hS hl
                    have hj57 : 10 = i57 := by omega
                    subst hj57
                    refine lv_iload hF.1 hF.2.1 dX2_watchOf_57 (lv_at hl 0 rfl) ?_
                    refine lv_bipush (v := nI 10) hF.1 hF.2.1 dX2_watchOf_59 (by decide) ?_
                    refine n_ge (tgt := 132) hF.1 hF.2.1 dX2_watchOf_61 (by decide) (by omega) (by omega) (fun c12 => ?_) (fun c12 => ?_)
                    · skip
                      exact kx57_167 _ _ _ _ _ _ (by rw [← hS57]) hH hS (lv_sub hl [1, 2, 3, 4, 5, 6, 7, 8] rfl)
                    · exact absurd (by omega) c12
                  | succ d57 ih =>
                    intro i57 x57_7 w57_z17 h57_z11 H locs ls hi57 hS57 hH hS hl
                    refine lv_iload hF.1 hF.2.1 dX2_watchOf_57 (lv_at hl 0 rfl) ?_
                    refine lv_bipush (v := nI 10) hF.1 hF.2.1 dX2_watchOf_59 (by decide) ?_
                    refine n_ge (tgt := 132) hF.1 hF.2.1 dX2_watchOf_61 (by decide) (by omega) (by omega) (fun c13 => ?_) (fun c13 => ?_)
                    · exact absurd c13 (by omega)
                    · skip
                      refine lv_iload hF.1 hF.2.1 dX2_watchOf_64 (lv_at hl 2 rfl) ?_
                      refine lv_iload_n hF.1 hF.2.1 dX2_watchOf_66 rfl (lv_at hl 8 rfl) ?_
                      refine n_eq (tgt := 132) hF.1 hF.2.1 dX2_watchOf_67 (by decide) (by omega) (by omega) (fun c14 => ?_) (fun c14 => ?_)
                      · skip
                        exact kx57_167 _ _ _ _ _ _ (by rw [it_stop (fX2_watchOf_b57_s g t of pn fr r1 i16) (i := i57 + 1) (a := (x57_7, w57_z17)) (by rw [it_succ (fX2_watchOf_b57 g t of pn fr r1 i16) i57 _, ← hS57]; unfold fX2_watchOf_b57; dsimp only; first | (rw [if_neg (show ¬ (false = true) from Bool.false_ne_true), if_pos c14]; done) | (simp only [if_neg (show ¬ (false = true) from Bool.false_ne_true), if_pos c14])) 10 (by omega)]) hH hS (lv_sub hl [1, 2, 3, 4, 5, 6, 7, 8] rfl)
                      · skip
                        refine lv_aload_n hF.1 hF.2.1 dX2_watchOf_70 rfl (lv_at hl 6 rfl) ?_
                        refine lv_iload_n hF.1 hF.2.1 dX2_watchOf_71 rfl (lv_at hl 7 rfl) ?_
                        refine lv_iload hF.1 hF.2.1 dX2_watchOf_72 (lv_at hl 0 rfl) ?_
                        refine lv_iload_n hF.1 hF.2.1 dX2_watchOf_74 rfl (lv_at hl 8 rfl) ?_
                        refine lv_iload hF.1 hF.2.1 dX2_watchOf_75 (lv_at hl 2 rfl) ?_
                        refine g_vWi (As := [.int (nI pn), .int (nI i57), .int (nI fr), .int (nI i16)]) (rest := []) hF (kX2_firstBy l ω g y a (va_up (va_up z 11 h57_z11) 17 w57_z17) kt hs t td of hc pn i57 fr i16 (by omega) (by omega) (by omega) (by omega) (by omega) hsd) (lw_V q1193 q1195 qs67 q97 q1196) 4 hdX2_firstBy rfl rfl ⟨Nat.le_of_ble_eq_true rfl, Nat.le_of_ble_eq_true rfl⟩ (m_preV hK hH) rfl hl.1 rfl (Nat.le_of_ble_eq_true rfl) dX2_watchOf_77 ⟨Nat.le_of_ble_eq_true rfl, Nat.le_of_ble_eq_true rfl⟩ hS (fun r15 ur15 H locs hqr15 hH hS => ?_)
                        obtain ⟨r15h0, hr15, rfl⟩ := hqr15
                        have e_r15 := hr15
                        have hH : mH ω (g, y, a, va_up (va_up z 11 r15h0) 17 w57_z17, kt, hs) H := m_ext (fun _ => rfl) (fun _ => rfl) (fun _ => rfl) (by intro k; by_cases h0 : k = 11; (subst h0; simp [va_up]); simp only [va_up, if_neg h0]) hH
                        refine lv_iconst (v := nI 1) hF.1 hF.2.1 dX2_watchOf_80 (by decide) ?_
                        refine lv_iadd hF.1 hF.2.1 dX2_watchOf_81 ?_
                        obtain ⟨b16e, b16l⟩ := g_lift (r := r15 + (nI 1)) (n := 10) (by rw [e_r15]; exact fX2_firstBy_lift hc (by omega) (by omega) (by omega) (by omega) (by omega)) (by omega)
                        refine n_top b16e ?_
                        refine lv_istore (lv' := [(9, .int (nI (toN (r15 + (nI 1))))), (8, .int (nI i57)), (7, .int x57_7), (6, .int (nI i16)), (5, .int x16_5), (4, .int x16_4), (3, .int r1), (0, .ref (ω.2.1 0 99)), (1, .int (nI pn)), (2, .int (nI fr))]) hF.1 hF.2.1 dX2_watchOf_82 hl (by decide) rfl (fun ls hl => ?_)
                        refine lv_aload_n hF.1 hF.2.1 dX2_watchOf_84 rfl (lv_at hl 7 rfl) ?_
                        refine mg_17 hF hK hH q988 dX2_watchOf_85 ?_
                        refine lv_iload hF.1 hF.2.1 dX2_watchOf_88 (lv_at hl 0 rfl) ?_
                        refine lv_dup2_11 hF.1 hF.2.1 dX2_watchOf_90 rfl rfl ?_
                        refine m_zld hF hK hH 17 (n := 10) rfl rfl (by decide) rfl (f := w57_z17) rfl (i := toN (r15 + (nI 1))) (by omega) (by decide) dX2_watchOf_91 ?_
                        refine lv_iload_n hF.1 hF.2.1 dX2_watchOf_92 rfl (lv_at hl 6 rfl) ?_
                        refine lv_iload hF.1 hF.2.1 dX2_watchOf_93 (lv_at hl 1 rfl) ?_
                        refine lv_ishr hF.1 hF.2.1 dX2_watchOf_95 ?_
                        refine lv_iconst (v := nI 1) hF.1 hF.2.1 dX2_watchOf_96 (by decide) ?_
                        refine lv_iand hF.1 hF.2.1 dX2_watchOf_97 ?_
                        refine lv_iadd hF.1 hF.2.1 dX2_watchOf_98 ?_
                        refine m_zst (z' := va_up (va_up z 11 r15h0) 17 (upd w57_z17 (toN (r15 + (nI 1))) ((w57_z17 (toN (r15 + (nI 1)))) + ((r1 >>> ((nI i57) &&& 31)) &&& (nI 1))))) hF hK hH hS 17 (n := 10) rfl rfl (by decide) rfl (f := w57_z17) rfl (i := toN (r15 + (nI 1))) (by omega) (by decide) dX2_watchOf_99 rfl (by intro j hj; simp only [va_up, if_neg hj]) (fun H locs hH hS => ?_)
                        refine lv_aload_n hF.1 hF.2.1 dX2_watchOf_100 rfl (lv_at hl 7 rfl) ?_
                        refine mg_17 hF hK hH q988 dX2_watchOf_101 ?_
                        refine lv_iload hF.1 hF.2.1 dX2_watchOf_104 (lv_at hl 0 rfl) ?_
                        refine m_zld hF hK hH 17 (n := 10) rfl rfl (by decide) rfl (f := upd w57_z17 (toN (r15 + (nI 1))) ((w57_z17 (toN (r15 + (nI 1)))) + ((r1 >>> ((nI i57) &&& 31)) &&& (nI 1)))) rfl (i := toN (r15 + (nI 1))) (by omega) (by decide) dX2_watchOf_106 ?_
                        refine lv_iload hF.1 hF.2.1 dX2_watchOf_107 (lv_at hl 2 rfl) ?_
                        refine lv_icmp_le (tgt := 122) hF.1 hF.2.1 dX2_watchOf_109 (by decide) (fun c17 => ?_) (fun c17 => ?_)
                        · skip
                          refine lv_iload hF.1 hF.2.1 dX2_watchOf_122 (lv_at hl 2 rfl) ?_
                          refine lv_istore (lv' := [(7, .int x57_7), (9, .int (nI (toN (r15 + (nI 1))))), (8, .int (nI i57)), (6, .int (nI i16)), (5, .int x16_5), (4, .int x16_4), (3, .int r1), (0, .ref (ω.2.1 0 99)), (1, .int (nI pn)), (2, .int (nI fr))]) hF.1 hF.2.1 dX2_watchOf_124 hl (by decide) rfl (fun ls hl => ?_)
                          refine n_iinc (lv' := [(8, .int (nI (i57 + 1))), (7, .int x57_7), (9, .int (nI (toN (r15 + (nI 1))))), (6, .int (nI i16)), (5, .int x16_5), (4, .int x16_4), (3, .int r1), (0, .ref (ω.2.1 0 99)), (1, .int (nI pn)), (2, .int (nI fr))]) hF.1 hF.2.1 dX2_watchOf_126 hl (k := 2) rfl (by decide) rfl (fun ls hl => ?_)
                          refine lv_goto (tgt := 57) hF.1 hF.2.1 dX2_watchOf_129 (by decide) ?_
                          exact ih (i57 + 1) _ _ _ _ _ _ (by omega) (by subst e_r15; rw [it_succ (fX2_watchOf_b57 g t of pn fr r1 i16) i57 _, ← hS57]; unfold fX2_watchOf_b57; dsimp only; first | (rw [if_neg (show ¬ (false = true) from Bool.false_ne_true), if_neg c14, if_pos c17]; done) | (simp only [if_neg (show ¬ (false = true) from Bool.false_ne_true), if_neg c14, if_pos c17])) hH hS (lv_sub hl [0, 1, 3, 4, 5, 6, 7, 8, 9] rfl)
                        · skip
                          refine lv_aload_n hF.1 hF.2.1 dX2_watchOf_112 rfl (lv_at hl 7 rfl) ?_
                          refine mg_17 hF hK hH q988 dX2_watchOf_113 ?_
                          refine lv_iload hF.1 hF.2.1 dX2_watchOf_116 (lv_at hl 0 rfl) ?_
                          refine m_zld hF hK hH 17 (n := 10) rfl rfl (by decide) rfl (f := upd w57_z17 (toN (r15 + (nI 1))) ((w57_z17 (toN (r15 + (nI 1)))) + ((r1 >>> ((nI i57) &&& 31)) &&& (nI 1)))) rfl (i := toN (r15 + (nI 1))) (by omega) (by decide) dX2_watchOf_118 ?_
                          refine lv_goto (tgt := 124) hF.1 hF.2.1 dX2_watchOf_119 (by decide) ?_
                          refine lv_istore (lv' := [(7, .int ((upd w57_z17 (toN (r15 + (nI 1))) ((w57_z17 (toN (r15 + (nI 1)))) + ((r1 >>> ((nI i57) &&& 31)) &&& (nI 1)))) (toN (r15 + (nI 1))))), (9, .int (nI (toN (r15 + (nI 1))))), (8, .int (nI i57)), (6, .int (nI i16)), (5, .int x16_5), (4, .int x16_4), (3, .int r1), (0, .ref (ω.2.1 0 99)), (1, .int (nI pn)), (2, .int (nI fr))]) hF.1 hF.2.1 dX2_watchOf_124 hl (by decide) rfl (fun ls hl => ?_)
                          refine n_iinc (lv' := [(8, .int (nI (i57 + 1))), (7, .int ((upd w57_z17 (toN (r15 + (nI 1))) ((w57_z17 (toN (r15 + (nI 1)))) + ((r1 >>> ((nI i57) &&& 31)) &&& (nI 1)))) (toN (r15 + (nI 1))))), (9, .int (nI (toN (r15 + (nI 1))))), (6, .int (nI i16)), (5, .int x16_5), (4, .int x16_4), (3, .int r1), (0, .ref (ω.2.1 0 99)), (1, .int (nI pn)), (2, .int (nI fr))]) hF.1 hF.2.1 dX2_watchOf_126 hl (k := 2) rfl (by decide) rfl (fun ls hl => ?_)
                          refine lv_goto (tgt := 57) hF.1 hF.2.1 dX2_watchOf_129 (by decide) ?_
                          exact ih (i57 + 1) _ _ _ _ _ _ (by omega) (by subst e_r15; rw [it_succ (fX2_watchOf_b57 g t of pn fr r1 i16) i57 _, ← hS57]; unfold fX2_watchOf_b57; dsimp only; first | (rw [if_neg (show ¬ (false = true) from Bool.false_ne_true), if_neg c14, if_neg c17]; done) | (simp only [if_neg (show ¬ (false = true) from Bool.false_ne_true), if_neg c14, if_neg c17])) hH hS (lv_sub hl [0, 1, 3, 4, 5, 6, 7, 8, 9] rfl)
                exact lp57_166 10 0 _ _ _ _ _ _ (by omega) rfl hH hS (lv_sub hl [0, 1, 2, 3, 4, 5, 6, 7, 8] rfl)
              · exact absurd (by omega) c5
            | succ d30 ih =>
              intro i30 w30_z17 H locs ls hi30 hS30 hH hS hl
              refine lv_iload hF.1 hF.2.1 dX2_watchOf_30 (lv_at hl 0 rfl) ?_
              refine lv_bipush (v := nI 10) hF.1 hF.2.1 dX2_watchOf_32 (by decide) ?_
              refine n_ge (tgt := 51) hF.1 hF.2.1 dX2_watchOf_34 (by decide) (by omega) (by omega) (fun c18 => ?_) (fun c18 => ?_)
              · exact absurd c18 (by omega)
              · skip
                refine lv_aload_n hF.1 hF.2.1 dX2_watchOf_37 rfl (lv_at hl 5 rfl) ?_
                refine mg_17 hF hK hH q988 dX2_watchOf_38 ?_
                refine lv_iload hF.1 hF.2.1 dX2_watchOf_41 (lv_at hl 0 rfl) ?_
                refine lv_iconst (v := nI 0) hF.1 hF.2.1 dX2_watchOf_43 (by decide) ?_
                refine m_zst (z' := va_up (va_up z 11 h16_z11) 17 (upd w30_z17 i30 (nI 0))) hF hK hH hS 17 (n := 10) rfl rfl (by decide) rfl (f := w30_z17) rfl (i := i30) (by omega) (by decide) dX2_watchOf_44 rfl (by intro j hj; simp only [va_up, if_neg hj]) (fun H locs hH hS => ?_)
                refine n_iinc (lv' := [(7, .int (nI (i30 + 1))), (6, .int (nI i16)), (5, .int x16_5), (4, .int x16_4), (3, .int r1), (0, .ref (ω.2.1 0 99)), (1, .int (nI pn)), (2, .int (nI fr))]) hF.1 hF.2.1 dX2_watchOf_45 hl (k := 0) rfl (by decide) rfl (fun ls hl => ?_)
                refine lv_goto (tgt := 30) hF.1 hF.2.1 dX2_watchOf_48 (by decide) ?_
                exact ih (i30 + 1) _ _ _ _ (by omega) (by rw [it_succ fX2_watchOf_b30 i30 _, ← hS30]; try rfl) hH hS (lv_sub hl [0, 1, 2, 3, 4, 5, 6, 7] rfl)
          exact lp30_164 10 0 _ _ _ _ (by omega) rfl hH hS (lv_sub hl [0, 1, 2, 3, 4, 5, 6, 7] rfl)
  have hH : mH ω (g, y, a, va_up (va_up z 11 r1h0) 17 (z 17), kt, hs) H := m_ext (fun _ => rfl) (fun _ => rfl) (fun _ => rfl) (by intro k; by_cases h0 : k = 17; (subst h0; simp [va_up]); simp only [va_up, if_neg h0]) hH
  exact lp16_161 8 0 _ _ _ _ _ _ _ (by omega) rfl hH hS (lv_sub hl [0, 1, 2, 3, 4, 5, 6] rfl)

def fX2_watch (g : Nat → Nat) (a : Nat → Nat → Int32) (t : TW) (of : Nat → Nat → Nat) (pn : Int32) (fr : Int32) (z_17 : Nat → Int32) : Int32 × (Nat → Int32) := if (fX2_isPerson g pn) = 0 then ((-101), z_17) else if (fX2_isCorner fr) = 0 then ((-101), z_17) else (((fX2_watchOf g a t of (toN pn) (toN fr) (z_17)).1), ((fX2_watchOf g a t of (toN pn) (toN fr) (z_17)).2))
def rmX2_watch : Room := { frames := 7, cells := 0, slots := 0, locals := 178 }
theorem hdX2_watch : yX2_watch.cls = RX2 ∧ yX2_watch.cls ≠ "java/lang/invoke/MethodHandle" ∧ yX2_watch.cls ≠ "java/lang/invoke/VarHandle" ∧ (parseMethodDescriptor yX2_watch.desc).map (fun d => d.parameters.length) = some 2 := by decide +kernel
set_option maxHeartbeats 4000000 in
theorem kX2_watch (l : Launch) (ω : OM) (g : Nat → Nat) (y : Nat → Int32) (a z : Nat → Nat → Int32) (kt : Int32) (hs : Int64) (t : TW) (td : Nat → Nat) (of : Nat → Nat → Nat) (hc : mCore g a t td of) (pn : Int32) (fr : Int32) (hsd : mSide g a) : Met l yX2_watch (ws_ yX2_watch cX2_watch 3 (some .int)) rmX2_watch (va_Pc [.ref (ω.2.1 0 99), .int pn, .int fr] (fun U => mK ω U ∧ mH ω (g, y, a, z, kt, hs) U.heap)) (va_Qi (fun (r : Int32) (u : MS) => ∃ (o0 : Nat → Int32) (q0 : Nat → Int32), (r, o0) = (fX2_watch g a t of pn fr (z 17)) ∧ u = (g, y, a, va_up (va_up z 11 q0) 17 o0, kt, hs)) (fun u t => mH ω u t.heap) ω.2.2.1) 0 0 ω.2.2.1 := by
  refine g_entWi (C := RX2) rfl (by decide) (Nat.le_of_ble_eq_true rfl) ?_
  intro p e s m args below meth c QQ ls H locs hF hK hH hS hl hret
  have hl : lv_has ls 3 [(0, .ref (ω.2.1 0 99)), (1, .int pn), (2, .int fr)] := hl
  have hok := hc.ok
  have hr := hc.rows
  have hn := hr.1
  have hp3 := hsd.1
  have hs6 := hsd.2.1
  refine lv_aload_n hF.1 hF.2.1 dX2_watch_0 rfl (lv_at hl 0 rfl) ?_
  refine lv_iload_n hF.1 hF.2.1 dX2_watch_1 rfl (lv_at hl 1 rfl) ?_
  refine g_vPi (As := [.int pn]) (rest := []) hF (kX2_isPerson l ω g y a z kt hs pn) (lw_V q1103 q1105 qs51 q97 q1106) 1 hdX2_isPerson rfl rfl ⟨Nat.le_of_ble_eq_true rfl, Nat.le_of_ble_eq_true rfl⟩ (m_preV hK hH) rfl hl.1 rfl (Nat.le_of_ble_eq_true rfl) dX2_watch_2 ⟨Nat.zero_le _, Nat.zero_le _⟩ (fun r1 e_r1 => ?_)
  refine lv_if_eq (tgt := 24) hF.1 hF.2.1 dX2_watch_5 (by decide) (fun c2 => ?_) (fun c2 => ?_)
  · skip
    refine lv_bipush (v := (-101)) hF.1 hF.2.1 dX2_watch_24 (by decide) ?_
    have hH : mH ω (g, y, a, va_up (va_up z 11 (z 11)) 17 (z 17), kt, hs) H := m_ext (fun _ => rfl) (fun _ => rfl) (fun _ => rfl) (by intro k; by_cases h0 : k = 11; (subst h0; simp [va_up]); by_cases h1 : k = 17; (subst h1; simp [va_up]); simp only [va_up, if_neg h0, if_neg h1]) hH
    exact hret _ _ _ _ _ _ dX2_watch_26 ⟨_, _, by subst e_r1; unfold fX2_watch; first | (rw [if_pos c2]; done) | (simp only [if_pos c2]), rfl⟩ hH hS
  · skip
    refine lv_iload_n hF.1 hF.2.1 dX2_watch_8 rfl (lv_at hl 2 rfl) ?_
    refine g_sPi (As := [.int fr]) (rest := []) hF (kX2_isCorner l fr) (lw_S q1107 q1108 q97 q1109) 1 hdX2_isCorner.2 rfl rfl ⟨Nat.le_of_ble_eq_true rfl, Nat.le_of_ble_eq_true rfl⟩ g_pre0 rfl hl.1 rfl (Nat.le_of_ble_eq_true rfl) dX2_watch_9 ⟨Nat.zero_le _, Nat.zero_le _⟩ (fun r3 e_r3 => ?_)
    refine lv_if_eq (tgt := 24) hF.1 hF.2.1 dX2_watch_12 (by decide) (fun c4 => ?_) (fun c4 => ?_)
    · skip
      refine lv_bipush (v := (-101)) hF.1 hF.2.1 dX2_watch_24 (by decide) ?_
      have hH : mH ω (g, y, a, va_up (va_up z 11 (z 11)) 17 (z 17), kt, hs) H := m_ext (fun _ => rfl) (fun _ => rfl) (fun _ => rfl) (by intro k; by_cases h0 : k = 11; (subst h0; simp [va_up]); by_cases h1 : k = 17; (subst h1; simp [va_up]); simp only [va_up, if_neg h0, if_neg h1]) hH
      exact hret _ _ _ _ _ _ dX2_watch_26 ⟨_, _, by subst e_r3; subst e_r1; unfold fX2_watch; first | (rw [if_neg c2, if_pos c4]; done) | (simp only [if_neg c2, if_pos c4]), rfl⟩ hH hS
    · skip
      obtain ⟨b5e, b5l⟩ := g_lift (r := pn) (n := 3) (isPerson_lift3 hp3 (by rw [← e_r1]; exact c2)) (by omega)
      obtain ⟨b6e, b6l⟩ := g_lift (r := fr) (n := 8) (isCorner_lift (by rw [← e_r3]; exact c4)) (by omega)
      refine lv_aload_n hF.1 hF.2.1 dX2_watch_15 rfl (lv_at hl 0 rfl) ?_
      refine lv_iload_n hF.1 hF.2.1 dX2_watch_16 rfl (lv_at hl 1 rfl) ?_
      refine n_top b5e ?_
      refine lv_iload_n hF.1 hF.2.1 dX2_watch_17 rfl (lv_at hl 2 rfl) ?_
      refine n_top b6e ?_
      refine g_vWi (As := [.int (nI (toN pn)), .int (nI (toN fr))]) (rest := []) hF (kX2_watchOf l ω g y a z kt hs t td of hc (toN pn) (toN fr) (by omega) (by omega) hsd) (lw_V q1320 q1322 qs82 q97 q1323) 2 hdX2_watchOf rfl rfl ⟨Nat.le_of_ble_eq_true rfl, Nat.le_of_ble_eq_true rfl⟩ (m_preV hK hH) rfl hl.1 rfl (Nat.le_of_ble_eq_true rfl) dX2_watch_18 ⟨Nat.le_of_ble_eq_true rfl, Nat.le_of_ble_eq_true rfl⟩ hS (fun r7 ur7 H locs hqr7 hH hS => ?_)
      obtain ⟨r7o0, r7h0, hr7, rfl⟩ := hqr7
      have e_r7 : r7 = (fX2_watchOf g a t of (toN pn) (toN fr) (z 17)).1 := by rw [← hr7]
      have e_r7o0 : r7o0 = (fX2_watchOf g a t of (toN pn) (toN fr) (z 17)).2 := by rw [← hr7]
      refine lv_goto (tgt := 26) hF.1 hF.2.1 dX2_watch_21 (by decide) ?_
      exact hret _ _ _ _ _ _ dX2_watch_26 ⟨_, _, by subst e_r7o0; subst e_r7; subst e_r3; subst e_r1; unfold fX2_watch; first | (rw [if_neg c2, if_neg c4]; done) | (simp only [if_neg c2, if_neg c4]), rfl⟩ hH hS

def fX2_ride (g : Nat → Nat) (a : Nat → Nat → Int32) (t : TW) (td : Nat → Nat) (of : Nat → Nat → Nat) (dn : Int32) (pn : Int32) (to : Int32) : Int32 × (Nat → Int32) × (Nat → Int32) × (Nat → Int32) := if (fX2_isDriver g dn) = 0 then ((-101), a 10, a 8, a 9) else if (fX2_isPerson g pn) = 0 then ((-101), a 10, a 8, a 9) else if (fX2_isCorner to) = 0 then ((-101), a 10, a 8, a 9) else if (fX2_layWayS g t td of (toN pn) (toN (a 10 (3 * (toN dn)))) (toN to) (a 10 ((3 * (toN dn)) + 1))) = (-1) then ((-103), a 10, a 8, a 9) else (nI ((cds t (g 5) (td (toN pn)) (of (toN pn)) (a 10 ((3 * (toN dn)) + 1)) (toN to) (toN (a 10 (3 * (toN dn))))) / 1000), upd (upd (a 10) (3 * (toN dn)) (nI (toN to))) ((3 * (toN dn)) + 2) (((upd (a 10) (3 * (toN dn)) (nI (toN to))) ((3 * (toN dn)) + 2)) + (nI 1)), upd (upd (a 8) ((5 * (toN pn)) + 1) ((a 8 ((5 * (toN pn)) + 1)) + (nI 1))) ((5 * (toN pn)) + 2) (((upd (a 8) ((5 * (toN pn)) + 1) ((a 8 ((5 * (toN pn)) + 1)) + (nI 1))) ((5 * (toN pn)) + 2)) + (nI ((cds t (g 5) (td (toN pn)) (of (toN pn)) (a 10 ((3 * (toN dn)) + 1)) (toN to) (toN (a 10 (3 * (toN dn))))) / 1000))), (fX2_takeThroughS a (toN pn) (cwl t (g 5) (td (toN pn)) (of (toN pn)) (a 10 ((3 * (toN dn)) + 1)) (toN (a 10 (3 * (toN dn)))) (toN to)) (cws t (g 5) (td (toN pn)) (of (toN pn)) (a 10 ((3 * (toN dn)) + 1)) (toN (a 10 (3 * (toN dn)))) (toN to))))
def rmX2_ride : Room := { frames := 5, cells := 0, slots := 0, locals := 127 }
theorem hdX2_ride : yX2_ride.cls = RX2 ∧ yX2_ride.cls ≠ "java/lang/invoke/MethodHandle" ∧ yX2_ride.cls ≠ "java/lang/invoke/VarHandle" ∧ (parseMethodDescriptor yX2_ride.desc).map (fun d => d.parameters.length) = some 3 := by decide +kernel
set_option maxHeartbeats 4000000 in
theorem kX2_ride (l : Launch) (ω : OM) (g : Nat → Nat) (y : Nat → Int32) (a z : Nat → Nat → Int32) (kt : Int32) (hs : Int64) (t : TW) (td : Nat → Nat) (of : Nat → Nat → Nat) (hc : mCore g a t td of) (dn : Int32) (pn : Int32) (to : Int32) (hsd : mSide g a) : Met l yX2_ride (ws_ yX2_ride cX2_ride 6 (some .int)) rmX2_ride (va_Pc [.ref (ω.2.1 0 99), .int dn, .int pn, .int to] (fun U => mK ω U ∧ mH ω (g, y, a, z, kt, hs) U.heap)) (va_Qi (fun (r : Int32) (u : MS) => ∃ (o0 : Nat → Int32) (o1 : Nat → Int32) (o2 : Nat → Int32) (q0 : Nat → Int32) (q1 : Nat → Int32), (r, o0, o1, o2) = (fX2_ride g a t td of dn pn to) ∧ u = (g, y, va_up (va_up (va_up a 8 o1) 9 o2) 10 o0, va_up (va_up z 11 q0) 12 q1, kt, hs)) (fun u t => mH ω u t.heap) ω.2.2.1) 0 0 ω.2.2.1 := by
  refine g_entWi (C := RX2) rfl (by decide) (Nat.le_of_ble_eq_true rfl) ?_
  intro p e s m args below meth c QQ ls H locs hF hK hH hS hl hret
  have hl : lv_has ls 6 [(0, .ref (ω.2.1 0 99)), (1, .int dn), (2, .int pn), (3, .int to)] := hl
  have hok := hc.ok
  have hr := hc.rows
  have hn := hr.1
  have hp3 := hsd.1
  have hs6 := hsd.2.1
  refine lv_aload_n hF.1 hF.2.1 dX2_ride_0 rfl (lv_at hl 0 rfl) ?_
  refine lv_iload_n hF.1 hF.2.1 dX2_ride_1 rfl (lv_at hl 1 rfl) ?_
  refine g_vPi (As := [.int dn]) (rest := []) hF (kX2_isDriver l ω g y a z kt hs dn (by omega)) (lw_V q1240 q1242 qs72 q97 q1243) 1 hdX2_isDriver rfl rfl ⟨Nat.le_of_ble_eq_true rfl, Nat.le_of_ble_eq_true rfl⟩ (m_preV hK hH) rfl hl.1 rfl (Nat.le_of_ble_eq_true rfl) dX2_ride_2 ⟨Nat.zero_le _, Nat.zero_le _⟩ (fun r1 e_r1 => ?_)
  refine lv_if_eq (tgt := 23) hF.1 hF.2.1 dX2_ride_5 (by decide) (fun c2 => ?_) (fun c2 => ?_)
  · skip
    refine lv_bipush (v := (-101)) hF.1 hF.2.1 dX2_ride_23 (by decide) ?_
    have hH : mH ω (g, y, va_up (va_up (va_up a 8 (a 8)) 9 (a 9)) 10 (a 10), va_up (va_up z 11 (z 11)) 12 (z 12), kt, hs) H := m_ext (fun _ => rfl) (fun _ => rfl) (by intro k; by_cases h0 : k = 10; (subst h0; simp [va_up]); by_cases h1 : k = 8; (subst h1; simp [va_up]); by_cases h2 : k = 9; (subst h2; simp [va_up]); simp only [va_up, if_neg h0, if_neg h1, if_neg h2]) (by intro k; by_cases h0 : k = 11; (subst h0; simp [va_up]); by_cases h1 : k = 12; (subst h1; simp [va_up]); simp only [va_up, if_neg h0, if_neg h1]) hH
    exact hret _ _ _ _ _ _ dX2_ride_25 ⟨_, _, _, _, _, by subst e_r1; unfold fX2_ride; first | (rw [if_pos c2]; done) | (simp only [if_pos c2]), rfl⟩ hH hS
  · skip
    refine lv_aload_n hF.1 hF.2.1 dX2_ride_8 rfl (lv_at hl 0 rfl) ?_
    refine lv_iload_n hF.1 hF.2.1 dX2_ride_9 rfl (lv_at hl 2 rfl) ?_
    refine g_vPi (As := [.int pn]) (rest := []) hF (kX2_isPerson l ω g y a z kt hs pn) (lw_V q1103 q1105 qs51 q97 q1106) 1 hdX2_isPerson rfl rfl ⟨Nat.le_of_ble_eq_true rfl, Nat.le_of_ble_eq_true rfl⟩ (m_preV hK hH) rfl hl.1 rfl (Nat.le_of_ble_eq_true rfl) dX2_ride_10 ⟨Nat.zero_le _, Nat.zero_le _⟩ (fun r3 e_r3 => ?_)
    refine lv_if_eq (tgt := 23) hF.1 hF.2.1 dX2_ride_13 (by decide) (fun c4 => ?_) (fun c4 => ?_)
    · skip
      refine lv_bipush (v := (-101)) hF.1 hF.2.1 dX2_ride_23 (by decide) ?_
      have hH : mH ω (g, y, va_up (va_up (va_up a 8 (a 8)) 9 (a 9)) 10 (a 10), va_up (va_up z 11 (z 11)) 12 (z 12), kt, hs) H := m_ext (fun _ => rfl) (fun _ => rfl) (by intro k; by_cases h0 : k = 10; (subst h0; simp [va_up]); by_cases h1 : k = 8; (subst h1; simp [va_up]); by_cases h2 : k = 9; (subst h2; simp [va_up]); simp only [va_up, if_neg h0, if_neg h1, if_neg h2]) (by intro k; by_cases h0 : k = 11; (subst h0; simp [va_up]); by_cases h1 : k = 12; (subst h1; simp [va_up]); simp only [va_up, if_neg h0, if_neg h1]) hH
      exact hret _ _ _ _ _ _ dX2_ride_25 ⟨_, _, _, _, _, by subst e_r3; subst e_r1; unfold fX2_ride; first | (rw [if_neg c2, if_pos c4]; done) | (simp only [if_neg c2, if_pos c4]), rfl⟩ hH hS
    · skip
      refine lv_iload_n hF.1 hF.2.1 dX2_ride_16 rfl (lv_at hl 3 rfl) ?_
      refine g_sPi (As := [.int to]) (rest := []) hF (kX2_isCorner l to) (lw_S q1107 q1108 q97 q1109) 1 hdX2_isCorner.2 rfl rfl ⟨Nat.le_of_ble_eq_true rfl, Nat.le_of_ble_eq_true rfl⟩ g_pre0 rfl hl.1 rfl (Nat.le_of_ble_eq_true rfl) dX2_ride_17 ⟨Nat.zero_le _, Nat.zero_le _⟩ (fun r5 e_r5 => ?_)
      refine lv_if_ne (tgt := 26) hF.1 hF.2.1 dX2_ride_20 (by decide) (fun c6 => ?_) (fun c6 => ?_)
      · skip
        obtain ⟨b7e, b7l⟩ := g_lift (r := dn) (n := 2) (isDriver_lift (by rw [← e_r1]; exact c2)) (by omega)
        obtain ⟨b8e, b8l⟩ := g_lift (r := pn) (n := 3) (isPerson_lift3 hp3 (by rw [← e_r3]; exact c4)) (by omega)
        obtain ⟨b9e, b9l⟩ := g_lift (r := to) (n := 8) (isCorner_lift (by rw [← e_r5]; exact c6)) (by omega)
        refine lv_aload_n hF.1 hF.2.1 dX2_ride_26 rfl (lv_at hl 0 rfl) ?_
        refine lv_iload_n hF.1 hF.2.1 dX2_ride_27 rfl (lv_at hl 2 rfl) ?_
        refine n_top b8e ?_
        refine lv_aload_n hF.1 hF.2.1 dX2_ride_28 rfl (lv_at hl 0 rfl) ?_
        refine mg_10 hF hK hH q981 dX2_ride_29 ?_
        refine lv_iconst (v := nI 3) hF.1 hF.2.1 dX2_ride_32 (by decide) ?_
        refine lv_iload_n hF.1 hF.2.1 dX2_ride_33 rfl (lv_at hl 1 rfl) ?_
        refine n_top b7e ?_
        refine n_imul hF.1 hF.2.1 dX2_ride_34 ?_
        refine m_ald hF hK hH 10 (n := 6) rfl rfl (by decide) rfl (f := a 10) rfl (i := 3 * (toN dn)) (by omega) (by decide) dX2_ride_35 ?_
        obtain ⟨b10e, b10l⟩ := g_lift (r := a 10 (3 * (toN dn))) (n := 8) (hsd.2.2.2.1 _ (by omega)) (by omega)
        refine n_top b10e ?_
        refine lv_iload_n hF.1 hF.2.1 dX2_ride_36 rfl (lv_at hl 3 rfl) ?_
        refine n_top b9e ?_
        refine lv_aload_n hF.1 hF.2.1 dX2_ride_37 rfl (lv_at hl 0 rfl) ?_
        refine mg_10 hF hK hH q981 dX2_ride_38 ?_
        refine lv_iconst (v := nI 3) hF.1 hF.2.1 dX2_ride_41 (by decide) ?_
        refine lv_iload_n hF.1 hF.2.1 dX2_ride_42 rfl (lv_at hl 1 rfl) ?_
        refine n_top b7e ?_
        refine n_imul hF.1 hF.2.1 dX2_ride_43 ?_
        refine lv_iconst (v := nI 1) hF.1 hF.2.1 dX2_ride_44 (by decide) ?_
        refine n_iadd hF.1 hF.2.1 dX2_ride_45 ?_
        refine m_ald hF hK hH 10 (n := 6) rfl rfl (by decide) rfl (f := a 10) rfl (i := (3 * (toN dn)) + 1) (by omega) (by decide) dX2_ride_46 ?_
        refine g_vWi (As := [.int (nI (toN pn)), .int (nI (toN (a 10 (3 * (toN dn))))), .int (nI (toN to)), .int (a 10 ((3 * (toN dn)) + 1))]) (rest := []) hF (kX2_layWayS l ω g y a z kt hs t td of hc (toN pn) (toN (a 10 (3 * (toN dn)))) (toN to) (a 10 ((3 * (toN dn)) + 1)) (by omega) (by omega) (by omega)) (lw_V q1122 q1124 qs54 q97 q1125) 4 hdX2_layWayS rfl rfl ⟨Nat.le_of_ble_eq_true rfl, Nat.le_of_ble_eq_true rfl⟩ (m_preV hK hH) rfl hl.1 rfl (Nat.le_of_ble_eq_true rfl) dX2_ride_47 ⟨Nat.le_of_ble_eq_true rfl, Nat.le_of_ble_eq_true rfl⟩ hS (fun r11 ur11 H locs hqr11 hH hS => ?_)
        obtain ⟨r11h0, r11h1, hr11, hr11_0, hr11_1, rfl⟩ := hqr11
        have e_r11 := hr11
        have hfarr11 := mds_far hc (show toN pn < 3 by omega) (a 10 ((3 * (toN dn)) + 1)) (show toN to < 8 by omega) (toN (a 10 (3 * (toN dn))))
        refine lv_istore (lv' := [(4, .int r11), (0, .ref (ω.2.1 0 99)), (1, .int dn), (2, .int pn), (3, .int to)]) hF.1 hF.2.1 dX2_ride_50 hl (by decide) rfl (fun ls hl => ?_)
        refine lv_iload hF.1 hF.2.1 dX2_ride_52 (lv_at hl 0 rfl) ?_
        refine lv_iconst (v := (-1)) hF.1 hF.2.1 dX2_ride_54 (by decide) ?_
        refine lv_icmp_ne (tgt := 61) hF.1 hF.2.1 dX2_ride_55 (by decide) (fun c12 => ?_) (fun c12 => ?_)
        · skip
          have hwd := fX2_layWayS_lift (by rw [← e_r11]; exact c12)
          have hwl := mwl_lt hc (show toN pn < 3 by omega) (show toN to < 8 by omega) (show toN (a 10 (3 * (toN dn))) < 8 by omega) hwd.1
          have b13 : r11 = nI (cwl t (g 5) (td (toN pn)) (of (toN pn)) (a 10 ((3 * (toN dn)) + 1)) (toN (a 10 (3 * (toN dn)))) (toN to)) := e_r11.trans hwd.2
          refine lv_aload_n hF.1 hF.2.1 dX2_ride_61 rfl (lv_at hl 1 rfl) ?_
          refine mg_11 hF hK hH q982 dX2_ride_62 ?_
          refine lv_aload_n hF.1 hF.2.1 dX2_ride_65 rfl (lv_at hl 1 rfl) ?_
          refine mg_10 hF hK hH q981 dX2_ride_66 ?_
          refine lv_iconst (v := nI 3) hF.1 hF.2.1 dX2_ride_69 (by decide) ?_
          refine lv_iload_n hF.1 hF.2.1 dX2_ride_70 rfl (lv_at hl 2 rfl) ?_
          refine n_top b7e ?_
          refine n_imul hF.1 hF.2.1 dX2_ride_71 ?_
          refine m_ald hF hK hH 10 (n := 6) rfl rfl (by decide) rfl (f := a 10) rfl (i := 3 * (toN dn)) (by omega) (by decide) dX2_ride_72 ?_
          obtain ⟨b14e, b14l⟩ := g_lift (r := a 10 (3 * (toN dn))) (n := 8) (hsd.2.2.2.1 _ (by omega)) (by omega)
          refine n_top b14e ?_
          refine m_zld hF hK hH 11 (n := 8) rfl rfl (by decide) rfl (f := r11h0) rfl (i := toN (a 10 (3 * (toN dn)))) (by omega) (by decide) dX2_ride_73 ?_
          refine n_top (y := nI (cds t (g 5) (td (toN pn)) (of (toN pn)) (a 10 ((3 * (toN dn)) + 1)) (toN to) (toN (a 10 (3 * (toN dn)))))) (hr11_0 _ (by omega)) ?_
          refine lv_sipush (v := nI 1000) hF.1 hF.2.1 dX2_ride_74 (by decide) ?_
          refine n_idiv hF.1 hF.2.1 dX2_ride_77 (by omega) (by omega) (by omega) ?_
          refine lv_istore (lv' := [(5, .int (nI ((cds t (g 5) (td (toN pn)) (of (toN pn)) (a 10 ((3 * (toN dn)) + 1)) (toN to) (toN (a 10 (3 * (toN dn))))) / 1000))), (4, .int r11), (0, .ref (ω.2.1 0 99)), (1, .int dn), (2, .int pn), (3, .int to)]) hF.1 hF.2.1 dX2_ride_78 hl (by decide) rfl (fun ls hl => ?_)
          refine lv_aload_n hF.1 hF.2.1 dX2_ride_80 rfl (lv_at hl 2 rfl) ?_
          refine lv_iload_n hF.1 hF.2.1 dX2_ride_81 rfl (lv_at hl 4 rfl) ?_
          refine n_top b8e ?_
          refine lv_iload hF.1 hF.2.1 dX2_ride_82 (lv_at hl 1 rfl) ?_
          refine n_top b13 ?_
          refine g_vWv (As := [.int (nI (toN pn)), .int (nI (cwl t (g 5) (td (toN pn)) (of (toN pn)) (a 10 ((3 * (toN dn)) + 1)) (toN (a 10 (3 * (toN dn)))) (toN to)))]) (rest := []) hF (kX2_takeThroughS l ω g y a (va_up (va_up z 11 r11h0) 12 r11h1) kt hs t td of hc (toN pn) (cwl t (g 5) (td (toN pn)) (of (toN pn)) (a 10 ((3 * (toN dn)) + 1)) (toN (a 10 (3 * (toN dn)))) (toN to)) (cws t (g 5) (td (toN pn)) (of (toN pn)) (a 10 ((3 * (toN dn)) + 1)) (toN (a 10 (3 * (toN dn)))) (toN to)) (by omega) (by omega) (hr11_1 hwd.1) hwl.2) (lw_V q1287 q1289 qs79 q97 q1290) 2 hdX2_takeThroughS rfl rfl ⟨Nat.le_of_ble_eq_true rfl, Nat.le_of_ble_eq_true rfl⟩ (m_preV hK hH) rfl hl.1 rfl (Nat.le_of_ble_eq_true rfl) dX2_ride_84 ⟨Nat.le_of_ble_eq_true rfl, Nat.le_of_ble_eq_true rfl⟩ hS (fun ur15 H locs hqr15 hH hS => ?_)
          obtain ⟨r15o0, hr15, rfl⟩ := hqr15
          have e_r15o0 := hr15
          refine lv_aload_n hF.1 hF.2.1 dX2_ride_87 rfl (lv_at hl 2 rfl) ?_
          refine mg_10 hF hK hH q981 dX2_ride_88 ?_
          refine lv_iconst (v := nI 3) hF.1 hF.2.1 dX2_ride_91 (by decide) ?_
          refine lv_iload_n hF.1 hF.2.1 dX2_ride_92 rfl (lv_at hl 3 rfl) ?_
          refine n_top b7e ?_
          refine n_imul hF.1 hF.2.1 dX2_ride_93 ?_
          refine lv_iload_n hF.1 hF.2.1 dX2_ride_94 rfl (lv_at hl 5 rfl) ?_
          refine n_top b9e ?_
          refine m_ast (a' := va_up (va_up a 9 r15o0) 10 (upd (a 10) (3 * (toN dn)) (nI (toN to)))) hF hK hH hS 10 (n := 6) rfl rfl (by decide) rfl (f := a 10) rfl (i := 3 * (toN dn)) (by omega) (by decide) dX2_ride_95 rfl (by intro j hj; simp only [va_up, if_neg hj]) (fun H locs hH hS => ?_)
          refine lv_aload_n hF.1 hF.2.1 dX2_ride_96 rfl (lv_at hl 2 rfl) ?_
          refine mg_10 hF hK hH q981 dX2_ride_97 ?_
          refine lv_iconst (v := nI 3) hF.1 hF.2.1 dX2_ride_100 (by decide) ?_
          refine lv_iload_n hF.1 hF.2.1 dX2_ride_101 rfl (lv_at hl 3 rfl) ?_
          refine n_top b7e ?_
          refine n_imul hF.1 hF.2.1 dX2_ride_102 ?_
          refine lv_iconst (v := nI 2) hF.1 hF.2.1 dX2_ride_103 (by decide) ?_
          refine n_iadd hF.1 hF.2.1 dX2_ride_104 ?_
          refine lv_dup2_11 hF.1 hF.2.1 dX2_ride_105 rfl rfl ?_
          refine m_ald hF hK hH 10 (n := 6) rfl rfl (by decide) rfl (f := upd (a 10) (3 * (toN dn)) (nI (toN to))) rfl (i := (3 * (toN dn)) + 2) (by omega) (by decide) dX2_ride_106 ?_
          refine lv_iconst (v := nI 1) hF.1 hF.2.1 dX2_ride_107 (by decide) ?_
          refine lv_iadd hF.1 hF.2.1 dX2_ride_108 ?_
          refine m_ast (a' := va_up (va_up a 9 r15o0) 10 (upd (upd (a 10) (3 * (toN dn)) (nI (toN to))) ((3 * (toN dn)) + 2) (((upd (a 10) (3 * (toN dn)) (nI (toN to))) ((3 * (toN dn)) + 2)) + (nI 1)))) hF hK hH hS 10 (n := 6) rfl rfl (by decide) rfl (f := upd (a 10) (3 * (toN dn)) (nI (toN to))) rfl (i := (3 * (toN dn)) + 2) (by omega) (by decide) dX2_ride_109 rfl (by intro j hj; simp only [va_up, if_neg hj]) (fun H locs hH hS => ?_)
          refine lv_aload_n hF.1 hF.2.1 dX2_ride_110 rfl (lv_at hl 2 rfl) ?_
          refine mg_8 hF hK hH q979 dX2_ride_111 ?_
          refine lv_iconst (v := nI 5) hF.1 hF.2.1 dX2_ride_114 (by decide) ?_
          refine lv_iload_n hF.1 hF.2.1 dX2_ride_115 rfl (lv_at hl 4 rfl) ?_
          refine n_top b8e ?_
          refine n_imul hF.1 hF.2.1 dX2_ride_116 ?_
          refine lv_iconst (v := nI 1) hF.1 hF.2.1 dX2_ride_117 (by decide) ?_
          refine n_iadd hF.1 hF.2.1 dX2_ride_118 ?_
          refine lv_dup2_11 hF.1 hF.2.1 dX2_ride_119 rfl rfl ?_
          refine m_ald hF hK hH 8 (n := 15) rfl rfl (by decide) rfl (f := a 8) rfl (i := (5 * (toN pn)) + 1) (by omega) (by decide) dX2_ride_120 ?_
          refine lv_iconst (v := nI 1) hF.1 hF.2.1 dX2_ride_121 (by decide) ?_
          refine lv_iadd hF.1 hF.2.1 dX2_ride_122 ?_
          refine m_ast (a' := va_up (va_up (va_up a 8 (upd (a 8) ((5 * (toN pn)) + 1) ((a 8 ((5 * (toN pn)) + 1)) + (nI 1)))) 9 r15o0) 10 (upd (upd (a 10) (3 * (toN dn)) (nI (toN to))) ((3 * (toN dn)) + 2) (((upd (a 10) (3 * (toN dn)) (nI (toN to))) ((3 * (toN dn)) + 2)) + (nI 1)))) hF hK hH hS 8 (n := 15) rfl rfl (by decide) rfl (f := a 8) rfl (i := (5 * (toN pn)) + 1) (by omega) (by decide) dX2_ride_123 rfl (by intro j hj; simp only [va_up, if_neg hj]) (fun H locs hH hS => ?_)
          refine lv_aload_n hF.1 hF.2.1 dX2_ride_124 rfl (lv_at hl 2 rfl) ?_
          refine mg_8 hF hK hH q979 dX2_ride_125 ?_
          refine lv_iconst (v := nI 5) hF.1 hF.2.1 dX2_ride_128 (by decide) ?_
          refine lv_iload_n hF.1 hF.2.1 dX2_ride_129 rfl (lv_at hl 4 rfl) ?_
          refine n_top b8e ?_
          refine n_imul hF.1 hF.2.1 dX2_ride_130 ?_
          refine lv_iconst (v := nI 2) hF.1 hF.2.1 dX2_ride_131 (by decide) ?_
          refine n_iadd hF.1 hF.2.1 dX2_ride_132 ?_
          refine lv_dup2_11 hF.1 hF.2.1 dX2_ride_133 rfl rfl ?_
          refine m_ald hF hK hH 8 (n := 15) rfl rfl (by decide) rfl (f := upd (a 8) ((5 * (toN pn)) + 1) ((a 8 ((5 * (toN pn)) + 1)) + (nI 1))) rfl (i := (5 * (toN pn)) + 2) (by omega) (by decide) dX2_ride_134 ?_
          refine lv_iload hF.1 hF.2.1 dX2_ride_135 (lv_at hl 0 rfl) ?_
          refine lv_iadd hF.1 hF.2.1 dX2_ride_137 ?_
          refine m_ast (a' := va_up (va_up (va_up a 8 (upd (upd (a 8) ((5 * (toN pn)) + 1) ((a 8 ((5 * (toN pn)) + 1)) + (nI 1))) ((5 * (toN pn)) + 2) (((upd (a 8) ((5 * (toN pn)) + 1) ((a 8 ((5 * (toN pn)) + 1)) + (nI 1))) ((5 * (toN pn)) + 2)) + (nI ((cds t (g 5) (td (toN pn)) (of (toN pn)) (a 10 ((3 * (toN dn)) + 1)) (toN to) (toN (a 10 (3 * (toN dn))))) / 1000))))) 9 r15o0) 10 (upd (upd (a 10) (3 * (toN dn)) (nI (toN to))) ((3 * (toN dn)) + 2) (((upd (a 10) (3 * (toN dn)) (nI (toN to))) ((3 * (toN dn)) + 2)) + (nI 1)))) hF hK hH hS 8 (n := 15) rfl rfl (by decide) rfl (f := upd (a 8) ((5 * (toN pn)) + 1) ((a 8 ((5 * (toN pn)) + 1)) + (nI 1))) rfl (i := (5 * (toN pn)) + 2) (by omega) (by decide) dX2_ride_138 rfl (by intro j hj; simp only [va_up, if_neg hj]) (fun H locs hH hS => ?_)
          refine lv_iload hF.1 hF.2.1 dX2_ride_139 (lv_at hl 0 rfl) ?_
          exact hret _ _ _ _ _ _ dX2_ride_141 ⟨_, _, _, _, _, by subst e_r15o0; subst e_r11; subst e_r5; subst e_r3; subst e_r1; unfold fX2_ride; first | (rw [if_neg c2, if_neg c4, if_neg c6, if_neg c12]; done) | (simp only [if_neg c2, if_neg c4, if_neg c6, if_neg c12]), rfl⟩ hH hS
        · skip
          refine lv_bipush (v := (-103)) hF.1 hF.2.1 dX2_ride_58 (by decide) ?_
          have hH : mH ω (g, y, va_up (va_up (va_up a 8 (a 8)) 9 (a 9)) 10 (a 10), va_up (va_up z 11 r11h0) 12 r11h1, kt, hs) H := m_ext (fun _ => rfl) (fun _ => rfl) (by intro k; by_cases h0 : k = 10; (subst h0; simp [va_up]); by_cases h1 : k = 8; (subst h1; simp [va_up]); by_cases h2 : k = 9; (subst h2; simp [va_up]); simp only [va_up, if_neg h0, if_neg h1, if_neg h2]) (fun _ => rfl) hH
          exact hret _ _ _ _ _ _ dX2_ride_60 ⟨_, _, _, _, _, by subst e_r11; subst e_r5; subst e_r3; subst e_r1; unfold fX2_ride; first | (rw [if_neg c2, if_neg c4, if_neg c6, if_pos c12]; done) | (simp only [if_neg c2, if_neg c4, if_neg c6, if_pos c12]), rfl⟩ hH hS
      · skip
        refine lv_bipush (v := (-101)) hF.1 hF.2.1 dX2_ride_23 (by decide) ?_
        have hH : mH ω (g, y, va_up (va_up (va_up a 8 (a 8)) 9 (a 9)) 10 (a 10), va_up (va_up z 11 (z 11)) 12 (z 12), kt, hs) H := m_ext (fun _ => rfl) (fun _ => rfl) (by intro k; by_cases h0 : k = 10; (subst h0; simp [va_up]); by_cases h1 : k = 8; (subst h1; simp [va_up]); by_cases h2 : k = 9; (subst h2; simp [va_up]); simp only [va_up, if_neg h0, if_neg h1, if_neg h2]) (by intro k; by_cases h0 : k = 11; (subst h0; simp [va_up]); by_cases h1 : k = 12; (subst h1; simp [va_up]); simp only [va_up, if_neg h0, if_neg h1]) hH
        exact hret _ _ _ _ _ _ dX2_ride_25 ⟨_, _, _, _, _, by subst e_r5; subst e_r3; subst e_r1; unfold fX2_ride; first | (rw [if_neg c2, if_neg c4, if_pos c6]; done) | (simp only [if_neg c2, if_neg c4, if_pos c6]), rfl⟩ hH hS

def fX2_takesBy (g : Nat → Nat) (a : Nat → Nat → Int32) (t : TW) (td : Nat → Nat) (of : Nat → Nat → Nat) (dn : Nat) (pn : Nat) : Int32 := if (a 8 ((5 * pn) + 3)) = (-1) then (-1) else if (((fX2_tellDriver g a dn (nI 5)) >>> ((a 8 ((5 * pn) + 3)) &&& 31)) &&& (nI 1)) = 0 then (-1) else if (fX2_layWayS g t td of pn (toN (a 8 ((5 * pn) + 3))) (toN (a 8 ((5 * pn) + 4))) (a 10 ((3 * dn) + 1))) = (-1) then (-1) else nI ((cds t (g 5) (td pn) (of pn) (a 10 ((3 * dn) + 1)) (toN (a 8 ((5 * pn) + 4))) (toN (a 8 ((5 * pn) + 3)))) / 1000)
def rmX2_takesBy : Room := { frames := 5, cells := 0, slots := 0, locals := 127 }
theorem hdX2_takesBy : yX2_takesBy.cls = RX2 ∧ yX2_takesBy.cls ≠ "java/lang/invoke/MethodHandle" ∧ yX2_takesBy.cls ≠ "java/lang/invoke/VarHandle" ∧ (parseMethodDescriptor yX2_takesBy.desc).map (fun d => d.parameters.length) = some 2 := by decide +kernel
set_option maxHeartbeats 4000000 in
theorem kX2_takesBy (l : Launch) (ω : OM) (g : Nat → Nat) (y : Nat → Int32) (a z : Nat → Nat → Int32) (kt : Int32) (hs : Int64) (t : TW) (td : Nat → Nat) (of : Nat → Nat → Nat) (hc : mCore g a t td of) (dn : Nat) (pn : Nat) (hdn : dn < 2) (hpn : pn < 3) (hsd : mSide g a) : Met l yX2_takesBy (ws_ yX2_takesBy cX2_takesBy 4 (some .int)) rmX2_takesBy (va_Pc [.ref (ω.2.1 0 99), .int (nI dn), .int (nI pn)] (fun U => mK ω U ∧ mH ω (g, y, a, z, kt, hs) U.heap)) (va_Qi (fun (r : Int32) (u : MS) => ∃ (q0 : Nat → Int32) (q1 : Nat → Int32), r = (fX2_takesBy g a t td of dn pn) ∧ u = (g, y, a, va_up (va_up z 11 q0) 12 q1, kt, hs)) (fun u t => mH ω u t.heap) ω.2.2.1) 0 0 ω.2.2.1 := by
  refine g_entWi (C := RX2) rfl (by decide) (Nat.le_of_ble_eq_true rfl) ?_
  intro p e s m args below meth c QQ ls H locs hF hK hH hS hl hret
  have hl : lv_has ls 4 [(0, .ref (ω.2.1 0 99)), (1, .int (nI dn)), (2, .int (nI pn))] := hl
  have hok := hc.ok
  have hr := hc.rows
  have hn := hr.1
  have hp3 := hsd.1
  have hs6 := hsd.2.1
  refine lv_aload_n hF.1 hF.2.1 dX2_takesBy_0 rfl (lv_at hl 0 rfl) ?_
  refine mg_8 hF hK hH q979 dX2_takesBy_1 ?_
  refine lv_iconst (v := nI 5) hF.1 hF.2.1 dX2_takesBy_4 (by decide) ?_
  refine lv_iload_n hF.1 hF.2.1 dX2_takesBy_5 rfl (lv_at hl 2 rfl) ?_
  refine n_imul hF.1 hF.2.1 dX2_takesBy_6 ?_
  refine lv_iconst (v := nI 3) hF.1 hF.2.1 dX2_takesBy_7 (by decide) ?_
  refine n_iadd hF.1 hF.2.1 dX2_takesBy_8 ?_
  refine m_ald hF hK hH 8 (n := 15) rfl rfl (by decide) rfl (f := a 8) rfl (i := (5 * pn) + 3) (by omega) (by decide) dX2_takesBy_9 ?_
  refine lv_istore_n (lv' := [(3, .int (a 8 ((5 * pn) + 3))), (0, .ref (ω.2.1 0 99)), (1, .int (nI dn)), (2, .int (nI pn))]) hF.1 hF.2.1 dX2_takesBy_10 rfl hl (by decide) rfl (fun ls hl => ?_)
  refine lv_iload_n hF.1 hF.2.1 dX2_takesBy_11 rfl (lv_at hl 0 rfl) ?_
  refine lv_iconst (v := (-1)) hF.1 hF.2.1 dX2_takesBy_12 (by decide) ?_
  refine lv_icmp_eq (tgt := 29) hF.1 hF.2.1 dX2_takesBy_13 (by decide) (fun c1 => ?_) (fun c1 => ?_)
  · skip
    refine lv_iconst (v := (-1)) hF.1 hF.2.1 dX2_takesBy_29 (by decide) ?_
    have hH : mH ω (g, y, a, va_up (va_up z 11 (z 11)) 12 (z 12), kt, hs) H := m_ext (fun _ => rfl) (fun _ => rfl) (fun _ => rfl) (by intro k; by_cases h0 : k = 11; (subst h0; simp [va_up]); by_cases h1 : k = 12; (subst h1; simp [va_up]); simp only [va_up, if_neg h0, if_neg h1]) hH
    exact hret _ _ _ _ _ _ dX2_takesBy_30 ⟨_, _, by unfold fX2_takesBy; first | (rw [if_pos c1]; done) | (simp only [if_pos c1]), rfl⟩ hH hS
  · skip
    refine lv_aload_n hF.1 hF.2.1 dX2_takesBy_16 rfl (lv_at hl 1 rfl) ?_
    refine lv_iload_n hF.1 hF.2.1 dX2_takesBy_17 rfl (lv_at hl 2 rfl) ?_
    refine lv_iconst (v := nI 5) hF.1 hF.2.1 dX2_takesBy_18 (by decide) ?_
    refine g_vPi (As := [.int (nI dn), .int (nI 5)]) (rest := []) hF (kX2_tellDriver l ω g y a z kt hs dn (nI 5) (by omega) hr) (lw_V q1244 q1246 qs73 q97 q1247) 2 hdX2_tellDriver rfl rfl ⟨Nat.le_of_ble_eq_true rfl, Nat.le_of_ble_eq_true rfl⟩ (m_preV hK hH) rfl hl.1 rfl (Nat.le_of_ble_eq_true rfl) dX2_takesBy_19 ⟨Nat.zero_le _, Nat.zero_le _⟩ (fun r2 e_r2 => ?_)
    refine lv_iload_n hF.1 hF.2.1 dX2_takesBy_22 rfl (lv_at hl 0 rfl) ?_
    refine lv_ishr hF.1 hF.2.1 dX2_takesBy_23 ?_
    refine lv_iconst (v := nI 1) hF.1 hF.2.1 dX2_takesBy_24 (by decide) ?_
    refine lv_iand hF.1 hF.2.1 dX2_takesBy_25 ?_
    refine lv_if_ne (tgt := 31) hF.1 hF.2.1 dX2_takesBy_26 (by decide) (fun c3 => ?_) (fun c3 => ?_)
    · skip
      obtain ⟨b4e, b4l⟩ := g_lift (r := a 8 ((5 * pn) + 3)) (n := 8) ((hsd.2.2.2.2.1 pn (by omega) c1).1) (by omega)
      refine lv_aload_n hF.1 hF.2.1 dX2_takesBy_31 rfl (lv_at hl 1 rfl) ?_
      refine lv_iload_n hF.1 hF.2.1 dX2_takesBy_32 rfl (lv_at hl 3 rfl) ?_
      refine lv_iload_n hF.1 hF.2.1 dX2_takesBy_33 rfl (lv_at hl 0 rfl) ?_
      refine n_top b4e ?_
      refine lv_aload_n hF.1 hF.2.1 dX2_takesBy_34 rfl (lv_at hl 1 rfl) ?_
      refine mg_8 hF hK hH q979 dX2_takesBy_35 ?_
      refine lv_iconst (v := nI 5) hF.1 hF.2.1 dX2_takesBy_38 (by decide) ?_
      refine lv_iload_n hF.1 hF.2.1 dX2_takesBy_39 rfl (lv_at hl 3 rfl) ?_
      refine n_imul hF.1 hF.2.1 dX2_takesBy_40 ?_
      refine lv_iconst (v := nI 4) hF.1 hF.2.1 dX2_takesBy_41 (by decide) ?_
      refine n_iadd hF.1 hF.2.1 dX2_takesBy_42 ?_
      refine m_ald hF hK hH 8 (n := 15) rfl rfl (by decide) rfl (f := a 8) rfl (i := (5 * pn) + 4) (by omega) (by decide) dX2_takesBy_43 ?_
      obtain ⟨b5e, b5l⟩ := g_lift (r := a 8 ((5 * pn) + 4)) (n := 8) ((hsd.2.2.2.2.1 pn (by omega) c1).2) (by omega)
      refine n_top b5e ?_
      refine lv_aload_n hF.1 hF.2.1 dX2_takesBy_44 rfl (lv_at hl 1 rfl) ?_
      refine mg_10 hF hK hH q981 dX2_takesBy_45 ?_
      refine lv_iconst (v := nI 3) hF.1 hF.2.1 dX2_takesBy_48 (by decide) ?_
      refine lv_iload_n hF.1 hF.2.1 dX2_takesBy_49 rfl (lv_at hl 2 rfl) ?_
      refine n_imul hF.1 hF.2.1 dX2_takesBy_50 ?_
      refine lv_iconst (v := nI 1) hF.1 hF.2.1 dX2_takesBy_51 (by decide) ?_
      refine n_iadd hF.1 hF.2.1 dX2_takesBy_52 ?_
      refine m_ald hF hK hH 10 (n := 6) rfl rfl (by decide) rfl (f := a 10) rfl (i := (3 * dn) + 1) (by omega) (by decide) dX2_takesBy_53 ?_
      refine g_vWi (As := [.int (nI pn), .int (nI (toN (a 8 ((5 * pn) + 3)))), .int (nI (toN (a 8 ((5 * pn) + 4)))), .int (a 10 ((3 * dn) + 1))]) (rest := []) hF (kX2_layWayS l ω g y a z kt hs t td of hc pn (toN (a 8 ((5 * pn) + 3))) (toN (a 8 ((5 * pn) + 4))) (a 10 ((3 * dn) + 1)) (by omega) (by omega) (by omega)) (lw_V q1122 q1124 qs54 q97 q1125) 4 hdX2_layWayS rfl rfl ⟨Nat.le_of_ble_eq_true rfl, Nat.le_of_ble_eq_true rfl⟩ (m_preV hK hH) rfl hl.1 rfl (Nat.le_of_ble_eq_true rfl) dX2_takesBy_54 ⟨Nat.le_of_ble_eq_true rfl, Nat.le_of_ble_eq_true rfl⟩ hS (fun r6 ur6 H locs hqr6 hH hS => ?_)
      obtain ⟨r6h0, r6h1, hr6, hr6_0, hr6_1, rfl⟩ := hqr6
      have e_r6 := hr6
      have hfarr6 := mds_far hc (show pn < 3 by omega) (a 10 ((3 * dn) + 1)) (show toN (a 8 ((5 * pn) + 4)) < 8 by omega) (toN (a 8 ((5 * pn) + 3)))
      refine lv_iconst (v := (-1)) hF.1 hF.2.1 dX2_takesBy_57 (by decide) ?_
      refine lv_icmp_ne (tgt := 65) hF.1 hF.2.1 dX2_takesBy_58 (by decide) (fun c7 => ?_) (fun c7 => ?_)
      · skip
        have hwd := fX2_layWayS_lift (by rw [← e_r6]; exact c7)
        have hwl := mwl_lt hc (show pn < 3 by omega) (show toN (a 8 ((5 * pn) + 4)) < 8 by omega) (show toN (a 8 ((5 * pn) + 3)) < 8 by omega) hwd.1
        have b8 : r6 = nI (cwl t (g 5) (td pn) (of pn) (a 10 ((3 * dn) + 1)) (toN (a 8 ((5 * pn) + 3))) (toN (a 8 ((5 * pn) + 4)))) := e_r6.trans hwd.2
        refine lv_aload_n hF.1 hF.2.1 dX2_takesBy_65 rfl (lv_at hl 1 rfl) ?_
        refine mg_11 hF hK hH q982 dX2_takesBy_66 ?_
        refine lv_iload_n hF.1 hF.2.1 dX2_takesBy_69 rfl (lv_at hl 0 rfl) ?_
        refine n_top b4e ?_
        refine m_zld hF hK hH 11 (n := 8) rfl rfl (by decide) rfl (f := r6h0) rfl (i := toN (a 8 ((5 * pn) + 3))) (by omega) (by decide) dX2_takesBy_70 ?_
        refine n_top (y := nI (cds t (g 5) (td pn) (of pn) (a 10 ((3 * dn) + 1)) (toN (a 8 ((5 * pn) + 4))) (toN (a 8 ((5 * pn) + 3))))) (hr6_0 _ (by omega)) ?_
        refine lv_sipush (v := nI 1000) hF.1 hF.2.1 dX2_takesBy_71 (by decide) ?_
        refine n_idiv hF.1 hF.2.1 dX2_takesBy_74 (by omega) (by omega) (by omega) ?_
        exact hret _ _ _ _ _ _ dX2_takesBy_75 ⟨_, _, by subst e_r6; subst e_r2; unfold fX2_takesBy; first | (rw [if_neg c1, if_neg c3, if_neg c7]; done) | (simp only [if_neg c1, if_neg c3, if_neg c7]), rfl⟩ hH hS
      · skip
        refine lv_iconst (v := (-1)) hF.1 hF.2.1 dX2_takesBy_61 (by decide) ?_
        refine lv_goto (tgt := 75) hF.1 hF.2.1 dX2_takesBy_62 (by decide) ?_
        exact hret _ _ _ _ _ _ dX2_takesBy_75 ⟨_, _, by subst e_r6; subst e_r2; unfold fX2_takesBy; first | (rw [if_neg c1, if_neg c3, if_pos c7]; done) | (simp only [if_neg c1, if_neg c3, if_pos c7]), rfl⟩ hH hS
    · skip
      refine lv_iconst (v := (-1)) hF.1 hF.2.1 dX2_takesBy_29 (by decide) ?_
      have hH : mH ω (g, y, a, va_up (va_up z 11 (z 11)) 12 (z 12), kt, hs) H := m_ext (fun _ => rfl) (fun _ => rfl) (fun _ => rfl) (by intro k; by_cases h0 : k = 11; (subst h0; simp [va_up]); by_cases h1 : k = 12; (subst h1; simp [va_up]); simp only [va_up, if_neg h0, if_neg h1]) hH
      exact hret _ _ _ _ _ _ dX2_takesBy_30 ⟨_, _, by subst e_r2; unfold fX2_takesBy; first | (rw [if_neg c1, if_pos c3]; done) | (simp only [if_neg c1, if_pos c3]), rfl⟩ hH hS

def fX2_matchOf_b25 (g : Nat → Nat) (a : Nat → Nat → Int32) (t : TW) (td : Nat → Nat) (of : Nat → Nat → Nat) (i13 : Nat) (i25 : Nat) (S : Int32 × Int32 × Int32 × Int32) : Int32 × Int32 × Int32 × Int32 := if (if (if (nI i13 - 1) = (-1) then nI 0 else (fX2_takesBy g a t td of 0 (i13 - 1))) = (-1) then nI 0 else if (if (nI i25 - 1) = (-1) then nI 0 else (fX2_takesBy g a t td of 1 (i25 - 1))) = (-1) then nI 0 else if (nI i13 - 1) = (nI i25 - 1) then if (nI i13 - 1) = (-1) then nI 1 else nI 0 else nI 1) = 0 then (S.1, S.2.1, S.2.2.1, S.2.2.2) else if S.2.2.2 < ((if (nI i13 - 1) = (-1) then nI 0 else nI 1) + (if (nI i25 - 1) = (-1) then nI 0 else nI 1)) then (nI i25 - 1, nI i13 - 1, (if (nI i13 - 1) = (-1) then nI 0 else (fX2_takesBy g a t td of 0 (i13 - 1))) + (if (nI i25 - 1) = (-1) then nI 0 else (fX2_takesBy g a t td of 1 (i25 - 1))), (if (nI i13 - 1) = (-1) then nI 0 else nI 1) + (if (nI i25 - 1) = (-1) then nI 0 else nI 1)) else if ((if (nI i13 - 1) = (-1) then nI 0 else nI 1) + (if (nI i25 - 1) = (-1) then nI 0 else nI 1)) = S.2.2.2 then if S.2.2.1 ≤ ((if (nI i13 - 1) = (-1) then nI 0 else (fX2_takesBy g a t td of 0 (i13 - 1))) + (if (nI i25 - 1) = (-1) then nI 0 else (fX2_takesBy g a t td of 1 (i25 - 1)))) then (S.1, S.2.1, S.2.2.1, S.2.2.2) else (nI i25 - 1, nI i13 - 1, (if (nI i13 - 1) = (-1) then nI 0 else (fX2_takesBy g a t td of 0 (i13 - 1))) + (if (nI i25 - 1) = (-1) then nI 0 else (fX2_takesBy g a t td of 1 (i25 - 1))), (if (nI i13 - 1) = (-1) then nI 0 else nI 1) + (if (nI i25 - 1) = (-1) then nI 0 else nI 1)) else (S.1, S.2.1, S.2.2.1, S.2.2.2)
def fX2_matchOf_b13 (g : Nat → Nat) (a : Nat → Nat → Int32) (t : TW) (td : Nat → Nat) (of : Nat → Nat → Nat) (i13 : Nat) (S : Int32 × Int32 × Int32 × Int32) : Int32 × Int32 × Int32 × Int32 := (((it (fX2_matchOf_b25 g a t td of i13) (g 3 + 1) (S.1, S.2.1, S.2.2.1, S.2.2.2)).1), ((it (fX2_matchOf_b25 g a t td of i13) (g 3 + 1) (S.1, S.2.1, S.2.2.1, S.2.2.2)).2.1), ((it (fX2_matchOf_b25 g a t td of i13) (g 3 + 1) (S.1, S.2.1, S.2.2.1, S.2.2.2)).2.2.1), ((it (fX2_matchOf_b25 g a t td of i13) (g 3 + 1) (S.1, S.2.1, S.2.2.1, S.2.2.2)).2.2.2))
def fX2_matchOf (g : Nat → Nat) (a : Nat → Nat → Int32) (t : TW) (td : Nat → Nat) (of : Nat → Nat → Nat) (wh : Int32) : Int32 := if wh = 0 then ((it (fX2_matchOf_b13 g a t td of) (g 3 + 1) ((-1), (-1), nI 0, nI 0)).2.2.2) else if wh = (nI 1) then ((it (fX2_matchOf_b13 g a t td of) (g 3 + 1) ((-1), (-1), nI 0, nI 0)).2.2.1) else if wh = (nI 10) then ((it (fX2_matchOf_b13 g a t td of) (g 3 + 1) ((-1), (-1), nI 0, nI 0)).2.1) else ((it (fX2_matchOf_b13 g a t td of) (g 3 + 1) ((-1), (-1), nI 0, nI 0)).1)
def rmX2_matchOf : Room := { frames := 6, cells := 0, slots := 0, locals := 150 }
theorem hdX2_matchOf : yX2_matchOf.cls = RX2 ∧ yX2_matchOf.cls ≠ "java/lang/invoke/MethodHandle" ∧ yX2_matchOf.cls ≠ "java/lang/invoke/VarHandle" ∧ (parseMethodDescriptor yX2_matchOf.desc).map (fun d => d.parameters.length) = some 1 := by decide +kernel
set_option maxHeartbeats 4000000 in
theorem kX2_matchOf (l : Launch) (ω : OM) (g : Nat → Nat) (y : Nat → Int32) (a z : Nat → Nat → Int32) (kt : Int32) (hs : Int64) (t : TW) (td : Nat → Nat) (of : Nat → Nat → Nat) (hc : mCore g a t td of) (wh : Int32) (hsd : mSide g a) : Met l yX2_matchOf (ws_ yX2_matchOf cX2_matchOf 12 (some .int)) rmX2_matchOf (va_Pc [.ref (ω.2.1 0 99), .int wh] (fun U => mK ω U ∧ mH ω (g, y, a, z, kt, hs) U.heap)) (va_Qi (fun (r : Int32) (u : MS) => ∃ (q0 : Nat → Int32) (q1 : Nat → Int32), r = (fX2_matchOf g a t td of wh) ∧ u = (g, y, a, va_up (va_up z 11 q0) 12 q1, kt, hs)) (fun u t => mH ω u t.heap) ω.2.2.1) 0 0 ω.2.2.1 := by
  refine g_entWi (C := RX2) rfl (by decide) (Nat.le_of_ble_eq_true rfl) ?_
  intro p e s m args below meth c QQ ls H locs hF hK hH hS hl hret
  have hl : lv_has ls 12 [(0, .ref (ω.2.1 0 99)), (1, .int wh)] := hl
  have hok := hc.ok
  have hr := hc.rows
  have hn := hr.1
  have hp3 := hsd.1
  have hs6 := hsd.2.1
  refine lv_iconst (v := nI 0) hF.1 hF.2.1 dX2_matchOf_0 (by decide) ?_
  refine lv_istore_n (lv' := [(2, .int (nI 0)), (0, .ref (ω.2.1 0 99)), (1, .int wh)]) hF.1 hF.2.1 dX2_matchOf_1 rfl hl (by decide) rfl (fun ls hl => ?_)
  refine lv_iconst (v := nI 0) hF.1 hF.2.1 dX2_matchOf_2 (by decide) ?_
  refine lv_istore_n (lv' := [(3, .int (nI 0)), (2, .int (nI 0)), (0, .ref (ω.2.1 0 99)), (1, .int wh)]) hF.1 hF.2.1 dX2_matchOf_3 rfl hl (by decide) rfl (fun ls hl => ?_)
  refine lv_iconst (v := (-1)) hF.1 hF.2.1 dX2_matchOf_4 (by decide) ?_
  refine lv_istore (lv' := [(4, .int (-1)), (3, .int (nI 0)), (2, .int (nI 0)), (0, .ref (ω.2.1 0 99)), (1, .int wh)]) hF.1 hF.2.1 dX2_matchOf_5 hl (by decide) rfl (fun ls hl => ?_)
  refine lv_iconst (v := (-1)) hF.1 hF.2.1 dX2_matchOf_7 (by decide) ?_
  refine lv_istore (lv' := [(5, .int (-1)), (4, .int (-1)), (3, .int (nI 0)), (2, .int (nI 0)), (0, .ref (ω.2.1 0 99)), (1, .int wh)]) hF.1 hF.2.1 dX2_matchOf_8 hl (by decide) rfl (fun ls hl => ?_)
  refine lv_iconst (v := (-1)) hF.1 hF.2.1 dX2_matchOf_10 (by decide) ?_
  refine lv_istore (lv' := [(6, .int (-1)), (5, .int (-1)), (4, .int (-1)), (3, .int (nI 0)), (2, .int (nI 0)), (0, .ref (ω.2.1 0 99)), (1, .int wh)]) hF.1 hF.2.1 dX2_matchOf_11 hl (by decide) rfl (fun ls hl => ?_)
  have lp13_173 : ∀ (d13 i13 : Nat) (x13_5 : Int32) (x13_4 : Int32) (x13_3 : Int32) (x13_2 : Int32) (h13_z11 : Nat → Int32) (h13_z12 : Nat → Int32) (H : Heap) (locs : List Loc) (ls : Array Slot), i13 + d13 = g 3 + 1 → (x13_5, x13_4, x13_3, x13_2) = it (fX2_matchOf_b13 g a t td of) i13 ((-1), (-1), nI 0, nI 0) → mH ω (g, y, a, va_up (va_up z 11 h13_z11) 12 h13_z12, kt, hs) H → va_S ω.2.2.1 s.heap H locs → lv_has ls 12 [(6, .int (nI i13 - 1)), (5, .int x13_5), (4, .int x13_4), (3, .int x13_3), (2, .int x13_2), (0, .ref (ω.2.1 0 99)), (1, .int wh)] → W p l e rmX2_matchOf s m args below meth c H locs 0 0 QQ (F0 m 13 ls []) := by
    intro d13
    induction d13 with
    | zero =>
      intro i13 x13_5 x13_4 x13_3 x13_2 h13_z11 h13_z12 H locs ls hi13 hS13 hH hS hl
      have hj13 : g 3 + 1 = i13 := by omega
      subst hj13
      have e_x13_5 : x13_5 = (it (fX2_matchOf_b13 g a t td of) (g 3 + 1) ((-1), (-1), nI 0, nI 0)).1 := by rw [← hS13]
      have e_x13_4 : x13_4 = (it (fX2_matchOf_b13 g a t td of) (g 3 + 1) ((-1), (-1), nI 0, nI 0)).2.1 := by rw [← hS13]
      have e_x13_3 : x13_3 = (it (fX2_matchOf_b13 g a t td of) (g 3 + 1) ((-1), (-1), nI 0, nI 0)).2.2.1 := by rw [← hS13]
      have e_x13_2 : x13_2 = (it (fX2_matchOf_b13 g a t td of) (g 3 + 1) ((-1), (-1), nI 0, nI 0)).2.2.2 := by rw [← hS13]
      refine lv_iload hF.1 hF.2.1 dX2_matchOf_13 (lv_at hl 0 rfl) ?_
      refine lv_aload_n hF.1 hF.2.1 dX2_matchOf_15 rfl (lv_at hl 5 rfl) ?_
      refine mg_3 hF hK hH q974 dX2_matchOf_16 (v := g 3) rfl ?_
      refine lv_icmp_ge (tgt := 184) hF.1 hF.2.1 dX2_matchOf_19 (by decide) (fun c1 => ?_) (fun c1 => ?_)
      · skip
        refine lv_iload_n hF.1 hF.2.1 dX2_matchOf_184 rfl (lv_at hl 6 rfl) ?_
        refine lv_if_ne (tgt := 192) hF.1 hF.2.1 dX2_matchOf_185 (by decide) (fun c2 => ?_) (fun c2 => ?_)
        · skip
          refine lv_iload_n hF.1 hF.2.1 dX2_matchOf_192 rfl (lv_at hl 6 rfl) ?_
          refine lv_iconst (v := nI 1) hF.1 hF.2.1 dX2_matchOf_193 (by decide) ?_
          refine lv_icmp_ne (tgt := 201) hF.1 hF.2.1 dX2_matchOf_194 (by decide) (fun c3 => ?_) (fun c3 => ?_)
          · skip
            refine lv_iload_n hF.1 hF.2.1 dX2_matchOf_201 rfl (lv_at hl 6 rfl) ?_
            refine lv_bipush (v := nI 10) hF.1 hF.2.1 dX2_matchOf_202 (by decide) ?_
            refine lv_icmp_ne (tgt := 212) hF.1 hF.2.1 dX2_matchOf_204 (by decide) (fun c4 => ?_) (fun c4 => ?_)
            · skip
              refine lv_iload hF.1 hF.2.1 dX2_matchOf_212 (lv_at hl 1 rfl) ?_
              exact hret _ _ _ _ _ _ dX2_matchOf_214 ⟨_, _, by subst e_x13_2; subst e_x13_3; subst e_x13_4; subst e_x13_5; unfold fX2_matchOf; first | (rw [if_neg c2, if_neg c3, if_neg c4]; done) | (simp only [if_neg c2, if_neg c3, if_neg c4]), rfl⟩ hH hS
            · skip
              refine lv_iload hF.1 hF.2.1 dX2_matchOf_207 (lv_at hl 2 rfl) ?_
              refine lv_goto (tgt := 214) hF.1 hF.2.1 dX2_matchOf_209 (by decide) ?_
              exact hret _ _ _ _ _ _ dX2_matchOf_214 ⟨_, _, by subst e_x13_2; subst e_x13_3; subst e_x13_4; subst e_x13_5; unfold fX2_matchOf; first | (rw [if_neg c2, if_neg c3, if_pos c4]; done) | (simp only [if_neg c2, if_neg c3, if_pos c4]), rfl⟩ hH hS
          · skip
            refine lv_iload_n hF.1 hF.2.1 dX2_matchOf_197 rfl (lv_at hl 3 rfl) ?_
            refine lv_goto (tgt := 214) hF.1 hF.2.1 dX2_matchOf_198 (by decide) ?_
            exact hret _ _ _ _ _ _ dX2_matchOf_214 ⟨_, _, by subst e_x13_2; subst e_x13_3; subst e_x13_4; subst e_x13_5; unfold fX2_matchOf; first | (rw [if_neg c2, if_pos c3]; done) | (simp only [if_neg c2, if_pos c3]), rfl⟩ hH hS
        · skip
          refine lv_iload_n hF.1 hF.2.1 dX2_matchOf_188 rfl (lv_at hl 4 rfl) ?_
          refine lv_goto (tgt := 214) hF.1 hF.2.1 dX2_matchOf_189 (by decide) ?_
          exact hret _ _ _ _ _ _ dX2_matchOf_214 ⟨_, _, by subst e_x13_2; subst e_x13_3; subst e_x13_4; subst e_x13_5; unfold fX2_matchOf; first | (rw [if_pos c2]; done) | (simp only [if_pos c2]), rfl⟩ hH hS
      · exact absurd (up_end (by omega)) c1
    | succ d13 ih =>
      intro i13 x13_5 x13_4 x13_3 x13_2 h13_z11 h13_z12 H locs ls hi13 hS13 hH hS hl
      refine lv_iload hF.1 hF.2.1 dX2_matchOf_13 (lv_at hl 0 rfl) ?_
      refine lv_aload_n hF.1 hF.2.1 dX2_matchOf_15 rfl (lv_at hl 5 rfl) ?_
      refine mg_3 hF hK hH q974 dX2_matchOf_16 (v := g 3) rfl ?_
      refine lv_icmp_ge (tgt := 184) hF.1 hF.2.1 dX2_matchOf_19 (by decide) (fun c5 => ?_) (fun c5 => ?_)
      · exact absurd c5 (up_not (by omega) (by omega))
      · skip
        refine lv_iconst (v := (-1)) hF.1 hF.2.1 dX2_matchOf_22 (by decide) ?_
        refine lv_istore (lv' := [(7, .int (-1)), (6, .int (nI i13 - 1)), (5, .int x13_5), (4, .int x13_4), (3, .int x13_3), (2, .int x13_2), (0, .ref (ω.2.1 0 99)), (1, .int wh)]) hF.1 hF.2.1 dX2_matchOf_23 hl (by decide) rfl (fun ls hl => ?_)
        have lp25_175 : ∀ (d25 i25 : Nat) (x25_5 : Int32) (x25_4 : Int32) (x25_3 : Int32) (x25_2 : Int32) (h25_z11 : Nat → Int32) (h25_z12 : Nat → Int32) (H : Heap) (locs : List Loc) (ls : Array Slot), i25 + d25 = g 3 + 1 → (x25_5, x25_4, x25_3, x25_2) = it (fX2_matchOf_b25 g a t td of i13) i25 (x13_5, x13_4, x13_3, x13_2) → mH ω (g, y, a, va_up (va_up z 11 h25_z11) 12 h25_z12, kt, hs) H → va_S ω.2.2.1 s.heap H locs → lv_has ls 12 [(7, .int (nI i25 - 1)), (6, .int (nI i13 - 1)), (5, .int x25_5), (4, .int x25_4), (3, .int x25_3), (2, .int x25_2), (0, .ref (ω.2.1 0 99)), (1, .int wh)] → W p l e rmX2_matchOf s m args below meth c H locs 0 0 QQ (F0 m 25 ls []) := by
          intro d25
          induction d25 with
          | zero =>
            intro i25 x25_5 x25_4 x25_3 x25_2 h25_z11 h25_z12 H locs ls hi25 hS25 hH hS hl
            have hj25 : g 3 + 1 = i25 := by omega
            subst hj25
            have e_x25_5 : x25_5 = (it (fX2_matchOf_b25 g a t td of i13) (g 3 + 1) (x13_5, x13_4, x13_3, x13_2)).1 := by rw [← hS25]
            have e_x25_4 : x25_4 = (it (fX2_matchOf_b25 g a t td of i13) (g 3 + 1) (x13_5, x13_4, x13_3, x13_2)).2.1 := by rw [← hS25]
            have e_x25_3 : x25_3 = (it (fX2_matchOf_b25 g a t td of i13) (g 3 + 1) (x13_5, x13_4, x13_3, x13_2)).2.2.1 := by rw [← hS25]
            have e_x25_2 : x25_2 = (it (fX2_matchOf_b25 g a t td of i13) (g 3 + 1) (x13_5, x13_4, x13_3, x13_2)).2.2.2 := by rw [← hS25]
            refine lv_iload hF.1 hF.2.1 dX2_matchOf_25 (lv_at hl 0 rfl) ?_
            refine lv_aload_n hF.1 hF.2.1 dX2_matchOf_27 rfl (lv_at hl 6 rfl) ?_
            refine mg_3 hF hK hH q974 dX2_matchOf_28 (v := g 3) rfl ?_
            refine lv_icmp_ge (tgt := 178) hF.1 hF.2.1 dX2_matchOf_31 (by decide) (fun c6 => ?_) (fun c6 => ?_)
            · skip
              refine lv_iinc (v := nI (i13 + 1) - 1) (lv' := [(6, .int (nI (i13 + 1) - 1)), (7, .int (nI (g 3 + 1) - 1)), (5, .int x25_5), (4, .int x25_4), (3, .int x25_3), (2, .int x25_2), (0, .ref (ω.2.1 0 99)), (1, .int wh)]) hF.1 hF.2.1 dX2_matchOf_178 hl (k := 1) rfl (up_step _) (by decide) rfl (fun ls hl => ?_)
              refine lv_goto (tgt := 13) hF.1 hF.2.1 dX2_matchOf_181 (by decide) ?_
              exact ih (i13 + 1) _ _ _ _ _ _ _ _ _ (by omega) (by subst e_x25_2; subst e_x25_3; subst e_x25_4; subst e_x25_5; rw [it_succ (fX2_matchOf_b13 g a t td of) i13 _, ← hS13]; try rfl) hH hS (lv_sub hl [0, 2, 3, 4, 5, 6, 7] rfl)
            · exact absurd (up_end (by omega)) c6
          | succ d25 ih =>
            intro i25 x25_5 x25_4 x25_3 x25_2 h25_z11 h25_z12 H locs ls hi25 hS25 hH hS hl
            refine lv_iload hF.1 hF.2.1 dX2_matchOf_25 (lv_at hl 0 rfl) ?_
            refine lv_aload_n hF.1 hF.2.1 dX2_matchOf_27 rfl (lv_at hl 6 rfl) ?_
            refine mg_3 hF hK hH q974 dX2_matchOf_28 (v := g 3) rfl ?_
            refine lv_icmp_ge (tgt := 178) hF.1 hF.2.1 dX2_matchOf_31 (by decide) (fun c7 => ?_) (fun c7 => ?_)
            · exact absurd c7 (up_not (by omega) (by omega))
            · skip
              refine lv_iload hF.1 hF.2.1 dX2_matchOf_34 (lv_at hl 1 rfl) ?_
              refine lv_iconst (v := (-1)) hF.1 hF.2.1 dX2_matchOf_36 (by decide) ?_
              have k51_14 : ∀ (v11 : Int32) (u12 : Nat → Int32) (u13 : Nat → Int32) (H : Heap) (locs : List Loc) (ls : Array Slot), v11 = (if (nI i13 - 1) = (-1) then nI 0 else (fX2_takesBy g a t td of 0 (i13 - 1))) → mH ω (g, y, a, va_up (va_up z 11 u12) 12 u13, kt, hs) H → va_S ω.2.2.1 s.heap H locs → lv_has ls 12 [(7, .int (nI i25 - 1)), (6, .int (nI i13 - 1)), (5, .int x25_5), (4, .int x25_4), (3, .int x25_3), (2, .int x25_2), (0, .ref (ω.2.1 0 99)), (1, .int wh)] → W p l e rmX2_matchOf s m args below meth c H locs 0 0 QQ (F0 m 51 ls [.int v11]) := by
                intro v11 u12 u13 H locs ls e_v11 hH hS hl
                refine lv_istore (lv' := [(8, .int v11), (7, .int (nI i25 - 1)), (6, .int (nI i13 - 1)), (5, .int x25_5), (4, .int x25_4), (3, .int x25_3), (2, .int x25_2), (0, .ref (ω.2.1 0 99)), (1, .int wh)]) hF.1 hF.2.1 dX2_matchOf_51 hl (by decide) rfl (fun ls hl => ?_)
                refine lv_iload hF.1 hF.2.1 dX2_matchOf_53 (lv_at hl 1 rfl) ?_
                refine lv_iconst (v := (-1)) hF.1 hF.2.1 dX2_matchOf_55 (by decide) ?_
                have k70_21 : ∀ (v18 : Int32) (u19 : Nat → Int32) (u20 : Nat → Int32) (H : Heap) (locs : List Loc) (ls : Array Slot), v18 = (if (nI i25 - 1) = (-1) then nI 0 else (fX2_takesBy g a t td of 1 (i25 - 1))) → mH ω (g, y, a, va_up (va_up z 11 u19) 12 u20, kt, hs) H → va_S ω.2.2.1 s.heap H locs → lv_has ls 12 [(8, .int v11), (7, .int (nI i25 - 1)), (6, .int (nI i13 - 1)), (5, .int x25_5), (4, .int x25_4), (3, .int x25_3), (2, .int x25_2), (0, .ref (ω.2.1 0 99)), (1, .int wh)] → W p l e rmX2_matchOf s m args below meth c H locs 0 0 QQ (F0 m 70 ls [.int v18]) := by
                  intro v18 u19 u20 H locs ls e_v18 hH hS hl
                  refine lv_istore (lv' := [(9, .int v18), (8, .int v11), (7, .int (nI i25 - 1)), (6, .int (nI i13 - 1)), (5, .int x25_5), (4, .int x25_4), (3, .int x25_3), (2, .int x25_2), (0, .ref (ω.2.1 0 99)), (1, .int wh)]) hF.1 hF.2.1 dX2_matchOf_70 hl (by decide) rfl (fun ls hl => ?_)
                  refine lv_iload hF.1 hF.2.1 dX2_matchOf_72 (lv_at hl 3 rfl) ?_
                  refine lv_iconst (v := (-1)) hF.1 hF.2.1 dX2_matchOf_74 (by decide) ?_
                  have k83_24 : ∀ (v23 : Int32) (ls : Array Slot), v23 = (if (nI i13 - 1) = (-1) then nI 0 else nI 1) → lv_has ls 12 [(9, .int v18), (8, .int v11), (7, .int (nI i25 - 1)), (6, .int (nI i13 - 1)), (5, .int x25_5), (4, .int x25_4), (3, .int x25_3), (2, .int x25_2), (0, .ref (ω.2.1 0 99)), (1, .int wh)] → W p l e rmX2_matchOf s m args below meth c H locs 0 0 QQ (F0 m 83 ls [.int v23]) := by
                    intro v23 ls e_v23 hl
                    refine lv_iload hF.1 hF.2.1 dX2_matchOf_83 (lv_at hl 2 rfl) ?_
                    refine lv_iconst (v := (-1)) hF.1 hF.2.1 dX2_matchOf_85 (by decide) ?_
                    have k94_27 : ∀ (v26 : Int32) (ls : Array Slot), v26 = (if (nI i25 - 1) = (-1) then nI 0 else nI 1) → lv_has ls 12 [(9, .int v18), (8, .int v11), (7, .int (nI i25 - 1)), (6, .int (nI i13 - 1)), (5, .int x25_5), (4, .int x25_4), (3, .int x25_3), (2, .int x25_2), (0, .ref (ω.2.1 0 99)), (1, .int wh)] → W p l e rmX2_matchOf s m args below meth c H locs 0 0 QQ (F0 m 94 ls [.int v26, .int v23]) := by
                      intro v26 ls e_v26 hl
                      refine lv_iadd hF.1 hF.2.1 dX2_matchOf_94 ?_
                      refine lv_istore (lv' := [(10, .int (v23 + v26)), (9, .int v18), (8, .int v11), (7, .int (nI i25 - 1)), (6, .int (nI i13 - 1)), (5, .int x25_5), (4, .int x25_4), (3, .int x25_3), (2, .int x25_2), (0, .ref (ω.2.1 0 99)), (1, .int wh)]) hF.1 hF.2.1 dX2_matchOf_95 hl (by decide) rfl (fun ls hl => ?_)
                      refine lv_iload hF.1 hF.2.1 dX2_matchOf_97 (lv_at hl 2 rfl) ?_
                      refine lv_iconst (v := (-1)) hF.1 hF.2.1 dX2_matchOf_99 (by decide) ?_
                      have k127_33 : ∀ (v32 : Int32) (ls : Array Slot), v32 = (if v11 = (-1) then nI 0 else if v18 = (-1) then nI 0 else if (nI i13 - 1) = (nI i25 - 1) then if (nI i13 - 1) = (-1) then nI 1 else nI 0 else nI 1) → lv_has ls 12 [(10, .int (v23 + v26)), (9, .int v18), (8, .int v11), (7, .int (nI i25 - 1)), (6, .int (nI i13 - 1)), (5, .int x25_5), (4, .int x25_4), (3, .int x25_3), (2, .int x25_2), (0, .ref (ω.2.1 0 99)), (1, .int wh)] → W p l e rmX2_matchOf s m args below meth c H locs 0 0 QQ (F0 m 127 ls [.int v32]) := by
                        intro v32 ls e_v32 hl
                        refine lv_istore (lv' := [(11, .int v32), (10, .int (v23 + v26)), (9, .int v18), (8, .int v11), (7, .int (nI i25 - 1)), (6, .int (nI i13 - 1)), (5, .int x25_5), (4, .int x25_4), (3, .int x25_3), (2, .int x25_2), (0, .ref (ω.2.1 0 99)), (1, .int wh)]) hF.1 hF.2.1 dX2_matchOf_127 hl (by decide) rfl (fun ls hl => ?_)
                        refine lv_iload hF.1 hF.2.1 dX2_matchOf_129 (lv_at hl 0 rfl) ?_
                        refine lv_if_eq (tgt := 172) hF.1 hF.2.1 dX2_matchOf_131 (by decide) (fun c34 => ?_) (fun c34 => ?_)
                        · skip
                          refine lv_iinc (v := nI (i25 + 1) - 1) (lv' := [(7, .int (nI (i25 + 1) - 1)), (11, .int v32), (10, .int (v23 + v26)), (9, .int v18), (8, .int v11), (6, .int (nI i13 - 1)), (5, .int x25_5), (4, .int x25_4), (3, .int x25_3), (2, .int x25_2), (0, .ref (ω.2.1 0 99)), (1, .int wh)]) hF.1 hF.2.1 dX2_matchOf_172 hl (k := 4) rfl (up_step _) (by decide) rfl (fun ls hl => ?_)
                          refine lv_goto (tgt := 25) hF.1 hF.2.1 dX2_matchOf_175 (by decide) ?_
                          exact ih (i25 + 1) _ _ _ _ _ _ _ _ _ (by omega) (by subst e_v32; subst e_v26; subst e_v23; subst e_v18; subst e_v11; rw [it_succ (fX2_matchOf_b25 g a t td of i13) i25 _, ← hS25]; unfold fX2_matchOf_b25; dsimp only; first | (rw [if_pos c34]; done) | (simp only [if_pos c34])) hH hS (lv_sub hl [0, 5, 6, 7, 8, 9, 10, 11] rfl)
                        · skip
                          refine lv_iload hF.1 hF.2.1 dX2_matchOf_134 (lv_at hl 1 rfl) ?_
                          refine lv_iload_n hF.1 hF.2.1 dX2_matchOf_136 rfl (lv_at hl 9 rfl) ?_
                          refine lv_icmp_gt (tgt := 155) hF.1 hF.2.1 dX2_matchOf_137 (by decide) (fun c35 => ?_) (fun c35 => ?_)
                          · skip
                            refine lv_iload hF.1 hF.2.1 dX2_matchOf_155 (lv_at hl 1 rfl) ?_
                            refine lv_istore_n (lv' := [(2, .int (v23 + v26)), (11, .int v32), (10, .int (v23 + v26)), (9, .int v18), (8, .int v11), (7, .int (nI i25 - 1)), (6, .int (nI i13 - 1)), (5, .int x25_5), (4, .int x25_4), (3, .int x25_3), (0, .ref (ω.2.1 0 99)), (1, .int wh)]) hF.1 hF.2.1 dX2_matchOf_157 rfl hl (by decide) rfl (fun ls hl => ?_)
                            refine lv_iload hF.1 hF.2.1 dX2_matchOf_158 (lv_at hl 4 rfl) ?_
                            refine lv_iload hF.1 hF.2.1 dX2_matchOf_160 (lv_at hl 3 rfl) ?_
                            refine lv_iadd hF.1 hF.2.1 dX2_matchOf_162 ?_
                            refine lv_istore_n (lv' := [(3, .int (v11 + v18)), (2, .int (v23 + v26)), (11, .int v32), (10, .int (v23 + v26)), (9, .int v18), (8, .int v11), (7, .int (nI i25 - 1)), (6, .int (nI i13 - 1)), (5, .int x25_5), (4, .int x25_4), (0, .ref (ω.2.1 0 99)), (1, .int wh)]) hF.1 hF.2.1 dX2_matchOf_163 rfl hl (by decide) rfl (fun ls hl => ?_)
                            refine lv_iload hF.1 hF.2.1 dX2_matchOf_164 (lv_at hl 7 rfl) ?_
                            refine lv_istore (lv' := [(4, .int (nI i13 - 1)), (3, .int (v11 + v18)), (2, .int (v23 + v26)), (11, .int v32), (10, .int (v23 + v26)), (9, .int v18), (8, .int v11), (7, .int (nI i25 - 1)), (6, .int (nI i13 - 1)), (5, .int x25_5), (0, .ref (ω.2.1 0 99)), (1, .int wh)]) hF.1 hF.2.1 dX2_matchOf_166 hl (by decide) rfl (fun ls hl => ?_)
                            refine lv_iload hF.1 hF.2.1 dX2_matchOf_168 (lv_at hl 7 rfl) ?_
                            refine lv_istore (lv' := [(5, .int (nI i25 - 1)), (4, .int (nI i13 - 1)), (3, .int (v11 + v18)), (2, .int (v23 + v26)), (11, .int v32), (10, .int (v23 + v26)), (9, .int v18), (8, .int v11), (7, .int (nI i25 - 1)), (6, .int (nI i13 - 1)), (0, .ref (ω.2.1 0 99)), (1, .int wh)]) hF.1 hF.2.1 dX2_matchOf_170 hl (by decide) rfl (fun ls hl => ?_)
                            refine lv_iinc (v := nI (i25 + 1) - 1) (lv' := [(7, .int (nI (i25 + 1) - 1)), (5, .int (nI i25 - 1)), (4, .int (nI i13 - 1)), (3, .int (v11 + v18)), (2, .int (v23 + v26)), (11, .int v32), (10, .int (v23 + v26)), (9, .int v18), (8, .int v11), (6, .int (nI i13 - 1)), (0, .ref (ω.2.1 0 99)), (1, .int wh)]) hF.1 hF.2.1 dX2_matchOf_172 hl (k := 8) rfl (up_step _) (by decide) rfl (fun ls hl => ?_)
                            refine lv_goto (tgt := 25) hF.1 hF.2.1 dX2_matchOf_175 (by decide) ?_
                            exact ih (i25 + 1) _ _ _ _ _ _ _ _ _ (by omega) (by subst e_v32; subst e_v26; subst e_v23; subst e_v18; subst e_v11; rw [it_succ (fX2_matchOf_b25 g a t td of i13) i25 _, ← hS25]; unfold fX2_matchOf_b25; dsimp only; first | (rw [if_neg c34, if_pos c35]; done) | (simp only [if_neg c34, if_pos c35])) hH hS (lv_sub hl [0, 9, 1, 2, 3, 4, 10, 11] rfl)
                          · skip
                            refine lv_iload hF.1 hF.2.1 dX2_matchOf_140 (lv_at hl 1 rfl) ?_
                            refine lv_iload_n hF.1 hF.2.1 dX2_matchOf_142 rfl (lv_at hl 9 rfl) ?_
                            refine lv_icmp_ne (tgt := 172) hF.1 hF.2.1 dX2_matchOf_143 (by decide) (fun c36 => ?_) (fun c36 => ?_)
                            · skip
                              refine lv_iinc (v := nI (i25 + 1) - 1) (lv' := [(7, .int (nI (i25 + 1) - 1)), (11, .int v32), (10, .int (v23 + v26)), (9, .int v18), (8, .int v11), (6, .int (nI i13 - 1)), (5, .int x25_5), (4, .int x25_4), (3, .int x25_3), (2, .int x25_2), (0, .ref (ω.2.1 0 99)), (1, .int wh)]) hF.1 hF.2.1 dX2_matchOf_172 hl (k := 4) rfl (up_step _) (by decide) rfl (fun ls hl => ?_)
                              refine lv_goto (tgt := 25) hF.1 hF.2.1 dX2_matchOf_175 (by decide) ?_
                              exact ih (i25 + 1) _ _ _ _ _ _ _ _ _ (by omega) (by subst e_v32; subst e_v26; subst e_v23; subst e_v18; subst e_v11; rw [it_succ (fX2_matchOf_b25 g a t td of i13) i25 _, ← hS25]; unfold fX2_matchOf_b25; dsimp only; first | (rw [if_neg c34, if_neg c35, if_neg c36]; done) | (simp only [if_neg c34, if_neg c35, if_neg c36])) hH hS (lv_sub hl [0, 5, 6, 7, 8, 9, 10, 11] rfl)
                            · skip
                              refine lv_iload hF.1 hF.2.1 dX2_matchOf_146 (lv_at hl 3 rfl) ?_
                              refine lv_iload hF.1 hF.2.1 dX2_matchOf_148 (lv_at hl 2 rfl) ?_
                              refine lv_iadd hF.1 hF.2.1 dX2_matchOf_150 ?_
                              refine lv_iload_n hF.1 hF.2.1 dX2_matchOf_151 rfl (lv_at hl 8 rfl) ?_
                              refine lv_icmp_ge (tgt := 172) hF.1 hF.2.1 dX2_matchOf_152 (by decide) (fun c37 => ?_) (fun c37 => ?_)
                              · skip
                                refine lv_iinc (v := nI (i25 + 1) - 1) (lv' := [(7, .int (nI (i25 + 1) - 1)), (11, .int v32), (10, .int (v23 + v26)), (9, .int v18), (8, .int v11), (6, .int (nI i13 - 1)), (5, .int x25_5), (4, .int x25_4), (3, .int x25_3), (2, .int x25_2), (0, .ref (ω.2.1 0 99)), (1, .int wh)]) hF.1 hF.2.1 dX2_matchOf_172 hl (k := 4) rfl (up_step _) (by decide) rfl (fun ls hl => ?_)
                                refine lv_goto (tgt := 25) hF.1 hF.2.1 dX2_matchOf_175 (by decide) ?_
                                exact ih (i25 + 1) _ _ _ _ _ _ _ _ _ (by omega) (by subst e_v32; subst e_v26; subst e_v23; subst e_v18; subst e_v11; rw [it_succ (fX2_matchOf_b25 g a t td of i13) i25 _, ← hS25]; unfold fX2_matchOf_b25; dsimp only; first | (rw [if_neg c34, if_neg c35, if_pos c36, if_pos c37]; done) | (simp only [if_neg c34, if_neg c35, if_pos c36, if_pos c37])) hH hS (lv_sub hl [0, 5, 6, 7, 8, 9, 10, 11] rfl)
                              · skip
                                refine lv_iload hF.1 hF.2.1 dX2_matchOf_155 (lv_at hl 1 rfl) ?_
                                refine lv_istore_n (lv' := [(2, .int (v23 + v26)), (11, .int v32), (10, .int (v23 + v26)), (9, .int v18), (8, .int v11), (7, .int (nI i25 - 1)), (6, .int (nI i13 - 1)), (5, .int x25_5), (4, .int x25_4), (3, .int x25_3), (0, .ref (ω.2.1 0 99)), (1, .int wh)]) hF.1 hF.2.1 dX2_matchOf_157 rfl hl (by decide) rfl (fun ls hl => ?_)
                                refine lv_iload hF.1 hF.2.1 dX2_matchOf_158 (lv_at hl 4 rfl) ?_
                                refine lv_iload hF.1 hF.2.1 dX2_matchOf_160 (lv_at hl 3 rfl) ?_
                                refine lv_iadd hF.1 hF.2.1 dX2_matchOf_162 ?_
                                refine lv_istore_n (lv' := [(3, .int (v11 + v18)), (2, .int (v23 + v26)), (11, .int v32), (10, .int (v23 + v26)), (9, .int v18), (8, .int v11), (7, .int (nI i25 - 1)), (6, .int (nI i13 - 1)), (5, .int x25_5), (4, .int x25_4), (0, .ref (ω.2.1 0 99)), (1, .int wh)]) hF.1 hF.2.1 dX2_matchOf_163 rfl hl (by decide) rfl (fun ls hl => ?_)
                                refine lv_iload hF.1 hF.2.1 dX2_matchOf_164 (lv_at hl 7 rfl) ?_
                                refine lv_istore (lv' := [(4, .int (nI i13 - 1)), (3, .int (v11 + v18)), (2, .int (v23 + v26)), (11, .int v32), (10, .int (v23 + v26)), (9, .int v18), (8, .int v11), (7, .int (nI i25 - 1)), (6, .int (nI i13 - 1)), (5, .int x25_5), (0, .ref (ω.2.1 0 99)), (1, .int wh)]) hF.1 hF.2.1 dX2_matchOf_166 hl (by decide) rfl (fun ls hl => ?_)
                                refine lv_iload hF.1 hF.2.1 dX2_matchOf_168 (lv_at hl 7 rfl) ?_
                                refine lv_istore (lv' := [(5, .int (nI i25 - 1)), (4, .int (nI i13 - 1)), (3, .int (v11 + v18)), (2, .int (v23 + v26)), (11, .int v32), (10, .int (v23 + v26)), (9, .int v18), (8, .int v11), (7, .int (nI i25 - 1)), (6, .int (nI i13 - 1)), (0, .ref (ω.2.1 0 99)), (1, .int wh)]) hF.1 hF.2.1 dX2_matchOf_170 hl (by decide) rfl (fun ls hl => ?_)
                                refine lv_iinc (v := nI (i25 + 1) - 1) (lv' := [(7, .int (nI (i25 + 1) - 1)), (5, .int (nI i25 - 1)), (4, .int (nI i13 - 1)), (3, .int (v11 + v18)), (2, .int (v23 + v26)), (11, .int v32), (10, .int (v23 + v26)), (9, .int v18), (8, .int v11), (6, .int (nI i13 - 1)), (0, .ref (ω.2.1 0 99)), (1, .int wh)]) hF.1 hF.2.1 dX2_matchOf_172 hl (k := 8) rfl (up_step _) (by decide) rfl (fun ls hl => ?_)
                                refine lv_goto (tgt := 25) hF.1 hF.2.1 dX2_matchOf_175 (by decide) ?_
                                exact ih (i25 + 1) _ _ _ _ _ _ _ _ _ (by omega) (by subst e_v32; subst e_v26; subst e_v23; subst e_v18; subst e_v11; rw [it_succ (fX2_matchOf_b25 g a t td of i13) i25 _, ← hS25]; unfold fX2_matchOf_b25; dsimp only; first | (rw [if_neg c34, if_neg c35, if_pos c36, if_neg c37]; done) | (simp only [if_neg c34, if_neg c35, if_pos c36, if_neg c37])) hH hS (lv_sub hl [0, 9, 1, 2, 3, 4, 10, 11] rfl)
                      refine lv_icmp_eq (tgt := 126) hF.1 hF.2.1 dX2_matchOf_100 (by decide) (fun c28 => ?_) (fun c28 => ?_)
                      · skip
                        refine lv_iconst (v := nI 0) hF.1 hF.2.1 dX2_matchOf_126 (by decide) ?_
                        exact k127_33 _ _ (by first | (rw [if_pos c28]; done) | (simp only [if_pos c28])) (lv_sub hl [0, 1, 2, 3, 4, 5, 6, 7, 8, 9, 10] rfl)
                      · skip
                        refine lv_iload hF.1 hF.2.1 dX2_matchOf_103 (lv_at hl 1 rfl) ?_
                        refine lv_iconst (v := (-1)) hF.1 hF.2.1 dX2_matchOf_105 (by decide) ?_
                        refine lv_icmp_eq (tgt := 126) hF.1 hF.2.1 dX2_matchOf_106 (by decide) (fun c29 => ?_) (fun c29 => ?_)
                        · skip
                          refine lv_iconst (v := nI 0) hF.1 hF.2.1 dX2_matchOf_126 (by decide) ?_
                          exact k127_33 _ _ (by first | (rw [if_neg c28, if_pos c29]; done) | (simp only [if_neg c28, if_pos c29])) (lv_sub hl [0, 1, 2, 3, 4, 5, 6, 7, 8, 9, 10] rfl)
                        · skip
                          refine lv_iload hF.1 hF.2.1 dX2_matchOf_109 (lv_at hl 4 rfl) ?_
                          refine lv_iload hF.1 hF.2.1 dX2_matchOf_111 (lv_at hl 3 rfl) ?_
                          refine lv_icmp_ne (tgt := 122) hF.1 hF.2.1 dX2_matchOf_113 (by decide) (fun c30 => ?_) (fun c30 => ?_)
                          · skip
                            refine lv_iconst (v := nI 1) hF.1 hF.2.1 dX2_matchOf_122 (by decide) ?_
                            refine lv_goto (tgt := 127) hF.1 hF.2.1 dX2_matchOf_123 (by decide) ?_
                            exact k127_33 _ _ (by first | (rw [if_neg c28, if_neg c29, if_neg c30]; done) | (simp only [if_neg c28, if_neg c29, if_neg c30])) (lv_sub hl [0, 1, 2, 3, 4, 5, 6, 7, 8, 9, 10] rfl)
                          · skip
                            refine lv_iload hF.1 hF.2.1 dX2_matchOf_116 (lv_at hl 4 rfl) ?_
                            refine lv_iconst (v := (-1)) hF.1 hF.2.1 dX2_matchOf_118 (by decide) ?_
                            refine lv_icmp_ne (tgt := 126) hF.1 hF.2.1 dX2_matchOf_119 (by decide) (fun c31 => ?_) (fun c31 => ?_)
                            · skip
                              refine lv_iconst (v := nI 0) hF.1 hF.2.1 dX2_matchOf_126 (by decide) ?_
                              exact k127_33 _ _ (by first | (rw [if_neg c28, if_neg c29, if_pos c30, if_neg c31]; done) | (simp only [if_neg c28, if_neg c29, if_pos c30, if_neg c31])) (lv_sub hl [0, 1, 2, 3, 4, 5, 6, 7, 8, 9, 10] rfl)
                            · skip
                              refine lv_iconst (v := nI 1) hF.1 hF.2.1 dX2_matchOf_122 (by decide) ?_
                              refine lv_goto (tgt := 127) hF.1 hF.2.1 dX2_matchOf_123 (by decide) ?_
                              exact k127_33 _ _ (by first | (rw [if_neg c28, if_neg c29, if_pos c30, if_pos c31]; done) | (simp only [if_neg c28, if_neg c29, if_pos c30, if_pos c31])) (lv_sub hl [0, 1, 2, 3, 4, 5, 6, 7, 8, 9, 10] rfl)
                    refine lv_icmp_ne (tgt := 93) hF.1 hF.2.1 dX2_matchOf_86 (by decide) (fun c25 => ?_) (fun c25 => ?_)
                    · skip
                      refine lv_iconst (v := nI 1) hF.1 hF.2.1 dX2_matchOf_93 (by decide) ?_
                      exact k94_27 _ _ (by first | (rw [if_neg c25]; done) | (simp only [if_neg c25])) (lv_sub hl [0, 1, 2, 3, 4, 5, 6, 7, 8, 9] rfl)
                    · skip
                      refine lv_iconst (v := nI 0) hF.1 hF.2.1 dX2_matchOf_89 (by decide) ?_
                      refine lv_goto (tgt := 94) hF.1 hF.2.1 dX2_matchOf_90 (by decide) ?_
                      exact k94_27 _ _ (by first | (rw [if_pos c25]; done) | (simp only [if_pos c25])) (lv_sub hl [0, 1, 2, 3, 4, 5, 6, 7, 8, 9] rfl)
                  refine lv_icmp_ne (tgt := 82) hF.1 hF.2.1 dX2_matchOf_75 (by decide) (fun c22 => ?_) (fun c22 => ?_)
                  · skip
                    refine lv_iconst (v := nI 1) hF.1 hF.2.1 dX2_matchOf_82 (by decide) ?_
                    exact k83_24 _ _ (by first | (rw [if_neg c22]; done) | (simp only [if_neg c22])) (lv_sub hl [0, 1, 2, 3, 4, 5, 6, 7, 8, 9] rfl)
                  · skip
                    refine lv_iconst (v := nI 0) hF.1 hF.2.1 dX2_matchOf_78 (by decide) ?_
                    refine lv_goto (tgt := 83) hF.1 hF.2.1 dX2_matchOf_79 (by decide) ?_
                    exact k83_24 _ _ (by first | (rw [if_pos c22]; done) | (simp only [if_pos c22])) (lv_sub hl [0, 1, 2, 3, 4, 5, 6, 7, 8, 9] rfl)
                refine lv_icmp_ne (tgt := 63) hF.1 hF.2.1 dX2_matchOf_56 (by decide) (fun c15 => ?_) (fun c15 => ?_)
                · skip
                  have hu63 := up_lift (i := i25) (by omega) c15
                  have b16 : nI i25 - 1 = nI (i25 - 1) := hu63.2
                  refine lv_aload_n hF.1 hF.2.1 dX2_matchOf_63 rfl (lv_at hl 7 rfl) ?_
                  refine lv_iconst (v := nI 1) hF.1 hF.2.1 dX2_matchOf_64 (by decide) ?_
                  refine lv_iload hF.1 hF.2.1 dX2_matchOf_65 (lv_at hl 1 rfl) ?_
                  refine n_top b16 ?_
                  refine g_vWi (As := [.int (nI 1), .int (nI (i25 - 1))]) (rest := []) hF (kX2_takesBy l ω g y a (va_up (va_up z 11 u12) 12 u13) kt hs t td of hc 1 (i25 - 1) (by omega) (by omega) hsd) (lw_V q1304 q1306 qs81 q97 q1307) 2 hdX2_takesBy rfl rfl ⟨Nat.le_of_ble_eq_true rfl, Nat.le_of_ble_eq_true rfl⟩ (m_preV hK hH) rfl hl.1 rfl (Nat.le_of_ble_eq_true rfl) dX2_matchOf_67 ⟨Nat.le_of_ble_eq_true rfl, Nat.le_of_ble_eq_true rfl⟩ hS (fun r17 ur17 H locs hqr17 hH hS => ?_)
                  obtain ⟨r17h0, r17h1, hr17, rfl⟩ := hqr17
                  have e_r17 := hr17
                  have hH : mH ω (g, y, a, va_up (va_up z 11 r17h0) 12 r17h1, kt, hs) H := m_ext (fun _ => rfl) (fun _ => rfl) (fun _ => rfl) (by intro k; by_cases h0 : k = 11; (subst h0; simp [va_up]); by_cases h1 : k = 12; (subst h1; simp [va_up]); simp only [va_up, if_neg h0, if_neg h1]) hH
                  exact k70_21 _ _ _ _ _ _ (by subst e_r17; first | (rw [if_neg c15]; done) | (simp only [if_neg c15])) hH hS (lv_sub hl [0, 1, 2, 3, 4, 5, 6, 7, 8] rfl)
                · skip
                  refine lv_iconst (v := nI 0) hF.1 hF.2.1 dX2_matchOf_59 (by decide) ?_
                  refine lv_goto (tgt := 70) hF.1 hF.2.1 dX2_matchOf_60 (by decide) ?_
                  exact k70_21 _ _ _ _ _ _ (by first | (rw [if_pos c15]; done) | (simp only [if_pos c15])) hH hS (lv_sub hl [0, 1, 2, 3, 4, 5, 6, 7, 8] rfl)
              refine lv_icmp_ne (tgt := 44) hF.1 hF.2.1 dX2_matchOf_37 (by decide) (fun c8 => ?_) (fun c8 => ?_)
              · skip
                have hu44 := up_lift (i := i13) (by omega) c8
                have b9 : nI i13 - 1 = nI (i13 - 1) := hu44.2
                refine lv_aload_n hF.1 hF.2.1 dX2_matchOf_44 rfl (lv_at hl 6 rfl) ?_
                refine lv_iconst (v := nI 0) hF.1 hF.2.1 dX2_matchOf_45 (by decide) ?_
                refine lv_iload hF.1 hF.2.1 dX2_matchOf_46 (lv_at hl 1 rfl) ?_
                refine n_top b9 ?_
                refine g_vWi (As := [.int (nI 0), .int (nI (i13 - 1))]) (rest := []) hF (kX2_takesBy l ω g y a (va_up (va_up z 11 h25_z11) 12 h25_z12) kt hs t td of hc 0 (i13 - 1) (by omega) (by omega) hsd) (lw_V q1304 q1306 qs81 q97 q1307) 2 hdX2_takesBy rfl rfl ⟨Nat.le_of_ble_eq_true rfl, Nat.le_of_ble_eq_true rfl⟩ (m_preV hK hH) rfl hl.1 rfl (Nat.le_of_ble_eq_true rfl) dX2_matchOf_48 ⟨Nat.le_of_ble_eq_true rfl, Nat.le_of_ble_eq_true rfl⟩ hS (fun r10 ur10 H locs hqr10 hH hS => ?_)
                obtain ⟨r10h0, r10h1, hr10, rfl⟩ := hqr10
                have e_r10 := hr10
                have hH : mH ω (g, y, a, va_up (va_up z 11 r10h0) 12 r10h1, kt, hs) H := m_ext (fun _ => rfl) (fun _ => rfl) (fun _ => rfl) (by intro k; by_cases h0 : k = 11; (subst h0; simp [va_up]); by_cases h1 : k = 12; (subst h1; simp [va_up]); simp only [va_up, if_neg h0, if_neg h1]) hH
                exact k51_14 _ _ _ _ _ _ (by subst e_r10; first | (rw [if_neg c8]; done) | (simp only [if_neg c8])) hH hS (lv_sub hl [0, 1, 2, 3, 4, 5, 6, 7] rfl)
              · skip
                refine lv_iconst (v := nI 0) hF.1 hF.2.1 dX2_matchOf_40 (by decide) ?_
                refine lv_goto (tgt := 51) hF.1 hF.2.1 dX2_matchOf_41 (by decide) ?_
                exact k51_14 _ _ _ _ _ _ (by first | (rw [if_pos c8]; done) | (simp only [if_pos c8])) hH hS (lv_sub hl [0, 1, 2, 3, 4, 5, 6, 7] rfl)
        exact lp25_175 (g 3 + 1) 0 _ _ _ _ _ _ _ _ _ (by omega) rfl hH hS (lv_sub hl [0, 1, 2, 3, 4, 5, 6, 7] rfl)
  have hH : mH ω (g, y, a, va_up (va_up z 11 (z 11)) 12 (z 12), kt, hs) H := m_ext (fun _ => rfl) (fun _ => rfl) (fun _ => rfl) (by intro k; by_cases h0 : k = 11; (subst h0; simp [va_up]); by_cases h1 : k = 12; (subst h1; simp [va_up]); simp only [va_up, if_neg h0, if_neg h1]) hH
  exact lp13_173 (g 3 + 1) 0 _ _ _ _ _ _ _ _ _ (by omega) rfl hH hS (lv_sub hl [0, 1, 2, 3, 4, 5, 6] rfl)

def fX2_match (g : Nat → Nat) (a : Nat → Nat → Int32) (t : TW) (td : Nat → Nat) (of : Nat → Nat → Nat) (wh : Int32) : Int32 := if (fX2_in wh.toInt64 0 1) = 0 then if (fX2_in wh.toInt64 10 11) = 0 then (-102) else if (fX2_lacks g) = 0 then (fX2_matchOf g a t td of wh) else (-103) else if (fX2_lacks g) = 0 then (fX2_matchOf g a t td of wh) else (-103)
def rmX2_match : Room := { frames := 7, cells := 0, slots := 0, locals := 181 }
theorem hdX2_match : yX2_match.cls = RX2 ∧ yX2_match.cls ≠ "java/lang/invoke/MethodHandle" ∧ yX2_match.cls ≠ "java/lang/invoke/VarHandle" ∧ (parseMethodDescriptor yX2_match.desc).map (fun d => d.parameters.length) = some 1 := by decide +kernel
set_option maxHeartbeats 4000000 in
theorem kX2_match (l : Launch) (ω : OM) (g : Nat → Nat) (y : Nat → Int32) (a z : Nat → Nat → Int32) (kt : Int32) (hs : Int64) (t : TW) (td : Nat → Nat) (of : Nat → Nat → Nat) (hc : mCore g a t td of) (wh : Int32) (hsd : mSide g a) : Met l yX2_match (ws_ yX2_match cX2_match 2 (some .int)) rmX2_match (va_Pc [.ref (ω.2.1 0 99), .int wh] (fun U => mK ω U ∧ mH ω (g, y, a, z, kt, hs) U.heap)) (va_Qi (fun (r : Int32) (u : MS) => ∃ (q0 : Nat → Int32) (q1 : Nat → Int32), r = (fX2_match g a t td of wh) ∧ u = (g, y, a, va_up (va_up z 11 q0) 12 q1, kt, hs)) (fun u t => mH ω u t.heap) ω.2.2.1) 0 0 ω.2.2.1 := by
  refine g_entWi (C := RX2) rfl (by decide) (Nat.le_of_ble_eq_true rfl) ?_
  intro p e s m args below meth c QQ ls H locs hF hK hH hS hl hret
  have hl : lv_has ls 2 [(0, .ref (ω.2.1 0 99)), (1, .int wh)] := hl
  have hok := hc.ok
  have hr := hc.rows
  have hn := hr.1
  have hp3 := hsd.1
  have hs6 := hsd.2.1
  refine lv_iload_n hF.1 hF.2.1 dX2_match_0 rfl (lv_at hl 1 rfl) ?_
  refine lv_i2l (v := wh.toInt64) hF.1 hF.2.1 dX2_match_1 rfl ?_
  refine lv_lconst (v := 0) hF.1 hF.2.1 dX2_match_2 (by decide) ?_
  refine lv_lconst (v := 1) hF.1 hF.2.1 dX2_match_3 (by decide) ?_
  refine g_sPi (As := [.long wh.toInt64, .long 0, .long 1]) (rest := []) hF (kX2_in l wh.toInt64 0 1) (lw_S q1061 q1062 q97 q1063) 3 hdX2_in.2 rfl rfl ⟨Nat.le_of_ble_eq_true rfl, Nat.le_of_ble_eq_true rfl⟩ g_pre0 rfl hl.1 rfl (Nat.le_of_ble_eq_true rfl) dX2_match_4 ⟨Nat.zero_le _, Nat.zero_le _⟩ (fun r1 e_r1 => ?_)
  refine lv_if_ne (tgt := 27) hF.1 hF.2.1 dX2_match_7 (by decide) (fun c2 => ?_) (fun c2 => ?_)
  · skip
    refine lv_aload_n hF.1 hF.2.1 dX2_match_27 rfl (lv_at hl 0 rfl) ?_
    refine g_vPi (As := []) (rest := []) hF (kX2_lacks l ω g y a z kt hs (by omega)) (lw_V q1232 q1234 qs71 q97 q1235) 0 hdX2_lacks rfl rfl ⟨Nat.le_of_ble_eq_true rfl, Nat.le_of_ble_eq_true rfl⟩ (m_preV hK hH) rfl hl.1 rfl (Nat.le_of_ble_eq_true rfl) dX2_match_28 ⟨Nat.zero_le _, Nat.zero_le _⟩ (fun r3 e_r3 => ?_)
    refine lv_if_eq (tgt := 39) hF.1 hF.2.1 dX2_match_31 (by decide) (fun c4 => ?_) (fun c4 => ?_)
    · skip
      refine lv_aload_n hF.1 hF.2.1 dX2_match_39 rfl (lv_at hl 0 rfl) ?_
      refine lv_iload_n hF.1 hF.2.1 dX2_match_40 rfl (lv_at hl 1 rfl) ?_
      refine g_vWi (As := [.int wh]) (rest := []) hF (kX2_matchOf l ω g y a z kt hs t td of hc wh hsd) (lw_V q1300 q1302 qs80 q97 q1303) 1 hdX2_matchOf rfl rfl ⟨Nat.le_of_ble_eq_true rfl, Nat.le_of_ble_eq_true rfl⟩ (m_preV hK hH) rfl hl.1 rfl (Nat.le_of_ble_eq_true rfl) dX2_match_41 ⟨Nat.le_of_ble_eq_true rfl, Nat.le_of_ble_eq_true rfl⟩ hS (fun r5 ur5 H locs hqr5 hH hS => ?_)
      obtain ⟨r5h0, r5h1, hr5, rfl⟩ := hqr5
      have e_r5 := hr5
      exact hret _ _ _ _ _ _ dX2_match_44 ⟨_, _, by subst e_r5; subst e_r3; subst e_r1; unfold fX2_match; first | (rw [if_neg c2, if_pos c4]; done) | (simp only [if_neg c2, if_pos c4]), rfl⟩ hH hS
    · skip
      refine lv_bipush (v := (-103)) hF.1 hF.2.1 dX2_match_34 (by decide) ?_
      refine lv_goto (tgt := 44) hF.1 hF.2.1 dX2_match_36 (by decide) ?_
      have hH : mH ω (g, y, a, va_up (va_up z 11 (z 11)) 12 (z 12), kt, hs) H := m_ext (fun _ => rfl) (fun _ => rfl) (fun _ => rfl) (by intro k; by_cases h0 : k = 11; (subst h0; simp [va_up]); by_cases h1 : k = 12; (subst h1; simp [va_up]); simp only [va_up, if_neg h0, if_neg h1]) hH
      exact hret _ _ _ _ _ _ dX2_match_44 ⟨_, _, by subst e_r3; subst e_r1; unfold fX2_match; first | (rw [if_neg c2, if_neg c4]; done) | (simp only [if_neg c2, if_neg c4]), rfl⟩ hH hS
  · skip
    refine lv_iload_n hF.1 hF.2.1 dX2_match_10 rfl (lv_at hl 1 rfl) ?_
    refine lv_i2l (v := wh.toInt64) hF.1 hF.2.1 dX2_match_11 rfl ?_
    refine lv_ldc2 (v := 10) hF.1 hF.2.1 hF.2.2.2.1 (hF.2.2.2.2 _ q1112) dX2_match_12 ?_
    refine lv_ldc2 (v := 11) hF.1 hF.2.1 hF.2.2.2.1 (hF.2.2.2.2 _ q1299) dX2_match_15 ?_
    refine g_sPi (As := [.long wh.toInt64, .long 10, .long 11]) (rest := []) hF (kX2_in l wh.toInt64 10 11) (lw_S q1061 q1062 q97 q1063) 3 hdX2_in.2 rfl rfl ⟨Nat.le_of_ble_eq_true rfl, Nat.le_of_ble_eq_true rfl⟩ g_pre0 rfl hl.1 rfl (Nat.le_of_ble_eq_true rfl) dX2_match_18 ⟨Nat.zero_le _, Nat.zero_le _⟩ (fun r6 e_r6 => ?_)
    refine lv_if_ne (tgt := 27) hF.1 hF.2.1 dX2_match_21 (by decide) (fun c7 => ?_) (fun c7 => ?_)
    · skip
      refine lv_aload_n hF.1 hF.2.1 dX2_match_27 rfl (lv_at hl 0 rfl) ?_
      refine g_vPi (As := []) (rest := []) hF (kX2_lacks l ω g y a z kt hs (by omega)) (lw_V q1232 q1234 qs71 q97 q1235) 0 hdX2_lacks rfl rfl ⟨Nat.le_of_ble_eq_true rfl, Nat.le_of_ble_eq_true rfl⟩ (m_preV hK hH) rfl hl.1 rfl (Nat.le_of_ble_eq_true rfl) dX2_match_28 ⟨Nat.zero_le _, Nat.zero_le _⟩ (fun r8 e_r8 => ?_)
      refine lv_if_eq (tgt := 39) hF.1 hF.2.1 dX2_match_31 (by decide) (fun c9 => ?_) (fun c9 => ?_)
      · skip
        refine lv_aload_n hF.1 hF.2.1 dX2_match_39 rfl (lv_at hl 0 rfl) ?_
        refine lv_iload_n hF.1 hF.2.1 dX2_match_40 rfl (lv_at hl 1 rfl) ?_
        refine g_vWi (As := [.int wh]) (rest := []) hF (kX2_matchOf l ω g y a z kt hs t td of hc wh hsd) (lw_V q1300 q1302 qs80 q97 q1303) 1 hdX2_matchOf rfl rfl ⟨Nat.le_of_ble_eq_true rfl, Nat.le_of_ble_eq_true rfl⟩ (m_preV hK hH) rfl hl.1 rfl (Nat.le_of_ble_eq_true rfl) dX2_match_41 ⟨Nat.le_of_ble_eq_true rfl, Nat.le_of_ble_eq_true rfl⟩ hS (fun r10 ur10 H locs hqr10 hH hS => ?_)
        obtain ⟨r10h0, r10h1, hr10, rfl⟩ := hqr10
        have e_r10 := hr10
        exact hret _ _ _ _ _ _ dX2_match_44 ⟨_, _, by subst e_r10; subst e_r8; subst e_r6; subst e_r1; unfold fX2_match; first | (rw [if_pos c2, if_neg c7, if_pos c9]; done) | (simp only [if_pos c2, if_neg c7, if_pos c9]), rfl⟩ hH hS
      · skip
        refine lv_bipush (v := (-103)) hF.1 hF.2.1 dX2_match_34 (by decide) ?_
        refine lv_goto (tgt := 44) hF.1 hF.2.1 dX2_match_36 (by decide) ?_
        have hH : mH ω (g, y, a, va_up (va_up z 11 (z 11)) 12 (z 12), kt, hs) H := m_ext (fun _ => rfl) (fun _ => rfl) (fun _ => rfl) (by intro k; by_cases h0 : k = 11; (subst h0; simp [va_up]); by_cases h1 : k = 12; (subst h1; simp [va_up]); simp only [va_up, if_neg h0, if_neg h1]) hH
        exact hret _ _ _ _ _ _ dX2_match_44 ⟨_, _, by subst e_r8; subst e_r6; subst e_r1; unfold fX2_match; first | (rw [if_pos c2, if_neg c7, if_neg c9]; done) | (simp only [if_pos c2, if_neg c7, if_neg c9]), rfl⟩ hH hS
    · skip
      refine lv_bipush (v := (-102)) hF.1 hF.2.1 dX2_match_24 (by decide) ?_
      have hH : mH ω (g, y, a, va_up (va_up z 11 (z 11)) 12 (z 12), kt, hs) H := m_ext (fun _ => rfl) (fun _ => rfl) (fun _ => rfl) (by intro k; by_cases h0 : k = 11; (subst h0; simp [va_up]); by_cases h1 : k = 12; (subst h1; simp [va_up]); simp only [va_up, if_neg h0, if_neg h1]) hH
      exact hret _ _ _ _ _ _ dX2_match_26 ⟨_, _, by subst e_r6; subst e_r1; unfold fX2_match; first | (rw [if_pos c2, if_pos c7]; done) | (simp only [if_pos c2, if_pos c7]), rfl⟩ hH hS

