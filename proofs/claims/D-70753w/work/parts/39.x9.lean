/-! CLASS: lengths, rails -/
set_option maxRecDepth 100000
def fX0_layLengths_b41 (g : Nat → Nat → Nat) (a : Nat → Nat → Nat → Int32) (z : Nat → Nat → Nat → Int32) (t : TW) (pn : Nat) (i32 : Nat) (i41 : Nat) (S : (Nat → Int32)) : (Nat → Int32) := if ((nI (i32 + 1)) - (nI (tl t i41))) < 0 then S else (fX0_better (up2 z 0 8 (fX0_better (up2 z 0 8 S) (i32 + 1) (ta t i41) ((S ((8 * ((i32 + 1) - (tl t i41))) + (tb t i41))) + (fX1_hurts g a t 0 pn i41)))) (i32 + 1) (tb t i41) (((fX0_better (up2 z 0 8 S) (i32 + 1) (ta t i41) ((S ((8 * ((i32 + 1) - (tl t i41))) + (tb t i41))) + (fX1_hurts g a t 0 pn i41))) ((8 * ((i32 + 1) - (tl t i41))) + (ta t i41))) + (fX1_hurts g a t 0 pn i41)))
def fX0_layLengths_b32 (g : Nat → Nat → Nat) (a : Nat → Nat → Nat → Int32) (z : Nat → Nat → Nat → Int32) (t : TW) (pn : Nat) (i32 : Nat) (S : (Nat → Int32)) : (Nat → Int32) := (it (fX0_layLengths_b41 g a z t pn i32) (tn t) S)
def fX0_layLengths_b2 (i2 : Nat) (S : (Nat → Int32)) : (Nat → Int32) := upd S i2 (nI 268435456)
theorem xWay_of {g : Nat → Nat → Nat} {pn fr to : Int32} (h : ¬ fX0_isWay g pn fr to = 0) : ¬ fX0_isPerson g pn = 0 ∧ ¬ fX0_isCorner fr = 0 ∧ ¬ fX0_isCorner to = 0 := by
  unfold fX0_isWay at h
  split at h
  · exact absurd nI_0 h
  · split at h
    · exact absurd nI_0 h
    · split at h
      · exact absurd nI_0 h
      · exact ⟨by assumption, by assumption, by assumption⟩
theorem xWay_lift {g : Nat → Nat → Nat} {pn fr to : Int32} (hg : g 0 1 ≤ 3) (h : ¬ fX0_isWay g pn fr to = 0) : ∃ j : Nat, j < 3 ∧ pn = nI j := xPerson_lift3 hg (xWay_of h).1
def fX0_layLengths (g : Nat → Nat → Nat) (a : Nat → Nat → Nat → Int32) (z : Nat → Nat → Nat → Int32) (t : TW) (pn : Nat) (fr : Nat) : (Nat → Int32) := (it (fX0_layLengths_b32 g a z t pn) 81 (upd (it fX0_layLengths_b2 656 (z 0 8)) fr (nI 0)))
def rmX0_layLengths : Room := { frames := 5, cells := 0, slots := 0, locals := 115 }
theorem hdX0_layLengths : yX0_layLengths.cls = RX0 ∧ yX0_layLengths.cls ≠ "java/lang/invoke/MethodHandle" ∧ yX0_layLengths.cls ≠ "java/lang/invoke/VarHandle" ∧ (parseMethodDescriptor yX0_layLengths.desc).map (fun d => d.parameters.length) = some 2 := by decide +kernel
set_option maxHeartbeats 4000000 in
theorem kX0_layLengths (l : Launch) (ω : OM) (g : Nat → Nat → Nat) (y : Nat → Nat → Int32) (a z : Nat → Nat → Nat → Int32) (dr : Int64) (pg : Nat → Int32) (t : TW) (pn : Nat) (fr : Nat) (hpn : pn < 3) (hfr : fr < 8) : Met l yX0_layLengths (ws_ yX0_layLengths cX0_layLengths 7 none) rmX0_layLengths (va_Pc [.ref (ω.2.1 0 99), .int (nI pn), .int (nI fr)] (fun U => xK ω U ∧ xH ω (g, y, a, z, dr, pg, t) U.heap)) (va_Qv (fun (u : XS) => ∃ (o0 : Nat → Int32), o0 = (fX0_layLengths g a z t pn fr) ∧ u = (g, y, a, up2 z 0 8 o0, dr, pg, t)) (fun u t => xH ω u t.heap) ω.2.2.1) 0 0 ω.2.2.1 := by
  refine g_entWv (C := RX0) rfl (by decide) (Nat.le_of_ble_eq_true rfl) ?_
  intro p e s m args below meth c QQ ls H locs hF hK hH hS hl hret
  have hl : lv_has ls 7 [(0, .ref (ω.2.1 0 99)), (1, .int (nI pn)), (2, .int (nI fr))] := hl
  have hn9 : tn t ≤ 9 := hH.2.2.1
  refine lv_iconst (v := nI 0) hF.1 hF.2.1 dX0_layLengths_0 (by decide) ?_
  refine lv_istore_n (lv' := [(3, .int (nI 0)), (0, .ref (ω.2.1 0 99)), (1, .int (nI pn)), (2, .int (nI fr))]) hF.1 hF.2.1 dX0_layLengths_1 rfl hl (by decide) rfl (fun ls hl => ?_)
  have lp2_67 : ∀ (d2 i2 : Nat) (w2_z0_8 : Nat → Int32) (H : Heap) (locs : List Loc) (ls : Array Slot), i2 + d2 = 656 → w2_z0_8 = it fX0_layLengths_b2 i2 (z 0 8) → xH ω (g, y, a, up2 z 0 8 w2_z0_8, dr, pg, t) H → va_S ω.2.2.1 s.heap H locs → lv_has ls 7 [(3, .int (nI i2)), (0, .ref (ω.2.1 0 99)), (1, .int (nI pn)), (2, .int (nI fr))] → W p l e rmX0_layLengths s m args below meth c H locs 0 0 QQ (F0 m 2 ls []) := by
    intro d2
    induction d2 with
    | zero =>
      intro i2 w2_z0_8 H locs ls hi2 hS2 hH hS hl
      have hj2 : 656 = i2 := by omega
      subst hj2
      have e_w2_z0_8 := hS2
      refine lv_iload_n hF.1 hF.2.1 dX0_layLengths_2 rfl (lv_at hl 0 rfl) ?_
      refine lv_sipush (v := nI 656) hF.1 hF.2.1 dX0_layLengths_3 (by decide) ?_
      refine n_ge (tgt := 23) hF.1 hF.2.1 dX0_layLengths_6 (by decide) (by omega) (by omega) (fun c1 => ?_) (fun c1 => ?_)
      · skip
        refine lv_aload_n hF.1 hF.2.1 dX0_layLengths_23 rfl (lv_at hl 1 rfl) ?_
        refine xg0_8 hF hK hH q228 dX0_layLengths_24 ?_
        refine lv_iload_n hF.1 hF.2.1 dX0_layLengths_27 rfl (lv_at hl 3 rfl) ?_
        refine lv_iconst (v := nI 0) hF.1 hF.2.1 dX0_layLengths_28 (by decide) ?_
        refine x0_zst (z' := up2 z 0 8 (upd w2_z0_8 fr (nI 0))) hF hK hH hS 8 (n := 656) rfl rfl (by decide) (by decide) rfl (f := w2_z0_8) (by simp [up2]) (i := fr) (by omega) (by decide) dX0_layLengths_29 (by simp [up2]) (by intro i q hq; simp only [up2, if_neg hq]) (fun H locs hH hS => ?_)
        refine lv_iconst (v := nI 1) hF.1 hF.2.1 dX0_layLengths_30 (by decide) ?_
        refine lv_istore_n (lv' := [(3, .int (nI 1)), (0, .ref (ω.2.1 0 99)), (1, .int (nI pn)), (2, .int (nI fr))]) hF.1 hF.2.1 dX0_layLengths_31 rfl hl (by decide) rfl (fun ls hl => ?_)
        have lp32_73 : ∀ (d32 i32 : Nat) (w32_z0_8 : Nat → Int32) (H : Heap) (locs : List Loc) (ls : Array Slot), i32 + d32 = 81 → w32_z0_8 = it (fX0_layLengths_b32 g a z t pn) i32 (upd w2_z0_8 fr (nI 0)) → xH ω (g, y, a, up2 z 0 8 w32_z0_8, dr, pg, t) H → va_S ω.2.2.1 s.heap H locs → lv_has ls 7 [(3, .int (nI (i32 + 1))), (0, .ref (ω.2.1 0 99)), (1, .int (nI pn))] → W p l e rmX0_layLengths s m args below meth c H locs 0 0 QQ (F0 m 32 ls []) := by
          intro d32
          induction d32 with
          | zero =>
            intro i32 w32_z0_8 H locs ls hi32 hS32 hH hS hl
            have hj32 : 81 = i32 := by omega
            subst hj32
            have e_w32_z0_8 := hS32
            refine lv_iload_n hF.1 hF.2.1 dX0_layLengths_32 rfl (lv_at hl 0 rfl) ?_
            refine lv_bipush (v := nI 81) hF.1 hF.2.1 dX0_layLengths_33 (by decide) ?_
            refine n_gt (tgt := 167) hF.1 hF.2.1 dX0_layLengths_35 (by decide) (by omega) (by omega) (fun c2 => ?_) (fun c2 => ?_)
            · skip
              exact hret _ _ _ _ _ dX0_layLengths_167 ⟨_, by subst e_w32_z0_8; subst e_w2_z0_8; rfl, rfl⟩ hH hS
            · exact absurd (by omega) c2
          | succ d32 ih =>
            intro i32 w32_z0_8 H locs ls hi32 hS32 hH hS hl
            refine lv_iload_n hF.1 hF.2.1 dX0_layLengths_32 rfl (lv_at hl 0 rfl) ?_
            refine lv_bipush (v := nI 81) hF.1 hF.2.1 dX0_layLengths_33 (by decide) ?_
            refine n_gt (tgt := 167) hF.1 hF.2.1 dX0_layLengths_35 (by decide) (by omega) (by omega) (fun c3 => ?_) (fun c3 => ?_)
            · exact absurd c3 (by omega)
            · skip
              refine lv_iconst (v := nI 0) hF.1 hF.2.1 dX0_layLengths_38 (by decide) ?_
              refine lv_istore (lv' := [(4, .int (nI 0)), (3, .int (nI (i32 + 1))), (0, .ref (ω.2.1 0 99)), (1, .int (nI pn))]) hF.1 hF.2.1 dX0_layLengths_39 hl (by decide) rfl (fun ls hl => ?_)
              have lp41_75 : ∀ (d41 i41 : Nat) (w41_z0_8 : Nat → Int32) (H : Heap) (locs : List Loc) (ls : Array Slot), i41 + d41 = tn t → w41_z0_8 = it (fX0_layLengths_b41 g a z t pn i32) i41 w32_z0_8 → xH ω (g, y, a, up2 z 0 8 w41_z0_8, dr, pg, t) H → va_S ω.2.2.1 s.heap H locs → lv_has ls 7 [(4, .int (nI i41)), (3, .int (nI (i32 + 1))), (0, .ref (ω.2.1 0 99)), (1, .int (nI pn))] → W p l e rmX0_layLengths s m args below meth c H locs 0 0 QQ (F0 m 41 ls []) := by
                intro d41
                induction d41 with
                | zero =>
                  intro i41 w41_z0_8 H locs ls hi41 hS41 hH hS hl
                  have hj41 : tn t = i41 := by omega
                  subst hj41
                  have e_w41_z0_8 := hS41
                  refine lv_iload hF.1 hF.2.1 dX0_layLengths_41 (lv_at hl 0 rfl) ?_
                  refine lv_aload_n hF.1 hF.2.1 dX0_layLengths_43 rfl (lv_at hl 2 rfl) ?_
                  refine xg0_0 hF hK hH q218 dX0_layLengths_44 ?_
                  refine g_vPi (As := []) (rest := [.int (nI (tn t))]) hF (kJ2_size l ω g y a (up2 z 0 8 w41_z0_8) dr pg t) (lw_V q569 q554 q555 q95 q556) 0 hdJ2_size rfl rfl ⟨Nat.le_of_ble_eq_true rfl, Nat.le_of_ble_eq_true rfl⟩ (x_preVL hK hH) rfl hl.1 rfl (Nat.le_of_ble_eq_true rfl) dX0_layLengths_47 ⟨Nat.zero_le _, Nat.zero_le _⟩ (fun r4 e_r4 => ?_)
                  subst e_r4
                  refine n_top (y := nI (tn t)) rfl ?_
                  refine n_ge (tgt := 161) hF.1 hF.2.1 dX0_layLengths_50 (by decide) (by omega) (by omega) (fun c5 => ?_) (fun c5 => ?_)
                  · skip
                    refine n_iinc (lv' := [(3, .int (nI (i32 + 1 + 1))), (4, .int (nI (tn t))), (0, .ref (ω.2.1 0 99)), (1, .int (nI pn))]) hF.1 hF.2.1 dX0_layLengths_161 hl (k := 1) rfl (by decide) rfl (fun ls hl => ?_)
                    refine lv_goto (tgt := 32) hF.1 hF.2.1 dX0_layLengths_164 (by decide) ?_
                    exact ih (i32 + 1) _ _ _ _ (by omega) (by subst e_w41_z0_8; rw [it_succ (fX0_layLengths_b32 g a z t pn) i32 _, ← hS32]; try rfl) hH hS (lv_sub hl [0, 2, 3] rfl)
                  · exact absurd (by omega) c5
                | succ d41 ih =>
                  intro i41 w41_z0_8 H locs ls hi41 hS41 hH hS hl
                  refine lv_iload hF.1 hF.2.1 dX0_layLengths_41 (lv_at hl 0 rfl) ?_
                  refine lv_aload_n hF.1 hF.2.1 dX0_layLengths_43 rfl (lv_at hl 2 rfl) ?_
                  refine xg0_0 hF hK hH q218 dX0_layLengths_44 ?_
                  refine g_vPi (As := []) (rest := [.int (nI i41)]) hF (kJ2_size l ω g y a (up2 z 0 8 w41_z0_8) dr pg t) (lw_V q569 q554 q555 q95 q556) 0 hdJ2_size rfl rfl ⟨Nat.le_of_ble_eq_true rfl, Nat.le_of_ble_eq_true rfl⟩ (x_preVL hK hH) rfl hl.1 rfl (Nat.le_of_ble_eq_true rfl) dX0_layLengths_47 ⟨Nat.zero_le _, Nat.zero_le _⟩ (fun r6 e_r6 => ?_)
                  subst e_r6
                  refine n_top (y := nI (tn t)) rfl ?_
                  refine n_ge (tgt := 161) hF.1 hF.2.1 dX0_layLengths_50 (by decide) (by omega) (by omega) (fun c7 => ?_) (fun c7 => ?_)
                  · exact absurd c7 (by omega)
                  · skip
                    refine lv_aload_n hF.1 hF.2.1 dX0_layLengths_53 rfl (lv_at hl 2 rfl) ?_
                    refine xg0_0 hF hK hH q218 dX0_layLengths_54 ?_
                    refine lv_iload hF.1 hF.2.1 dX0_layLengths_57 (lv_at hl 0 rfl) ?_
                    refine g_vPr (As := [.int (nI i41)]) (rest := []) hF (kJ2_get l ω g y a (up2 z 0 8 w41_z0_8) dr pg t i41 (by omega)) (lw_V q570 q571 q572 q95 q573) 1 hdJ2_get rfl rfl ⟨Nat.le_of_ble_eq_true rfl, Nat.le_of_ble_eq_true rfl⟩ (x_preVL hK hH) rfl hl.1 rfl (Nat.le_of_ble_eq_true rfl) dX0_layLengths_59 ⟨Nat.zero_le _, Nat.zero_le _⟩ ?_
                    refine x_cast hF hK hH (i := i41) (by omega) q488 dX0_layLengths_62 ?_
                    refine lv_astore (lv' := [(5, .ref (tsa t i41)), (4, .int (nI i41)), (3, .int (nI (i32 + 1))), (0, .ref (ω.2.1 0 99)), (1, .int (nI pn))]) hF.1 hF.2.1 dX0_layLengths_65 hl (by decide) rfl (fun ls hl => ?_)
                    refine lv_iload_n hF.1 hF.2.1 dX0_layLengths_67 rfl (lv_at hl 2 rfl) ?_
                    refine lv_aload hF.1 hF.2.1 dX0_layLengths_68 (lv_at hl 0 rfl) ?_
                    refine xs_g2 hF hK hH (i := i41) (by omega) q450 dX0_layLengths_70 ?_
                    have hst70 := hH.2.2.2.2 i41 (by first | exact hsn | (show _ < tn t; omega))
                    change tk t i41 < 5 ∧ ta t i41 < 8 ∧ tb t i41 < 8 ∧ ¬ ta t i41 = tb t i41 ∧ 1 ≤ tl t i41 ∧ tl t i41 ≤ 9 at hst70
                    refine lv_isub hF.1 hF.2.1 dX0_layLengths_73 ?_
                    refine lv_istore (lv' := [(6, .int ((nI (i32 + 1)) - (nI (tl t i41)))), (5, .ref (tsa t i41)), (4, .int (nI i41)), (3, .int (nI (i32 + 1))), (0, .ref (ω.2.1 0 99)), (1, .int (nI pn))]) hF.1 hF.2.1 dX0_layLengths_74 hl (by decide) rfl (fun ls hl => ?_)
                    refine lv_iload hF.1 hF.2.1 dX0_layLengths_76 (lv_at hl 0 rfl) ?_
                    refine lv_if_lt (tgt := 155) hF.1 hF.2.1 dX0_layLengths_78 (by decide) (fun c8 => ?_) (fun c8 => ?_)
                    · skip
                      refine n_iinc (lv' := [(4, .int (nI (i41 + 1))), (6, .int ((nI (i32 + 1)) - (nI (tl t i41)))), (5, .ref (tsa t i41)), (3, .int (nI (i32 + 1))), (0, .ref (ω.2.1 0 99)), (1, .int (nI pn))]) hF.1 hF.2.1 dX0_layLengths_155 hl (k := 2) rfl (by decide) rfl (fun ls hl => ?_)
                      refine lv_goto (tgt := 41) hF.1 hF.2.1 dX0_layLengths_158 (by decide) ?_
                      exact ih (i41 + 1) _ _ _ _ (by omega) (by rw [it_succ (fX0_layLengths_b41 g a z t pn i32) i41 _, ← hS41]; unfold fX0_layLengths_b41; first | (rw [if_pos c8]; done) | (simp only [if_pos c8])) hH hS (lv_sub hl [0, 3, 4, 5] rfl)
                    · skip
                      have b81 := nsub_lift (by omega) (by omega) c8
                      have b9 : (nI (i32 + 1)) - (nI (tl t i41)) = nI ((i32 + 1) - (tl t i41)) := b81.2
                      refine lv_aload_n hF.1 hF.2.1 dX0_layLengths_81 rfl (lv_at hl 4 rfl) ?_
                      refine lv_iload_n hF.1 hF.2.1 dX0_layLengths_82 rfl (lv_at hl 3 rfl) ?_
                      refine lv_aload hF.1 hF.2.1 dX0_layLengths_83 (lv_at hl 1 rfl) ?_
                      refine xs_g0 hF hK hH (i := i41) (by omega) q443 dX0_layLengths_85 ?_
                      have hst85 := hH.2.2.2.2 i41 (by first | exact hsn | (show _ < tn t; omega))
                      change tk t i41 < 5 ∧ ta t i41 < 8 ∧ tb t i41 < 8 ∧ ¬ ta t i41 = tb t i41 ∧ 1 ≤ tl t i41 ∧ tl t i41 ≤ 9 at hst85
                      refine lv_aload_n hF.1 hF.2.1 dX0_layLengths_88 rfl (lv_at hl 4 rfl) ?_
                      refine xg0_8 hF hK hH q228 dX0_layLengths_89 ?_
                      refine lv_bipush (v := nI 8) hF.1 hF.2.1 dX0_layLengths_92 (by decide) ?_
                      refine lv_iload hF.1 hF.2.1 dX0_layLengths_94 (lv_at hl 0 rfl) ?_
                      refine n_top b9 ?_
                      refine n_imul hF.1 hF.2.1 dX0_layLengths_96 ?_
                      refine lv_aload hF.1 hF.2.1 dX0_layLengths_97 (lv_at hl 1 rfl) ?_
                      refine xs_g1 hF hK hH (i := i41) (by omega) q447 dX0_layLengths_99 ?_
                      have hst99 := hH.2.2.2.2 i41 (by first | exact hsn | (show _ < tn t; omega))
                      change tk t i41 < 5 ∧ ta t i41 < 8 ∧ tb t i41 < 8 ∧ ¬ ta t i41 = tb t i41 ∧ 1 ≤ tl t i41 ∧ tl t i41 ≤ 9 at hst99
                      refine n_iadd hF.1 hF.2.1 dX0_layLengths_102 ?_
                      refine x0_zld hF hK hH 8 (n := 656) rfl rfl (by decide) (by decide) rfl (f := w41_z0_8) (by simp [up2]) (i := (8 * ((i32 + 1) - (tl t i41))) + (tb t i41)) (by omega) (by decide) dX0_layLengths_103 ?_
                      refine lv_aload_n hF.1 hF.2.1 dX0_layLengths_104 rfl (lv_at hl 4 rfl) ?_
                      refine xg0_3 hF hK hH q221 dX0_layLengths_105 ?_
                      refine lv_iload_n hF.1 hF.2.1 dX0_layLengths_108 rfl (lv_at hl 5 rfl) ?_
                      refine lv_iload hF.1 hF.2.1 dX0_layLengths_109 (lv_at hl 2 rfl) ?_
                      refine g_vPi (As := [.int (nI pn), .int (nI i41)]) (rest := [.int (w41_z0_8 ((8 * ((i32 + 1) - (tl t i41))) + (tb t i41))), .int (nI (ta t i41)), .int (nI (i32 + 1)), .ref (ω.2.1 0 99)]) hF (kX1_hurts l ω g y a (up2 z 0 8 w41_z0_8) dr pg t 0 (by decide) pn i41 (by omega) (by omega)) (lw_V q743 q633 q634 q96 q635) 2 hdX1_hurts rfl rfl ⟨Nat.le_of_ble_eq_true rfl, Nat.le_of_ble_eq_true rfl⟩ (x_preV1 (by decide) hK hH) rfl hl.1 rfl (Nat.le_of_ble_eq_true rfl) dX0_layLengths_111 ⟨Nat.zero_le _, Nat.zero_le _⟩ (fun r10 e_r10 => ?_)
                      refine lv_iadd hF.1 hF.2.1 dX0_layLengths_114 ?_
                      refine g_vWv (As := [.int (nI (i32 + 1)), .int (nI (ta t i41)), .int ((w41_z0_8 ((8 * ((i32 + 1) - (tl t i41))) + (tb t i41))) + r10)]) (rest := []) hF (kX0_better l ω g y a (up2 z 0 8 w41_z0_8) dr pg t (i32 + 1) (ta t i41) ((w41_z0_8 ((8 * ((i32 + 1) - (tl t i41))) + (tb t i41))) + r10) (by omega) (by omega)) (lw_V q784 q786 qs26 q92 q787) 3 hdX0_better rfl rfl ⟨Nat.le_of_ble_eq_true rfl, Nat.le_of_ble_eq_true rfl⟩ (x_preV0 hK hH) rfl hl.1 rfl (Nat.le_of_ble_eq_true rfl) dX0_layLengths_115 ⟨Nat.le_of_ble_eq_true rfl, Nat.le_of_ble_eq_true rfl⟩ hS (fun ur11 H locs hqr11 hH hS => ?_)
                      obtain ⟨r11o0, hr11, rfl⟩ := hqr11
                      have e_r11o0 := hr11
                      have hH : xH ω (g, y, a, up2 z 0 8 r11o0, dr, pg, t) H := x_ext (fun _ _ => rfl) (fun _ _ => rfl) (fun _ _ => rfl) (by intro o k; by_cases h0 : o = 0 ∧ k = 8; (obtain ⟨rfl, rfl⟩ := h0; simp [up2]); simp only [up2, if_neg h0]) hH
                      refine lv_aload_n hF.1 hF.2.1 dX0_layLengths_118 rfl (lv_at hl 4 rfl) ?_
                      refine lv_iload_n hF.1 hF.2.1 dX0_layLengths_119 rfl (lv_at hl 3 rfl) ?_
                      refine lv_aload hF.1 hF.2.1 dX0_layLengths_120 (lv_at hl 1 rfl) ?_
                      refine xs_g1 hF hK hH (i := i41) (by omega) q447 dX0_layLengths_122 ?_
                      have hst122 := hH.2.2.2.2 i41 (by first | exact hsn | (show _ < tn t; omega))
                      change tk t i41 < 5 ∧ ta t i41 < 8 ∧ tb t i41 < 8 ∧ ¬ ta t i41 = tb t i41 ∧ 1 ≤ tl t i41 ∧ tl t i41 ≤ 9 at hst122
                      refine lv_aload_n hF.1 hF.2.1 dX0_layLengths_125 rfl (lv_at hl 4 rfl) ?_
                      refine xg0_8 hF hK hH q228 dX0_layLengths_126 ?_
                      refine lv_bipush (v := nI 8) hF.1 hF.2.1 dX0_layLengths_129 (by decide) ?_
                      refine lv_iload hF.1 hF.2.1 dX0_layLengths_131 (lv_at hl 0 rfl) ?_
                      refine n_top b9 ?_
                      refine n_imul hF.1 hF.2.1 dX0_layLengths_133 ?_
                      refine lv_aload hF.1 hF.2.1 dX0_layLengths_134 (lv_at hl 1 rfl) ?_
                      refine xs_g0 hF hK hH (i := i41) (by omega) q443 dX0_layLengths_136 ?_
                      have hst136 := hH.2.2.2.2 i41 (by first | exact hsn | (show _ < tn t; omega))
                      change tk t i41 < 5 ∧ ta t i41 < 8 ∧ tb t i41 < 8 ∧ ¬ ta t i41 = tb t i41 ∧ 1 ≤ tl t i41 ∧ tl t i41 ≤ 9 at hst136
                      refine n_iadd hF.1 hF.2.1 dX0_layLengths_139 ?_
                      refine x0_zld hF hK hH 8 (n := 656) rfl rfl (by decide) (by decide) rfl (f := r11o0) (by simp [up2]) (i := (8 * ((i32 + 1) - (tl t i41))) + (ta t i41)) (by omega) (by decide) dX0_layLengths_140 ?_
                      refine lv_aload_n hF.1 hF.2.1 dX0_layLengths_141 rfl (lv_at hl 4 rfl) ?_
                      refine xg0_3 hF hK hH q221 dX0_layLengths_142 ?_
                      refine lv_iload_n hF.1 hF.2.1 dX0_layLengths_145 rfl (lv_at hl 5 rfl) ?_
                      refine lv_iload hF.1 hF.2.1 dX0_layLengths_146 (lv_at hl 2 rfl) ?_
                      refine g_vPi (As := [.int (nI pn), .int (nI i41)]) (rest := [.int (r11o0 ((8 * ((i32 + 1) - (tl t i41))) + (ta t i41))), .int (nI (tb t i41)), .int (nI (i32 + 1)), .ref (ω.2.1 0 99)]) hF (kX1_hurts l ω g y a (up2 z 0 8 r11o0) dr pg t 0 (by decide) pn i41 (by omega) (by omega)) (lw_V q743 q633 q634 q96 q635) 2 hdX1_hurts rfl rfl ⟨Nat.le_of_ble_eq_true rfl, Nat.le_of_ble_eq_true rfl⟩ (x_preV1 (by decide) hK hH) rfl hl.1 rfl (Nat.le_of_ble_eq_true rfl) dX0_layLengths_148 ⟨Nat.zero_le _, Nat.zero_le _⟩ (fun r12 e_r12 => ?_)
                      refine lv_iadd hF.1 hF.2.1 dX0_layLengths_151 ?_
                      refine g_vWv (As := [.int (nI (i32 + 1)), .int (nI (tb t i41)), .int ((r11o0 ((8 * ((i32 + 1) - (tl t i41))) + (ta t i41))) + r12)]) (rest := []) hF (kX0_better l ω g y a (up2 z 0 8 r11o0) dr pg t (i32 + 1) (tb t i41) ((r11o0 ((8 * ((i32 + 1) - (tl t i41))) + (ta t i41))) + r12) (by omega) (by omega)) (lw_V q784 q786 qs26 q92 q787) 3 hdX0_better rfl rfl ⟨Nat.le_of_ble_eq_true rfl, Nat.le_of_ble_eq_true rfl⟩ (x_preV0 hK hH) rfl hl.1 rfl (Nat.le_of_ble_eq_true rfl) dX0_layLengths_152 ⟨Nat.le_of_ble_eq_true rfl, Nat.le_of_ble_eq_true rfl⟩ hS (fun ur13 H locs hqr13 hH hS => ?_)
                      obtain ⟨r13o0, hr13, rfl⟩ := hqr13
                      have e_r13o0 := hr13
                      have hH : xH ω (g, y, a, up2 z 0 8 r13o0, dr, pg, t) H := x_ext (fun _ _ => rfl) (fun _ _ => rfl) (fun _ _ => rfl) (by intro o k; by_cases h0 : o = 0 ∧ k = 8; (obtain ⟨rfl, rfl⟩ := h0; simp [up2]); simp only [up2, if_neg h0]) hH
                      refine n_iinc (lv' := [(4, .int (nI (i41 + 1))), (6, .int ((nI (i32 + 1)) - (nI (tl t i41)))), (5, .ref (tsa t i41)), (3, .int (nI (i32 + 1))), (0, .ref (ω.2.1 0 99)), (1, .int (nI pn))]) hF.1 hF.2.1 dX0_layLengths_155 hl (k := 2) rfl (by decide) rfl (fun ls hl => ?_)
                      refine lv_goto (tgt := 41) hF.1 hF.2.1 dX0_layLengths_158 (by decide) ?_
                      exact ih (i41 + 1) _ _ _ _ (by omega) (by subst e_r13o0; subst e_r12; subst e_r11o0; subst e_r10; rw [it_succ (fX0_layLengths_b41 g a z t pn i32) i41 _, ← hS41]; unfold fX0_layLengths_b41; first | (rw [if_neg c8]; done) | (simp only [if_neg c8])) hH hS (lv_sub hl [0, 3, 4, 5] rfl)
              exact lp41_75 (tn t) 0 _ _ _ _ (by omega) rfl hH hS (lv_sub hl [0, 1, 2, 3] rfl)
        exact lp32_73 81 0 _ _ _ _ (by omega) rfl hH hS (lv_sub hl [0, 1, 2] rfl)
      · exact absurd (by omega) c1
    | succ d2 ih =>
      intro i2 w2_z0_8 H locs ls hi2 hS2 hH hS hl
      refine lv_iload_n hF.1 hF.2.1 dX0_layLengths_2 rfl (lv_at hl 0 rfl) ?_
      refine lv_sipush (v := nI 656) hF.1 hF.2.1 dX0_layLengths_3 (by decide) ?_
      refine n_ge (tgt := 23) hF.1 hF.2.1 dX0_layLengths_6 (by decide) (by omega) (by omega) (fun c14 => ?_) (fun c14 => ?_)
      · exact absurd c14 (by omega)
      · skip
        refine lv_aload_n hF.1 hF.2.1 dX0_layLengths_9 rfl (lv_at hl 1 rfl) ?_
        refine xg0_8 hF hK hH q228 dX0_layLengths_10 ?_
        refine lv_iload_n hF.1 hF.2.1 dX0_layLengths_13 rfl (lv_at hl 0 rfl) ?_
        refine lv_ldc (v := nI 268435456) hF.1 hF.2.1 hF.2.2.2.1 (hF.2.2.2.2 _ q783) dX0_layLengths_14 ?_
        refine x0_zst (z' := up2 z 0 8 (upd w2_z0_8 i2 (nI 268435456))) hF hK hH hS 8 (n := 656) rfl rfl (by decide) (by decide) rfl (f := w2_z0_8) (by simp [up2]) (i := i2) (by omega) (by decide) dX0_layLengths_16 (by simp [up2]) (by intro i q hq; simp only [up2, if_neg hq]) (fun H locs hH hS => ?_)
        refine n_iinc (lv' := [(3, .int (nI (i2 + 1))), (0, .ref (ω.2.1 0 99)), (1, .int (nI pn)), (2, .int (nI fr))]) hF.1 hF.2.1 dX0_layLengths_17 hl (k := 0) rfl (by decide) rfl (fun ls hl => ?_)
        refine lv_goto (tgt := 2) hF.1 hF.2.1 dX0_layLengths_20 (by decide) ?_
        exact ih (i2 + 1) _ _ _ _ (by omega) (by rw [it_succ fX0_layLengths_b2 i2 _, ← hS2]; try rfl) hH hS (lv_sub hl [0, 1, 2, 3] rfl)
  have hH : xH ω (g, y, a, up2 z 0 8 (z 0 8), dr, pg, t) H := x_ext (fun _ _ => rfl) (fun _ _ => rfl) (fun _ _ => rfl) (by intro o k; by_cases h0 : o = 0 ∧ k = 8; (obtain ⟨rfl, rfl⟩ := h0; simp [up2]); simp only [up2, if_neg h0]) hH
  exact lp2_67 656 0 _ _ _ _ (by omega) rfl hH hS (lv_sub hl [0, 1, 2, 3] rfl)

def fX0_comesBy_b6 (g : Nat → Nat → Nat) (a : Nat → Nat → Nat → Int32) (t : TW) (pn : Nat) (most : Int32) (i6 : Nat) (S : Int32) : Int32 := S ||| (if most < (fX1_hurts g a t 0 pn i6) then nI 0 else (nI 1) <<< ((nI i6) &&& 31))
def fX0_comesBy (g : Nat → Nat → Nat) (a : Nat → Nat → Nat → Int32) (t : TW) (pn : Nat) (fr : Int32) (to : Int32) (most : Int32) : Int32 := (fX0_isIn (fX1_reach t fr (it (fX0_comesBy_b6 g a t pn most) (tn t) (nI 0))) to)
theorem fX0_comesBy_b (g : Nat → Nat → Nat) (a : Nat → Nat → Nat → Int32) (t : TW) (pn : Nat) (fr : Int32) (to : Int32) (most : Int32) : (fX0_comesBy g a t pn fr to most) = 0 ∨ (fX0_comesBy g a t pn fr to most) = 1 := by
  unfold fX0_comesBy
  exact (fX0_isIn_b ..)
def rmX0_comesBy : Room := { frames := 5, cells := 0, slots := 0, locals := 115 }
theorem hdX0_comesBy : yX0_comesBy.cls = RX0 ∧ yX0_comesBy.cls ≠ "java/lang/invoke/MethodHandle" ∧ yX0_comesBy.cls ≠ "java/lang/invoke/VarHandle" ∧ (parseMethodDescriptor yX0_comesBy.desc).map (fun d => d.parameters.length) = some 4 := by decide +kernel
set_option maxHeartbeats 4000000 in
theorem kX0_comesBy (l : Launch) (ω : OM) (g : Nat → Nat → Nat) (y : Nat → Nat → Int32) (a z : Nat → Nat → Nat → Int32) (dr : Int64) (pg : Nat → Int32) (t : TW) (pn : Nat) (fr : Int32) (to : Int32) (most : Int32) (hpn : pn < 3) : Met l yX0_comesBy (ws_ yX0_comesBy cX0_comesBy 7 (some .boolean)) rmX0_comesBy (va_Pc [.ref (ω.2.1 0 99), .int (nI pn), .int fr, .int to, .int most] (fun U => xK ω U ∧ xH ω (g, y, a, z, dr, pg, t) U.heap)) (vp_Si (fun r => r = (fX0_comesBy g a t pn fr to most))) 0 0 (fun _ => False) := by
  refine g_entPz (C := RX0) rfl (by decide) (Nat.le_of_ble_eq_true rfl) ?_
  intro p e s m args below meth c QQ ls hF hKH hl hret
  have hl : lv_has ls 7 [(0, .ref (ω.2.1 0 99)), (1, .int (nI pn)), (2, .int fr), (3, .int to), (4, .int most)] := hl
  obtain ⟨hK, hH⟩ := hKH
  have hn9 : tn t ≤ 9 := hH.2.2.1
  refine lv_iconst (v := nI 0) hF.1 hF.2.1 dX0_comesBy_0 (by decide) ?_
  refine lv_istore (lv' := [(5, .int (nI 0)), (0, .ref (ω.2.1 0 99)), (1, .int (nI pn)), (2, .int fr), (3, .int to), (4, .int most)]) hF.1 hF.2.1 dX0_comesBy_1 hl (by decide) rfl (fun ls hl => ?_)
  refine lv_iconst (v := nI 0) hF.1 hF.2.1 dX0_comesBy_3 (by decide) ?_
  refine lv_istore (lv' := [(6, .int (nI 0)), (5, .int (nI 0)), (0, .ref (ω.2.1 0 99)), (1, .int (nI pn)), (2, .int fr), (3, .int to), (4, .int most)]) hF.1 hF.2.1 dX0_comesBy_4 hl (by decide) rfl (fun ls hl => ?_)
  have lp6_77 : ∀ (d6 i6 : Nat) (x6_5 : Int32) (ls : Array Slot), i6 + d6 = tn t → x6_5 = it (fX0_comesBy_b6 g a t pn most) i6 (nI 0) → lv_has ls 7 [(6, .int (nI i6)), (5, .int x6_5), (0, .ref (ω.2.1 0 99)), (1, .int (nI pn)), (2, .int fr), (3, .int to), (4, .int most)] → W p l e rmX0_comesBy s m args below meth c s.heap [] 0 0 QQ (F0 m 6 ls []) := by
    intro d6
    induction d6 with
    | zero =>
      intro i6 x6_5 ls hi6 hS6 hl
      have hj6 : tn t = i6 := by omega
      subst hj6
      have e_x6_5 := hS6
      refine lv_iload hF.1 hF.2.1 dX0_comesBy_6 (lv_at hl 0 rfl) ?_
      refine lv_aload_n hF.1 hF.2.1 dX0_comesBy_8 rfl (lv_at hl 2 rfl) ?_
      refine xg0_0 hF hK hH q218 dX0_comesBy_9 ?_
      refine g_vPi (As := []) (rest := [.int (nI (tn t))]) hF (kJ2_size l ω g y a z dr pg t) (lw_V q569 q554 q555 q95 q556) 0 hdJ2_size rfl rfl ⟨Nat.le_of_ble_eq_true rfl, Nat.le_of_ble_eq_true rfl⟩ (x_preVL hK hH) rfl hl.1 rfl (Nat.le_of_ble_eq_true rfl) dX0_comesBy_12 ⟨Nat.zero_le _, Nat.zero_le _⟩ (fun r1 e_r1 => ?_)
      subst e_r1
      refine n_top (y := nI (tn t)) rfl ?_
      refine n_ge (tgt := 52) hF.1 hF.2.1 dX0_comesBy_15 (by decide) (by omega) (by omega) (fun c2 => ?_) (fun c2 => ?_)
      · skip
        refine lv_aload_n hF.1 hF.2.1 dX0_comesBy_52 rfl (lv_at hl 2 rfl) ?_
        refine xg0_3 hF hK hH q221 dX0_comesBy_53 ?_
        refine lv_iload_n hF.1 hF.2.1 dX0_comesBy_56 rfl (lv_at hl 4 rfl) ?_
        refine lv_iload hF.1 hF.2.1 dX0_comesBy_57 (lv_at hl 1 rfl) ?_
        refine g_vPi (As := [.int fr, .int x6_5]) (rest := []) hF (kX1_reach l ω g y a z dr pg t 0 (by decide) fr x6_5) (lw_V q809 q810 q811 q96 q812) 2 hdX1_reach rfl rfl ⟨Nat.le_of_ble_eq_true rfl, Nat.le_of_ble_eq_true rfl⟩ (x_preV1 (by decide) hK hH) rfl hl.1 rfl (Nat.le_of_ble_eq_true rfl) dX0_comesBy_59 ⟨Nat.zero_le _, Nat.zero_le _⟩ (fun r3 e_r3 => ?_)
        refine lv_iload_n hF.1 hF.2.1 dX0_comesBy_62 rfl (lv_at hl 5 rfl) ?_
        refine g_sPi (As := [.int r3, .int to]) (rest := []) hF (kX0_isIn l r3 to) (lw_S q718 q626 q92 q627) 2 hdX0_isIn.2 rfl rfl ⟨Nat.le_of_ble_eq_true rfl, Nat.le_of_ble_eq_true rfl⟩ g_pre0 rfl hl.1 rfl (Nat.le_of_ble_eq_true rfl) dX0_comesBy_63 ⟨Nat.zero_le _, Nat.zero_le _⟩ (fun r4 e_r4 => ?_)
        exact hret _ _ _ dX0_comesBy_66 (by subst e_r4; subst e_r3; subst e_x6_5; rfl) (by subst e_r4; subst e_r3; subst e_x6_5; exact (fX0_isIn_b ..))
      · exact absurd (by omega) c2
    | succ d6 ih =>
      intro i6 x6_5 ls hi6 hS6 hl
      refine lv_iload hF.1 hF.2.1 dX0_comesBy_6 (lv_at hl 0 rfl) ?_
      refine lv_aload_n hF.1 hF.2.1 dX0_comesBy_8 rfl (lv_at hl 2 rfl) ?_
      refine xg0_0 hF hK hH q218 dX0_comesBy_9 ?_
      refine g_vPi (As := []) (rest := [.int (nI i6)]) hF (kJ2_size l ω g y a z dr pg t) (lw_V q569 q554 q555 q95 q556) 0 hdJ2_size rfl rfl ⟨Nat.le_of_ble_eq_true rfl, Nat.le_of_ble_eq_true rfl⟩ (x_preVL hK hH) rfl hl.1 rfl (Nat.le_of_ble_eq_true rfl) dX0_comesBy_12 ⟨Nat.zero_le _, Nat.zero_le _⟩ (fun r5 e_r5 => ?_)
      subst e_r5
      refine n_top (y := nI (tn t)) rfl ?_
      refine n_ge (tgt := 52) hF.1 hF.2.1 dX0_comesBy_15 (by decide) (by omega) (by omega) (fun c6 => ?_) (fun c6 => ?_)
      · exact absurd c6 (by omega)
      · skip
        refine lv_iload hF.1 hF.2.1 dX0_comesBy_18 (lv_at hl 1 rfl) ?_
        refine lv_aload_n hF.1 hF.2.1 dX0_comesBy_20 rfl (lv_at hl 2 rfl) ?_
        refine xg0_3 hF hK hH q221 dX0_comesBy_21 ?_
        refine lv_iload_n hF.1 hF.2.1 dX0_comesBy_24 rfl (lv_at hl 3 rfl) ?_
        refine lv_iload hF.1 hF.2.1 dX0_comesBy_25 (lv_at hl 0 rfl) ?_
        refine g_vPi (As := [.int (nI pn), .int (nI i6)]) (rest := [.int x6_5]) hF (kX1_hurts l ω g y a z dr pg t 0 (by decide) pn i6 (by omega) (by omega)) (lw_V q743 q633 q634 q96 q635) 2 hdX1_hurts rfl rfl ⟨Nat.le_of_ble_eq_true rfl, Nat.le_of_ble_eq_true rfl⟩ (x_preV1 (by decide) hK hH) rfl hl.1 rfl (Nat.le_of_ble_eq_true rfl) dX0_comesBy_27 ⟨Nat.zero_le _, Nat.zero_le _⟩ (fun r7 e_r7 => ?_)
        refine lv_iload hF.1 hF.2.1 dX0_comesBy_30 (lv_at hl 6 rfl) ?_
        have k43_10 : ∀ (v9 : Int32) (ls : Array Slot), v9 = (if most < r7 then nI 0 else (nI 1) <<< ((nI i6) &&& 31)) → lv_has ls 7 [(6, .int (nI i6)), (0, .ref (ω.2.1 0 99)), (1, .int (nI pn)), (2, .int fr), (3, .int to), (4, .int most)] → W p l e rmX0_comesBy s m args below meth c s.heap [] 0 0 QQ (F0 m 43 ls [.int v9, .int x6_5]) := by
          intro v9 ls e_v9 hl
          refine lv_ior hF.1 hF.2.1 dX0_comesBy_43 ?_
          refine lv_istore (lv' := [(5, .int (x6_5 ||| v9)), (6, .int (nI i6)), (0, .ref (ω.2.1 0 99)), (1, .int (nI pn)), (2, .int fr), (3, .int to), (4, .int most)]) hF.1 hF.2.1 dX0_comesBy_44 hl (by decide) rfl (fun ls hl => ?_)
          refine n_iinc (lv' := [(6, .int (nI (i6 + 1))), (5, .int (x6_5 ||| v9)), (0, .ref (ω.2.1 0 99)), (1, .int (nI pn)), (2, .int fr), (3, .int to), (4, .int most)]) hF.1 hF.2.1 dX0_comesBy_46 hl (k := 1) rfl (by decide) rfl (fun ls hl => ?_)
          refine lv_goto (tgt := 6) hF.1 hF.2.1 dX0_comesBy_49 (by decide) ?_
          exact ih (i6 + 1) _ _ (by omega) (by subst e_v9; subst e_r7; rw [it_succ (fX0_comesBy_b6 g a t pn most) i6 _, ← hS6]; try rfl) (lv_sub hl [0, 1, 2, 3, 4, 5, 6] rfl)
        refine lv_icmp_gt (tgt := 42) hF.1 hF.2.1 dX0_comesBy_32 (by decide) (fun c8 => ?_) (fun c8 => ?_)
        · skip
          refine lv_iconst (v := nI 0) hF.1 hF.2.1 dX0_comesBy_42 (by decide) ?_
          exact k43_10 _ _ (by first | (rw [if_pos c8]; done) | (simp only [if_pos c8])) (lv_sub hl [0, 2, 3, 4, 5, 6] rfl)
        · skip
          refine lv_iconst (v := nI 1) hF.1 hF.2.1 dX0_comesBy_35 (by decide) ?_
          refine lv_iload hF.1 hF.2.1 dX0_comesBy_36 (lv_at hl 0 rfl) ?_
          refine lv_ishl hF.1 hF.2.1 dX0_comesBy_38 ?_
          refine lv_goto (tgt := 43) hF.1 hF.2.1 dX0_comesBy_39 (by decide) ?_
          exact k43_10 _ _ (by first | (rw [if_neg c8]; done) | (simp only [if_neg c8])) (lv_sub hl [0, 2, 3, 4, 5, 6] rfl)
  exact lp6_77 (tn t) 0 _ _ (by omega) rfl (lv_sub hl [0, 1, 2, 3, 4, 5, 6] rfl)

def fX0_railTold_b16 (g : Nat → Nat → Nat) (a : Nat → Nat → Nat → Int32) (t : TW) (pn : Nat) (fr : Int32) (to : Int32) (i16 : Nat) (S : Int32) : Int32 := if S ≤ (fX1_hurts g a t 0 pn i16) then S else if (fX0_comesBy g a t pn fr to (fX1_hurts g a t 0 pn i16)) = 0 then S else (fX1_hurts g a t 0 pn i16)
def fX0_railTold (g : Nat → Nat → Nat) (a : Nat → Nat → Nat → Int32) (t : TW) (pn : Nat) (fr : Int32) (to : Int32) : Int32 := if (it (fX0_railTold_b16 g a t pn fr to) (tn t) (if fr = to then nI 0 else nI 268435456)) < (nI 268435456) then (it (fX0_railTold_b16 g a t pn fr to) (tn t) (if fr = to then nI 0 else nI 268435456)) else (-1)
def rmX0_railTold : Room := { frames := 6, cells := 0, slots := 0, locals := 141 }
theorem hdX0_railTold : yX0_railTold.cls = RX0 ∧ yX0_railTold.cls ≠ "java/lang/invoke/MethodHandle" ∧ yX0_railTold.cls ≠ "java/lang/invoke/VarHandle" ∧ (parseMethodDescriptor yX0_railTold.desc).map (fun d => d.parameters.length) = some 3 := by decide +kernel
set_option maxHeartbeats 4000000 in
theorem kX0_railTold (l : Launch) (ω : OM) (g : Nat → Nat → Nat) (y : Nat → Nat → Int32) (a z : Nat → Nat → Nat → Int32) (dr : Int64) (pg : Nat → Int32) (t : TW) (pn : Nat) (fr : Int32) (to : Int32) (hpn : pn < 3) : Met l yX0_railTold (ws_ yX0_railTold cX0_railTold 7 (some .int)) rmX0_railTold (va_Pc [.ref (ω.2.1 0 99), .int (nI pn), .int fr, .int to] (fun U => xK ω U ∧ xH ω (g, y, a, z, dr, pg, t) U.heap)) (vp_Si (fun r => r = (fX0_railTold g a t pn fr to))) 0 0 (fun _ => False) := by
  refine g_entPi (C := RX0) rfl (by decide) (Nat.le_of_ble_eq_true rfl) ?_
  intro p e s m args below meth c QQ ls hF hKH hl hret
  have hl : lv_has ls 7 [(0, .ref (ω.2.1 0 99)), (1, .int (nI pn)), (2, .int fr), (3, .int to)] := hl
  obtain ⟨hK, hH⟩ := hKH
  have hn9 : tn t ≤ 9 := hH.2.2.1
  refine lv_iload_n hF.1 hF.2.1 dX0_railTold_0 rfl (lv_at hl 2 rfl) ?_
  refine lv_iload_n hF.1 hF.2.1 dX0_railTold_1 rfl (lv_at hl 3 rfl) ?_
  have k11_3 : ∀ (v2 : Int32) (ls : Array Slot), v2 = (if fr = to then nI 0 else nI 268435456) → lv_has ls 7 [(0, .ref (ω.2.1 0 99)), (1, .int (nI pn)), (2, .int fr), (3, .int to)] → W p l e rmX0_railTold s m args below meth c s.heap [] 0 0 QQ (F0 m 11 ls [.int v2]) := by
    intro v2 ls e_v2 hl
    refine lv_istore (lv' := [(4, .int v2), (0, .ref (ω.2.1 0 99)), (1, .int (nI pn)), (2, .int fr), (3, .int to)]) hF.1 hF.2.1 dX0_railTold_11 hl (by decide) rfl (fun ls hl => ?_)
    refine lv_iconst (v := nI 0) hF.1 hF.2.1 dX0_railTold_13 (by decide) ?_
    refine lv_istore (lv' := [(5, .int (nI 0)), (4, .int v2), (0, .ref (ω.2.1 0 99)), (1, .int (nI pn)), (2, .int fr), (3, .int to)]) hF.1 hF.2.1 dX0_railTold_14 hl (by decide) rfl (fun ls hl => ?_)
    have lp16_79 : ∀ (d16 i16 : Nat) (x16_4 : Int32) (ls : Array Slot), i16 + d16 = tn t → x16_4 = it (fX0_railTold_b16 g a t pn fr to) i16 v2 → lv_has ls 7 [(5, .int (nI i16)), (4, .int x16_4), (0, .ref (ω.2.1 0 99)), (1, .int (nI pn)), (2, .int fr), (3, .int to)] → W p l e rmX0_railTold s m args below meth c s.heap [] 0 0 QQ (F0 m 16 ls []) := by
      intro d16
      induction d16 with
      | zero =>
        intro i16 x16_4 ls hi16 hS16 hl
        have hj16 : tn t = i16 := by omega
        subst hj16
        have e_x16_4 := hS16
        refine lv_iload hF.1 hF.2.1 dX0_railTold_16 (lv_at hl 0 rfl) ?_
        refine lv_aload_n hF.1 hF.2.1 dX0_railTold_18 rfl (lv_at hl 2 rfl) ?_
        refine xg0_0 hF hK hH q218 dX0_railTold_19 ?_
        refine g_vPi (As := []) (rest := [.int (nI (tn t))]) hF (kJ2_size l ω g y a z dr pg t) (lw_V q569 q554 q555 q95 q556) 0 hdJ2_size rfl rfl ⟨Nat.le_of_ble_eq_true rfl, Nat.le_of_ble_eq_true rfl⟩ (x_preVL hK hH) rfl hl.1 rfl (Nat.le_of_ble_eq_true rfl) dX0_railTold_22 ⟨Nat.zero_le _, Nat.zero_le _⟩ (fun r4 e_r4 => ?_)
        subst e_r4
        refine n_top (y := nI (tn t)) rfl ?_
        refine n_ge (tgt := 74) hF.1 hF.2.1 dX0_railTold_25 (by decide) (by omega) (by omega) (fun c5 => ?_) (fun c5 => ?_)
        · skip
          refine lv_iload hF.1 hF.2.1 dX0_railTold_74 (lv_at hl 1 rfl) ?_
          refine lv_ldc (v := nI 268435456) hF.1 hF.2.1 hF.2.2.2.1 (hF.2.2.2.2 _ q783) dX0_railTold_76 ?_
          refine lv_icmp_lt (tgt := 85) hF.1 hF.2.1 dX0_railTold_78 (by decide) (fun c6 => ?_) (fun c6 => ?_)
          · skip
            refine lv_iload hF.1 hF.2.1 dX0_railTold_85 (lv_at hl 1 rfl) ?_
            exact hret _ _ _ dX0_railTold_87 (by subst e_x16_4; subst e_v2; unfold fX0_railTold; first | (rw [if_pos c6]; done) | (simp only [if_pos c6]))
          · skip
            refine lv_iconst (v := (-1)) hF.1 hF.2.1 dX0_railTold_81 (by decide) ?_
            refine lv_goto (tgt := 87) hF.1 hF.2.1 dX0_railTold_82 (by decide) ?_
            exact hret _ _ _ dX0_railTold_87 (by subst e_x16_4; subst e_v2; unfold fX0_railTold; first | (rw [if_neg c6]; done) | (simp only [if_neg c6]))
        · exact absurd (by omega) c5
      | succ d16 ih =>
        intro i16 x16_4 ls hi16 hS16 hl
        refine lv_iload hF.1 hF.2.1 dX0_railTold_16 (lv_at hl 0 rfl) ?_
        refine lv_aload_n hF.1 hF.2.1 dX0_railTold_18 rfl (lv_at hl 2 rfl) ?_
        refine xg0_0 hF hK hH q218 dX0_railTold_19 ?_
        refine g_vPi (As := []) (rest := [.int (nI i16)]) hF (kJ2_size l ω g y a z dr pg t) (lw_V q569 q554 q555 q95 q556) 0 hdJ2_size rfl rfl ⟨Nat.le_of_ble_eq_true rfl, Nat.le_of_ble_eq_true rfl⟩ (x_preVL hK hH) rfl hl.1 rfl (Nat.le_of_ble_eq_true rfl) dX0_railTold_22 ⟨Nat.zero_le _, Nat.zero_le _⟩ (fun r7 e_r7 => ?_)
        subst e_r7
        refine n_top (y := nI (tn t)) rfl ?_
        refine n_ge (tgt := 74) hF.1 hF.2.1 dX0_railTold_25 (by decide) (by omega) (by omega) (fun c8 => ?_) (fun c8 => ?_)
        · exact absurd c8 (by omega)
        · skip
          refine lv_aload_n hF.1 hF.2.1 dX0_railTold_28 rfl (lv_at hl 2 rfl) ?_
          refine xg0_3 hF hK hH q221 dX0_railTold_29 ?_
          refine lv_iload_n hF.1 hF.2.1 dX0_railTold_32 rfl (lv_at hl 3 rfl) ?_
          refine lv_iload hF.1 hF.2.1 dX0_railTold_33 (lv_at hl 0 rfl) ?_
          refine g_vPi (As := [.int (nI pn), .int (nI i16)]) (rest := []) hF (kX1_hurts l ω g y a z dr pg t 0 (by decide) pn i16 (by omega) (by omega)) (lw_V q743 q633 q634 q96 q635) 2 hdX1_hurts rfl rfl ⟨Nat.le_of_ble_eq_true rfl, Nat.le_of_ble_eq_true rfl⟩ (x_preV1 (by decide) hK hH) rfl hl.1 rfl (Nat.le_of_ble_eq_true rfl) dX0_railTold_35 ⟨Nat.zero_le _, Nat.zero_le _⟩ (fun r9 e_r9 => ?_)
          refine lv_istore (lv' := [(6, .int r9), (5, .int (nI i16)), (4, .int x16_4), (0, .ref (ω.2.1 0 99)), (1, .int (nI pn)), (2, .int fr), (3, .int to)]) hF.1 hF.2.1 dX0_railTold_38 hl (by decide) rfl (fun ls hl => ?_)
          refine lv_iload hF.1 hF.2.1 dX0_railTold_40 (lv_at hl 0 rfl) ?_
          refine lv_iload hF.1 hF.2.1 dX0_railTold_42 (lv_at hl 2 rfl) ?_
          refine lv_icmp_ge (tgt := 64) hF.1 hF.2.1 dX0_railTold_44 (by decide) (fun c10 => ?_) (fun c10 => ?_)
          · skip
            refine lv_iload hF.1 hF.2.1 dX0_railTold_64 (lv_at hl 2 rfl) ?_
            refine lv_istore (lv' := [(4, .int x16_4), (6, .int r9), (5, .int (nI i16)), (0, .ref (ω.2.1 0 99)), (1, .int (nI pn)), (2, .int fr), (3, .int to)]) hF.1 hF.2.1 dX0_railTold_66 hl (by decide) rfl (fun ls hl => ?_)
            refine n_iinc (lv' := [(5, .int (nI (i16 + 1))), (4, .int x16_4), (6, .int r9), (0, .ref (ω.2.1 0 99)), (1, .int (nI pn)), (2, .int fr), (3, .int to)]) hF.1 hF.2.1 dX0_railTold_68 hl (k := 2) rfl (by decide) rfl (fun ls hl => ?_)
            refine lv_goto (tgt := 16) hF.1 hF.2.1 dX0_railTold_71 (by decide) ?_
            exact ih (i16 + 1) _ _ (by omega) (by subst e_r9; rw [it_succ (fX0_railTold_b16 g a t pn fr to) i16 _, ← hS16]; unfold fX0_railTold_b16; first | (rw [if_pos c10]; done) | (simp only [if_pos c10])) (lv_sub hl [0, 1, 3, 4, 5, 6] rfl)
          · skip
            refine lv_aload_n hF.1 hF.2.1 dX0_railTold_47 rfl (lv_at hl 3 rfl) ?_
            refine lv_iload_n hF.1 hF.2.1 dX0_railTold_48 rfl (lv_at hl 4 rfl) ?_
            refine lv_iload_n hF.1 hF.2.1 dX0_railTold_49 rfl (lv_at hl 5 rfl) ?_
            refine lv_iload_n hF.1 hF.2.1 dX0_railTold_50 rfl (lv_at hl 6 rfl) ?_
            refine lv_iload hF.1 hF.2.1 dX0_railTold_51 (lv_at hl 0 rfl) ?_
            refine g_vPi (As := [.int (nI pn), .int fr, .int to, .int r9]) (rest := []) hF (kX0_comesBy l ω g y a z dr pg t pn fr to r9 (by omega)) (lw_V q805 q807 qs29 q92 q808) 4 hdX0_comesBy rfl rfl ⟨Nat.le_of_ble_eq_true rfl, Nat.le_of_ble_eq_true rfl⟩ (x_preV0 hK hH) rfl hl.1 rfl (Nat.le_of_ble_eq_true rfl) dX0_railTold_53 ⟨Nat.zero_le _, Nat.zero_le _⟩ (fun r11 e_r11 => ?_)
            refine lv_if_eq (tgt := 64) hF.1 hF.2.1 dX0_railTold_56 (by decide) (fun c12 => ?_) (fun c12 => ?_)
            · skip
              refine lv_iload hF.1 hF.2.1 dX0_railTold_64 (lv_at hl 2 rfl) ?_
              refine lv_istore (lv' := [(4, .int x16_4), (6, .int r9), (5, .int (nI i16)), (0, .ref (ω.2.1 0 99)), (1, .int (nI pn)), (2, .int fr), (3, .int to)]) hF.1 hF.2.1 dX0_railTold_66 hl (by decide) rfl (fun ls hl => ?_)
              refine n_iinc (lv' := [(5, .int (nI (i16 + 1))), (4, .int x16_4), (6, .int r9), (0, .ref (ω.2.1 0 99)), (1, .int (nI pn)), (2, .int fr), (3, .int to)]) hF.1 hF.2.1 dX0_railTold_68 hl (k := 2) rfl (by decide) rfl (fun ls hl => ?_)
              refine lv_goto (tgt := 16) hF.1 hF.2.1 dX0_railTold_71 (by decide) ?_
              exact ih (i16 + 1) _ _ (by omega) (by subst e_r11; subst e_r9; rw [it_succ (fX0_railTold_b16 g a t pn fr to) i16 _, ← hS16]; unfold fX0_railTold_b16; first | (rw [if_neg c10, if_pos c12]; done) | (simp only [if_neg c10, if_pos c12])) (lv_sub hl [0, 1, 3, 4, 5, 6] rfl)
            · skip
              refine lv_iload hF.1 hF.2.1 dX0_railTold_59 (lv_at hl 0 rfl) ?_
              refine lv_goto (tgt := 66) hF.1 hF.2.1 dX0_railTold_61 (by decide) ?_
              refine lv_istore (lv' := [(4, .int r9), (6, .int r9), (5, .int (nI i16)), (0, .ref (ω.2.1 0 99)), (1, .int (nI pn)), (2, .int fr), (3, .int to)]) hF.1 hF.2.1 dX0_railTold_66 hl (by decide) rfl (fun ls hl => ?_)
              refine n_iinc (lv' := [(5, .int (nI (i16 + 1))), (4, .int r9), (6, .int r9), (0, .ref (ω.2.1 0 99)), (1, .int (nI pn)), (2, .int fr), (3, .int to)]) hF.1 hF.2.1 dX0_railTold_68 hl (k := 2) rfl (by decide) rfl (fun ls hl => ?_)
              refine lv_goto (tgt := 16) hF.1 hF.2.1 dX0_railTold_71 (by decide) ?_
              exact ih (i16 + 1) _ _ (by omega) (by subst e_r11; subst e_r9; rw [it_succ (fX0_railTold_b16 g a t pn fr to) i16 _, ← hS16]; unfold fX0_railTold_b16; first | (rw [if_neg c10, if_neg c12]; done) | (simp only [if_neg c10, if_neg c12])) (lv_sub hl [0, 1, 3, 4, 5, 6] rfl)
    exact lp16_79 (tn t) 0 _ _ (by omega) rfl (lv_sub hl [0, 1, 2, 3, 4, 5] rfl)
  refine lv_icmp_ne (tgt := 9) hF.1 hF.2.1 dX0_railTold_2 (by decide) (fun c1 => ?_) (fun c1 => ?_)
  · skip
    refine lv_ldc (v := nI 268435456) hF.1 hF.2.1 hF.2.2.2.1 (hF.2.2.2.2 _ q783) dX0_railTold_9 ?_
    exact k11_3 _ _ (by first | (rw [if_neg c1]; done) | (simp only [if_neg c1])) (lv_sub hl [0, 1, 2, 3] rfl)
  · skip
    refine lv_iconst (v := nI 0) hF.1 hF.2.1 dX0_railTold_5 (by decide) ?_
    refine lv_goto (tgt := 11) hF.1 hF.2.1 dX0_railTold_6 (by decide) ?_
    exact k11_3 _ _ (by first | (rw [if_pos c1]; done) | (simp only [if_pos c1])) (lv_sub hl [0, 1, 2, 3] rfl)

def fX0_rail (g : Nat → Nat → Nat) (a : Nat → Nat → Nat → Int32) (t : TW) (pn : Int32) (fr : Int32) (to : Int32) : Int32 := if (fX0_isWay g pn fr to) = 0 then (-101) else (fX0_railTold g a t (toN pn) fr to)
def rmX0_rail : Room := { frames := 7, cells := 0, slots := 0, locals := 167 }
theorem hdX0_rail : yX0_rail.cls = RX0 ∧ yX0_rail.cls ≠ "java/lang/invoke/MethodHandle" ∧ yX0_rail.cls ≠ "java/lang/invoke/VarHandle" ∧ (parseMethodDescriptor yX0_rail.desc).map (fun d => d.parameters.length) = some 3 := by decide +kernel
set_option maxHeartbeats 4000000 in
theorem kX0_rail (l : Launch) (ω : OM) (g : Nat → Nat → Nat) (y : Nat → Nat → Int32) (a z : Nat → Nat → Nat → Int32) (dr : Int64) (pg : Nat → Int32) (t : TW) (pn : Int32) (fr : Int32) (to : Int32) (hp3 : g 0 1 ≤ 3) : Met l yX0_rail (ws_ yX0_rail cX0_rail 4 (some .int)) rmX0_rail (va_Pc [.ref (ω.2.1 0 99), .int pn, .int fr, .int to] (fun U => xK ω U ∧ xH ω (g, y, a, z, dr, pg, t) U.heap)) (vp_Si (fun r => r = (fX0_rail g a t pn fr to))) 0 0 (fun _ => False) := by
  refine g_entPi (C := RX0) rfl (by decide) (Nat.le_of_ble_eq_true rfl) ?_
  intro p e s m args below meth c QQ ls hF hKH hl hret
  have hl : lv_has ls 4 [(0, .ref (ω.2.1 0 99)), (1, .int pn), (2, .int fr), (3, .int to)] := hl
  obtain ⟨hK, hH⟩ := hKH
  have hn9 : tn t ≤ 9 := hH.2.2.1
  refine lv_aload_n hF.1 hF.2.1 dX0_rail_0 rfl (lv_at hl 0 rfl) ?_
  refine lv_iload_n hF.1 hF.2.1 dX0_rail_1 rfl (lv_at hl 1 rfl) ?_
  refine lv_iload_n hF.1 hF.2.1 dX0_rail_2 rfl (lv_at hl 2 rfl) ?_
  refine lv_iload_n hF.1 hF.2.1 dX0_rail_3 rfl (lv_at hl 3 rfl) ?_
  refine g_vPi (As := [.int pn, .int fr, .int to]) (rest := []) hF (kX0_isWay l ω g y a z dr pg t pn fr to) (lw_V q760 q762 qs22 q92 q763) 3 hdX0_isWay rfl rfl ⟨Nat.le_of_ble_eq_true rfl, Nat.le_of_ble_eq_true rfl⟩ (x_preV0 hK hH) rfl hl.1 rfl (Nat.le_of_ble_eq_true rfl) dX0_rail_4 ⟨Nat.zero_le _, Nat.zero_le _⟩ (fun r1 e_r1 => ?_)
  refine lv_if_eq (tgt := 20) hF.1 hF.2.1 dX0_rail_7 (by decide) (fun c2 => ?_) (fun c2 => ?_)
  · skip
    refine lv_bipush (v := (-101)) hF.1 hF.2.1 dX0_rail_20 (by decide) ?_
    exact hret _ _ _ dX0_rail_22 (by subst e_r1; unfold fX0_rail; first | (rw [if_pos c2]; done) | (simp only [if_pos c2]))
  · skip
    obtain ⟨b3e, b3l⟩ := g_lift (r := pn) (n := 3) (xWay_lift hp3 (by rw [← e_r1]; exact c2)) (by omega)
    refine lv_aload_n hF.1 hF.2.1 dX0_rail_10 rfl (lv_at hl 0 rfl) ?_
    refine lv_iload_n hF.1 hF.2.1 dX0_rail_11 rfl (lv_at hl 1 rfl) ?_
    refine n_top b3e ?_
    refine lv_iload_n hF.1 hF.2.1 dX0_rail_12 rfl (lv_at hl 2 rfl) ?_
    refine lv_iload_n hF.1 hF.2.1 dX0_rail_13 rfl (lv_at hl 3 rfl) ?_
    refine g_vPi (As := [.int (nI (toN pn)), .int fr, .int to]) (rest := []) hF (kX0_railTold l ω g y a z dr pg t (toN pn) fr to (by omega)) (lw_V q801 q803 qs28 q92 q804) 3 hdX0_railTold rfl rfl ⟨Nat.le_of_ble_eq_true rfl, Nat.le_of_ble_eq_true rfl⟩ (x_preV0 hK hH) rfl hl.1 rfl (Nat.le_of_ble_eq_true rfl) dX0_rail_14 ⟨Nat.zero_le _, Nat.zero_le _⟩ (fun r4 e_r4 => ?_)
    refine lv_goto (tgt := 22) hF.1 hF.2.1 dX0_rail_17 (by decide) ?_
    exact hret _ _ _ dX0_rail_22 (by subst e_r4; subst e_r1; unfold fX0_rail; first | (rw [if_neg c2]; done) | (simp only [if_neg c2]))

