/-! CLASS: copies of states, ways -/
set_option maxRecDepth 100000
def fX1_become_1_0_b101 (a : Nat → Nat → Nat → Int32) (i101 : Nat) (S : (Nat → Int32) × (Nat → Int32) × (Nat → Int32)) : (Nat → Int32) × (Nat → Int32) × (Nat → Int32) := (upd S.1 i101 (a (0 + 6) 6 i101), upd S.2.1 i101 (a (0 + 6) 7 i101), upd S.2.2 i101 (a (0 + 6) 8 i101))
def fX1_become_1_0_b28 (a : Nat → Nat → Nat → Int32) (i28 : Nat) (S : (Nat → Int32) × (Nat → Int32) × (Nat → Int32) × (Nat → Int32) × (Nat → Int32)) : (Nat → Int32) × (Nat → Int32) × (Nat → Int32) × (Nat → Int32) × (Nat → Int32) := (upd S.1 i28 (a (0 + 6) 0 i28), upd S.2.1 i28 (a (0 + 6) 2 i28), upd S.2.2.1 i28 (a (0 + 6) 3 i28), upd S.2.2.2.1 i28 (a (0 + 6) 4 i28), upd S.2.2.2.2 i28 (a (0 + 6) 5 i28))
def fX1_become_1_0_b2 (a : Nat → Nat → Nat → Int32) (i2 : Nat) (S : (Nat → Int32)) : (Nat → Int32) := upd S i2 (a (0 + 6) 1 i2)
def fX1_become_1_0 (g : Nat → Nat → Nat) (a : Nat → Nat → Nat → Int32) : (Nat → Int32) × (Nat → Int32) × (Nat → Int32) × (Nat → Int32) × (Nat → Int32) × (Nat → Int32) × (Nat → Int32) × (Nat → Int32) × (Nat → Int32) × Nat := (((it (fX1_become_1_0_b28 a) 3 (a (1 + 6) 0, a (1 + 6) 2, a (1 + 6) 3, a (1 + 6) 4, a (1 + 6) 5)).1), (it (fX1_become_1_0_b2 a) 27 (a (1 + 6) 1)), ((it (fX1_become_1_0_b28 a) 3 (a (1 + 6) 0, a (1 + 6) 2, a (1 + 6) 3, a (1 + 6) 4, a (1 + 6) 5)).2.1), ((it (fX1_become_1_0_b28 a) 3 (a (1 + 6) 0, a (1 + 6) 2, a (1 + 6) 3, a (1 + 6) 4, a (1 + 6) 5)).2.2.1), ((it (fX1_become_1_0_b28 a) 3 (a (1 + 6) 0, a (1 + 6) 2, a (1 + 6) 3, a (1 + 6) 4, a (1 + 6) 5)).2.2.2.1), ((it (fX1_become_1_0_b28 a) 3 (a (1 + 6) 0, a (1 + 6) 2, a (1 + 6) 3, a (1 + 6) 4, a (1 + 6) 5)).2.2.2.2), ((it (fX1_become_1_0_b101 a) 2 (a (1 + 6) 6, a (1 + 6) 7, a (1 + 6) 8)).1), ((it (fX1_become_1_0_b101 a) 2 (a (1 + 6) 6, a (1 + 6) 7, a (1 + 6) 8)).2.1), ((it (fX1_become_1_0_b101 a) 2 (a (1 + 6) 6, a (1 + 6) 7, a (1 + 6) 8)).2.2), g (0 + 6) 9)
def rmX1_become_1_0 : Room := { frames := 1, cells := 0, slots := 0, locals := 24 }
theorem hdX1_become_1_0 : yX1_become.cls = RX1 ∧ yX1_become.cls ≠ "java/lang/invoke/MethodHandle" ∧ yX1_become.cls ≠ "java/lang/invoke/VarHandle" ∧ (parseMethodDescriptor yX1_become.desc).map (fun d => d.parameters.length) = some 1 := by decide +kernel
set_option maxHeartbeats 4000000 in
theorem kX1_become_1_0 (l : Launch) (ω : OM) (g : Nat → Nat → Nat) (y : Nat → Nat → Int32) (a z : Nat → Nat → Nat → Int32) (dr : Int64) (pg : Nat → Int32) (t : TW) : Met l yX1_become (ws_ yX1_become cX1_become 3 none) rmX1_become_1_0 (va_Pc [.ref (ω.2.1 (1 + 6) 99), .ref (ω.2.1 (0 + 6) 99)] (fun U => xK ω U ∧ xH ω (g, y, a, z, dr, pg, t) U.heap)) (va_Qv (fun (u : XS) => ∃ (o0 : Nat → Int32) (o1 : Nat → Int32) (o2 : Nat → Int32) (o3 : Nat → Int32) (o4 : Nat → Int32) (o5 : Nat → Int32) (o6 : Nat → Int32) (o7 : Nat → Int32) (o8 : Nat → Int32) (o9 : Nat), (o0, o1, o2, o3, o4, o5, o6, o7, o8, o9) = (fX1_become_1_0 g a) ∧ u = (up2 g (1 + 6) 9 o9, y, up2 (up2 (up2 (up2 (up2 (up2 (up2 (up2 (up2 a (1 + 6) 0 o0) (1 + 6) 1 o1) (1 + 6) 2 o2) (1 + 6) 3 o3) (1 + 6) 4 o4) (1 + 6) 5 o5) (1 + 6) 6 o6) (1 + 6) 7 o7) (1 + 6) 8 o8, z, dr, pg, t)) (fun u t => xH ω u t.heap) ω.2.2.1) 0 0 ω.2.2.1 := by
  refine g_entWv (C := RX1) rfl (by decide) (Nat.le_of_ble_eq_true rfl) ?_
  intro p e s m args below meth c QQ ls H locs hF hK hH hS hl hret
  have hl : lv_has ls 3 [(0, .ref (ω.2.1 (1 + 6) 99)), (1, .ref (ω.2.1 (0 + 6) 99))] := hl
  have hn9 : tn t ≤ 9 := hH.2.2.1
  refine lv_iconst (v := nI 0) hF.1 hF.2.1 dX1_become_0 (by decide) ?_
  refine lv_istore_n (lv' := [(2, .int (nI 0)), (0, .ref (ω.2.1 (1 + 6) 99)), (1, .ref (ω.2.1 (0 + 6) 99))]) hF.1 hF.2.1 dX1_become_1 rfl hl (by decide) rfl (fun ls hl => ?_)
  have lp2_16 : ∀ (d2 i2 : Nat) (w2_a_1_6_1 : Nat → Int32) (H : Heap) (locs : List Loc) (ls : Array Slot), i2 + d2 = 27 → w2_a_1_6_1 = it (fX1_become_1_0_b2 a) i2 (a (1 + 6) 1) → xH ω (g, y, up2 a (1 + 6) 1 w2_a_1_6_1, z, dr, pg, t) H → va_S ω.2.2.1 s.heap H locs → lv_has ls 3 [(2, .int (nI i2)), (0, .ref (ω.2.1 (1 + 6) 99)), (1, .ref (ω.2.1 (0 + 6) 99))] → W p l e rmX1_become_1_0 s m args below meth c H locs 0 0 QQ (F0 m 2 ls []) := by
    intro d2
    induction d2 with
    | zero =>
      intro i2 w2_a_1_6_1 H locs ls hi2 hS2 hH hS hl
      have hj2 : 27 = i2 := by omega
      subst hj2
      have e_w2_a_1_6_1 := hS2
      refine lv_iload_n hF.1 hF.2.1 dX1_become_2 rfl (lv_at hl 0 rfl) ?_
      refine lv_bipush (v := nI 27) hF.1 hF.2.1 dX1_become_3 (by decide) ?_
      refine n_ge (tgt := 26) hF.1 hF.2.1 dX1_become_5 (by decide) (by omega) (by omega) (fun c1 => ?_) (fun c1 => ?_)
      · skip
        refine lv_iconst (v := nI 0) hF.1 hF.2.1 dX1_become_26 (by decide) ?_
        refine lv_istore_n (lv' := [(2, .int (nI 0)), (0, .ref (ω.2.1 (1 + 6) 99)), (1, .ref (ω.2.1 (0 + 6) 99))]) hF.1 hF.2.1 dX1_become_27 rfl hl (by decide) rfl (fun ls hl => ?_)
        have lp28_18 : ∀ (d28 i28 : Nat) (w28_a_1_6_0 : Nat → Int32) (w28_a_1_6_2 : Nat → Int32) (w28_a_1_6_3 : Nat → Int32) (w28_a_1_6_4 : Nat → Int32) (w28_a_1_6_5 : Nat → Int32) (H : Heap) (locs : List Loc) (ls : Array Slot), i28 + d28 = 3 → (w28_a_1_6_0, w28_a_1_6_2, w28_a_1_6_3, w28_a_1_6_4, w28_a_1_6_5) = it (fX1_become_1_0_b28 a) i28 (a (1 + 6) 0, a (1 + 6) 2, a (1 + 6) 3, a (1 + 6) 4, a (1 + 6) 5) → xH ω (g, y, up2 (up2 (up2 (up2 (up2 (up2 a (1 + 6) 0 w28_a_1_6_0) (1 + 6) 1 w2_a_1_6_1) (1 + 6) 2 w28_a_1_6_2) (1 + 6) 3 w28_a_1_6_3) (1 + 6) 4 w28_a_1_6_4) (1 + 6) 5 w28_a_1_6_5, z, dr, pg, t) H → va_S ω.2.2.1 s.heap H locs → lv_has ls 3 [(2, .int (nI i28)), (0, .ref (ω.2.1 (1 + 6) 99)), (1, .ref (ω.2.1 (0 + 6) 99))] → W p l e rmX1_become_1_0 s m args below meth c H locs 0 0 QQ (F0 m 28 ls []) := by
          intro d28
          induction d28 with
          | zero =>
            intro i28 w28_a_1_6_0 w28_a_1_6_2 w28_a_1_6_3 w28_a_1_6_4 w28_a_1_6_5 H locs ls hi28 hS28 hH hS hl
            have hj28 : 3 = i28 := by omega
            subst hj28
            have e_w28_a_1_6_0 : w28_a_1_6_0 = (it (fX1_become_1_0_b28 a) 3 (a (1 + 6) 0, a (1 + 6) 2, a (1 + 6) 3, a (1 + 6) 4, a (1 + 6) 5)).1 := by rw [← hS28]
            have e_w28_a_1_6_2 : w28_a_1_6_2 = (it (fX1_become_1_0_b28 a) 3 (a (1 + 6) 0, a (1 + 6) 2, a (1 + 6) 3, a (1 + 6) 4, a (1 + 6) 5)).2.1 := by rw [← hS28]
            have e_w28_a_1_6_3 : w28_a_1_6_3 = (it (fX1_become_1_0_b28 a) 3 (a (1 + 6) 0, a (1 + 6) 2, a (1 + 6) 3, a (1 + 6) 4, a (1 + 6) 5)).2.2.1 := by rw [← hS28]
            have e_w28_a_1_6_4 : w28_a_1_6_4 = (it (fX1_become_1_0_b28 a) 3 (a (1 + 6) 0, a (1 + 6) 2, a (1 + 6) 3, a (1 + 6) 4, a (1 + 6) 5)).2.2.2.1 := by rw [← hS28]
            have e_w28_a_1_6_5 : w28_a_1_6_5 = (it (fX1_become_1_0_b28 a) 3 (a (1 + 6) 0, a (1 + 6) 2, a (1 + 6) 3, a (1 + 6) 4, a (1 + 6) 5)).2.2.2.2 := by rw [← hS28]
            refine lv_iload_n hF.1 hF.2.1 dX1_become_28 rfl (lv_at hl 0 rfl) ?_
            refine lv_iconst (v := nI 3) hF.1 hF.2.1 dX1_become_29 (by decide) ?_
            refine n_ge (tgt := 99) hF.1 hF.2.1 dX1_become_30 (by decide) (by omega) (by omega) (fun c2 => ?_) (fun c2 => ?_)
            · skip
              refine lv_iconst (v := nI 0) hF.1 hF.2.1 dX1_become_99 (by decide) ?_
              refine lv_istore_n (lv' := [(2, .int (nI 0)), (0, .ref (ω.2.1 (1 + 6) 99)), (1, .ref (ω.2.1 (0 + 6) 99))]) hF.1 hF.2.1 dX1_become_100 rfl hl (by decide) rfl (fun ls hl => ?_)
              have lp101_20 : ∀ (d101 i101 : Nat) (w101_a_1_6_6 : Nat → Int32) (w101_a_1_6_7 : Nat → Int32) (w101_a_1_6_8 : Nat → Int32) (H : Heap) (locs : List Loc) (ls : Array Slot), i101 + d101 = 2 → (w101_a_1_6_6, w101_a_1_6_7, w101_a_1_6_8) = it (fX1_become_1_0_b101 a) i101 (a (1 + 6) 6, a (1 + 6) 7, a (1 + 6) 8) → xH ω (g, y, up2 (up2 (up2 (up2 (up2 (up2 (up2 (up2 (up2 a (1 + 6) 0 w28_a_1_6_0) (1 + 6) 1 w2_a_1_6_1) (1 + 6) 2 w28_a_1_6_2) (1 + 6) 3 w28_a_1_6_3) (1 + 6) 4 w28_a_1_6_4) (1 + 6) 5 w28_a_1_6_5) (1 + 6) 6 w101_a_1_6_6) (1 + 6) 7 w101_a_1_6_7) (1 + 6) 8 w101_a_1_6_8, z, dr, pg, t) H → va_S ω.2.2.1 s.heap H locs → lv_has ls 3 [(2, .int (nI i101)), (0, .ref (ω.2.1 (1 + 6) 99)), (1, .ref (ω.2.1 (0 + 6) 99))] → W p l e rmX1_become_1_0 s m args below meth c H locs 0 0 QQ (F0 m 101 ls []) := by
                intro d101
                induction d101 with
                | zero =>
                  intro i101 w101_a_1_6_6 w101_a_1_6_7 w101_a_1_6_8 H locs ls hi101 hS101 hH hS hl
                  have hj101 : 2 = i101 := by omega
                  subst hj101
                  have e_w101_a_1_6_6 : w101_a_1_6_6 = (it (fX1_become_1_0_b101 a) 2 (a (1 + 6) 6, a (1 + 6) 7, a (1 + 6) 8)).1 := by rw [← hS101]
                  have e_w101_a_1_6_7 : w101_a_1_6_7 = (it (fX1_become_1_0_b101 a) 2 (a (1 + 6) 6, a (1 + 6) 7, a (1 + 6) 8)).2.1 := by rw [← hS101]
                  have e_w101_a_1_6_8 : w101_a_1_6_8 = (it (fX1_become_1_0_b101 a) 2 (a (1 + 6) 6, a (1 + 6) 7, a (1 + 6) 8)).2.2 := by rw [← hS101]
                  refine lv_iload_n hF.1 hF.2.1 dX1_become_101 rfl (lv_at hl 0 rfl) ?_
                  refine lv_iconst (v := nI 2) hF.1 hF.2.1 dX1_become_102 (by decide) ?_
                  refine n_ge (tgt := 148) hF.1 hF.2.1 dX1_become_103 (by decide) (by omega) (by omega) (fun c3 => ?_) (fun c3 => ?_)
                  · skip
                    refine lv_aload_n hF.1 hF.2.1 dX1_become_148 rfl (lv_at hl 1 rfl) ?_
                    refine lv_aload_n hF.1 hF.2.1 dX1_become_149 rfl (lv_at hl 2 rfl) ?_
                    refine xg1_9 (j := 0) (by decide) hF hK hH q171 dX1_become_150 (v := g (0 + 6) 9) rfl ?_
                    refine xp1_9 (j := 1) (by decide) hF hK hH hS q171 dX1_become_153 (g' := up2 g (1 + 6) 9 (g (0 + 6) 9)) (by simp [up2]) (by intro i q hq; simp only [up2, if_neg hq]) (fun H locs hH hS => ?_)
                    exact hret _ _ _ _ _ dX1_become_156 ⟨_, _, _, _, _, _, _, _, _, _, by subst e_w101_a_1_6_8; subst e_w101_a_1_6_7; subst e_w101_a_1_6_6; subst e_w28_a_1_6_5; subst e_w28_a_1_6_4; subst e_w28_a_1_6_3; subst e_w28_a_1_6_2; subst e_w28_a_1_6_0; subst e_w2_a_1_6_1; rfl, rfl⟩ hH hS
                  · exact absurd (by omega) c3
                | succ d101 ih =>
                  intro i101 w101_a_1_6_6 w101_a_1_6_7 w101_a_1_6_8 H locs ls hi101 hS101 hH hS hl
                  refine lv_iload_n hF.1 hF.2.1 dX1_become_101 rfl (lv_at hl 0 rfl) ?_
                  refine lv_iconst (v := nI 2) hF.1 hF.2.1 dX1_become_102 (by decide) ?_
                  refine n_ge (tgt := 148) hF.1 hF.2.1 dX1_become_103 (by decide) (by omega) (by omega) (fun c4 => ?_) (fun c4 => ?_)
                  · exact absurd c4 (by omega)
                  · skip
                    refine lv_aload_n hF.1 hF.2.1 dX1_become_106 rfl (lv_at hl 1 rfl) ?_
                    refine xg1_6 (j := 1) (by decide) hF hK hH q165 dX1_become_107 ?_
                    refine lv_iload_n hF.1 hF.2.1 dX1_become_110 rfl (lv_at hl 0 rfl) ?_
                    refine lv_aload_n hF.1 hF.2.1 dX1_become_111 rfl (lv_at hl 2 rfl) ?_
                    refine xg1_6 (j := 0) (by decide) hF hK hH q165 dX1_become_112 ?_
                    refine lv_iload_n hF.1 hF.2.1 dX1_become_115 rfl (lv_at hl 0 rfl) ?_
                    refine x1_ald (j := 0) (by decide) hF hK hH 6 (n := 2) rfl rfl (by decide) rfl (f := a (0 + 6) 6) (by simp [up2]) (i := i101) (by omega) (by decide) dX1_become_116 ?_
                    refine x1_ast (a' := up2 (up2 (up2 (up2 (up2 (up2 (up2 (up2 (up2 a (1 + 6) 0 w28_a_1_6_0) (1 + 6) 1 w2_a_1_6_1) (1 + 6) 2 w28_a_1_6_2) (1 + 6) 3 w28_a_1_6_3) (1 + 6) 4 w28_a_1_6_4) (1 + 6) 5 w28_a_1_6_5) (1 + 6) 6 (upd w101_a_1_6_6 i101 (a (0 + 6) 6 i101))) (1 + 6) 7 w101_a_1_6_7) (1 + 6) 8 w101_a_1_6_8) (j := 1) (by decide) hF hK hH hS 6 (n := 2) rfl rfl (by decide) rfl (f := w101_a_1_6_6) (by simp [up2]) (i := i101) (by omega) (by decide) dX1_become_117 (by simp [up2]) (by intro i q hq; simp only [up2, if_neg hq]) (fun H locs hH hS => ?_)
                    refine lv_aload_n hF.1 hF.2.1 dX1_become_118 rfl (lv_at hl 1 rfl) ?_
                    refine xg1_7 (j := 1) (by decide) hF hK hH q167 dX1_become_119 ?_
                    refine lv_iload_n hF.1 hF.2.1 dX1_become_122 rfl (lv_at hl 0 rfl) ?_
                    refine lv_aload_n hF.1 hF.2.1 dX1_become_123 rfl (lv_at hl 2 rfl) ?_
                    refine xg1_7 (j := 0) (by decide) hF hK hH q167 dX1_become_124 ?_
                    refine lv_iload_n hF.1 hF.2.1 dX1_become_127 rfl (lv_at hl 0 rfl) ?_
                    refine x1_ald (j := 0) (by decide) hF hK hH 7 (n := 2) rfl rfl (by decide) rfl (f := a (0 + 6) 7) (by simp [up2]) (i := i101) (by omega) (by decide) dX1_become_128 ?_
                    refine x1_ast (a' := up2 (up2 (up2 (up2 (up2 (up2 (up2 (up2 (up2 a (1 + 6) 0 w28_a_1_6_0) (1 + 6) 1 w2_a_1_6_1) (1 + 6) 2 w28_a_1_6_2) (1 + 6) 3 w28_a_1_6_3) (1 + 6) 4 w28_a_1_6_4) (1 + 6) 5 w28_a_1_6_5) (1 + 6) 6 (upd w101_a_1_6_6 i101 (a (0 + 6) 6 i101))) (1 + 6) 7 (upd w101_a_1_6_7 i101 (a (0 + 6) 7 i101))) (1 + 6) 8 w101_a_1_6_8) (j := 1) (by decide) hF hK hH hS 7 (n := 2) rfl rfl (by decide) rfl (f := w101_a_1_6_7) (by simp [up2]) (i := i101) (by omega) (by decide) dX1_become_129 (by simp [up2]) (by intro i q hq; simp only [up2, if_neg hq]) (fun H locs hH hS => ?_)
                    refine lv_aload_n hF.1 hF.2.1 dX1_become_130 rfl (lv_at hl 1 rfl) ?_
                    refine xg1_8 (j := 1) (by decide) hF hK hH q169 dX1_become_131 ?_
                    refine lv_iload_n hF.1 hF.2.1 dX1_become_134 rfl (lv_at hl 0 rfl) ?_
                    refine lv_aload_n hF.1 hF.2.1 dX1_become_135 rfl (lv_at hl 2 rfl) ?_
                    refine xg1_8 (j := 0) (by decide) hF hK hH q169 dX1_become_136 ?_
                    refine lv_iload_n hF.1 hF.2.1 dX1_become_139 rfl (lv_at hl 0 rfl) ?_
                    refine x1_ald (j := 0) (by decide) hF hK hH 8 (n := 2) rfl rfl (by decide) rfl (f := a (0 + 6) 8) (by simp [up2]) (i := i101) (by omega) (by decide) dX1_become_140 ?_
                    refine x1_ast (a' := up2 (up2 (up2 (up2 (up2 (up2 (up2 (up2 (up2 a (1 + 6) 0 w28_a_1_6_0) (1 + 6) 1 w2_a_1_6_1) (1 + 6) 2 w28_a_1_6_2) (1 + 6) 3 w28_a_1_6_3) (1 + 6) 4 w28_a_1_6_4) (1 + 6) 5 w28_a_1_6_5) (1 + 6) 6 (upd w101_a_1_6_6 i101 (a (0 + 6) 6 i101))) (1 + 6) 7 (upd w101_a_1_6_7 i101 (a (0 + 6) 7 i101))) (1 + 6) 8 (upd w101_a_1_6_8 i101 (a (0 + 6) 8 i101))) (j := 1) (by decide) hF hK hH hS 8 (n := 2) rfl rfl (by decide) rfl (f := w101_a_1_6_8) (by simp [up2]) (i := i101) (by omega) (by decide) dX1_become_141 (by simp [up2]) (by intro i q hq; simp only [up2, if_neg hq]) (fun H locs hH hS => ?_)
                    refine n_iinc (lv' := [(2, .int (nI (i101 + 1))), (0, .ref (ω.2.1 (1 + 6) 99)), (1, .ref (ω.2.1 (0 + 6) 99))]) hF.1 hF.2.1 dX1_become_142 hl (k := 0) rfl (by decide) rfl (fun ls hl => ?_)
                    refine lv_goto (tgt := 101) hF.1 hF.2.1 dX1_become_145 (by decide) ?_
                    exact ih (i101 + 1) _ _ _ _ _ _ (by omega) (by rw [it_succ (fX1_become_1_0_b101 a) i101 _, ← hS101]; try rfl) hH hS (lv_sub hl [0, 1, 2] rfl)
              have hH : xH ω (g, y, up2 (up2 (up2 (up2 (up2 (up2 (up2 (up2 (up2 a (1 + 6) 0 w28_a_1_6_0) (1 + 6) 1 w2_a_1_6_1) (1 + 6) 2 w28_a_1_6_2) (1 + 6) 3 w28_a_1_6_3) (1 + 6) 4 w28_a_1_6_4) (1 + 6) 5 w28_a_1_6_5) (1 + 6) 6 (a (1 + 6) 6)) (1 + 6) 7 (a (1 + 6) 7)) (1 + 6) 8 (a (1 + 6) 8), z, dr, pg, t) H := x_ext (fun _ _ => rfl) (fun _ _ => rfl) (by intro o k; by_cases h0 : o = (1 + 6) ∧ k = 6; (obtain ⟨rfl, rfl⟩ := h0; simp [up2]); by_cases h1 : o = (1 + 6) ∧ k = 7; (obtain ⟨rfl, rfl⟩ := h1; simp [up2]); by_cases h2 : o = (1 + 6) ∧ k = 8; (obtain ⟨rfl, rfl⟩ := h2; simp [up2]); simp only [up2, if_neg h0, if_neg h1, if_neg h2]) (fun _ _ => rfl) hH
              exact lp101_20 2 0 _ _ _ _ _ _ (by omega) rfl hH hS (lv_sub hl [0, 1, 2] rfl)
            · exact absurd (by omega) c2
          | succ d28 ih =>
            intro i28 w28_a_1_6_0 w28_a_1_6_2 w28_a_1_6_3 w28_a_1_6_4 w28_a_1_6_5 H locs ls hi28 hS28 hH hS hl
            refine lv_iload_n hF.1 hF.2.1 dX1_become_28 rfl (lv_at hl 0 rfl) ?_
            refine lv_iconst (v := nI 3) hF.1 hF.2.1 dX1_become_29 (by decide) ?_
            refine n_ge (tgt := 99) hF.1 hF.2.1 dX1_become_30 (by decide) (by omega) (by omega) (fun c5 => ?_) (fun c5 => ?_)
            · exact absurd c5 (by omega)
            · skip
              refine lv_aload_n hF.1 hF.2.1 dX1_become_33 rfl (lv_at hl 1 rfl) ?_
              refine xg1_0 (j := 1) (by decide) hF hK hH q154 dX1_become_34 ?_
              refine lv_iload_n hF.1 hF.2.1 dX1_become_37 rfl (lv_at hl 0 rfl) ?_
              refine lv_aload_n hF.1 hF.2.1 dX1_become_38 rfl (lv_at hl 2 rfl) ?_
              refine xg1_0 (j := 0) (by decide) hF hK hH q154 dX1_become_39 ?_
              refine lv_iload_n hF.1 hF.2.1 dX1_become_42 rfl (lv_at hl 0 rfl) ?_
              refine x1_ald (j := 0) (by decide) hF hK hH 0 (n := 3) rfl rfl (by decide) rfl (f := a (0 + 6) 0) (by simp [up2]) (i := i28) (by omega) (by decide) dX1_become_43 ?_
              refine x1_ast (a' := up2 (up2 (up2 (up2 (up2 (up2 a (1 + 6) 0 (upd w28_a_1_6_0 i28 (a (0 + 6) 0 i28))) (1 + 6) 1 w2_a_1_6_1) (1 + 6) 2 w28_a_1_6_2) (1 + 6) 3 w28_a_1_6_3) (1 + 6) 4 w28_a_1_6_4) (1 + 6) 5 w28_a_1_6_5) (j := 1) (by decide) hF hK hH hS 0 (n := 3) rfl rfl (by decide) rfl (f := w28_a_1_6_0) (by simp [up2]) (i := i28) (by omega) (by decide) dX1_become_44 (by simp [up2]) (by intro i q hq; simp only [up2, if_neg hq]) (fun H locs hH hS => ?_)
              refine lv_aload_n hF.1 hF.2.1 dX1_become_45 rfl (lv_at hl 1 rfl) ?_
              refine xg1_2 (j := 1) (by decide) hF hK hH q157 dX1_become_46 ?_
              refine lv_iload_n hF.1 hF.2.1 dX1_become_49 rfl (lv_at hl 0 rfl) ?_
              refine lv_aload_n hF.1 hF.2.1 dX1_become_50 rfl (lv_at hl 2 rfl) ?_
              refine xg1_2 (j := 0) (by decide) hF hK hH q157 dX1_become_51 ?_
              refine lv_iload_n hF.1 hF.2.1 dX1_become_54 rfl (lv_at hl 0 rfl) ?_
              refine x1_ald (j := 0) (by decide) hF hK hH 2 (n := 3) rfl rfl (by decide) rfl (f := a (0 + 6) 2) (by simp [up2]) (i := i28) (by omega) (by decide) dX1_become_55 ?_
              refine x1_ast (a' := up2 (up2 (up2 (up2 (up2 (up2 a (1 + 6) 0 (upd w28_a_1_6_0 i28 (a (0 + 6) 0 i28))) (1 + 6) 1 w2_a_1_6_1) (1 + 6) 2 (upd w28_a_1_6_2 i28 (a (0 + 6) 2 i28))) (1 + 6) 3 w28_a_1_6_3) (1 + 6) 4 w28_a_1_6_4) (1 + 6) 5 w28_a_1_6_5) (j := 1) (by decide) hF hK hH hS 2 (n := 3) rfl rfl (by decide) rfl (f := w28_a_1_6_2) (by simp [up2]) (i := i28) (by omega) (by decide) dX1_become_56 (by simp [up2]) (by intro i q hq; simp only [up2, if_neg hq]) (fun H locs hH hS => ?_)
              refine lv_aload_n hF.1 hF.2.1 dX1_become_57 rfl (lv_at hl 1 rfl) ?_
              refine xg1_3 (j := 1) (by decide) hF hK hH q159 dX1_become_58 ?_
              refine lv_iload_n hF.1 hF.2.1 dX1_become_61 rfl (lv_at hl 0 rfl) ?_
              refine lv_aload_n hF.1 hF.2.1 dX1_become_62 rfl (lv_at hl 2 rfl) ?_
              refine xg1_3 (j := 0) (by decide) hF hK hH q159 dX1_become_63 ?_
              refine lv_iload_n hF.1 hF.2.1 dX1_become_66 rfl (lv_at hl 0 rfl) ?_
              refine x1_ald (j := 0) (by decide) hF hK hH 3 (n := 3) rfl rfl (by decide) rfl (f := a (0 + 6) 3) (by simp [up2]) (i := i28) (by omega) (by decide) dX1_become_67 ?_
              refine x1_ast (a' := up2 (up2 (up2 (up2 (up2 (up2 a (1 + 6) 0 (upd w28_a_1_6_0 i28 (a (0 + 6) 0 i28))) (1 + 6) 1 w2_a_1_6_1) (1 + 6) 2 (upd w28_a_1_6_2 i28 (a (0 + 6) 2 i28))) (1 + 6) 3 (upd w28_a_1_6_3 i28 (a (0 + 6) 3 i28))) (1 + 6) 4 w28_a_1_6_4) (1 + 6) 5 w28_a_1_6_5) (j := 1) (by decide) hF hK hH hS 3 (n := 3) rfl rfl (by decide) rfl (f := w28_a_1_6_3) (by simp [up2]) (i := i28) (by omega) (by decide) dX1_become_68 (by simp [up2]) (by intro i q hq; simp only [up2, if_neg hq]) (fun H locs hH hS => ?_)
              refine lv_aload_n hF.1 hF.2.1 dX1_become_69 rfl (lv_at hl 1 rfl) ?_
              refine xg1_4 (j := 1) (by decide) hF hK hH q161 dX1_become_70 ?_
              refine lv_iload_n hF.1 hF.2.1 dX1_become_73 rfl (lv_at hl 0 rfl) ?_
              refine lv_aload_n hF.1 hF.2.1 dX1_become_74 rfl (lv_at hl 2 rfl) ?_
              refine xg1_4 (j := 0) (by decide) hF hK hH q161 dX1_become_75 ?_
              refine lv_iload_n hF.1 hF.2.1 dX1_become_78 rfl (lv_at hl 0 rfl) ?_
              refine x1_ald (j := 0) (by decide) hF hK hH 4 (n := 3) rfl rfl (by decide) rfl (f := a (0 + 6) 4) (by simp [up2]) (i := i28) (by omega) (by decide) dX1_become_79 ?_
              refine x1_ast (a' := up2 (up2 (up2 (up2 (up2 (up2 a (1 + 6) 0 (upd w28_a_1_6_0 i28 (a (0 + 6) 0 i28))) (1 + 6) 1 w2_a_1_6_1) (1 + 6) 2 (upd w28_a_1_6_2 i28 (a (0 + 6) 2 i28))) (1 + 6) 3 (upd w28_a_1_6_3 i28 (a (0 + 6) 3 i28))) (1 + 6) 4 (upd w28_a_1_6_4 i28 (a (0 + 6) 4 i28))) (1 + 6) 5 w28_a_1_6_5) (j := 1) (by decide) hF hK hH hS 4 (n := 3) rfl rfl (by decide) rfl (f := w28_a_1_6_4) (by simp [up2]) (i := i28) (by omega) (by decide) dX1_become_80 (by simp [up2]) (by intro i q hq; simp only [up2, if_neg hq]) (fun H locs hH hS => ?_)
              refine lv_aload_n hF.1 hF.2.1 dX1_become_81 rfl (lv_at hl 1 rfl) ?_
              refine xg1_5 (j := 1) (by decide) hF hK hH q163 dX1_become_82 ?_
              refine lv_iload_n hF.1 hF.2.1 dX1_become_85 rfl (lv_at hl 0 rfl) ?_
              refine lv_aload_n hF.1 hF.2.1 dX1_become_86 rfl (lv_at hl 2 rfl) ?_
              refine xg1_5 (j := 0) (by decide) hF hK hH q163 dX1_become_87 ?_
              refine lv_iload_n hF.1 hF.2.1 dX1_become_90 rfl (lv_at hl 0 rfl) ?_
              refine x1_ald (j := 0) (by decide) hF hK hH 5 (n := 3) rfl rfl (by decide) rfl (f := a (0 + 6) 5) (by simp [up2]) (i := i28) (by omega) (by decide) dX1_become_91 ?_
              refine x1_ast (a' := up2 (up2 (up2 (up2 (up2 (up2 a (1 + 6) 0 (upd w28_a_1_6_0 i28 (a (0 + 6) 0 i28))) (1 + 6) 1 w2_a_1_6_1) (1 + 6) 2 (upd w28_a_1_6_2 i28 (a (0 + 6) 2 i28))) (1 + 6) 3 (upd w28_a_1_6_3 i28 (a (0 + 6) 3 i28))) (1 + 6) 4 (upd w28_a_1_6_4 i28 (a (0 + 6) 4 i28))) (1 + 6) 5 (upd w28_a_1_6_5 i28 (a (0 + 6) 5 i28))) (j := 1) (by decide) hF hK hH hS 5 (n := 3) rfl rfl (by decide) rfl (f := w28_a_1_6_5) (by simp [up2]) (i := i28) (by omega) (by decide) dX1_become_92 (by simp [up2]) (by intro i q hq; simp only [up2, if_neg hq]) (fun H locs hH hS => ?_)
              refine n_iinc (lv' := [(2, .int (nI (i28 + 1))), (0, .ref (ω.2.1 (1 + 6) 99)), (1, .ref (ω.2.1 (0 + 6) 99))]) hF.1 hF.2.1 dX1_become_93 hl (k := 0) rfl (by decide) rfl (fun ls hl => ?_)
              refine lv_goto (tgt := 28) hF.1 hF.2.1 dX1_become_96 (by decide) ?_
              exact ih (i28 + 1) _ _ _ _ _ _ _ _ (by omega) (by rw [it_succ (fX1_become_1_0_b28 a) i28 _, ← hS28]; try rfl) hH hS (lv_sub hl [0, 1, 2] rfl)
        have hH : xH ω (g, y, up2 (up2 (up2 (up2 (up2 (up2 a (1 + 6) 0 (a (1 + 6) 0)) (1 + 6) 1 w2_a_1_6_1) (1 + 6) 2 (a (1 + 6) 2)) (1 + 6) 3 (a (1 + 6) 3)) (1 + 6) 4 (a (1 + 6) 4)) (1 + 6) 5 (a (1 + 6) 5), z, dr, pg, t) H := x_ext (fun _ _ => rfl) (fun _ _ => rfl) (by intro o k; by_cases h0 : o = (1 + 6) ∧ k = 0; (obtain ⟨rfl, rfl⟩ := h0; simp [up2]); by_cases h1 : o = (1 + 6) ∧ k = 2; (obtain ⟨rfl, rfl⟩ := h1; simp [up2]); by_cases h2 : o = (1 + 6) ∧ k = 3; (obtain ⟨rfl, rfl⟩ := h2; simp [up2]); by_cases h3 : o = (1 + 6) ∧ k = 4; (obtain ⟨rfl, rfl⟩ := h3; simp [up2]); by_cases h4 : o = (1 + 6) ∧ k = 5; (obtain ⟨rfl, rfl⟩ := h4; simp [up2]); simp only [up2, if_neg h0, if_neg h1, if_neg h2, if_neg h3, if_neg h4]) (fun _ _ => rfl) hH
        exact lp28_18 3 0 _ _ _ _ _ _ _ _ (by omega) rfl hH hS (lv_sub hl [0, 1, 2] rfl)
      · exact absurd (by omega) c1
    | succ d2 ih =>
      intro i2 w2_a_1_6_1 H locs ls hi2 hS2 hH hS hl
      refine lv_iload_n hF.1 hF.2.1 dX1_become_2 rfl (lv_at hl 0 rfl) ?_
      refine lv_bipush (v := nI 27) hF.1 hF.2.1 dX1_become_3 (by decide) ?_
      refine n_ge (tgt := 26) hF.1 hF.2.1 dX1_become_5 (by decide) (by omega) (by omega) (fun c6 => ?_) (fun c6 => ?_)
      · exact absurd c6 (by omega)
      · skip
        refine lv_aload_n hF.1 hF.2.1 dX1_become_8 rfl (lv_at hl 1 rfl) ?_
        refine xg1_1 (j := 1) (by decide) hF hK hH q156 dX1_become_9 ?_
        refine lv_iload_n hF.1 hF.2.1 dX1_become_12 rfl (lv_at hl 0 rfl) ?_
        refine lv_aload_n hF.1 hF.2.1 dX1_become_13 rfl (lv_at hl 2 rfl) ?_
        refine xg1_1 (j := 0) (by decide) hF hK hH q156 dX1_become_14 ?_
        refine lv_iload_n hF.1 hF.2.1 dX1_become_17 rfl (lv_at hl 0 rfl) ?_
        refine x1_ald (j := 0) (by decide) hF hK hH 1 (n := 27) rfl rfl (by decide) rfl (f := a (0 + 6) 1) (by simp [up2]) (i := i2) (by omega) (by decide) dX1_become_18 ?_
        refine x1_ast (a' := up2 a (1 + 6) 1 (upd w2_a_1_6_1 i2 (a (0 + 6) 1 i2))) (j := 1) (by decide) hF hK hH hS 1 (n := 27) rfl rfl (by decide) rfl (f := w2_a_1_6_1) (by simp [up2]) (i := i2) (by omega) (by decide) dX1_become_19 (by simp [up2]) (by intro i q hq; simp only [up2, if_neg hq]) (fun H locs hH hS => ?_)
        refine n_iinc (lv' := [(2, .int (nI (i2 + 1))), (0, .ref (ω.2.1 (1 + 6) 99)), (1, .ref (ω.2.1 (0 + 6) 99))]) hF.1 hF.2.1 dX1_become_20 hl (k := 0) rfl (by decide) rfl (fun ls hl => ?_)
        refine lv_goto (tgt := 2) hF.1 hF.2.1 dX1_become_23 (by decide) ?_
        exact ih (i2 + 1) _ _ _ _ (by omega) (by rw [it_succ (fX1_become_1_0_b2 a) i2 _, ← hS2]; try rfl) hH hS (lv_sub hl [0, 1, 2] rfl)
  have hH : xH ω (g, y, up2 a (1 + 6) 1 (a (1 + 6) 1), z, dr, pg, t) H := x_ext (fun _ _ => rfl) (fun _ _ => rfl) (by intro o k; by_cases h0 : o = (1 + 6) ∧ k = 1; (obtain ⟨rfl, rfl⟩ := h0; simp [up2]); simp only [up2, if_neg h0]) (fun _ _ => rfl) hH
  exact lp2_16 27 0 _ _ _ _ (by omega) rfl hH hS (lv_sub hl [0, 1, 2] rfl)

def fX1_become_2_0_b101 (a : Nat → Nat → Nat → Int32) (i101 : Nat) (S : (Nat → Int32) × (Nat → Int32) × (Nat → Int32)) : (Nat → Int32) × (Nat → Int32) × (Nat → Int32) := (upd S.1 i101 (a (0 + 6) 6 i101), upd S.2.1 i101 (a (0 + 6) 7 i101), upd S.2.2 i101 (a (0 + 6) 8 i101))
def fX1_become_2_0_b28 (a : Nat → Nat → Nat → Int32) (i28 : Nat) (S : (Nat → Int32) × (Nat → Int32) × (Nat → Int32) × (Nat → Int32) × (Nat → Int32)) : (Nat → Int32) × (Nat → Int32) × (Nat → Int32) × (Nat → Int32) × (Nat → Int32) := (upd S.1 i28 (a (0 + 6) 0 i28), upd S.2.1 i28 (a (0 + 6) 2 i28), upd S.2.2.1 i28 (a (0 + 6) 3 i28), upd S.2.2.2.1 i28 (a (0 + 6) 4 i28), upd S.2.2.2.2 i28 (a (0 + 6) 5 i28))
def fX1_become_2_0_b2 (a : Nat → Nat → Nat → Int32) (i2 : Nat) (S : (Nat → Int32)) : (Nat → Int32) := upd S i2 (a (0 + 6) 1 i2)
def fX1_become_2_0 (g : Nat → Nat → Nat) (a : Nat → Nat → Nat → Int32) : (Nat → Int32) × (Nat → Int32) × (Nat → Int32) × (Nat → Int32) × (Nat → Int32) × (Nat → Int32) × (Nat → Int32) × (Nat → Int32) × (Nat → Int32) × Nat := (((it (fX1_become_2_0_b28 a) 3 (a (2 + 6) 0, a (2 + 6) 2, a (2 + 6) 3, a (2 + 6) 4, a (2 + 6) 5)).1), (it (fX1_become_2_0_b2 a) 27 (a (2 + 6) 1)), ((it (fX1_become_2_0_b28 a) 3 (a (2 + 6) 0, a (2 + 6) 2, a (2 + 6) 3, a (2 + 6) 4, a (2 + 6) 5)).2.1), ((it (fX1_become_2_0_b28 a) 3 (a (2 + 6) 0, a (2 + 6) 2, a (2 + 6) 3, a (2 + 6) 4, a (2 + 6) 5)).2.2.1), ((it (fX1_become_2_0_b28 a) 3 (a (2 + 6) 0, a (2 + 6) 2, a (2 + 6) 3, a (2 + 6) 4, a (2 + 6) 5)).2.2.2.1), ((it (fX1_become_2_0_b28 a) 3 (a (2 + 6) 0, a (2 + 6) 2, a (2 + 6) 3, a (2 + 6) 4, a (2 + 6) 5)).2.2.2.2), ((it (fX1_become_2_0_b101 a) 2 (a (2 + 6) 6, a (2 + 6) 7, a (2 + 6) 8)).1), ((it (fX1_become_2_0_b101 a) 2 (a (2 + 6) 6, a (2 + 6) 7, a (2 + 6) 8)).2.1), ((it (fX1_become_2_0_b101 a) 2 (a (2 + 6) 6, a (2 + 6) 7, a (2 + 6) 8)).2.2), g (0 + 6) 9)
def rmX1_become_2_0 : Room := { frames := 1, cells := 0, slots := 0, locals := 24 }
theorem hdX1_become_2_0 : yX1_become.cls = RX1 ∧ yX1_become.cls ≠ "java/lang/invoke/MethodHandle" ∧ yX1_become.cls ≠ "java/lang/invoke/VarHandle" ∧ (parseMethodDescriptor yX1_become.desc).map (fun d => d.parameters.length) = some 1 := by decide +kernel
set_option maxHeartbeats 4000000 in
theorem kX1_become_2_0 (l : Launch) (ω : OM) (g : Nat → Nat → Nat) (y : Nat → Nat → Int32) (a z : Nat → Nat → Nat → Int32) (dr : Int64) (pg : Nat → Int32) (t : TW) : Met l yX1_become (ws_ yX1_become cX1_become 3 none) rmX1_become_2_0 (va_Pc [.ref (ω.2.1 (2 + 6) 99), .ref (ω.2.1 (0 + 6) 99)] (fun U => xK ω U ∧ xH ω (g, y, a, z, dr, pg, t) U.heap)) (va_Qv (fun (u : XS) => ∃ (o0 : Nat → Int32) (o1 : Nat → Int32) (o2 : Nat → Int32) (o3 : Nat → Int32) (o4 : Nat → Int32) (o5 : Nat → Int32) (o6 : Nat → Int32) (o7 : Nat → Int32) (o8 : Nat → Int32) (o9 : Nat), (o0, o1, o2, o3, o4, o5, o6, o7, o8, o9) = (fX1_become_2_0 g a) ∧ u = (up2 g (2 + 6) 9 o9, y, up2 (up2 (up2 (up2 (up2 (up2 (up2 (up2 (up2 a (2 + 6) 0 o0) (2 + 6) 1 o1) (2 + 6) 2 o2) (2 + 6) 3 o3) (2 + 6) 4 o4) (2 + 6) 5 o5) (2 + 6) 6 o6) (2 + 6) 7 o7) (2 + 6) 8 o8, z, dr, pg, t)) (fun u t => xH ω u t.heap) ω.2.2.1) 0 0 ω.2.2.1 := by
  refine g_entWv (C := RX1) rfl (by decide) (Nat.le_of_ble_eq_true rfl) ?_
  intro p e s m args below meth c QQ ls H locs hF hK hH hS hl hret
  have hl : lv_has ls 3 [(0, .ref (ω.2.1 (2 + 6) 99)), (1, .ref (ω.2.1 (0 + 6) 99))] := hl
  have hn9 : tn t ≤ 9 := hH.2.2.1
  refine lv_iconst (v := nI 0) hF.1 hF.2.1 dX1_become_0 (by decide) ?_
  refine lv_istore_n (lv' := [(2, .int (nI 0)), (0, .ref (ω.2.1 (2 + 6) 99)), (1, .ref (ω.2.1 (0 + 6) 99))]) hF.1 hF.2.1 dX1_become_1 rfl hl (by decide) rfl (fun ls hl => ?_)
  have lp2_22 : ∀ (d2 i2 : Nat) (w2_a_2_6_1 : Nat → Int32) (H : Heap) (locs : List Loc) (ls : Array Slot), i2 + d2 = 27 → w2_a_2_6_1 = it (fX1_become_2_0_b2 a) i2 (a (2 + 6) 1) → xH ω (g, y, up2 a (2 + 6) 1 w2_a_2_6_1, z, dr, pg, t) H → va_S ω.2.2.1 s.heap H locs → lv_has ls 3 [(2, .int (nI i2)), (0, .ref (ω.2.1 (2 + 6) 99)), (1, .ref (ω.2.1 (0 + 6) 99))] → W p l e rmX1_become_2_0 s m args below meth c H locs 0 0 QQ (F0 m 2 ls []) := by
    intro d2
    induction d2 with
    | zero =>
      intro i2 w2_a_2_6_1 H locs ls hi2 hS2 hH hS hl
      have hj2 : 27 = i2 := by omega
      subst hj2
      have e_w2_a_2_6_1 := hS2
      refine lv_iload_n hF.1 hF.2.1 dX1_become_2 rfl (lv_at hl 0 rfl) ?_
      refine lv_bipush (v := nI 27) hF.1 hF.2.1 dX1_become_3 (by decide) ?_
      refine n_ge (tgt := 26) hF.1 hF.2.1 dX1_become_5 (by decide) (by omega) (by omega) (fun c1 => ?_) (fun c1 => ?_)
      · skip
        refine lv_iconst (v := nI 0) hF.1 hF.2.1 dX1_become_26 (by decide) ?_
        refine lv_istore_n (lv' := [(2, .int (nI 0)), (0, .ref (ω.2.1 (2 + 6) 99)), (1, .ref (ω.2.1 (0 + 6) 99))]) hF.1 hF.2.1 dX1_become_27 rfl hl (by decide) rfl (fun ls hl => ?_)
        have lp28_24 : ∀ (d28 i28 : Nat) (w28_a_2_6_0 : Nat → Int32) (w28_a_2_6_2 : Nat → Int32) (w28_a_2_6_3 : Nat → Int32) (w28_a_2_6_4 : Nat → Int32) (w28_a_2_6_5 : Nat → Int32) (H : Heap) (locs : List Loc) (ls : Array Slot), i28 + d28 = 3 → (w28_a_2_6_0, w28_a_2_6_2, w28_a_2_6_3, w28_a_2_6_4, w28_a_2_6_5) = it (fX1_become_2_0_b28 a) i28 (a (2 + 6) 0, a (2 + 6) 2, a (2 + 6) 3, a (2 + 6) 4, a (2 + 6) 5) → xH ω (g, y, up2 (up2 (up2 (up2 (up2 (up2 a (2 + 6) 0 w28_a_2_6_0) (2 + 6) 1 w2_a_2_6_1) (2 + 6) 2 w28_a_2_6_2) (2 + 6) 3 w28_a_2_6_3) (2 + 6) 4 w28_a_2_6_4) (2 + 6) 5 w28_a_2_6_5, z, dr, pg, t) H → va_S ω.2.2.1 s.heap H locs → lv_has ls 3 [(2, .int (nI i28)), (0, .ref (ω.2.1 (2 + 6) 99)), (1, .ref (ω.2.1 (0 + 6) 99))] → W p l e rmX1_become_2_0 s m args below meth c H locs 0 0 QQ (F0 m 28 ls []) := by
          intro d28
          induction d28 with
          | zero =>
            intro i28 w28_a_2_6_0 w28_a_2_6_2 w28_a_2_6_3 w28_a_2_6_4 w28_a_2_6_5 H locs ls hi28 hS28 hH hS hl
            have hj28 : 3 = i28 := by omega
            subst hj28
            have e_w28_a_2_6_0 : w28_a_2_6_0 = (it (fX1_become_2_0_b28 a) 3 (a (2 + 6) 0, a (2 + 6) 2, a (2 + 6) 3, a (2 + 6) 4, a (2 + 6) 5)).1 := by rw [← hS28]
            have e_w28_a_2_6_2 : w28_a_2_6_2 = (it (fX1_become_2_0_b28 a) 3 (a (2 + 6) 0, a (2 + 6) 2, a (2 + 6) 3, a (2 + 6) 4, a (2 + 6) 5)).2.1 := by rw [← hS28]
            have e_w28_a_2_6_3 : w28_a_2_6_3 = (it (fX1_become_2_0_b28 a) 3 (a (2 + 6) 0, a (2 + 6) 2, a (2 + 6) 3, a (2 + 6) 4, a (2 + 6) 5)).2.2.1 := by rw [← hS28]
            have e_w28_a_2_6_4 : w28_a_2_6_4 = (it (fX1_become_2_0_b28 a) 3 (a (2 + 6) 0, a (2 + 6) 2, a (2 + 6) 3, a (2 + 6) 4, a (2 + 6) 5)).2.2.2.1 := by rw [← hS28]
            have e_w28_a_2_6_5 : w28_a_2_6_5 = (it (fX1_become_2_0_b28 a) 3 (a (2 + 6) 0, a (2 + 6) 2, a (2 + 6) 3, a (2 + 6) 4, a (2 + 6) 5)).2.2.2.2 := by rw [← hS28]
            refine lv_iload_n hF.1 hF.2.1 dX1_become_28 rfl (lv_at hl 0 rfl) ?_
            refine lv_iconst (v := nI 3) hF.1 hF.2.1 dX1_become_29 (by decide) ?_
            refine n_ge (tgt := 99) hF.1 hF.2.1 dX1_become_30 (by decide) (by omega) (by omega) (fun c2 => ?_) (fun c2 => ?_)
            · skip
              refine lv_iconst (v := nI 0) hF.1 hF.2.1 dX1_become_99 (by decide) ?_
              refine lv_istore_n (lv' := [(2, .int (nI 0)), (0, .ref (ω.2.1 (2 + 6) 99)), (1, .ref (ω.2.1 (0 + 6) 99))]) hF.1 hF.2.1 dX1_become_100 rfl hl (by decide) rfl (fun ls hl => ?_)
              have lp101_26 : ∀ (d101 i101 : Nat) (w101_a_2_6_6 : Nat → Int32) (w101_a_2_6_7 : Nat → Int32) (w101_a_2_6_8 : Nat → Int32) (H : Heap) (locs : List Loc) (ls : Array Slot), i101 + d101 = 2 → (w101_a_2_6_6, w101_a_2_6_7, w101_a_2_6_8) = it (fX1_become_2_0_b101 a) i101 (a (2 + 6) 6, a (2 + 6) 7, a (2 + 6) 8) → xH ω (g, y, up2 (up2 (up2 (up2 (up2 (up2 (up2 (up2 (up2 a (2 + 6) 0 w28_a_2_6_0) (2 + 6) 1 w2_a_2_6_1) (2 + 6) 2 w28_a_2_6_2) (2 + 6) 3 w28_a_2_6_3) (2 + 6) 4 w28_a_2_6_4) (2 + 6) 5 w28_a_2_6_5) (2 + 6) 6 w101_a_2_6_6) (2 + 6) 7 w101_a_2_6_7) (2 + 6) 8 w101_a_2_6_8, z, dr, pg, t) H → va_S ω.2.2.1 s.heap H locs → lv_has ls 3 [(2, .int (nI i101)), (0, .ref (ω.2.1 (2 + 6) 99)), (1, .ref (ω.2.1 (0 + 6) 99))] → W p l e rmX1_become_2_0 s m args below meth c H locs 0 0 QQ (F0 m 101 ls []) := by
                intro d101
                induction d101 with
                | zero =>
                  intro i101 w101_a_2_6_6 w101_a_2_6_7 w101_a_2_6_8 H locs ls hi101 hS101 hH hS hl
                  have hj101 : 2 = i101 := by omega
                  subst hj101
                  have e_w101_a_2_6_6 : w101_a_2_6_6 = (it (fX1_become_2_0_b101 a) 2 (a (2 + 6) 6, a (2 + 6) 7, a (2 + 6) 8)).1 := by rw [← hS101]
                  have e_w101_a_2_6_7 : w101_a_2_6_7 = (it (fX1_become_2_0_b101 a) 2 (a (2 + 6) 6, a (2 + 6) 7, a (2 + 6) 8)).2.1 := by rw [← hS101]
                  have e_w101_a_2_6_8 : w101_a_2_6_8 = (it (fX1_become_2_0_b101 a) 2 (a (2 + 6) 6, a (2 + 6) 7, a (2 + 6) 8)).2.2 := by rw [← hS101]
                  refine lv_iload_n hF.1 hF.2.1 dX1_become_101 rfl (lv_at hl 0 rfl) ?_
                  refine lv_iconst (v := nI 2) hF.1 hF.2.1 dX1_become_102 (by decide) ?_
                  refine n_ge (tgt := 148) hF.1 hF.2.1 dX1_become_103 (by decide) (by omega) (by omega) (fun c3 => ?_) (fun c3 => ?_)
                  · skip
                    refine lv_aload_n hF.1 hF.2.1 dX1_become_148 rfl (lv_at hl 1 rfl) ?_
                    refine lv_aload_n hF.1 hF.2.1 dX1_become_149 rfl (lv_at hl 2 rfl) ?_
                    refine xg1_9 (j := 0) (by decide) hF hK hH q171 dX1_become_150 (v := g (0 + 6) 9) rfl ?_
                    refine xp1_9 (j := 2) (by decide) hF hK hH hS q171 dX1_become_153 (g' := up2 g (2 + 6) 9 (g (0 + 6) 9)) (by simp [up2]) (by intro i q hq; simp only [up2, if_neg hq]) (fun H locs hH hS => ?_)
                    exact hret _ _ _ _ _ dX1_become_156 ⟨_, _, _, _, _, _, _, _, _, _, by subst e_w101_a_2_6_8; subst e_w101_a_2_6_7; subst e_w101_a_2_6_6; subst e_w28_a_2_6_5; subst e_w28_a_2_6_4; subst e_w28_a_2_6_3; subst e_w28_a_2_6_2; subst e_w28_a_2_6_0; subst e_w2_a_2_6_1; rfl, rfl⟩ hH hS
                  · exact absurd (by omega) c3
                | succ d101 ih =>
                  intro i101 w101_a_2_6_6 w101_a_2_6_7 w101_a_2_6_8 H locs ls hi101 hS101 hH hS hl
                  refine lv_iload_n hF.1 hF.2.1 dX1_become_101 rfl (lv_at hl 0 rfl) ?_
                  refine lv_iconst (v := nI 2) hF.1 hF.2.1 dX1_become_102 (by decide) ?_
                  refine n_ge (tgt := 148) hF.1 hF.2.1 dX1_become_103 (by decide) (by omega) (by omega) (fun c4 => ?_) (fun c4 => ?_)
                  · exact absurd c4 (by omega)
                  · skip
                    refine lv_aload_n hF.1 hF.2.1 dX1_become_106 rfl (lv_at hl 1 rfl) ?_
                    refine xg1_6 (j := 2) (by decide) hF hK hH q165 dX1_become_107 ?_
                    refine lv_iload_n hF.1 hF.2.1 dX1_become_110 rfl (lv_at hl 0 rfl) ?_
                    refine lv_aload_n hF.1 hF.2.1 dX1_become_111 rfl (lv_at hl 2 rfl) ?_
                    refine xg1_6 (j := 0) (by decide) hF hK hH q165 dX1_become_112 ?_
                    refine lv_iload_n hF.1 hF.2.1 dX1_become_115 rfl (lv_at hl 0 rfl) ?_
                    refine x1_ald (j := 0) (by decide) hF hK hH 6 (n := 2) rfl rfl (by decide) rfl (f := a (0 + 6) 6) (by simp [up2]) (i := i101) (by omega) (by decide) dX1_become_116 ?_
                    refine x1_ast (a' := up2 (up2 (up2 (up2 (up2 (up2 (up2 (up2 (up2 a (2 + 6) 0 w28_a_2_6_0) (2 + 6) 1 w2_a_2_6_1) (2 + 6) 2 w28_a_2_6_2) (2 + 6) 3 w28_a_2_6_3) (2 + 6) 4 w28_a_2_6_4) (2 + 6) 5 w28_a_2_6_5) (2 + 6) 6 (upd w101_a_2_6_6 i101 (a (0 + 6) 6 i101))) (2 + 6) 7 w101_a_2_6_7) (2 + 6) 8 w101_a_2_6_8) (j := 2) (by decide) hF hK hH hS 6 (n := 2) rfl rfl (by decide) rfl (f := w101_a_2_6_6) (by simp [up2]) (i := i101) (by omega) (by decide) dX1_become_117 (by simp [up2]) (by intro i q hq; simp only [up2, if_neg hq]) (fun H locs hH hS => ?_)
                    refine lv_aload_n hF.1 hF.2.1 dX1_become_118 rfl (lv_at hl 1 rfl) ?_
                    refine xg1_7 (j := 2) (by decide) hF hK hH q167 dX1_become_119 ?_
                    refine lv_iload_n hF.1 hF.2.1 dX1_become_122 rfl (lv_at hl 0 rfl) ?_
                    refine lv_aload_n hF.1 hF.2.1 dX1_become_123 rfl (lv_at hl 2 rfl) ?_
                    refine xg1_7 (j := 0) (by decide) hF hK hH q167 dX1_become_124 ?_
                    refine lv_iload_n hF.1 hF.2.1 dX1_become_127 rfl (lv_at hl 0 rfl) ?_
                    refine x1_ald (j := 0) (by decide) hF hK hH 7 (n := 2) rfl rfl (by decide) rfl (f := a (0 + 6) 7) (by simp [up2]) (i := i101) (by omega) (by decide) dX1_become_128 ?_
                    refine x1_ast (a' := up2 (up2 (up2 (up2 (up2 (up2 (up2 (up2 (up2 a (2 + 6) 0 w28_a_2_6_0) (2 + 6) 1 w2_a_2_6_1) (2 + 6) 2 w28_a_2_6_2) (2 + 6) 3 w28_a_2_6_3) (2 + 6) 4 w28_a_2_6_4) (2 + 6) 5 w28_a_2_6_5) (2 + 6) 6 (upd w101_a_2_6_6 i101 (a (0 + 6) 6 i101))) (2 + 6) 7 (upd w101_a_2_6_7 i101 (a (0 + 6) 7 i101))) (2 + 6) 8 w101_a_2_6_8) (j := 2) (by decide) hF hK hH hS 7 (n := 2) rfl rfl (by decide) rfl (f := w101_a_2_6_7) (by simp [up2]) (i := i101) (by omega) (by decide) dX1_become_129 (by simp [up2]) (by intro i q hq; simp only [up2, if_neg hq]) (fun H locs hH hS => ?_)
                    refine lv_aload_n hF.1 hF.2.1 dX1_become_130 rfl (lv_at hl 1 rfl) ?_
                    refine xg1_8 (j := 2) (by decide) hF hK hH q169 dX1_become_131 ?_
                    refine lv_iload_n hF.1 hF.2.1 dX1_become_134 rfl (lv_at hl 0 rfl) ?_
                    refine lv_aload_n hF.1 hF.2.1 dX1_become_135 rfl (lv_at hl 2 rfl) ?_
                    refine xg1_8 (j := 0) (by decide) hF hK hH q169 dX1_become_136 ?_
                    refine lv_iload_n hF.1 hF.2.1 dX1_become_139 rfl (lv_at hl 0 rfl) ?_
                    refine x1_ald (j := 0) (by decide) hF hK hH 8 (n := 2) rfl rfl (by decide) rfl (f := a (0 + 6) 8) (by simp [up2]) (i := i101) (by omega) (by decide) dX1_become_140 ?_
                    refine x1_ast (a' := up2 (up2 (up2 (up2 (up2 (up2 (up2 (up2 (up2 a (2 + 6) 0 w28_a_2_6_0) (2 + 6) 1 w2_a_2_6_1) (2 + 6) 2 w28_a_2_6_2) (2 + 6) 3 w28_a_2_6_3) (2 + 6) 4 w28_a_2_6_4) (2 + 6) 5 w28_a_2_6_5) (2 + 6) 6 (upd w101_a_2_6_6 i101 (a (0 + 6) 6 i101))) (2 + 6) 7 (upd w101_a_2_6_7 i101 (a (0 + 6) 7 i101))) (2 + 6) 8 (upd w101_a_2_6_8 i101 (a (0 + 6) 8 i101))) (j := 2) (by decide) hF hK hH hS 8 (n := 2) rfl rfl (by decide) rfl (f := w101_a_2_6_8) (by simp [up2]) (i := i101) (by omega) (by decide) dX1_become_141 (by simp [up2]) (by intro i q hq; simp only [up2, if_neg hq]) (fun H locs hH hS => ?_)
                    refine n_iinc (lv' := [(2, .int (nI (i101 + 1))), (0, .ref (ω.2.1 (2 + 6) 99)), (1, .ref (ω.2.1 (0 + 6) 99))]) hF.1 hF.2.1 dX1_become_142 hl (k := 0) rfl (by decide) rfl (fun ls hl => ?_)
                    refine lv_goto (tgt := 101) hF.1 hF.2.1 dX1_become_145 (by decide) ?_
                    exact ih (i101 + 1) _ _ _ _ _ _ (by omega) (by rw [it_succ (fX1_become_2_0_b101 a) i101 _, ← hS101]; try rfl) hH hS (lv_sub hl [0, 1, 2] rfl)
              have hH : xH ω (g, y, up2 (up2 (up2 (up2 (up2 (up2 (up2 (up2 (up2 a (2 + 6) 0 w28_a_2_6_0) (2 + 6) 1 w2_a_2_6_1) (2 + 6) 2 w28_a_2_6_2) (2 + 6) 3 w28_a_2_6_3) (2 + 6) 4 w28_a_2_6_4) (2 + 6) 5 w28_a_2_6_5) (2 + 6) 6 (a (2 + 6) 6)) (2 + 6) 7 (a (2 + 6) 7)) (2 + 6) 8 (a (2 + 6) 8), z, dr, pg, t) H := x_ext (fun _ _ => rfl) (fun _ _ => rfl) (by intro o k; by_cases h0 : o = (2 + 6) ∧ k = 6; (obtain ⟨rfl, rfl⟩ := h0; simp [up2]); by_cases h1 : o = (2 + 6) ∧ k = 7; (obtain ⟨rfl, rfl⟩ := h1; simp [up2]); by_cases h2 : o = (2 + 6) ∧ k = 8; (obtain ⟨rfl, rfl⟩ := h2; simp [up2]); simp only [up2, if_neg h0, if_neg h1, if_neg h2]) (fun _ _ => rfl) hH
              exact lp101_26 2 0 _ _ _ _ _ _ (by omega) rfl hH hS (lv_sub hl [0, 1, 2] rfl)
            · exact absurd (by omega) c2
          | succ d28 ih =>
            intro i28 w28_a_2_6_0 w28_a_2_6_2 w28_a_2_6_3 w28_a_2_6_4 w28_a_2_6_5 H locs ls hi28 hS28 hH hS hl
            refine lv_iload_n hF.1 hF.2.1 dX1_become_28 rfl (lv_at hl 0 rfl) ?_
            refine lv_iconst (v := nI 3) hF.1 hF.2.1 dX1_become_29 (by decide) ?_
            refine n_ge (tgt := 99) hF.1 hF.2.1 dX1_become_30 (by decide) (by omega) (by omega) (fun c5 => ?_) (fun c5 => ?_)
            · exact absurd c5 (by omega)
            · skip
              refine lv_aload_n hF.1 hF.2.1 dX1_become_33 rfl (lv_at hl 1 rfl) ?_
              refine xg1_0 (j := 2) (by decide) hF hK hH q154 dX1_become_34 ?_
              refine lv_iload_n hF.1 hF.2.1 dX1_become_37 rfl (lv_at hl 0 rfl) ?_
              refine lv_aload_n hF.1 hF.2.1 dX1_become_38 rfl (lv_at hl 2 rfl) ?_
              refine xg1_0 (j := 0) (by decide) hF hK hH q154 dX1_become_39 ?_
              refine lv_iload_n hF.1 hF.2.1 dX1_become_42 rfl (lv_at hl 0 rfl) ?_
              refine x1_ald (j := 0) (by decide) hF hK hH 0 (n := 3) rfl rfl (by decide) rfl (f := a (0 + 6) 0) (by simp [up2]) (i := i28) (by omega) (by decide) dX1_become_43 ?_
              refine x1_ast (a' := up2 (up2 (up2 (up2 (up2 (up2 a (2 + 6) 0 (upd w28_a_2_6_0 i28 (a (0 + 6) 0 i28))) (2 + 6) 1 w2_a_2_6_1) (2 + 6) 2 w28_a_2_6_2) (2 + 6) 3 w28_a_2_6_3) (2 + 6) 4 w28_a_2_6_4) (2 + 6) 5 w28_a_2_6_5) (j := 2) (by decide) hF hK hH hS 0 (n := 3) rfl rfl (by decide) rfl (f := w28_a_2_6_0) (by simp [up2]) (i := i28) (by omega) (by decide) dX1_become_44 (by simp [up2]) (by intro i q hq; simp only [up2, if_neg hq]) (fun H locs hH hS => ?_)
              refine lv_aload_n hF.1 hF.2.1 dX1_become_45 rfl (lv_at hl 1 rfl) ?_
              refine xg1_2 (j := 2) (by decide) hF hK hH q157 dX1_become_46 ?_
              refine lv_iload_n hF.1 hF.2.1 dX1_become_49 rfl (lv_at hl 0 rfl) ?_
              refine lv_aload_n hF.1 hF.2.1 dX1_become_50 rfl (lv_at hl 2 rfl) ?_
              refine xg1_2 (j := 0) (by decide) hF hK hH q157 dX1_become_51 ?_
              refine lv_iload_n hF.1 hF.2.1 dX1_become_54 rfl (lv_at hl 0 rfl) ?_
              refine x1_ald (j := 0) (by decide) hF hK hH 2 (n := 3) rfl rfl (by decide) rfl (f := a (0 + 6) 2) (by simp [up2]) (i := i28) (by omega) (by decide) dX1_become_55 ?_
              refine x1_ast (a' := up2 (up2 (up2 (up2 (up2 (up2 a (2 + 6) 0 (upd w28_a_2_6_0 i28 (a (0 + 6) 0 i28))) (2 + 6) 1 w2_a_2_6_1) (2 + 6) 2 (upd w28_a_2_6_2 i28 (a (0 + 6) 2 i28))) (2 + 6) 3 w28_a_2_6_3) (2 + 6) 4 w28_a_2_6_4) (2 + 6) 5 w28_a_2_6_5) (j := 2) (by decide) hF hK hH hS 2 (n := 3) rfl rfl (by decide) rfl (f := w28_a_2_6_2) (by simp [up2]) (i := i28) (by omega) (by decide) dX1_become_56 (by simp [up2]) (by intro i q hq; simp only [up2, if_neg hq]) (fun H locs hH hS => ?_)
              refine lv_aload_n hF.1 hF.2.1 dX1_become_57 rfl (lv_at hl 1 rfl) ?_
              refine xg1_3 (j := 2) (by decide) hF hK hH q159 dX1_become_58 ?_
              refine lv_iload_n hF.1 hF.2.1 dX1_become_61 rfl (lv_at hl 0 rfl) ?_
              refine lv_aload_n hF.1 hF.2.1 dX1_become_62 rfl (lv_at hl 2 rfl) ?_
              refine xg1_3 (j := 0) (by decide) hF hK hH q159 dX1_become_63 ?_
              refine lv_iload_n hF.1 hF.2.1 dX1_become_66 rfl (lv_at hl 0 rfl) ?_
              refine x1_ald (j := 0) (by decide) hF hK hH 3 (n := 3) rfl rfl (by decide) rfl (f := a (0 + 6) 3) (by simp [up2]) (i := i28) (by omega) (by decide) dX1_become_67 ?_
              refine x1_ast (a' := up2 (up2 (up2 (up2 (up2 (up2 a (2 + 6) 0 (upd w28_a_2_6_0 i28 (a (0 + 6) 0 i28))) (2 + 6) 1 w2_a_2_6_1) (2 + 6) 2 (upd w28_a_2_6_2 i28 (a (0 + 6) 2 i28))) (2 + 6) 3 (upd w28_a_2_6_3 i28 (a (0 + 6) 3 i28))) (2 + 6) 4 w28_a_2_6_4) (2 + 6) 5 w28_a_2_6_5) (j := 2) (by decide) hF hK hH hS 3 (n := 3) rfl rfl (by decide) rfl (f := w28_a_2_6_3) (by simp [up2]) (i := i28) (by omega) (by decide) dX1_become_68 (by simp [up2]) (by intro i q hq; simp only [up2, if_neg hq]) (fun H locs hH hS => ?_)
              refine lv_aload_n hF.1 hF.2.1 dX1_become_69 rfl (lv_at hl 1 rfl) ?_
              refine xg1_4 (j := 2) (by decide) hF hK hH q161 dX1_become_70 ?_
              refine lv_iload_n hF.1 hF.2.1 dX1_become_73 rfl (lv_at hl 0 rfl) ?_
              refine lv_aload_n hF.1 hF.2.1 dX1_become_74 rfl (lv_at hl 2 rfl) ?_
              refine xg1_4 (j := 0) (by decide) hF hK hH q161 dX1_become_75 ?_
              refine lv_iload_n hF.1 hF.2.1 dX1_become_78 rfl (lv_at hl 0 rfl) ?_
              refine x1_ald (j := 0) (by decide) hF hK hH 4 (n := 3) rfl rfl (by decide) rfl (f := a (0 + 6) 4) (by simp [up2]) (i := i28) (by omega) (by decide) dX1_become_79 ?_
              refine x1_ast (a' := up2 (up2 (up2 (up2 (up2 (up2 a (2 + 6) 0 (upd w28_a_2_6_0 i28 (a (0 + 6) 0 i28))) (2 + 6) 1 w2_a_2_6_1) (2 + 6) 2 (upd w28_a_2_6_2 i28 (a (0 + 6) 2 i28))) (2 + 6) 3 (upd w28_a_2_6_3 i28 (a (0 + 6) 3 i28))) (2 + 6) 4 (upd w28_a_2_6_4 i28 (a (0 + 6) 4 i28))) (2 + 6) 5 w28_a_2_6_5) (j := 2) (by decide) hF hK hH hS 4 (n := 3) rfl rfl (by decide) rfl (f := w28_a_2_6_4) (by simp [up2]) (i := i28) (by omega) (by decide) dX1_become_80 (by simp [up2]) (by intro i q hq; simp only [up2, if_neg hq]) (fun H locs hH hS => ?_)
              refine lv_aload_n hF.1 hF.2.1 dX1_become_81 rfl (lv_at hl 1 rfl) ?_
              refine xg1_5 (j := 2) (by decide) hF hK hH q163 dX1_become_82 ?_
              refine lv_iload_n hF.1 hF.2.1 dX1_become_85 rfl (lv_at hl 0 rfl) ?_
              refine lv_aload_n hF.1 hF.2.1 dX1_become_86 rfl (lv_at hl 2 rfl) ?_
              refine xg1_5 (j := 0) (by decide) hF hK hH q163 dX1_become_87 ?_
              refine lv_iload_n hF.1 hF.2.1 dX1_become_90 rfl (lv_at hl 0 rfl) ?_
              refine x1_ald (j := 0) (by decide) hF hK hH 5 (n := 3) rfl rfl (by decide) rfl (f := a (0 + 6) 5) (by simp [up2]) (i := i28) (by omega) (by decide) dX1_become_91 ?_
              refine x1_ast (a' := up2 (up2 (up2 (up2 (up2 (up2 a (2 + 6) 0 (upd w28_a_2_6_0 i28 (a (0 + 6) 0 i28))) (2 + 6) 1 w2_a_2_6_1) (2 + 6) 2 (upd w28_a_2_6_2 i28 (a (0 + 6) 2 i28))) (2 + 6) 3 (upd w28_a_2_6_3 i28 (a (0 + 6) 3 i28))) (2 + 6) 4 (upd w28_a_2_6_4 i28 (a (0 + 6) 4 i28))) (2 + 6) 5 (upd w28_a_2_6_5 i28 (a (0 + 6) 5 i28))) (j := 2) (by decide) hF hK hH hS 5 (n := 3) rfl rfl (by decide) rfl (f := w28_a_2_6_5) (by simp [up2]) (i := i28) (by omega) (by decide) dX1_become_92 (by simp [up2]) (by intro i q hq; simp only [up2, if_neg hq]) (fun H locs hH hS => ?_)
              refine n_iinc (lv' := [(2, .int (nI (i28 + 1))), (0, .ref (ω.2.1 (2 + 6) 99)), (1, .ref (ω.2.1 (0 + 6) 99))]) hF.1 hF.2.1 dX1_become_93 hl (k := 0) rfl (by decide) rfl (fun ls hl => ?_)
              refine lv_goto (tgt := 28) hF.1 hF.2.1 dX1_become_96 (by decide) ?_
              exact ih (i28 + 1) _ _ _ _ _ _ _ _ (by omega) (by rw [it_succ (fX1_become_2_0_b28 a) i28 _, ← hS28]; try rfl) hH hS (lv_sub hl [0, 1, 2] rfl)
        have hH : xH ω (g, y, up2 (up2 (up2 (up2 (up2 (up2 a (2 + 6) 0 (a (2 + 6) 0)) (2 + 6) 1 w2_a_2_6_1) (2 + 6) 2 (a (2 + 6) 2)) (2 + 6) 3 (a (2 + 6) 3)) (2 + 6) 4 (a (2 + 6) 4)) (2 + 6) 5 (a (2 + 6) 5), z, dr, pg, t) H := x_ext (fun _ _ => rfl) (fun _ _ => rfl) (by intro o k; by_cases h0 : o = (2 + 6) ∧ k = 0; (obtain ⟨rfl, rfl⟩ := h0; simp [up2]); by_cases h1 : o = (2 + 6) ∧ k = 2; (obtain ⟨rfl, rfl⟩ := h1; simp [up2]); by_cases h2 : o = (2 + 6) ∧ k = 3; (obtain ⟨rfl, rfl⟩ := h2; simp [up2]); by_cases h3 : o = (2 + 6) ∧ k = 4; (obtain ⟨rfl, rfl⟩ := h3; simp [up2]); by_cases h4 : o = (2 + 6) ∧ k = 5; (obtain ⟨rfl, rfl⟩ := h4; simp [up2]); simp only [up2, if_neg h0, if_neg h1, if_neg h2, if_neg h3, if_neg h4]) (fun _ _ => rfl) hH
        exact lp28_24 3 0 _ _ _ _ _ _ _ _ (by omega) rfl hH hS (lv_sub hl [0, 1, 2] rfl)
      · exact absurd (by omega) c1
    | succ d2 ih =>
      intro i2 w2_a_2_6_1 H locs ls hi2 hS2 hH hS hl
      refine lv_iload_n hF.1 hF.2.1 dX1_become_2 rfl (lv_at hl 0 rfl) ?_
      refine lv_bipush (v := nI 27) hF.1 hF.2.1 dX1_become_3 (by decide) ?_
      refine n_ge (tgt := 26) hF.1 hF.2.1 dX1_become_5 (by decide) (by omega) (by omega) (fun c6 => ?_) (fun c6 => ?_)
      · exact absurd c6 (by omega)
      · skip
        refine lv_aload_n hF.1 hF.2.1 dX1_become_8 rfl (lv_at hl 1 rfl) ?_
        refine xg1_1 (j := 2) (by decide) hF hK hH q156 dX1_become_9 ?_
        refine lv_iload_n hF.1 hF.2.1 dX1_become_12 rfl (lv_at hl 0 rfl) ?_
        refine lv_aload_n hF.1 hF.2.1 dX1_become_13 rfl (lv_at hl 2 rfl) ?_
        refine xg1_1 (j := 0) (by decide) hF hK hH q156 dX1_become_14 ?_
        refine lv_iload_n hF.1 hF.2.1 dX1_become_17 rfl (lv_at hl 0 rfl) ?_
        refine x1_ald (j := 0) (by decide) hF hK hH 1 (n := 27) rfl rfl (by decide) rfl (f := a (0 + 6) 1) (by simp [up2]) (i := i2) (by omega) (by decide) dX1_become_18 ?_
        refine x1_ast (a' := up2 a (2 + 6) 1 (upd w2_a_2_6_1 i2 (a (0 + 6) 1 i2))) (j := 2) (by decide) hF hK hH hS 1 (n := 27) rfl rfl (by decide) rfl (f := w2_a_2_6_1) (by simp [up2]) (i := i2) (by omega) (by decide) dX1_become_19 (by simp [up2]) (by intro i q hq; simp only [up2, if_neg hq]) (fun H locs hH hS => ?_)
        refine n_iinc (lv' := [(2, .int (nI (i2 + 1))), (0, .ref (ω.2.1 (2 + 6) 99)), (1, .ref (ω.2.1 (0 + 6) 99))]) hF.1 hF.2.1 dX1_become_20 hl (k := 0) rfl (by decide) rfl (fun ls hl => ?_)
        refine lv_goto (tgt := 2) hF.1 hF.2.1 dX1_become_23 (by decide) ?_
        exact ih (i2 + 1) _ _ _ _ (by omega) (by rw [it_succ (fX1_become_2_0_b2 a) i2 _, ← hS2]; try rfl) hH hS (lv_sub hl [0, 1, 2] rfl)
  have hH : xH ω (g, y, up2 a (2 + 6) 1 (a (2 + 6) 1), z, dr, pg, t) H := x_ext (fun _ _ => rfl) (fun _ _ => rfl) (by intro o k; by_cases h0 : o = (2 + 6) ∧ k = 1; (obtain ⟨rfl, rfl⟩ := h0; simp [up2]); simp only [up2, if_neg h0]) (fun _ _ => rfl) hH
  exact lp2_22 27 0 _ _ _ _ (by omega) rfl hH hS (lv_sub hl [0, 1, 2] rfl)

def fX1_become_0_2_b101 (a : Nat → Nat → Nat → Int32) (i101 : Nat) (S : (Nat → Int32) × (Nat → Int32) × (Nat → Int32)) : (Nat → Int32) × (Nat → Int32) × (Nat → Int32) := (upd S.1 i101 (a (2 + 6) 6 i101), upd S.2.1 i101 (a (2 + 6) 7 i101), upd S.2.2 i101 (a (2 + 6) 8 i101))
def fX1_become_0_2_b28 (a : Nat → Nat → Nat → Int32) (i28 : Nat) (S : (Nat → Int32) × (Nat → Int32) × (Nat → Int32) × (Nat → Int32) × (Nat → Int32)) : (Nat → Int32) × (Nat → Int32) × (Nat → Int32) × (Nat → Int32) × (Nat → Int32) := (upd S.1 i28 (a (2 + 6) 0 i28), upd S.2.1 i28 (a (2 + 6) 2 i28), upd S.2.2.1 i28 (a (2 + 6) 3 i28), upd S.2.2.2.1 i28 (a (2 + 6) 4 i28), upd S.2.2.2.2 i28 (a (2 + 6) 5 i28))
def fX1_become_0_2_b2 (a : Nat → Nat → Nat → Int32) (i2 : Nat) (S : (Nat → Int32)) : (Nat → Int32) := upd S i2 (a (2 + 6) 1 i2)
def fX1_become_0_2 (g : Nat → Nat → Nat) (a : Nat → Nat → Nat → Int32) : (Nat → Int32) × (Nat → Int32) × (Nat → Int32) × (Nat → Int32) × (Nat → Int32) × (Nat → Int32) × (Nat → Int32) × (Nat → Int32) × (Nat → Int32) × Nat := (((it (fX1_become_0_2_b28 a) 3 (a (0 + 6) 0, a (0 + 6) 2, a (0 + 6) 3, a (0 + 6) 4, a (0 + 6) 5)).1), (it (fX1_become_0_2_b2 a) 27 (a (0 + 6) 1)), ((it (fX1_become_0_2_b28 a) 3 (a (0 + 6) 0, a (0 + 6) 2, a (0 + 6) 3, a (0 + 6) 4, a (0 + 6) 5)).2.1), ((it (fX1_become_0_2_b28 a) 3 (a (0 + 6) 0, a (0 + 6) 2, a (0 + 6) 3, a (0 + 6) 4, a (0 + 6) 5)).2.2.1), ((it (fX1_become_0_2_b28 a) 3 (a (0 + 6) 0, a (0 + 6) 2, a (0 + 6) 3, a (0 + 6) 4, a (0 + 6) 5)).2.2.2.1), ((it (fX1_become_0_2_b28 a) 3 (a (0 + 6) 0, a (0 + 6) 2, a (0 + 6) 3, a (0 + 6) 4, a (0 + 6) 5)).2.2.2.2), ((it (fX1_become_0_2_b101 a) 2 (a (0 + 6) 6, a (0 + 6) 7, a (0 + 6) 8)).1), ((it (fX1_become_0_2_b101 a) 2 (a (0 + 6) 6, a (0 + 6) 7, a (0 + 6) 8)).2.1), ((it (fX1_become_0_2_b101 a) 2 (a (0 + 6) 6, a (0 + 6) 7, a (0 + 6) 8)).2.2), g (2 + 6) 9)
def rmX1_become_0_2 : Room := { frames := 1, cells := 0, slots := 0, locals := 24 }
theorem hdX1_become_0_2 : yX1_become.cls = RX1 ∧ yX1_become.cls ≠ "java/lang/invoke/MethodHandle" ∧ yX1_become.cls ≠ "java/lang/invoke/VarHandle" ∧ (parseMethodDescriptor yX1_become.desc).map (fun d => d.parameters.length) = some 1 := by decide +kernel
set_option maxHeartbeats 4000000 in
theorem kX1_become_0_2 (l : Launch) (ω : OM) (g : Nat → Nat → Nat) (y : Nat → Nat → Int32) (a z : Nat → Nat → Nat → Int32) (dr : Int64) (pg : Nat → Int32) (t : TW) : Met l yX1_become (ws_ yX1_become cX1_become 3 none) rmX1_become_0_2 (va_Pc [.ref (ω.2.1 (0 + 6) 99), .ref (ω.2.1 (2 + 6) 99)] (fun U => xK ω U ∧ xH ω (g, y, a, z, dr, pg, t) U.heap)) (va_Qv (fun (u : XS) => ∃ (o0 : Nat → Int32) (o1 : Nat → Int32) (o2 : Nat → Int32) (o3 : Nat → Int32) (o4 : Nat → Int32) (o5 : Nat → Int32) (o6 : Nat → Int32) (o7 : Nat → Int32) (o8 : Nat → Int32) (o9 : Nat), (o0, o1, o2, o3, o4, o5, o6, o7, o8, o9) = (fX1_become_0_2 g a) ∧ u = (up2 g (0 + 6) 9 o9, y, up2 (up2 (up2 (up2 (up2 (up2 (up2 (up2 (up2 a (0 + 6) 0 o0) (0 + 6) 1 o1) (0 + 6) 2 o2) (0 + 6) 3 o3) (0 + 6) 4 o4) (0 + 6) 5 o5) (0 + 6) 6 o6) (0 + 6) 7 o7) (0 + 6) 8 o8, z, dr, pg, t)) (fun u t => xH ω u t.heap) ω.2.2.1) 0 0 ω.2.2.1 := by
  refine g_entWv (C := RX1) rfl (by decide) (Nat.le_of_ble_eq_true rfl) ?_
  intro p e s m args below meth c QQ ls H locs hF hK hH hS hl hret
  have hl : lv_has ls 3 [(0, .ref (ω.2.1 (0 + 6) 99)), (1, .ref (ω.2.1 (2 + 6) 99))] := hl
  have hn9 : tn t ≤ 9 := hH.2.2.1
  refine lv_iconst (v := nI 0) hF.1 hF.2.1 dX1_become_0 (by decide) ?_
  refine lv_istore_n (lv' := [(2, .int (nI 0)), (0, .ref (ω.2.1 (0 + 6) 99)), (1, .ref (ω.2.1 (2 + 6) 99))]) hF.1 hF.2.1 dX1_become_1 rfl hl (by decide) rfl (fun ls hl => ?_)
  have lp2_28 : ∀ (d2 i2 : Nat) (w2_a_0_6_1 : Nat → Int32) (H : Heap) (locs : List Loc) (ls : Array Slot), i2 + d2 = 27 → w2_a_0_6_1 = it (fX1_become_0_2_b2 a) i2 (a (0 + 6) 1) → xH ω (g, y, up2 a (0 + 6) 1 w2_a_0_6_1, z, dr, pg, t) H → va_S ω.2.2.1 s.heap H locs → lv_has ls 3 [(2, .int (nI i2)), (0, .ref (ω.2.1 (0 + 6) 99)), (1, .ref (ω.2.1 (2 + 6) 99))] → W p l e rmX1_become_0_2 s m args below meth c H locs 0 0 QQ (F0 m 2 ls []) := by
    intro d2
    induction d2 with
    | zero =>
      intro i2 w2_a_0_6_1 H locs ls hi2 hS2 hH hS hl
      have hj2 : 27 = i2 := by omega
      subst hj2
      have e_w2_a_0_6_1 := hS2
      refine lv_iload_n hF.1 hF.2.1 dX1_become_2 rfl (lv_at hl 0 rfl) ?_
      refine lv_bipush (v := nI 27) hF.1 hF.2.1 dX1_become_3 (by decide) ?_
      refine n_ge (tgt := 26) hF.1 hF.2.1 dX1_become_5 (by decide) (by omega) (by omega) (fun c1 => ?_) (fun c1 => ?_)
      · skip
        refine lv_iconst (v := nI 0) hF.1 hF.2.1 dX1_become_26 (by decide) ?_
        refine lv_istore_n (lv' := [(2, .int (nI 0)), (0, .ref (ω.2.1 (0 + 6) 99)), (1, .ref (ω.2.1 (2 + 6) 99))]) hF.1 hF.2.1 dX1_become_27 rfl hl (by decide) rfl (fun ls hl => ?_)
        have lp28_30 : ∀ (d28 i28 : Nat) (w28_a_0_6_0 : Nat → Int32) (w28_a_0_6_2 : Nat → Int32) (w28_a_0_6_3 : Nat → Int32) (w28_a_0_6_4 : Nat → Int32) (w28_a_0_6_5 : Nat → Int32) (H : Heap) (locs : List Loc) (ls : Array Slot), i28 + d28 = 3 → (w28_a_0_6_0, w28_a_0_6_2, w28_a_0_6_3, w28_a_0_6_4, w28_a_0_6_5) = it (fX1_become_0_2_b28 a) i28 (a (0 + 6) 0, a (0 + 6) 2, a (0 + 6) 3, a (0 + 6) 4, a (0 + 6) 5) → xH ω (g, y, up2 (up2 (up2 (up2 (up2 (up2 a (0 + 6) 0 w28_a_0_6_0) (0 + 6) 1 w2_a_0_6_1) (0 + 6) 2 w28_a_0_6_2) (0 + 6) 3 w28_a_0_6_3) (0 + 6) 4 w28_a_0_6_4) (0 + 6) 5 w28_a_0_6_5, z, dr, pg, t) H → va_S ω.2.2.1 s.heap H locs → lv_has ls 3 [(2, .int (nI i28)), (0, .ref (ω.2.1 (0 + 6) 99)), (1, .ref (ω.2.1 (2 + 6) 99))] → W p l e rmX1_become_0_2 s m args below meth c H locs 0 0 QQ (F0 m 28 ls []) := by
          intro d28
          induction d28 with
          | zero =>
            intro i28 w28_a_0_6_0 w28_a_0_6_2 w28_a_0_6_3 w28_a_0_6_4 w28_a_0_6_5 H locs ls hi28 hS28 hH hS hl
            have hj28 : 3 = i28 := by omega
            subst hj28
            have e_w28_a_0_6_0 : w28_a_0_6_0 = (it (fX1_become_0_2_b28 a) 3 (a (0 + 6) 0, a (0 + 6) 2, a (0 + 6) 3, a (0 + 6) 4, a (0 + 6) 5)).1 := by rw [← hS28]
            have e_w28_a_0_6_2 : w28_a_0_6_2 = (it (fX1_become_0_2_b28 a) 3 (a (0 + 6) 0, a (0 + 6) 2, a (0 + 6) 3, a (0 + 6) 4, a (0 + 6) 5)).2.1 := by rw [← hS28]
            have e_w28_a_0_6_3 : w28_a_0_6_3 = (it (fX1_become_0_2_b28 a) 3 (a (0 + 6) 0, a (0 + 6) 2, a (0 + 6) 3, a (0 + 6) 4, a (0 + 6) 5)).2.2.1 := by rw [← hS28]
            have e_w28_a_0_6_4 : w28_a_0_6_4 = (it (fX1_become_0_2_b28 a) 3 (a (0 + 6) 0, a (0 + 6) 2, a (0 + 6) 3, a (0 + 6) 4, a (0 + 6) 5)).2.2.2.1 := by rw [← hS28]
            have e_w28_a_0_6_5 : w28_a_0_6_5 = (it (fX1_become_0_2_b28 a) 3 (a (0 + 6) 0, a (0 + 6) 2, a (0 + 6) 3, a (0 + 6) 4, a (0 + 6) 5)).2.2.2.2 := by rw [← hS28]
            refine lv_iload_n hF.1 hF.2.1 dX1_become_28 rfl (lv_at hl 0 rfl) ?_
            refine lv_iconst (v := nI 3) hF.1 hF.2.1 dX1_become_29 (by decide) ?_
            refine n_ge (tgt := 99) hF.1 hF.2.1 dX1_become_30 (by decide) (by omega) (by omega) (fun c2 => ?_) (fun c2 => ?_)
            · skip
              refine lv_iconst (v := nI 0) hF.1 hF.2.1 dX1_become_99 (by decide) ?_
              refine lv_istore_n (lv' := [(2, .int (nI 0)), (0, .ref (ω.2.1 (0 + 6) 99)), (1, .ref (ω.2.1 (2 + 6) 99))]) hF.1 hF.2.1 dX1_become_100 rfl hl (by decide) rfl (fun ls hl => ?_)
              have lp101_32 : ∀ (d101 i101 : Nat) (w101_a_0_6_6 : Nat → Int32) (w101_a_0_6_7 : Nat → Int32) (w101_a_0_6_8 : Nat → Int32) (H : Heap) (locs : List Loc) (ls : Array Slot), i101 + d101 = 2 → (w101_a_0_6_6, w101_a_0_6_7, w101_a_0_6_8) = it (fX1_become_0_2_b101 a) i101 (a (0 + 6) 6, a (0 + 6) 7, a (0 + 6) 8) → xH ω (g, y, up2 (up2 (up2 (up2 (up2 (up2 (up2 (up2 (up2 a (0 + 6) 0 w28_a_0_6_0) (0 + 6) 1 w2_a_0_6_1) (0 + 6) 2 w28_a_0_6_2) (0 + 6) 3 w28_a_0_6_3) (0 + 6) 4 w28_a_0_6_4) (0 + 6) 5 w28_a_0_6_5) (0 + 6) 6 w101_a_0_6_6) (0 + 6) 7 w101_a_0_6_7) (0 + 6) 8 w101_a_0_6_8, z, dr, pg, t) H → va_S ω.2.2.1 s.heap H locs → lv_has ls 3 [(2, .int (nI i101)), (0, .ref (ω.2.1 (0 + 6) 99)), (1, .ref (ω.2.1 (2 + 6) 99))] → W p l e rmX1_become_0_2 s m args below meth c H locs 0 0 QQ (F0 m 101 ls []) := by
                intro d101
                induction d101 with
                | zero =>
                  intro i101 w101_a_0_6_6 w101_a_0_6_7 w101_a_0_6_8 H locs ls hi101 hS101 hH hS hl
                  have hj101 : 2 = i101 := by omega
                  subst hj101
                  have e_w101_a_0_6_6 : w101_a_0_6_6 = (it (fX1_become_0_2_b101 a) 2 (a (0 + 6) 6, a (0 + 6) 7, a (0 + 6) 8)).1 := by rw [← hS101]
                  have e_w101_a_0_6_7 : w101_a_0_6_7 = (it (fX1_become_0_2_b101 a) 2 (a (0 + 6) 6, a (0 + 6) 7, a (0 + 6) 8)).2.1 := by rw [← hS101]
                  have e_w101_a_0_6_8 : w101_a_0_6_8 = (it (fX1_become_0_2_b101 a) 2 (a (0 + 6) 6, a (0 + 6) 7, a (0 + 6) 8)).2.2 := by rw [← hS101]
                  refine lv_iload_n hF.1 hF.2.1 dX1_become_101 rfl (lv_at hl 0 rfl) ?_
                  refine lv_iconst (v := nI 2) hF.1 hF.2.1 dX1_become_102 (by decide) ?_
                  refine n_ge (tgt := 148) hF.1 hF.2.1 dX1_become_103 (by decide) (by omega) (by omega) (fun c3 => ?_) (fun c3 => ?_)
                  · skip
                    refine lv_aload_n hF.1 hF.2.1 dX1_become_148 rfl (lv_at hl 1 rfl) ?_
                    refine lv_aload_n hF.1 hF.2.1 dX1_become_149 rfl (lv_at hl 2 rfl) ?_
                    refine xg1_9 (j := 2) (by decide) hF hK hH q171 dX1_become_150 (v := g (2 + 6) 9) rfl ?_
                    refine xp1_9 (j := 0) (by decide) hF hK hH hS q171 dX1_become_153 (g' := up2 g (0 + 6) 9 (g (2 + 6) 9)) (by simp [up2]) (by intro i q hq; simp only [up2, if_neg hq]) (fun H locs hH hS => ?_)
                    exact hret _ _ _ _ _ dX1_become_156 ⟨_, _, _, _, _, _, _, _, _, _, by subst e_w101_a_0_6_8; subst e_w101_a_0_6_7; subst e_w101_a_0_6_6; subst e_w28_a_0_6_5; subst e_w28_a_0_6_4; subst e_w28_a_0_6_3; subst e_w28_a_0_6_2; subst e_w28_a_0_6_0; subst e_w2_a_0_6_1; rfl, rfl⟩ hH hS
                  · exact absurd (by omega) c3
                | succ d101 ih =>
                  intro i101 w101_a_0_6_6 w101_a_0_6_7 w101_a_0_6_8 H locs ls hi101 hS101 hH hS hl
                  refine lv_iload_n hF.1 hF.2.1 dX1_become_101 rfl (lv_at hl 0 rfl) ?_
                  refine lv_iconst (v := nI 2) hF.1 hF.2.1 dX1_become_102 (by decide) ?_
                  refine n_ge (tgt := 148) hF.1 hF.2.1 dX1_become_103 (by decide) (by omega) (by omega) (fun c4 => ?_) (fun c4 => ?_)
                  · exact absurd c4 (by omega)
                  · skip
                    refine lv_aload_n hF.1 hF.2.1 dX1_become_106 rfl (lv_at hl 1 rfl) ?_
                    refine xg1_6 (j := 0) (by decide) hF hK hH q165 dX1_become_107 ?_
                    refine lv_iload_n hF.1 hF.2.1 dX1_become_110 rfl (lv_at hl 0 rfl) ?_
                    refine lv_aload_n hF.1 hF.2.1 dX1_become_111 rfl (lv_at hl 2 rfl) ?_
                    refine xg1_6 (j := 2) (by decide) hF hK hH q165 dX1_become_112 ?_
                    refine lv_iload_n hF.1 hF.2.1 dX1_become_115 rfl (lv_at hl 0 rfl) ?_
                    refine x1_ald (j := 2) (by decide) hF hK hH 6 (n := 2) rfl rfl (by decide) rfl (f := a (2 + 6) 6) (by simp [up2]) (i := i101) (by omega) (by decide) dX1_become_116 ?_
                    refine x1_ast (a' := up2 (up2 (up2 (up2 (up2 (up2 (up2 (up2 (up2 a (0 + 6) 0 w28_a_0_6_0) (0 + 6) 1 w2_a_0_6_1) (0 + 6) 2 w28_a_0_6_2) (0 + 6) 3 w28_a_0_6_3) (0 + 6) 4 w28_a_0_6_4) (0 + 6) 5 w28_a_0_6_5) (0 + 6) 6 (upd w101_a_0_6_6 i101 (a (2 + 6) 6 i101))) (0 + 6) 7 w101_a_0_6_7) (0 + 6) 8 w101_a_0_6_8) (j := 0) (by decide) hF hK hH hS 6 (n := 2) rfl rfl (by decide) rfl (f := w101_a_0_6_6) (by simp [up2]) (i := i101) (by omega) (by decide) dX1_become_117 (by simp [up2]) (by intro i q hq; simp only [up2, if_neg hq]) (fun H locs hH hS => ?_)
                    refine lv_aload_n hF.1 hF.2.1 dX1_become_118 rfl (lv_at hl 1 rfl) ?_
                    refine xg1_7 (j := 0) (by decide) hF hK hH q167 dX1_become_119 ?_
                    refine lv_iload_n hF.1 hF.2.1 dX1_become_122 rfl (lv_at hl 0 rfl) ?_
                    refine lv_aload_n hF.1 hF.2.1 dX1_become_123 rfl (lv_at hl 2 rfl) ?_
                    refine xg1_7 (j := 2) (by decide) hF hK hH q167 dX1_become_124 ?_
                    refine lv_iload_n hF.1 hF.2.1 dX1_become_127 rfl (lv_at hl 0 rfl) ?_
                    refine x1_ald (j := 2) (by decide) hF hK hH 7 (n := 2) rfl rfl (by decide) rfl (f := a (2 + 6) 7) (by simp [up2]) (i := i101) (by omega) (by decide) dX1_become_128 ?_
                    refine x1_ast (a' := up2 (up2 (up2 (up2 (up2 (up2 (up2 (up2 (up2 a (0 + 6) 0 w28_a_0_6_0) (0 + 6) 1 w2_a_0_6_1) (0 + 6) 2 w28_a_0_6_2) (0 + 6) 3 w28_a_0_6_3) (0 + 6) 4 w28_a_0_6_4) (0 + 6) 5 w28_a_0_6_5) (0 + 6) 6 (upd w101_a_0_6_6 i101 (a (2 + 6) 6 i101))) (0 + 6) 7 (upd w101_a_0_6_7 i101 (a (2 + 6) 7 i101))) (0 + 6) 8 w101_a_0_6_8) (j := 0) (by decide) hF hK hH hS 7 (n := 2) rfl rfl (by decide) rfl (f := w101_a_0_6_7) (by simp [up2]) (i := i101) (by omega) (by decide) dX1_become_129 (by simp [up2]) (by intro i q hq; simp only [up2, if_neg hq]) (fun H locs hH hS => ?_)
                    refine lv_aload_n hF.1 hF.2.1 dX1_become_130 rfl (lv_at hl 1 rfl) ?_
                    refine xg1_8 (j := 0) (by decide) hF hK hH q169 dX1_become_131 ?_
                    refine lv_iload_n hF.1 hF.2.1 dX1_become_134 rfl (lv_at hl 0 rfl) ?_
                    refine lv_aload_n hF.1 hF.2.1 dX1_become_135 rfl (lv_at hl 2 rfl) ?_
                    refine xg1_8 (j := 2) (by decide) hF hK hH q169 dX1_become_136 ?_
                    refine lv_iload_n hF.1 hF.2.1 dX1_become_139 rfl (lv_at hl 0 rfl) ?_
                    refine x1_ald (j := 2) (by decide) hF hK hH 8 (n := 2) rfl rfl (by decide) rfl (f := a (2 + 6) 8) (by simp [up2]) (i := i101) (by omega) (by decide) dX1_become_140 ?_
                    refine x1_ast (a' := up2 (up2 (up2 (up2 (up2 (up2 (up2 (up2 (up2 a (0 + 6) 0 w28_a_0_6_0) (0 + 6) 1 w2_a_0_6_1) (0 + 6) 2 w28_a_0_6_2) (0 + 6) 3 w28_a_0_6_3) (0 + 6) 4 w28_a_0_6_4) (0 + 6) 5 w28_a_0_6_5) (0 + 6) 6 (upd w101_a_0_6_6 i101 (a (2 + 6) 6 i101))) (0 + 6) 7 (upd w101_a_0_6_7 i101 (a (2 + 6) 7 i101))) (0 + 6) 8 (upd w101_a_0_6_8 i101 (a (2 + 6) 8 i101))) (j := 0) (by decide) hF hK hH hS 8 (n := 2) rfl rfl (by decide) rfl (f := w101_a_0_6_8) (by simp [up2]) (i := i101) (by omega) (by decide) dX1_become_141 (by simp [up2]) (by intro i q hq; simp only [up2, if_neg hq]) (fun H locs hH hS => ?_)
                    refine n_iinc (lv' := [(2, .int (nI (i101 + 1))), (0, .ref (ω.2.1 (0 + 6) 99)), (1, .ref (ω.2.1 (2 + 6) 99))]) hF.1 hF.2.1 dX1_become_142 hl (k := 0) rfl (by decide) rfl (fun ls hl => ?_)
                    refine lv_goto (tgt := 101) hF.1 hF.2.1 dX1_become_145 (by decide) ?_
                    exact ih (i101 + 1) _ _ _ _ _ _ (by omega) (by rw [it_succ (fX1_become_0_2_b101 a) i101 _, ← hS101]; try rfl) hH hS (lv_sub hl [0, 1, 2] rfl)
              have hH : xH ω (g, y, up2 (up2 (up2 (up2 (up2 (up2 (up2 (up2 (up2 a (0 + 6) 0 w28_a_0_6_0) (0 + 6) 1 w2_a_0_6_1) (0 + 6) 2 w28_a_0_6_2) (0 + 6) 3 w28_a_0_6_3) (0 + 6) 4 w28_a_0_6_4) (0 + 6) 5 w28_a_0_6_5) (0 + 6) 6 (a (0 + 6) 6)) (0 + 6) 7 (a (0 + 6) 7)) (0 + 6) 8 (a (0 + 6) 8), z, dr, pg, t) H := x_ext (fun _ _ => rfl) (fun _ _ => rfl) (by intro o k; by_cases h0 : o = (0 + 6) ∧ k = 6; (obtain ⟨rfl, rfl⟩ := h0; simp [up2]); by_cases h1 : o = (0 + 6) ∧ k = 7; (obtain ⟨rfl, rfl⟩ := h1; simp [up2]); by_cases h2 : o = (0 + 6) ∧ k = 8; (obtain ⟨rfl, rfl⟩ := h2; simp [up2]); simp only [up2, if_neg h0, if_neg h1, if_neg h2]) (fun _ _ => rfl) hH
              exact lp101_32 2 0 _ _ _ _ _ _ (by omega) rfl hH hS (lv_sub hl [0, 1, 2] rfl)
            · exact absurd (by omega) c2
          | succ d28 ih =>
            intro i28 w28_a_0_6_0 w28_a_0_6_2 w28_a_0_6_3 w28_a_0_6_4 w28_a_0_6_5 H locs ls hi28 hS28 hH hS hl
            refine lv_iload_n hF.1 hF.2.1 dX1_become_28 rfl (lv_at hl 0 rfl) ?_
            refine lv_iconst (v := nI 3) hF.1 hF.2.1 dX1_become_29 (by decide) ?_
            refine n_ge (tgt := 99) hF.1 hF.2.1 dX1_become_30 (by decide) (by omega) (by omega) (fun c5 => ?_) (fun c5 => ?_)
            · exact absurd c5 (by omega)
            · skip
              refine lv_aload_n hF.1 hF.2.1 dX1_become_33 rfl (lv_at hl 1 rfl) ?_
              refine xg1_0 (j := 0) (by decide) hF hK hH q154 dX1_become_34 ?_
              refine lv_iload_n hF.1 hF.2.1 dX1_become_37 rfl (lv_at hl 0 rfl) ?_
              refine lv_aload_n hF.1 hF.2.1 dX1_become_38 rfl (lv_at hl 2 rfl) ?_
              refine xg1_0 (j := 2) (by decide) hF hK hH q154 dX1_become_39 ?_
              refine lv_iload_n hF.1 hF.2.1 dX1_become_42 rfl (lv_at hl 0 rfl) ?_
              refine x1_ald (j := 2) (by decide) hF hK hH 0 (n := 3) rfl rfl (by decide) rfl (f := a (2 + 6) 0) (by simp [up2]) (i := i28) (by omega) (by decide) dX1_become_43 ?_
              refine x1_ast (a' := up2 (up2 (up2 (up2 (up2 (up2 a (0 + 6) 0 (upd w28_a_0_6_0 i28 (a (2 + 6) 0 i28))) (0 + 6) 1 w2_a_0_6_1) (0 + 6) 2 w28_a_0_6_2) (0 + 6) 3 w28_a_0_6_3) (0 + 6) 4 w28_a_0_6_4) (0 + 6) 5 w28_a_0_6_5) (j := 0) (by decide) hF hK hH hS 0 (n := 3) rfl rfl (by decide) rfl (f := w28_a_0_6_0) (by simp [up2]) (i := i28) (by omega) (by decide) dX1_become_44 (by simp [up2]) (by intro i q hq; simp only [up2, if_neg hq]) (fun H locs hH hS => ?_)
              refine lv_aload_n hF.1 hF.2.1 dX1_become_45 rfl (lv_at hl 1 rfl) ?_
              refine xg1_2 (j := 0) (by decide) hF hK hH q157 dX1_become_46 ?_
              refine lv_iload_n hF.1 hF.2.1 dX1_become_49 rfl (lv_at hl 0 rfl) ?_
              refine lv_aload_n hF.1 hF.2.1 dX1_become_50 rfl (lv_at hl 2 rfl) ?_
              refine xg1_2 (j := 2) (by decide) hF hK hH q157 dX1_become_51 ?_
              refine lv_iload_n hF.1 hF.2.1 dX1_become_54 rfl (lv_at hl 0 rfl) ?_
              refine x1_ald (j := 2) (by decide) hF hK hH 2 (n := 3) rfl rfl (by decide) rfl (f := a (2 + 6) 2) (by simp [up2]) (i := i28) (by omega) (by decide) dX1_become_55 ?_
              refine x1_ast (a' := up2 (up2 (up2 (up2 (up2 (up2 a (0 + 6) 0 (upd w28_a_0_6_0 i28 (a (2 + 6) 0 i28))) (0 + 6) 1 w2_a_0_6_1) (0 + 6) 2 (upd w28_a_0_6_2 i28 (a (2 + 6) 2 i28))) (0 + 6) 3 w28_a_0_6_3) (0 + 6) 4 w28_a_0_6_4) (0 + 6) 5 w28_a_0_6_5) (j := 0) (by decide) hF hK hH hS 2 (n := 3) rfl rfl (by decide) rfl (f := w28_a_0_6_2) (by simp [up2]) (i := i28) (by omega) (by decide) dX1_become_56 (by simp [up2]) (by intro i q hq; simp only [up2, if_neg hq]) (fun H locs hH hS => ?_)
              refine lv_aload_n hF.1 hF.2.1 dX1_become_57 rfl (lv_at hl 1 rfl) ?_
              refine xg1_3 (j := 0) (by decide) hF hK hH q159 dX1_become_58 ?_
              refine lv_iload_n hF.1 hF.2.1 dX1_become_61 rfl (lv_at hl 0 rfl) ?_
              refine lv_aload_n hF.1 hF.2.1 dX1_become_62 rfl (lv_at hl 2 rfl) ?_
              refine xg1_3 (j := 2) (by decide) hF hK hH q159 dX1_become_63 ?_
              refine lv_iload_n hF.1 hF.2.1 dX1_become_66 rfl (lv_at hl 0 rfl) ?_
              refine x1_ald (j := 2) (by decide) hF hK hH 3 (n := 3) rfl rfl (by decide) rfl (f := a (2 + 6) 3) (by simp [up2]) (i := i28) (by omega) (by decide) dX1_become_67 ?_
              refine x1_ast (a' := up2 (up2 (up2 (up2 (up2 (up2 a (0 + 6) 0 (upd w28_a_0_6_0 i28 (a (2 + 6) 0 i28))) (0 + 6) 1 w2_a_0_6_1) (0 + 6) 2 (upd w28_a_0_6_2 i28 (a (2 + 6) 2 i28))) (0 + 6) 3 (upd w28_a_0_6_3 i28 (a (2 + 6) 3 i28))) (0 + 6) 4 w28_a_0_6_4) (0 + 6) 5 w28_a_0_6_5) (j := 0) (by decide) hF hK hH hS 3 (n := 3) rfl rfl (by decide) rfl (f := w28_a_0_6_3) (by simp [up2]) (i := i28) (by omega) (by decide) dX1_become_68 (by simp [up2]) (by intro i q hq; simp only [up2, if_neg hq]) (fun H locs hH hS => ?_)
              refine lv_aload_n hF.1 hF.2.1 dX1_become_69 rfl (lv_at hl 1 rfl) ?_
              refine xg1_4 (j := 0) (by decide) hF hK hH q161 dX1_become_70 ?_
              refine lv_iload_n hF.1 hF.2.1 dX1_become_73 rfl (lv_at hl 0 rfl) ?_
              refine lv_aload_n hF.1 hF.2.1 dX1_become_74 rfl (lv_at hl 2 rfl) ?_
              refine xg1_4 (j := 2) (by decide) hF hK hH q161 dX1_become_75 ?_
              refine lv_iload_n hF.1 hF.2.1 dX1_become_78 rfl (lv_at hl 0 rfl) ?_
              refine x1_ald (j := 2) (by decide) hF hK hH 4 (n := 3) rfl rfl (by decide) rfl (f := a (2 + 6) 4) (by simp [up2]) (i := i28) (by omega) (by decide) dX1_become_79 ?_
              refine x1_ast (a' := up2 (up2 (up2 (up2 (up2 (up2 a (0 + 6) 0 (upd w28_a_0_6_0 i28 (a (2 + 6) 0 i28))) (0 + 6) 1 w2_a_0_6_1) (0 + 6) 2 (upd w28_a_0_6_2 i28 (a (2 + 6) 2 i28))) (0 + 6) 3 (upd w28_a_0_6_3 i28 (a (2 + 6) 3 i28))) (0 + 6) 4 (upd w28_a_0_6_4 i28 (a (2 + 6) 4 i28))) (0 + 6) 5 w28_a_0_6_5) (j := 0) (by decide) hF hK hH hS 4 (n := 3) rfl rfl (by decide) rfl (f := w28_a_0_6_4) (by simp [up2]) (i := i28) (by omega) (by decide) dX1_become_80 (by simp [up2]) (by intro i q hq; simp only [up2, if_neg hq]) (fun H locs hH hS => ?_)
              refine lv_aload_n hF.1 hF.2.1 dX1_become_81 rfl (lv_at hl 1 rfl) ?_
              refine xg1_5 (j := 0) (by decide) hF hK hH q163 dX1_become_82 ?_
              refine lv_iload_n hF.1 hF.2.1 dX1_become_85 rfl (lv_at hl 0 rfl) ?_
              refine lv_aload_n hF.1 hF.2.1 dX1_become_86 rfl (lv_at hl 2 rfl) ?_
              refine xg1_5 (j := 2) (by decide) hF hK hH q163 dX1_become_87 ?_
              refine lv_iload_n hF.1 hF.2.1 dX1_become_90 rfl (lv_at hl 0 rfl) ?_
              refine x1_ald (j := 2) (by decide) hF hK hH 5 (n := 3) rfl rfl (by decide) rfl (f := a (2 + 6) 5) (by simp [up2]) (i := i28) (by omega) (by decide) dX1_become_91 ?_
              refine x1_ast (a' := up2 (up2 (up2 (up2 (up2 (up2 a (0 + 6) 0 (upd w28_a_0_6_0 i28 (a (2 + 6) 0 i28))) (0 + 6) 1 w2_a_0_6_1) (0 + 6) 2 (upd w28_a_0_6_2 i28 (a (2 + 6) 2 i28))) (0 + 6) 3 (upd w28_a_0_6_3 i28 (a (2 + 6) 3 i28))) (0 + 6) 4 (upd w28_a_0_6_4 i28 (a (2 + 6) 4 i28))) (0 + 6) 5 (upd w28_a_0_6_5 i28 (a (2 + 6) 5 i28))) (j := 0) (by decide) hF hK hH hS 5 (n := 3) rfl rfl (by decide) rfl (f := w28_a_0_6_5) (by simp [up2]) (i := i28) (by omega) (by decide) dX1_become_92 (by simp [up2]) (by intro i q hq; simp only [up2, if_neg hq]) (fun H locs hH hS => ?_)
              refine n_iinc (lv' := [(2, .int (nI (i28 + 1))), (0, .ref (ω.2.1 (0 + 6) 99)), (1, .ref (ω.2.1 (2 + 6) 99))]) hF.1 hF.2.1 dX1_become_93 hl (k := 0) rfl (by decide) rfl (fun ls hl => ?_)
              refine lv_goto (tgt := 28) hF.1 hF.2.1 dX1_become_96 (by decide) ?_
              exact ih (i28 + 1) _ _ _ _ _ _ _ _ (by omega) (by rw [it_succ (fX1_become_0_2_b28 a) i28 _, ← hS28]; try rfl) hH hS (lv_sub hl [0, 1, 2] rfl)
        have hH : xH ω (g, y, up2 (up2 (up2 (up2 (up2 (up2 a (0 + 6) 0 (a (0 + 6) 0)) (0 + 6) 1 w2_a_0_6_1) (0 + 6) 2 (a (0 + 6) 2)) (0 + 6) 3 (a (0 + 6) 3)) (0 + 6) 4 (a (0 + 6) 4)) (0 + 6) 5 (a (0 + 6) 5), z, dr, pg, t) H := x_ext (fun _ _ => rfl) (fun _ _ => rfl) (by intro o k; by_cases h0 : o = (0 + 6) ∧ k = 0; (obtain ⟨rfl, rfl⟩ := h0; simp [up2]); by_cases h1 : o = (0 + 6) ∧ k = 2; (obtain ⟨rfl, rfl⟩ := h1; simp [up2]); by_cases h2 : o = (0 + 6) ∧ k = 3; (obtain ⟨rfl, rfl⟩ := h2; simp [up2]); by_cases h3 : o = (0 + 6) ∧ k = 4; (obtain ⟨rfl, rfl⟩ := h3; simp [up2]); by_cases h4 : o = (0 + 6) ∧ k = 5; (obtain ⟨rfl, rfl⟩ := h4; simp [up2]); simp only [up2, if_neg h0, if_neg h1, if_neg h2, if_neg h3, if_neg h4]) (fun _ _ => rfl) hH
        exact lp28_30 3 0 _ _ _ _ _ _ _ _ (by omega) rfl hH hS (lv_sub hl [0, 1, 2] rfl)
      · exact absurd (by omega) c1
    | succ d2 ih =>
      intro i2 w2_a_0_6_1 H locs ls hi2 hS2 hH hS hl
      refine lv_iload_n hF.1 hF.2.1 dX1_become_2 rfl (lv_at hl 0 rfl) ?_
      refine lv_bipush (v := nI 27) hF.1 hF.2.1 dX1_become_3 (by decide) ?_
      refine n_ge (tgt := 26) hF.1 hF.2.1 dX1_become_5 (by decide) (by omega) (by omega) (fun c6 => ?_) (fun c6 => ?_)
      · exact absurd c6 (by omega)
      · skip
        refine lv_aload_n hF.1 hF.2.1 dX1_become_8 rfl (lv_at hl 1 rfl) ?_
        refine xg1_1 (j := 0) (by decide) hF hK hH q156 dX1_become_9 ?_
        refine lv_iload_n hF.1 hF.2.1 dX1_become_12 rfl (lv_at hl 0 rfl) ?_
        refine lv_aload_n hF.1 hF.2.1 dX1_become_13 rfl (lv_at hl 2 rfl) ?_
        refine xg1_1 (j := 2) (by decide) hF hK hH q156 dX1_become_14 ?_
        refine lv_iload_n hF.1 hF.2.1 dX1_become_17 rfl (lv_at hl 0 rfl) ?_
        refine x1_ald (j := 2) (by decide) hF hK hH 1 (n := 27) rfl rfl (by decide) rfl (f := a (2 + 6) 1) (by simp [up2]) (i := i2) (by omega) (by decide) dX1_become_18 ?_
        refine x1_ast (a' := up2 a (0 + 6) 1 (upd w2_a_0_6_1 i2 (a (2 + 6) 1 i2))) (j := 0) (by decide) hF hK hH hS 1 (n := 27) rfl rfl (by decide) rfl (f := w2_a_0_6_1) (by simp [up2]) (i := i2) (by omega) (by decide) dX1_become_19 (by simp [up2]) (by intro i q hq; simp only [up2, if_neg hq]) (fun H locs hH hS => ?_)
        refine n_iinc (lv' := [(2, .int (nI (i2 + 1))), (0, .ref (ω.2.1 (0 + 6) 99)), (1, .ref (ω.2.1 (2 + 6) 99))]) hF.1 hF.2.1 dX1_become_20 hl (k := 0) rfl (by decide) rfl (fun ls hl => ?_)
        refine lv_goto (tgt := 2) hF.1 hF.2.1 dX1_become_23 (by decide) ?_
        exact ih (i2 + 1) _ _ _ _ (by omega) (by rw [it_succ (fX1_become_0_2_b2 a) i2 _, ← hS2]; try rfl) hH hS (lv_sub hl [0, 1, 2] rfl)
  have hH : xH ω (g, y, up2 a (0 + 6) 1 (a (0 + 6) 1), z, dr, pg, t) H := x_ext (fun _ _ => rfl) (fun _ _ => rfl) (by intro o k; by_cases h0 : o = (0 + 6) ∧ k = 1; (obtain ⟨rfl, rfl⟩ := h0; simp [up2]); simp only [up2, if_neg h0]) (fun _ _ => rfl) hH
  exact lp2_28 27 0 _ _ _ _ (by omega) rfl hH hS (lv_sub hl [0, 1, 2] rfl)

def fX1_stepFrom_b3 (g : Nat → Nat → Nat) (a : Nat → Nat → Nat → Int32) (z : Nat → Nat → Nat → Int32) (t : TW) (j : Nat) (pn : Nat) (cn : Nat) (set : Int32) (i3 : Nat) (S : (Nat) × Bool) : (Nat) × Bool := if S.2 = true then S else if (fX0_isIn set (nI i3)) = 0 then (i3 + 1, false) else if (fX5_endsAt t i3 cn) = 0 then (i3 + 1, false) else if ((fX1_cost g a t j pn i3) + (z (j + 6) 10 (fX5_from t i3 cn))) = (z (j + 6) 10 cn) then (i3, true) else (i3 + 1, false)
theorem fX1_stepFrom_b3_s (g : Nat → Nat → Nat) (a : Nat → Nat → Nat → Int32) (z : Nat → Nat → Nat → Int32) (t : TW) (j : Nat) (pn : Nat) (cn : Nat) (set : Int32) : ∀ (i : Nat) (S : (Nat) × Bool), S.2 = true → fX1_stepFrom_b3 g a z t j pn cn set i S = S := fun _ _ h => if_pos h
def fX1_stepFrom (g : Nat → Nat → Nat) (a : Nat → Nat → Nat → Int32) (z : Nat → Nat → Nat → Int32) (t : TW) (j : Nat) (pn : Nat) (cn : Nat) (set : Int32) : Nat := ((it (fX1_stepFrom_b3 g a z t j pn cn set) (tn t) (0, false)).1)
def rmX1_stepFrom : Room := { frames := 6, cells := 0, slots := 0, locals := 137 }
theorem hdX1_stepFrom : yX1_stepFrom.cls = RX1 ∧ yX1_stepFrom.cls ≠ "java/lang/invoke/MethodHandle" ∧ yX1_stepFrom.cls ≠ "java/lang/invoke/VarHandle" ∧ (parseMethodDescriptor yX1_stepFrom.desc).map (fun d => d.parameters.length) = some 3 := by decide +kernel
set_option maxHeartbeats 4000000 in
theorem kX1_stepFrom (l : Launch) (ω : OM) (g : Nat → Nat → Nat) (y : Nat → Nat → Int32) (a z : Nat → Nat → Nat → Int32) (dr : Int64) (pg : Nat → Int32) (t : TW) (j : Nat) (hj : j < 3) (pn : Nat) (cn : Nat) (set : Int32) (hpn : pn < 3) (hcn : cn < 8) (hstep : (it (fX1_stepFrom_b3 g a z t j pn cn set) (tn t) (0, false)).2 = true) : Met l yX1_stepFrom (ws_ yX1_stepFrom cX1_stepFrom 5 (some .int)) rmX1_stepFrom (va_Pc [.ref (ω.2.1 (j + 6) 99), .int (nI pn), .int (nI cn), .int set] (fun U => xK ω U ∧ xH ω (g, y, a, z, dr, pg, t) U.heap)) (vp_Si (fun r => r = nI (fX1_stepFrom g a z t j pn cn set))) 0 0 (fun _ => False) := by
  refine g_entPi (C := RX1) rfl (by decide) (Nat.le_of_ble_eq_true rfl) ?_
  intro p e s m args below meth c QQ ls hF hKH hl hret
  have hl : lv_has ls 5 [(0, .ref (ω.2.1 (j + 6) 99)), (1, .int (nI pn)), (2, .int (nI cn)), (3, .int set)] := hl
  obtain ⟨hK, hH⟩ := hKH
  have hn9 : tn t ≤ 9 := hH.2.2.1
  have htk := hH.2.2.2.2
  refine lv_iconst (v := nI 0) hF.1 hF.2.1 dX1_stepFrom_0 (by decide) ?_
  refine lv_istore (lv' := [(4, .int (nI 0)), (0, .ref (ω.2.1 (j + 6) 99)), (1, .int (nI pn)), (2, .int (nI cn)), (3, .int set)]) hF.1 hF.2.1 dX1_stepFrom_1 hl (by decide) rfl (fun ls hl => ?_)
  have kx3_35 : ∀ (n3 : Nat) (ls : Array Slot), n3 = (it (fX1_stepFrom_b3 g a z t j pn cn set) (tn t) (0, false)).1 → n3 ≤ tn t → lv_has ls 5 [(4, .int (nI n3))] → W p l e rmX1_stepFrom s m args below meth c s.heap [] 0 0 QQ (F0 m 81 ls []) := by
    intro n3 ls hE3 hn3 hl
    have e_n3 := hE3
    refine lv_iload hF.1 hF.2.1 dX1_stepFrom_81 (lv_at hl 0 rfl) ?_
    exact hret _ _ _ dX1_stepFrom_83 (by subst e_n3; rfl)
  have lp3_34 : ∀ (d3 i3 : Nat) (ls : Array Slot), i3 + d3 = tn t → (i3, false) = it (fX1_stepFrom_b3 g a z t j pn cn set) i3 (0, false) → lv_has ls 5 [(4, .int (nI i3)), (0, .ref (ω.2.1 (j + 6) 99)), (1, .int (nI pn)), (2, .int (nI cn)), (3, .int set)] → W p l e rmX1_stepFrom s m args below meth c s.heap [] 0 0 QQ (F0 m 3 ls []) := by
    intro d3
    induction d3 with
    | zero =>
      intro i3 ls hi3 hS3 hl
      have hj3 : tn t = i3 := by omega
      subst hj3
      exact absurd (show (it (fX1_stepFrom_b3 g a z t j pn cn set) (tn t) (0, false)).2 = true from (hstep)) (by rw [← hS3]; exact Bool.false_ne_true)
    | succ d3 ih =>
      intro i3 ls hi3 hS3 hl
      refine lv_iload_n hF.1 hF.2.1 dX1_stepFrom_3 rfl (lv_at hl 4 rfl) ?_
      refine lv_iload hF.1 hF.2.1 dX1_stepFrom_4 (lv_at hl 0 rfl) ?_
      refine g_sNPi (As := [.int set, .int (nI i3)]) (rest := []) hF (kX0_isIn l set (nI i3)) (lw_meth q627) (xn_q625 hK.2) q92 q626 2 hdX0_isIn.2 rfl rfl ⟨Nat.le_of_ble_eq_true rfl, Nat.le_of_ble_eq_true rfl⟩ g_pre0 rfl hl.1 rfl (Nat.le_of_ble_eq_true rfl) dX1_stepFrom_6 ⟨Nat.zero_le _, Nat.zero_le _⟩ (fun r1 e_r1 => ?_)
      refine lv_if_eq (tgt := 75) hF.1 hF.2.1 dX1_stepFrom_9 (by decide) (fun c2 => ?_) (fun c2 => ?_)
      · skip
        refine n_iinc (lv' := [(4, .int (nI (i3 + 1))), (0, .ref (ω.2.1 (j + 6) 99)), (1, .int (nI pn)), (2, .int (nI cn)), (3, .int set)]) hF.1 hF.2.1 dX1_stepFrom_75 hl (k := 0) rfl (by decide) rfl (fun ls hl => ?_)
        refine lv_goto (tgt := 3) hF.1 hF.2.1 dX1_stepFrom_78 (by decide) ?_
        exact ih (i3 + 1) _ (by omega) (by subst e_r1; rw [it_succ (fX1_stepFrom_b3 g a z t j pn cn set) i3 _, ← hS3]; unfold fX1_stepFrom_b3; dsimp only; first | (rw [if_neg (show ¬ (false = true) from Bool.false_ne_true), if_pos c2]; done) | (simp only [if_neg (show ¬ (false = true) from Bool.false_ne_true), if_pos c2])) (lv_sub hl [0, 1, 2, 3, 4] rfl)
      · skip
        refine lv_aload_n hF.1 hF.2.1 dX1_stepFrom_12 rfl (lv_at hl 1 rfl) ?_
        refine xg1_15 (j := j) hj hF hK hH q182 dX1_stepFrom_13 ?_
        refine xgN_q217 hF hK hH dX1_stepFrom_16 ?_
        refine lv_iload hF.1 hF.2.1 dX1_stepFrom_19 (lv_at hl 0 rfl) ?_
        refine g_vPr (As := [.int (nI i3)]) (rest := []) hF (kJ2_get l ω g y a z dr pg t i3 (by omega)) (lw_V q623 q571 q572 q95 q573) 1 hdJ2_get rfl rfl ⟨Nat.le_of_ble_eq_true rfl, Nat.le_of_ble_eq_true rfl⟩ (x_preVL hK hH) rfl hl.1 rfl (Nat.le_of_ble_eq_true rfl) dX1_stepFrom_21 ⟨Nat.zero_le _, Nat.zero_le _⟩ ?_
        refine x_cast hF hK hH (i := i3) (by omega) q624 dX1_stepFrom_24 ?_
        refine lv_iload_n hF.1 hF.2.1 dX1_stepFrom_27 rfl (lv_at hl 3 rfl) ?_
        refine x_vendsAt (rest := []) hF hK hH i3 (by omega) cn (by omega) q667 ⟨Nat.le_of_ble_eq_true rfl, Nat.le_of_ble_eq_true rfl⟩ hl.1 rfl (Nat.le_of_ble_eq_true rfl) dX1_stepFrom_28 ⟨Nat.zero_le _, Nat.zero_le _⟩ ?_
        refine lv_if_eq (tgt := 75) hF.1 hF.2.1 dX1_stepFrom_31 (by decide) (fun c3 => ?_) (fun c3 => ?_)
        · skip
          refine n_iinc (lv' := [(4, .int (nI (i3 + 1))), (0, .ref (ω.2.1 (j + 6) 99)), (1, .int (nI pn)), (2, .int (nI cn)), (3, .int set)]) hF.1 hF.2.1 dX1_stepFrom_75 hl (k := 0) rfl (by decide) rfl (fun ls hl => ?_)
          refine lv_goto (tgt := 3) hF.1 hF.2.1 dX1_stepFrom_78 (by decide) ?_
          exact ih (i3 + 1) _ (by omega) (by subst e_r1; rw [it_succ (fX1_stepFrom_b3 g a z t j pn cn set) i3 _, ← hS3]; unfold fX1_stepFrom_b3; dsimp only; first | (rw [if_neg (show ¬ (false = true) from Bool.false_ne_true), if_neg c2, if_pos c3]; done) | (simp only [if_neg (show ¬ (false = true) from Bool.false_ne_true), if_neg c2, if_pos c3])) (lv_sub hl [0, 1, 2, 3, 4] rfl)
        · skip
          refine lv_aload_n hF.1 hF.2.1 dX1_stepFrom_34 rfl (lv_at hl 1 rfl) ?_
          refine lv_iload_n hF.1 hF.2.1 dX1_stepFrom_35 rfl (lv_at hl 2 rfl) ?_
          refine lv_iload hF.1 hF.2.1 dX1_stepFrom_36 (lv_at hl 0 rfl) ?_
          refine g_vPi (As := [.int (nI pn), .int (nI i3)]) (rest := []) hF (kX1_cost l ω g y a z dr pg t j hj pn i3 (by omega) (by omega)) (lw_V q628 q630 qs15 q96 q631) 2 hdX1_cost rfl rfl ⟨Nat.le_of_ble_eq_true rfl, Nat.le_of_ble_eq_true rfl⟩ (x_preV1 hj hK hH) rfl hl.1 rfl (Nat.le_of_ble_eq_true rfl) dX1_stepFrom_38 ⟨Nat.zero_le _, Nat.zero_le _⟩ (fun r4 e_r4 => ?_)
          refine lv_aload_n hF.1 hF.2.1 dX1_stepFrom_41 rfl (lv_at hl 1 rfl) ?_
          refine xg1_10 (j := j) hj hF hK hH q173 dX1_stepFrom_42 ?_
          refine lv_aload_n hF.1 hF.2.1 dX1_stepFrom_45 rfl (lv_at hl 1 rfl) ?_
          refine xg1_15 (j := j) hj hF hK hH q182 dX1_stepFrom_46 ?_
          refine xgN_q217 hF hK hH dX1_stepFrom_49 ?_
          refine lv_iload hF.1 hF.2.1 dX1_stepFrom_52 (lv_at hl 0 rfl) ?_
          refine g_vPr (As := [.int (nI i3)]) (rest := [.ref (ω.2.1 (j + 6) 10), .int r4]) hF (kJ2_get l ω g y a z dr pg t i3 (by omega)) (lw_V q623 q571 q572 q95 q573) 1 hdJ2_get rfl rfl ⟨Nat.le_of_ble_eq_true rfl, Nat.le_of_ble_eq_true rfl⟩ (x_preVL hK hH) rfl hl.1 rfl (Nat.le_of_ble_eq_true rfl) dX1_stepFrom_54 ⟨Nat.zero_le _, Nat.zero_le _⟩ ?_
          refine x_cast hF hK hH (i := i3) (by omega) q624 dX1_stepFrom_57 ?_
          refine lv_iload_n hF.1 hF.2.1 dX1_stepFrom_60 rfl (lv_at hl 3 rfl) ?_
          refine x_vfrom (rest := [.ref (ω.2.1 (j + 6) 10), .int r4]) hF hK hH i3 (by omega) cn (by omega) q676 ⟨Nat.le_of_ble_eq_true rfl, Nat.le_of_ble_eq_true rfl⟩ hl.1 rfl (Nat.le_of_ble_eq_true rfl) dX1_stepFrom_61 ⟨Nat.zero_le _, Nat.zero_le _⟩ ?_
          have hfr61 := fX5_from_lt (show tOK t from hH.2.2) cn (show i3 < tn t by omega)
          refine x1_zld (j := j) hj hF hK hH 10 (n := 8) rfl rfl (by decide) rfl (f := z (j + 6) 10) rfl (i := fX5_from t i3 cn) (by omega) (by decide) dX1_stepFrom_64 ?_
          refine lv_iadd hF.1 hF.2.1 dX1_stepFrom_65 ?_
          refine lv_aload_n hF.1 hF.2.1 dX1_stepFrom_66 rfl (lv_at hl 1 rfl) ?_
          refine xg1_10 (j := j) hj hF hK hH q173 dX1_stepFrom_67 ?_
          refine lv_iload_n hF.1 hF.2.1 dX1_stepFrom_70 rfl (lv_at hl 3 rfl) ?_
          refine x1_zld (j := j) hj hF hK hH 10 (n := 8) rfl rfl (by decide) rfl (f := z (j + 6) 10) rfl (i := cn) (by omega) (by decide) dX1_stepFrom_71 ?_
          refine lv_icmp_eq (tgt := 81) hF.1 hF.2.1 dX1_stepFrom_72 (by decide) (fun c5 => ?_) (fun c5 => ?_)
          · skip
            exact kx3_35 _ _ (by rw [it_stop (fX1_stepFrom_b3_s g a z t j pn cn set) (i := i3 + 1) (a := i3) (by subst e_r4; subst e_r1; rw [it_succ (fX1_stepFrom_b3 g a z t j pn cn set) i3 _, ← hS3]; unfold fX1_stepFrom_b3; dsimp only; first | (rw [if_neg (show ¬ (false = true) from Bool.false_ne_true), if_neg c2, if_neg c3, if_pos c5]; done) | (simp only [if_neg (show ¬ (false = true) from Bool.false_ne_true), if_neg c2, if_neg c3, if_pos c5])) (tn t) (by omega)]) (by omega) (lv_sub hl [0] rfl)
          · skip
            refine n_iinc (lv' := [(4, .int (nI (i3 + 1))), (0, .ref (ω.2.1 (j + 6) 99)), (1, .int (nI pn)), (2, .int (nI cn)), (3, .int set)]) hF.1 hF.2.1 dX1_stepFrom_75 hl (k := 0) rfl (by decide) rfl (fun ls hl => ?_)
            refine lv_goto (tgt := 3) hF.1 hF.2.1 dX1_stepFrom_78 (by decide) ?_
            exact ih (i3 + 1) _ (by omega) (by subst e_r4; subst e_r1; rw [it_succ (fX1_stepFrom_b3 g a z t j pn cn set) i3 _, ← hS3]; unfold fX1_stepFrom_b3; dsimp only; first | (rw [if_neg (show ¬ (false = true) from Bool.false_ne_true), if_neg c2, if_neg c3, if_neg c5]; done) | (simp only [if_neg (show ¬ (false = true) from Bool.false_ne_true), if_neg c2, if_neg c3, if_neg c5])) (lv_sub hl [0, 1, 2, 3, 4] rfl)
  exact lp3_34 (tn t) 0 _ (by omega) rfl (lv_sub hl [0, 1, 2, 3, 4] rfl)

def fX1_layTo_b49 (g : Nat → Nat → Nat) (a : Nat → Nat → Nat → Int32) (z : Nat → Nat → Nat → Int32) (t : TW) (j : Nat) (pn : Nat) (set : Int32) (i49 : Nat) (S : Int32 × (Nat → Int32)) : Int32 × (Nat → Int32) := ((S.1 ||| ((fX1_shortens (up2 z (j + 6) 10 S.2) j (ta t i49) ((if (fX0_isIn set (nI i49)) = 0 then nI 268435456 else (fX1_cost g a t j pn i49)) + (S.2 (tb t i49)))).1)) ||| ((fX1_shortens (up2 z (j + 6) 10 ((fX1_shortens (up2 z (j + 6) 10 S.2) j (ta t i49) ((if (fX0_isIn set (nI i49)) = 0 then nI 268435456 else (fX1_cost g a t j pn i49)) + (S.2 (tb t i49)))).2)) j (tb t i49) ((if (fX0_isIn set (nI i49)) = 0 then nI 268435456 else (fX1_cost g a t j pn i49)) + (((fX1_shortens (up2 z (j + 6) 10 S.2) j (ta t i49) ((if (fX0_isIn set (nI i49)) = 0 then nI 268435456 else (fX1_cost g a t j pn i49)) + (S.2 (tb t i49)))).2) (ta t i49)))).1), ((fX1_shortens (up2 z (j + 6) 10 ((fX1_shortens (up2 z (j + 6) 10 S.2) j (ta t i49) ((if (fX0_isIn set (nI i49)) = 0 then nI 268435456 else (fX1_cost g a t j pn i49)) + (S.2 (tb t i49)))).2)) j (tb t i49) ((if (fX0_isIn set (nI i49)) = 0 then nI 268435456 else (fX1_cost g a t j pn i49)) + (((fX1_shortens (up2 z (j + 6) 10 S.2) j (ta t i49) ((if (fX0_isIn set (nI i49)) = 0 then nI 268435456 else (fX1_cost g a t j pn i49)) + (S.2 (tb t i49)))).2) (ta t i49)))).2))
def fX1_layTo_b38 (g : Nat → Nat → Nat) (a : Nat → Nat → Nat → Int32) (z : Nat → Nat → Nat → Int32) (t : TW) (j : Nat) (pn : Nat) (set : Int32) (i38 : Nat) (S : (Int32 × (Nat → Int32)) × Bool) : (Int32 × (Nat → Int32)) × Bool := if S.2 = true then S else if S.1.1 = 0 then ((S.1.1, S.1.2), true) else ((((it (fX1_layTo_b49 g a z t j pn set) (tn t) (nI 0, S.1.2)).1), ((it (fX1_layTo_b49 g a z t j pn set) (tn t) (nI 0, S.1.2)).2)), false)
theorem fX1_layTo_b38_s (g : Nat → Nat → Nat) (a : Nat → Nat → Nat → Int32) (z : Nat → Nat → Nat → Int32) (t : TW) (j : Nat) (pn : Nat) (set : Int32) : ∀ (i : Nat) (S : (Int32 × (Nat → Int32)) × Bool), S.2 = true → fX1_layTo_b38 g a z t j pn set i S = S := fun _ _ h => if_pos h
def fX1_layTo_b3 (to : Nat) (i3 : Nat) (S : (Nat → Int32)) : (Nat → Int32) := if i3 = to then upd S i3 (nI 0) else upd S i3 (nI 268435456)
def fX1_layTo (g : Nat → Nat → Nat) (a : Nat → Nat → Nat → Int32) (z : Nat → Nat → Nat → Int32) (t : TW) (j : Nat) (pn : Nat) (to : Nat) (set : Int32) : (Nat → Int32) := ((it (fX1_layTo_b38 g a z t j pn set) 9 ((nI 1, (it (fX1_layTo_b3 to) 8 (z (j + 6) 10))), false)).1.2)
def rmX1_layTo : Room := { frames := 6, cells := 0, slots := 0, locals := 137 }
theorem hdX1_layTo : yX1_layTo.cls = RX1 ∧ yX1_layTo.cls ≠ "java/lang/invoke/MethodHandle" ∧ yX1_layTo.cls ≠ "java/lang/invoke/VarHandle" ∧ (parseMethodDescriptor yX1_layTo.desc).map (fun d => d.parameters.length) = some 3 := by decide +kernel
set_option maxHeartbeats 4000000 in
theorem kX1_layTo (l : Launch) (ω : OM) (g : Nat → Nat → Nat) (y : Nat → Nat → Int32) (a z : Nat → Nat → Nat → Int32) (dr : Int64) (pg : Nat → Int32) (t : TW) (j : Nat) (hj : j < 3) (pn : Nat) (to : Nat) (set : Int32) (hpn : pn < 3) (hto : to < 8) (hfu : (it (fX1_layTo_b38 g a z t j pn set) 9 ((nI 1, it (fX1_layTo_b3 to) 8 (z (j + 6) 10)), false)).2 = true) : Met l yX1_layTo (ws_ yX1_layTo cX1_layTo 8 none) rmX1_layTo (va_Pc [.ref (ω.2.1 (j + 6) 99), .int (nI pn), .int (nI to), .int set] (fun U => xK ω U ∧ xH ω (g, y, a, z, dr, pg, t) U.heap)) (va_Qv (fun (u : XS) => ∃ (o0 : Nat → Int32), o0 = (fX1_layTo g a z t j pn to set) ∧ u = (g, y, a, up2 z (j + 6) 10 o0, dr, pg, t)) (fun u t => xH ω u t.heap) ω.2.2.1) 0 0 ω.2.2.1 := by
  refine g_entWv (C := RX1) rfl (by decide) (Nat.le_of_ble_eq_true rfl) ?_
  intro p e s m args below meth c QQ ls H locs hF hK hH hS hl hret
  have hl : lv_has ls 8 [(0, .ref (ω.2.1 (j + 6) 99)), (1, .int (nI pn)), (2, .int (nI to)), (3, .int set)] := hl
  have hn9 : tn t ≤ 9 := hH.2.2.1
  refine lv_iconst (v := nI 0) hF.1 hF.2.1 dX1_layTo_0 (by decide) ?_
  refine lv_istore (lv' := [(4, .int (nI 0)), (0, .ref (ω.2.1 (j + 6) 99)), (1, .int (nI pn)), (2, .int (nI to)), (3, .int set)]) hF.1 hF.2.1 dX1_layTo_1 hl (by decide) rfl (fun ls hl => ?_)
  have lp3_37 : ∀ (d3 i3 : Nat) (w3_z_j_6_10 : Nat → Int32) (H : Heap) (locs : List Loc) (ls : Array Slot), i3 + d3 = 8 → w3_z_j_6_10 = it (fX1_layTo_b3 to) i3 (z (j + 6) 10) → xH ω (g, y, a, up2 z (j + 6) 10 w3_z_j_6_10, dr, pg, t) H → va_S ω.2.2.1 s.heap H locs → lv_has ls 8 [(4, .int (nI i3)), (0, .ref (ω.2.1 (j + 6) 99)), (1, .int (nI pn)), (2, .int (nI to)), (3, .int set)] → W p l e rmX1_layTo s m args below meth c H locs 0 0 QQ (F0 m 3 ls []) := by
    intro d3
    induction d3 with
    | zero =>
      intro i3 w3_z_j_6_10 H locs ls hi3 hS3 hH hS hl
      have hj3 : 8 = i3 := by omega
      subst hj3
      have e_w3_z_j_6_10 := hS3
      refine lv_iload hF.1 hF.2.1 dX1_layTo_3 (lv_at hl 0 rfl) ?_
      refine lv_bipush (v := nI 8) hF.1 hF.2.1 dX1_layTo_5 (by decide) ?_
      refine n_ge (tgt := 35) hF.1 hF.2.1 dX1_layTo_7 (by decide) (by omega) (by omega) (fun c1 => ?_) (fun c1 => ?_)
      · skip
        refine lv_iconst (v := nI 1) hF.1 hF.2.1 dX1_layTo_35 (by decide) ?_
        refine lv_istore (lv' := [(4, .int (nI 1)), (0, .ref (ω.2.1 (j + 6) 99)), (1, .int (nI pn)), (2, .int (nI to)), (3, .int set)]) hF.1 hF.2.1 dX1_layTo_36 hl (by decide) rfl (fun ls hl => ?_)
        have kx38_44 : ∀ (x38_4 : Int32) (w38_z_j_6_10 : Nat → Int32) (H : Heap) (locs : List Loc) (ls : Array Slot), (x38_4, w38_z_j_6_10) = (it (fX1_layTo_b38 g a z t j pn set) 9 ((nI 1, w3_z_j_6_10), false)).1 → xH ω (g, y, a, up2 z (j + 6) 10 w38_z_j_6_10, dr, pg, t) H → va_S ω.2.2.1 s.heap H locs → lv_has ls 8 [] → W p l e rmX1_layTo s m args below meth c H locs 0 0 QQ (F0 m 167 ls []) := by
          intro x38_4 w38_z_j_6_10 H locs ls hE38 hH hS hl
          have e_x38_4 : x38_4 = (it (fX1_layTo_b38 g a z t j pn set) 9 ((nI 1, w3_z_j_6_10), false)).1.1 := by rw [← hE38]
          have e_w38_z_j_6_10 : w38_z_j_6_10 = (it (fX1_layTo_b38 g a z t j pn set) 9 ((nI 1, w3_z_j_6_10), false)).1.2 := by rw [← hE38]
          exact hret _ _ _ _ _ dX1_layTo_167 ⟨_, by subst e_w38_z_j_6_10; subst e_x38_4; subst e_w3_z_j_6_10; rfl, rfl⟩ hH hS
        have lp38_43 : ∀ (d38 i38 : Nat) (x38_4 : Int32) (w38_z_j_6_10 : Nat → Int32) (H : Heap) (locs : List Loc) (ls : Array Slot), i38 + d38 = 9 → ((x38_4, w38_z_j_6_10), false) = it (fX1_layTo_b38 g a z t j pn set) i38 ((nI 1, w3_z_j_6_10), false) → xH ω (g, y, a, up2 z (j + 6) 10 w38_z_j_6_10, dr, pg, t) H → va_S ω.2.2.1 s.heap H locs → lv_has ls 8 [(4, .int x38_4), (0, .ref (ω.2.1 (j + 6) 99)), (1, .int (nI pn)), (3, .int set)] → W p l e rmX1_layTo s m args below meth c H locs 0 0 QQ (F0 m 38 ls []) := by
          intro d38
          induction d38 with
          | zero =>
            intro i38 x38_4 w38_z_j_6_10 H locs ls hi38 hS38 hH hS hl
            have hj38 : 9 = i38 := by omega
            subst hj38
            exact absurd (show (it (fX1_layTo_b38 g a z t j pn set) 9 ((nI 1, w3_z_j_6_10), false)).2 = true from (by rw [e_w3_z_j_6_10]; exact hfu)) (by rw [← hS38]; exact Bool.false_ne_true)
          | succ d38 ih =>
            intro i38 x38_4 w38_z_j_6_10 H locs ls hi38 hS38 hH hS hl
            refine lv_iload hF.1 hF.2.1 dX1_layTo_38 (lv_at hl 0 rfl) ?_
            refine lv_if_eq (tgt := 167) hF.1 hF.2.1 dX1_layTo_40 (by decide) (fun c2 => ?_) (fun c2 => ?_)
            · skip
              exact kx38_44 _ _ _ _ _ (by rw [it_stop (fX1_layTo_b38_s g a z t j pn set) (i := i38 + 1) (a := (x38_4, w38_z_j_6_10)) (by rw [it_succ (fX1_layTo_b38 g a z t j pn set) i38 _, ← hS38]; unfold fX1_layTo_b38; dsimp only; first | (rw [if_neg (show ¬ (false = true) from Bool.false_ne_true), if_pos c2]; done) | (simp only [if_neg (show ¬ (false = true) from Bool.false_ne_true), if_pos c2])) 9 (by omega)]) hH hS (lv_sub hl [] rfl)
            · skip
              refine lv_iconst (v := nI 0) hF.1 hF.2.1 dX1_layTo_43 (by decide) ?_
              refine lv_istore (lv' := [(4, .int (nI 0)), (0, .ref (ω.2.1 (j + 6) 99)), (1, .int (nI pn)), (3, .int set)]) hF.1 hF.2.1 dX1_layTo_44 hl (by decide) rfl (fun ls hl => ?_)
              refine lv_iconst (v := nI 0) hF.1 hF.2.1 dX1_layTo_46 (by decide) ?_
              refine lv_istore (lv' := [(5, .int (nI 0)), (4, .int (nI 0)), (0, .ref (ω.2.1 (j + 6) 99)), (1, .int (nI pn)), (3, .int set)]) hF.1 hF.2.1 dX1_layTo_47 hl (by decide) rfl (fun ls hl => ?_)
              have lp49_46 : ∀ (d49 i49 : Nat) (x49_4 : Int32) (w49_z_j_6_10 : Nat → Int32) (H : Heap) (locs : List Loc) (ls : Array Slot), i49 + d49 = tn t → (x49_4, w49_z_j_6_10) = it (fX1_layTo_b49 g a z t j pn set) i49 (nI 0, w38_z_j_6_10) → xH ω (g, y, a, up2 z (j + 6) 10 w49_z_j_6_10, dr, pg, t) H → va_S ω.2.2.1 s.heap H locs → lv_has ls 8 [(5, .int (nI i49)), (4, .int x49_4), (0, .ref (ω.2.1 (j + 6) 99)), (1, .int (nI pn)), (3, .int set)] → W p l e rmX1_layTo s m args below meth c H locs 0 0 QQ (F0 m 49 ls []) := by
                intro d49
                induction d49 with
                | zero =>
                  intro i49 x49_4 w49_z_j_6_10 H locs ls hi49 hS49 hH hS hl
                  have hj49 : tn t = i49 := by omega
                  subst hj49
                  have e_x49_4 : x49_4 = (it (fX1_layTo_b49 g a z t j pn set) (tn t) (nI 0, w38_z_j_6_10)).1 := by rw [← hS49]
                  have e_w49_z_j_6_10 : w49_z_j_6_10 = (it (fX1_layTo_b49 g a z t j pn set) (tn t) (nI 0, w38_z_j_6_10)).2 := by rw [← hS49]
                  refine lv_iload hF.1 hF.2.1 dX1_layTo_49 (lv_at hl 0 rfl) ?_
                  refine lv_aload_n hF.1 hF.2.1 dX1_layTo_51 rfl (lv_at hl 2 rfl) ?_
                  refine xg1_15 (j := j) hj hF hK hH q182 dX1_layTo_52 ?_
                  refine xgN_q217 hF hK hH dX1_layTo_55 ?_
                  refine g_vPi (As := []) (rest := [.int (nI (tn t))]) hF (kJ2_size l ω g y a (up2 z (j + 6) 10 w49_z_j_6_10) dr pg t) (lw_V q622 q554 q555 q95 q556) 0 hdJ2_size rfl rfl ⟨Nat.le_of_ble_eq_true rfl, Nat.le_of_ble_eq_true rfl⟩ (x_preVL hK hH) rfl hl.1 rfl (Nat.le_of_ble_eq_true rfl) dX1_layTo_58 ⟨Nat.zero_le _, Nat.zero_le _⟩ (fun r3 e_r3 => ?_)
                  subst e_r3
                  refine n_top (y := nI (tn t)) rfl ?_
                  refine n_ge (tgt := 164) hF.1 hF.2.1 dX1_layTo_61 (by decide) (by omega) (by omega) (fun c4 => ?_) (fun c4 => ?_)
                  · skip
                    refine lv_goto (tgt := 38) hF.1 hF.2.1 dX1_layTo_164 (by decide) ?_
                    exact ih (i38 + 1) _ _ _ _ _ (by omega) (by subst e_w49_z_j_6_10; subst e_x49_4; rw [it_succ (fX1_layTo_b38 g a z t j pn set) i38 _, ← hS38]; unfold fX1_layTo_b38; dsimp only; first | (rw [if_neg (show ¬ (false = true) from Bool.false_ne_true), if_neg c2]; done) | (simp only [if_neg (show ¬ (false = true) from Bool.false_ne_true), if_neg c2])) hH hS (lv_sub hl [1, 2, 3, 4] rfl)
                  · exact absurd (by omega) c4
                | succ d49 ih =>
                  intro i49 x49_4 w49_z_j_6_10 H locs ls hi49 hS49 hH hS hl
                  refine lv_iload hF.1 hF.2.1 dX1_layTo_49 (lv_at hl 0 rfl) ?_
                  refine lv_aload_n hF.1 hF.2.1 dX1_layTo_51 rfl (lv_at hl 2 rfl) ?_
                  refine xg1_15 (j := j) hj hF hK hH q182 dX1_layTo_52 ?_
                  refine xgN_q217 hF hK hH dX1_layTo_55 ?_
                  refine g_vPi (As := []) (rest := [.int (nI i49)]) hF (kJ2_size l ω g y a (up2 z (j + 6) 10 w49_z_j_6_10) dr pg t) (lw_V q622 q554 q555 q95 q556) 0 hdJ2_size rfl rfl ⟨Nat.le_of_ble_eq_true rfl, Nat.le_of_ble_eq_true rfl⟩ (x_preVL hK hH) rfl hl.1 rfl (Nat.le_of_ble_eq_true rfl) dX1_layTo_58 ⟨Nat.zero_le _, Nat.zero_le _⟩ (fun r5 e_r5 => ?_)
                  subst e_r5
                  refine n_top (y := nI (tn t)) rfl ?_
                  refine n_ge (tgt := 164) hF.1 hF.2.1 dX1_layTo_61 (by decide) (by omega) (by omega) (fun c6 => ?_) (fun c6 => ?_)
                  · exact absurd c6 (by omega)
                  · skip
                    refine lv_aload_n hF.1 hF.2.1 dX1_layTo_64 rfl (lv_at hl 2 rfl) ?_
                    refine xg1_15 (j := j) hj hF hK hH q182 dX1_layTo_65 ?_
                    refine xgN_q217 hF hK hH dX1_layTo_68 ?_
                    refine lv_iload hF.1 hF.2.1 dX1_layTo_71 (lv_at hl 0 rfl) ?_
                    refine g_vPr (As := [.int (nI i49)]) (rest := []) hF (kJ2_get l ω g y a (up2 z (j + 6) 10 w49_z_j_6_10) dr pg t i49 (by omega)) (lw_V q623 q571 q572 q95 q573) 1 hdJ2_get rfl rfl ⟨Nat.le_of_ble_eq_true rfl, Nat.le_of_ble_eq_true rfl⟩ (x_preVL hK hH) rfl hl.1 rfl (Nat.le_of_ble_eq_true rfl) dX1_layTo_73 ⟨Nat.zero_le _, Nat.zero_le _⟩ ?_
                    refine x_cast hF hK hH (i := i49) (by omega) q624 dX1_layTo_76 ?_
                    refine lv_astore (lv' := [(6, .ref (tsa t i49)), (5, .int (nI i49)), (4, .int x49_4), (0, .ref (ω.2.1 (j + 6) 99)), (1, .int (nI pn)), (3, .int set)]) hF.1 hF.2.1 dX1_layTo_79 hl (by decide) rfl (fun ls hl => ?_)
                    refine lv_iload_n hF.1 hF.2.1 dX1_layTo_81 rfl (lv_at hl 5 rfl) ?_
                    refine lv_iload hF.1 hF.2.1 dX1_layTo_82 (lv_at hl 1 rfl) ?_
                    refine g_sNPi (As := [.int set, .int (nI i49)]) (rest := []) hF (kX0_isIn l set (nI i49)) (lw_meth q627) (xn_q625 hK.2) q92 q626 2 hdX0_isIn.2 rfl rfl ⟨Nat.le_of_ble_eq_true rfl, Nat.le_of_ble_eq_true rfl⟩ g_pre0 rfl hl.1 rfl (Nat.le_of_ble_eq_true rfl) dX1_layTo_84 ⟨Nat.zero_le _, Nat.zero_le _⟩ (fun r7 e_r7 => ?_)
                    have k102_11 : ∀ (v10 : Int32) (ls : Array Slot), v10 = (if r7 = 0 then nI 268435456 else (fX1_cost g a t j pn i49)) → lv_has ls 8 [(6, .ref (tsa t i49)), (5, .int (nI i49)), (4, .int x49_4), (0, .ref (ω.2.1 (j + 6) 99)), (1, .int (nI pn)), (3, .int set)] → W p l e rmX1_layTo s m args below meth c H locs 0 0 QQ (F0 m 102 ls [.int v10]) := by
                      intro v10 ls e_v10 hl
                      refine lv_istore (lv' := [(7, .int v10), (6, .ref (tsa t i49)), (5, .int (nI i49)), (4, .int x49_4), (0, .ref (ω.2.1 (j + 6) 99)), (1, .int (nI pn)), (3, .int set)]) hF.1 hF.2.1 dX1_layTo_102 hl (by decide) rfl (fun ls hl => ?_)
                      refine lv_iload hF.1 hF.2.1 dX1_layTo_104 (lv_at hl 3 rfl) ?_
                      refine lv_aload_n hF.1 hF.2.1 dX1_layTo_106 rfl (lv_at hl 4 rfl) ?_
                      refine lv_aload hF.1 hF.2.1 dX1_layTo_107 (lv_at hl 1 rfl) ?_
                      refine xs_g0 hF hK hH (i := i49) (by omega) q442 dX1_layTo_109 ?_
                      have hst109 := hH.2.2.2.2 i49 (by first | exact hsn | (show _ < tn t; omega))
                      change tk t i49 < 5 ∧ ta t i49 < 8 ∧ tb t i49 < 8 ∧ ¬ ta t i49 = tb t i49 ∧ 1 ≤ tl t i49 ∧ tl t i49 ≤ 9 at hst109
                      refine lv_iload hF.1 hF.2.1 dX1_layTo_112 (lv_at hl 0 rfl) ?_
                      refine lv_aload_n hF.1 hF.2.1 dX1_layTo_114 rfl (lv_at hl 4 rfl) ?_
                      refine xg1_10 (j := j) hj hF hK hH q173 dX1_layTo_115 ?_
                      refine lv_aload hF.1 hF.2.1 dX1_layTo_118 (lv_at hl 1 rfl) ?_
                      refine xs_g1 hF hK hH (i := i49) (by omega) q446 dX1_layTo_120 ?_
                      have hst120 := hH.2.2.2.2 i49 (by first | exact hsn | (show _ < tn t; omega))
                      change tk t i49 < 5 ∧ ta t i49 < 8 ∧ tb t i49 < 8 ∧ ¬ ta t i49 = tb t i49 ∧ 1 ≤ tl t i49 ∧ tl t i49 ≤ 9 at hst120
                      refine x1_zld (j := j) hj hF hK hH 10 (n := 8) rfl rfl (by decide) rfl (f := w49_z_j_6_10) (by simp [up2]) (i := tb t i49) (by omega) (by decide) dX1_layTo_123 ?_
                      refine lv_iadd hF.1 hF.2.1 dX1_layTo_124 ?_
                      refine g_vWi (As := [.int (nI (ta t i49)), .int (v10 + (w49_z_j_6_10 (tb t i49)))]) (rest := [.int x49_4]) hF (kX1_shortens l ω g y a (up2 z (j + 6) 10 w49_z_j_6_10) dr pg t j hj (ta t i49) (v10 + (w49_z_j_6_10 (tb t i49))) (by omega)) (lw_V q658 q660 qs16 q96 q661) 2 hdX1_shortens rfl rfl ⟨Nat.le_of_ble_eq_true rfl, Nat.le_of_ble_eq_true rfl⟩ (x_preV1 hj hK hH) rfl hl.1 rfl (Nat.le_of_ble_eq_true rfl) dX1_layTo_125 ⟨Nat.le_of_ble_eq_true rfl, Nat.le_of_ble_eq_true rfl⟩ hS (fun r12 ur12 H locs hqr12 hH hS => ?_)
                      obtain ⟨r12o0, hr12, rfl⟩ := hqr12
                      have e_r12 : r12 = (fX1_shortens (up2 z (j + 6) 10 w49_z_j_6_10) j (ta t i49) (v10 + (w49_z_j_6_10 (tb t i49)))).1 := by rw [← hr12]
                      have e_r12o0 : r12o0 = (fX1_shortens (up2 z (j + 6) 10 w49_z_j_6_10) j (ta t i49) (v10 + (w49_z_j_6_10 (tb t i49)))).2 := by rw [← hr12]
                      have hH : xH ω (g, y, a, up2 z (j + 6) 10 r12o0, dr, pg, t) H := x_ext (fun _ _ => rfl) (fun _ _ => rfl) (fun _ _ => rfl) (by intro o k; by_cases h0 : o = (j + 6) ∧ k = 10; (obtain ⟨rfl, rfl⟩ := h0; simp [up2]); simp only [up2, if_neg h0]) hH
                      refine lv_ior hF.1 hF.2.1 dX1_layTo_128 ?_
                      refine lv_istore (lv' := [(4, .int (x49_4 ||| r12)), (7, .int v10), (6, .ref (tsa t i49)), (5, .int (nI i49)), (0, .ref (ω.2.1 (j + 6) 99)), (1, .int (nI pn)), (3, .int set)]) hF.1 hF.2.1 dX1_layTo_129 hl (by decide) rfl (fun ls hl => ?_)
                      refine lv_iload hF.1 hF.2.1 dX1_layTo_131 (lv_at hl 0 rfl) ?_
                      refine lv_aload_n hF.1 hF.2.1 dX1_layTo_133 rfl (lv_at hl 4 rfl) ?_
                      refine lv_aload hF.1 hF.2.1 dX1_layTo_134 (lv_at hl 2 rfl) ?_
                      refine xs_g1 hF hK hH (i := i49) (by omega) q446 dX1_layTo_136 ?_
                      have hst136 := hH.2.2.2.2 i49 (by first | exact hsn | (show _ < tn t; omega))
                      change tk t i49 < 5 ∧ ta t i49 < 8 ∧ tb t i49 < 8 ∧ ¬ ta t i49 = tb t i49 ∧ 1 ≤ tl t i49 ∧ tl t i49 ≤ 9 at hst136
                      refine lv_iload hF.1 hF.2.1 dX1_layTo_139 (lv_at hl 1 rfl) ?_
                      refine lv_aload_n hF.1 hF.2.1 dX1_layTo_141 rfl (lv_at hl 4 rfl) ?_
                      refine xg1_10 (j := j) hj hF hK hH q173 dX1_layTo_142 ?_
                      refine lv_aload hF.1 hF.2.1 dX1_layTo_145 (lv_at hl 2 rfl) ?_
                      refine xs_g0 hF hK hH (i := i49) (by omega) q442 dX1_layTo_147 ?_
                      have hst147 := hH.2.2.2.2 i49 (by first | exact hsn | (show _ < tn t; omega))
                      change tk t i49 < 5 ∧ ta t i49 < 8 ∧ tb t i49 < 8 ∧ ¬ ta t i49 = tb t i49 ∧ 1 ≤ tl t i49 ∧ tl t i49 ≤ 9 at hst147
                      refine x1_zld (j := j) hj hF hK hH 10 (n := 8) rfl rfl (by decide) rfl (f := r12o0) (by simp [up2]) (i := ta t i49) (by omega) (by decide) dX1_layTo_150 ?_
                      refine lv_iadd hF.1 hF.2.1 dX1_layTo_151 ?_
                      refine g_vWi (As := [.int (nI (tb t i49)), .int (v10 + (r12o0 (ta t i49)))]) (rest := [.int (x49_4 ||| r12)]) hF (kX1_shortens l ω g y a (up2 z (j + 6) 10 r12o0) dr pg t j hj (tb t i49) (v10 + (r12o0 (ta t i49))) (by omega)) (lw_V q658 q660 qs16 q96 q661) 2 hdX1_shortens rfl rfl ⟨Nat.le_of_ble_eq_true rfl, Nat.le_of_ble_eq_true rfl⟩ (x_preV1 hj hK hH) rfl hl.1 rfl (Nat.le_of_ble_eq_true rfl) dX1_layTo_152 ⟨Nat.le_of_ble_eq_true rfl, Nat.le_of_ble_eq_true rfl⟩ hS (fun r13 ur13 H locs hqr13 hH hS => ?_)
                      obtain ⟨r13o0, hr13, rfl⟩ := hqr13
                      have e_r13 : r13 = (fX1_shortens (up2 z (j + 6) 10 r12o0) j (tb t i49) (v10 + (r12o0 (ta t i49)))).1 := by rw [← hr13]
                      have e_r13o0 : r13o0 = (fX1_shortens (up2 z (j + 6) 10 r12o0) j (tb t i49) (v10 + (r12o0 (ta t i49)))).2 := by rw [← hr13]
                      have hH : xH ω (g, y, a, up2 z (j + 6) 10 r13o0, dr, pg, t) H := x_ext (fun _ _ => rfl) (fun _ _ => rfl) (fun _ _ => rfl) (by intro o k; by_cases h0 : o = (j + 6) ∧ k = 10; (obtain ⟨rfl, rfl⟩ := h0; simp [up2]); simp only [up2, if_neg h0]) hH
                      refine lv_ior hF.1 hF.2.1 dX1_layTo_155 ?_
                      refine lv_istore (lv' := [(4, .int ((x49_4 ||| r12) ||| r13)), (7, .int v10), (6, .ref (tsa t i49)), (5, .int (nI i49)), (0, .ref (ω.2.1 (j + 6) 99)), (1, .int (nI pn)), (3, .int set)]) hF.1 hF.2.1 dX1_layTo_156 hl (by decide) rfl (fun ls hl => ?_)
                      refine n_iinc (lv' := [(5, .int (nI (i49 + 1))), (4, .int ((x49_4 ||| r12) ||| r13)), (7, .int v10), (6, .ref (tsa t i49)), (0, .ref (ω.2.1 (j + 6) 99)), (1, .int (nI pn)), (3, .int set)]) hF.1 hF.2.1 dX1_layTo_158 hl (k := 3) rfl (by decide) rfl (fun ls hl => ?_)
                      refine lv_goto (tgt := 49) hF.1 hF.2.1 dX1_layTo_161 (by decide) ?_
                      exact ih (i49 + 1) _ _ _ _ _ (by omega) (by subst e_r13o0; subst e_r13; subst e_r12o0; subst e_r12; subst e_v10; subst e_r7; rw [it_succ (fX1_layTo_b49 g a z t j pn set) i49 _, ← hS49]; try rfl) hH hS (lv_sub hl [0, 1, 4, 5, 6] rfl)
                    refine lv_if_eq (tgt := 100) hF.1 hF.2.1 dX1_layTo_87 (by decide) (fun c8 => ?_) (fun c8 => ?_)
                    · skip
                      refine lv_ldc (v := nI 268435456) hF.1 hF.2.1 hF.2.2.2.1 (hF.2.2.2.2 _ q621) dX1_layTo_100 ?_
                      exact k102_11 _ _ (by first | (rw [if_pos c8]; done) | (simp only [if_pos c8])) (lv_sub hl [0, 1, 2, 3, 4, 5] rfl)
                    · skip
                      refine lv_aload_n hF.1 hF.2.1 dX1_layTo_90 rfl (lv_at hl 3 rfl) ?_
                      refine lv_iload_n hF.1 hF.2.1 dX1_layTo_91 rfl (lv_at hl 4 rfl) ?_
                      refine lv_iload hF.1 hF.2.1 dX1_layTo_92 (lv_at hl 1 rfl) ?_
                      refine g_vPi (As := [.int (nI pn), .int (nI i49)]) (rest := []) hF (kX1_cost l ω g y a (up2 z (j + 6) 10 w49_z_j_6_10) dr pg t j hj pn i49 (by omega) (by omega)) (lw_V q628 q630 qs15 q96 q631) 2 hdX1_cost rfl rfl ⟨Nat.le_of_ble_eq_true rfl, Nat.le_of_ble_eq_true rfl⟩ (x_preV1 hj hK hH) rfl hl.1 rfl (Nat.le_of_ble_eq_true rfl) dX1_layTo_94 ⟨Nat.zero_le _, Nat.zero_le _⟩ (fun r9 e_r9 => ?_)
                      refine lv_goto (tgt := 102) hF.1 hF.2.1 dX1_layTo_97 (by decide) ?_
                      exact k102_11 _ _ (by subst e_r9; first | (rw [if_neg c8]; done) | (simp only [if_neg c8])) (lv_sub hl [0, 1, 2, 3, 4, 5] rfl)
              exact lp49_46 (tn t) 0 _ _ _ _ _ (by omega) rfl hH hS (lv_sub hl [0, 1, 2, 3, 4] rfl)
        exact lp38_43 9 0 _ _ _ _ _ (by omega) rfl hH hS (lv_sub hl [0, 1, 2, 4] rfl)
      · exact absurd (by omega) c1
    | succ d3 ih =>
      intro i3 w3_z_j_6_10 H locs ls hi3 hS3 hH hS hl
      refine lv_iload hF.1 hF.2.1 dX1_layTo_3 (lv_at hl 0 rfl) ?_
      refine lv_bipush (v := nI 8) hF.1 hF.2.1 dX1_layTo_5 (by decide) ?_
      refine n_ge (tgt := 35) hF.1 hF.2.1 dX1_layTo_7 (by decide) (by omega) (by omega) (fun c14 => ?_) (fun c14 => ?_)
      · exact absurd c14 (by omega)
      · skip
        refine lv_aload_n hF.1 hF.2.1 dX1_layTo_10 rfl (lv_at hl 1 rfl) ?_
        refine xg1_10 (j := j) hj hF hK hH q173 dX1_layTo_11 ?_
        refine lv_iload hF.1 hF.2.1 dX1_layTo_14 (lv_at hl 0 rfl) ?_
        refine lv_iload hF.1 hF.2.1 dX1_layTo_16 (lv_at hl 0 rfl) ?_
        refine lv_iload_n hF.1 hF.2.1 dX1_layTo_18 rfl (lv_at hl 3 rfl) ?_
        refine n_ne (tgt := 26) hF.1 hF.2.1 dX1_layTo_19 (by decide) (by omega) (by omega) (fun c15 => ?_) (fun c15 => ?_)
        · skip
          refine lv_ldc (v := nI 268435456) hF.1 hF.2.1 hF.2.2.2.1 (hF.2.2.2.2 _ q621) dX1_layTo_26 ?_
          refine x1_zst (z' := up2 z (j + 6) 10 (upd w3_z_j_6_10 i3 (nI 268435456))) (j := j) hj hF hK hH hS 10 (n := 8) rfl rfl (by decide) rfl (f := w3_z_j_6_10) (by simp [up2]) (i := i3) (by omega) (by decide) dX1_layTo_28 (by simp [up2]) (by intro i q hq; simp only [up2, if_neg hq]) (fun H locs hH hS => ?_)
          refine n_iinc (lv' := [(4, .int (nI (i3 + 1))), (0, .ref (ω.2.1 (j + 6) 99)), (1, .int (nI pn)), (2, .int (nI to)), (3, .int set)]) hF.1 hF.2.1 dX1_layTo_29 hl (k := 0) rfl (by decide) rfl (fun ls hl => ?_)
          refine lv_goto (tgt := 3) hF.1 hF.2.1 dX1_layTo_32 (by decide) ?_
          exact ih (i3 + 1) _ _ _ _ (by omega) (by rw [it_succ (fX1_layTo_b3 to) i3 _, ← hS3]; unfold fX1_layTo_b3; first | (rw [if_neg c15]; done) | (simp only [if_neg c15])) hH hS (lv_sub hl [0, 1, 2, 3, 4] rfl)
        · skip
          refine lv_iconst (v := nI 0) hF.1 hF.2.1 dX1_layTo_22 (by decide) ?_
          refine lv_goto (tgt := 28) hF.1 hF.2.1 dX1_layTo_23 (by decide) ?_
          refine x1_zst (z' := up2 z (j + 6) 10 (upd w3_z_j_6_10 i3 (nI 0))) (j := j) hj hF hK hH hS 10 (n := 8) rfl rfl (by decide) rfl (f := w3_z_j_6_10) (by simp [up2]) (i := i3) (by omega) (by decide) dX1_layTo_28 (by simp [up2]) (by intro i q hq; simp only [up2, if_neg hq]) (fun H locs hH hS => ?_)
          refine n_iinc (lv' := [(4, .int (nI (i3 + 1))), (0, .ref (ω.2.1 (j + 6) 99)), (1, .int (nI pn)), (2, .int (nI to)), (3, .int set)]) hF.1 hF.2.1 dX1_layTo_29 hl (k := 0) rfl (by decide) rfl (fun ls hl => ?_)
          refine lv_goto (tgt := 3) hF.1 hF.2.1 dX1_layTo_32 (by decide) ?_
          exact ih (i3 + 1) _ _ _ _ (by omega) (by rw [it_succ (fX1_layTo_b3 to) i3 _, ← hS3]; unfold fX1_layTo_b3; first | (rw [if_pos c15]; done) | (simp only [if_pos c15])) hH hS (lv_sub hl [0, 1, 2, 3, 4] rfl)
  have hH : xH ω (g, y, a, up2 z (j + 6) 10 (z (j + 6) 10), dr, pg, t) H := x_ext (fun _ _ => rfl) (fun _ _ => rfl) (fun _ _ => rfl) (by intro o k; by_cases h0 : o = (j + 6) ∧ k = 10; (obtain ⟨rfl, rfl⟩ := h0; simp [up2]); simp only [up2, if_neg h0]) hH
  exact lp3_37 8 0 _ _ _ _ (by omega) rfl hH hS (lv_sub hl [0, 1, 2, 3, 4] rfl)

def fX1_layWay_b39 (g : Nat → Nat → Nat) (a : Nat → Nat → Nat → Int32) (z : Nat → Nat → Nat → Int32) (t : TW) (j : Nat) (pn : Nat) (to : Nat) (set : Int32) (r1o0 : Nat → Int32) (i39 : Nat) (S : (Nat × Int32 × Int32 × Int32 × (Nat → Int32)) × Bool) : (Nat × Int32 × Int32 × Int32 × (Nat → Int32)) × Bool := if S.2 = true then S else if S.1.1 = to then ((S.1.1, S.1.2.1, S.1.2.2.1, S.1.2.2.2.1, S.1.2.2.2.2), true) else ((fX5_from t (fX1_stepFrom g a (up2 (up2 z (j + 6) 10 r1o0) (j + 6) 11 S.1.2.2.2.2) t j pn S.1.1 set) S.1.1, S.1.2.1 + (nI 1), S.1.2.2.1 + (fX1_hurts g a t j pn (fX1_stepFrom g a (up2 (up2 z (j + 6) 10 r1o0) (j + 6) 11 S.1.2.2.2.2) t j pn S.1.1 set)), S.1.2.2.2.1 + (nI (tl t (fX1_stepFrom g a (up2 (up2 z (j + 6) 10 r1o0) (j + 6) 11 S.1.2.2.2.2) t j pn S.1.1 set))), upd S.1.2.2.2.2 i39 (nI (fX1_stepFrom g a (up2 (up2 z (j + 6) 10 r1o0) (j + 6) 11 S.1.2.2.2.2) t j pn S.1.1 set))), false)
theorem fX1_layWay_b39_s (g : Nat → Nat → Nat) (a : Nat → Nat → Nat → Int32) (z : Nat → Nat → Nat → Int32) (t : TW) (j : Nat) (pn : Nat) (to : Nat) (set : Int32) (r1o0 : Nat → Int32) : ∀ (i : Nat) (S : (Nat × Int32 × Int32 × Int32 × (Nat → Int32)) × Bool), S.2 = true → fX1_layWay_b39 g a z t j pn to set r1o0 i S = S := fun _ _ h => if_pos h
/-- the way that is laid ends, and each of its streets is one -/
def xWayOK (g : Nat → Nat → Nat) (y : Nat → Nat → Int32) (a z : Nat → Nat → Nat → Int32) (t : TW) (j pn fr to : Nat) (set : Int32) (ct : Nat → Int32) : Prop := ct fr < nI 268435456 → (it (fX1_layWay_b39 g a z t j pn to set ct) 8 ((fr, nI 0, nI 0, nI 0, z (j + 6) 11), false)).2 = true ∧ ∀ (i c : Nat) (y2 y3 y4 : Int32) (w : Nat → Int32), i < 8 → ((c, y2, y3, y4, w), false) = it (fX1_layWay_b39 g a z t j pn to set ct) i ((fr, nI 0, nI 0, nI 0, z (j + 6) 11), false) → c < 8 ∧ y2 = nI i ∧ (¬ c = to → (it (fX1_stepFrom_b3 g a (up2 (up2 z (j + 6) 10 ct) (j + 6) 11 w) t j pn c set) (tn t) (0, false)).2 = true ∧ fX1_stepFrom g a (up2 (up2 z (j + 6) 10 ct) (j + 6) 11 w) t j pn c set < tn t)
def fX1_layWay (g : Nat → Nat → Nat) (a : Nat → Nat → Nat → Int32) (z : Nat → Nat → Nat → Int32) (t : TW) (j : Nat) (pn : Nat) (fr : Nat) (to : Nat) (set : Int32) : Int32 × Int32 × Int32 × Int32 × (Nat → Int32) × (Nat → Int32) := if ((fX1_layTo g a z t j pn to set) fr) < (nI 268435456) then (nI 1, ((it (fX1_layWay_b39 g a z t j pn to set (fX1_layTo g a z t j pn to set)) 8 ((fr, nI 0, nI 0, nI 0, z (j + 6) 11), false)).1.2.1), ((it (fX1_layWay_b39 g a z t j pn to set (fX1_layTo g a z t j pn to set)) 8 ((fr, nI 0, nI 0, nI 0, z (j + 6) 11), false)).1.2.2.1), ((it (fX1_layWay_b39 g a z t j pn to set (fX1_layTo g a z t j pn to set)) 8 ((fr, nI 0, nI 0, nI 0, z (j + 6) 11), false)).1.2.2.2.1), (fX1_layTo g a z t j pn to set), ((it (fX1_layWay_b39 g a z t j pn to set (fX1_layTo g a z t j pn to set)) 8 ((fr, nI 0, nI 0, nI 0, z (j + 6) 11), false)).1.2.2.2.2)) else (nI 0, nI 0, nI 0, nI 0, (fX1_layTo g a z t j pn to set), z (j + 6) 11)
def rmX1_layWay : Room := { frames := 7, cells := 0, slots := 0, locals := 164 }
theorem hdX1_layWay : yX1_layWay.cls = RX1 ∧ yX1_layWay.cls ≠ "java/lang/invoke/MethodHandle" ∧ yX1_layWay.cls ≠ "java/lang/invoke/VarHandle" ∧ (parseMethodDescriptor yX1_layWay.desc).map (fun d => d.parameters.length) = some 4 := by decide +kernel
set_option maxHeartbeats 4000000 in
theorem kX1_layWay (l : Launch) (ω : OM) (g : Nat → Nat → Nat) (y : Nat → Nat → Int32) (a z : Nat → Nat → Nat → Int32) (dr : Int64) (pg : Nat → Int32) (t : TW) (j : Nat) (hj : j < 3) (pn : Nat) (fr : Nat) (to : Nat) (set : Int32) (hpn : pn < 3) (hfr : fr < 8) (hto : to < 8) (hfu : (it (fX1_layTo_b38 g a z t j pn set) 9 ((nI 1, it (fX1_layTo_b3 to) 8 (z (j + 6) 10)), false)).2 = true) (hw : xWayOK g y a z t j pn fr to set (fX1_layTo g a z t j pn to set)) : Met l yX1_layWay (ws_ yX1_layWay cX1_layWay 7 (some .boolean)) rmX1_layWay (va_Pc [.ref (ω.2.1 (j + 6) 99), .int (nI pn), .int (nI fr), .int (nI to), .int set] (fun U => xK ω U ∧ xH ω (g, y, a, z, dr, pg, t) U.heap)) (va_Qi (fun (r : Int32) (u : XS) => ∃ (o0 : Int32) (o1 : Int32) (o2 : Int32) (o3 : Nat → Int32) (o4 : Nat → Int32), (r, o0, o1, o2, o3, o4) = (fX1_layWay g a z t j pn fr to set) ∧ u = (g, up2 (up2 (up2 y (j + 6) 12 o0) (j + 6) 13 o1) (j + 6) 14 o2, a, up2 (up2 z (j + 6) 10 o3) (j + 6) 11 o4, dr, pg, t)) (fun u t => xH ω u t.heap) ω.2.2.1) 0 0 ω.2.2.1 := by
  refine g_entWz (C := RX1) rfl (by decide) (Nat.le_of_ble_eq_true rfl) ?_
  intro p e s m args below meth c QQ ls H locs hF hK hH hS hl hret
  have hl : lv_has ls 7 [(0, .ref (ω.2.1 (j + 6) 99)), (1, .int (nI pn)), (2, .int (nI fr)), (3, .int (nI to)), (4, .int set)] := hl
  have hn9 : tn t ≤ 9 := hH.2.2.1
  refine lv_aload_n hF.1 hF.2.1 dX1_layWay_0 rfl (lv_at hl 0 rfl) ?_
  refine lv_iload_n hF.1 hF.2.1 dX1_layWay_1 rfl (lv_at hl 1 rfl) ?_
  refine lv_iload_n hF.1 hF.2.1 dX1_layWay_2 rfl (lv_at hl 3 rfl) ?_
  refine lv_iload hF.1 hF.2.1 dX1_layWay_3 (lv_at hl 4 rfl) ?_
  refine g_vWv (As := [.int (nI pn), .int (nI to), .int set]) (rest := []) hF (kX1_layTo l ω g y a z dr pg t j hj pn to set (by omega) (by omega) hfu) (lw_V q617 q618 q619 q96 q620) 3 hdX1_layTo rfl rfl ⟨Nat.le_of_ble_eq_true rfl, Nat.le_of_ble_eq_true rfl⟩ (x_preV1 hj hK hH) rfl hl.1 rfl (Nat.le_of_ble_eq_true rfl) dX1_layWay_5 ⟨Nat.le_of_ble_eq_true rfl, Nat.le_of_ble_eq_true rfl⟩ hS (fun ur1 H locs hqr1 hH hS => ?_)
  obtain ⟨r1o0, hr1, rfl⟩ := hqr1
  have e_r1o0 := hr1
  refine lv_aload_n hF.1 hF.2.1 dX1_layWay_8 rfl (lv_at hl 0 rfl) ?_
  refine lv_iconst (v := nI 0) hF.1 hF.2.1 dX1_layWay_9 (by decide) ?_
  refine xp1_12 (j := j) hj hF hK hH hS q176 dX1_layWay_10 (y' := up2 y (j + 6) 12 (nI 0)) (by simp [up2]) (by intro i q hq; simp only [up2, if_neg hq]) (fun H locs hH hS => ?_)
  refine lv_aload_n hF.1 hF.2.1 dX1_layWay_13 rfl (lv_at hl 0 rfl) ?_
  refine lv_iconst (v := nI 0) hF.1 hF.2.1 dX1_layWay_14 (by decide) ?_
  refine xp1_13 (j := j) hj hF hK hH hS q178 dX1_layWay_15 (y' := up2 (up2 y (j + 6) 12 (nI 0)) (j + 6) 13 (nI 0)) (by simp [up2]) (by intro i q hq; simp only [up2, if_neg hq]) (fun H locs hH hS => ?_)
  refine lv_aload_n hF.1 hF.2.1 dX1_layWay_18 rfl (lv_at hl 0 rfl) ?_
  refine lv_iconst (v := nI 0) hF.1 hF.2.1 dX1_layWay_19 (by decide) ?_
  refine xp1_14 (j := j) hj hF hK hH hS q180 dX1_layWay_20 (y' := up2 (up2 (up2 y (j + 6) 12 (nI 0)) (j + 6) 13 (nI 0)) (j + 6) 14 (nI 0)) (by simp [up2]) (by intro i q hq; simp only [up2, if_neg hq]) (fun H locs hH hS => ?_)
  refine lv_aload_n hF.1 hF.2.1 dX1_layWay_23 rfl (lv_at hl 0 rfl) ?_
  refine xg1_10 (j := j) hj hF hK hH q173 dX1_layWay_24 ?_
  refine lv_iload_n hF.1 hF.2.1 dX1_layWay_27 rfl (lv_at hl 2 rfl) ?_
  refine x1_zld (j := j) hj hF hK hH 10 (n := 8) rfl rfl (by decide) rfl (f := r1o0) (by simp [up2]) (i := fr) (by omega) (by decide) dX1_layWay_28 ?_
  refine lv_ldc (v := nI 268435456) hF.1 hF.2.1 hF.2.2.2.1 (hF.2.2.2.2 _ q621) dX1_layWay_29 ?_
  refine lv_icmp_lt (tgt := 36) hF.1 hF.2.1 dX1_layWay_31 (by decide) (fun c2 => ?_) (fun c2 => ?_)
  · skip
    rw [← e_r1o0] at hw
    have hw2 := hw c2
    refine lv_iload_n hF.1 hF.2.1 dX1_layWay_36 rfl (lv_at hl 2 rfl) ?_
    refine lv_istore (lv' := [(5, .int (nI fr)), (0, .ref (ω.2.1 (j + 6) 99)), (1, .int (nI pn)), (2, .int (nI fr)), (3, .int (nI to)), (4, .int set)]) hF.1 hF.2.1 dX1_layWay_37 hl (by decide) rfl (fun ls hl => ?_)
    have kx39_49 : ∀ (x39_5 : Nat) (w39_y_j_6_12 : Int32) (w39_y_j_6_13 : Int32) (w39_y_j_6_14 : Int32) (w39_z_j_6_11 : Nat → Int32) (H : Heap) (locs : List Loc) (ls : Array Slot), (x39_5, w39_y_j_6_12, w39_y_j_6_13, w39_y_j_6_14, w39_z_j_6_11) = (it (fX1_layWay_b39 g a z t j pn to set r1o0) 8 ((fr, nI 0, nI 0, nI 0, z (j + 6) 11), false)).1 → xH ω (g, up2 (up2 (up2 y (j + 6) 12 w39_y_j_6_12) (j + 6) 13 w39_y_j_6_13) (j + 6) 14 w39_y_j_6_14, a, up2 (up2 z (j + 6) 10 r1o0) (j + 6) 11 w39_z_j_6_11, dr, pg, t) H → va_S ω.2.2.1 s.heap H locs → lv_has ls 7 [] → W p l e rmX1_layWay s m args below meth c H locs 0 0 QQ (F0 m 145 ls []) := by
      intro x39_5 w39_y_j_6_12 w39_y_j_6_13 w39_y_j_6_14 w39_z_j_6_11 H locs ls hE39 hH hS hl
      have e_x39_5 : x39_5 = (it (fX1_layWay_b39 g a z t j pn to set r1o0) 8 ((fr, nI 0, nI 0, nI 0, z (j + 6) 11), false)).1.1 := by rw [← hE39]
      have e_w39_y_j_6_12 : w39_y_j_6_12 = (it (fX1_layWay_b39 g a z t j pn to set r1o0) 8 ((fr, nI 0, nI 0, nI 0, z (j + 6) 11), false)).1.2.1 := by rw [← hE39]
      have e_w39_y_j_6_13 : w39_y_j_6_13 = (it (fX1_layWay_b39 g a z t j pn to set r1o0) 8 ((fr, nI 0, nI 0, nI 0, z (j + 6) 11), false)).1.2.2.1 := by rw [← hE39]
      have e_w39_y_j_6_14 : w39_y_j_6_14 = (it (fX1_layWay_b39 g a z t j pn to set r1o0) 8 ((fr, nI 0, nI 0, nI 0, z (j + 6) 11), false)).1.2.2.2.1 := by rw [← hE39]
      have e_w39_z_j_6_11 : w39_z_j_6_11 = (it (fX1_layWay_b39 g a z t j pn to set r1o0) 8 ((fr, nI 0, nI 0, nI 0, z (j + 6) 11), false)).1.2.2.2.2 := by rw [← hE39]
      refine lv_iconst (v := nI 1) hF.1 hF.2.1 dX1_layWay_145 (by decide) ?_
      exact hret _ _ _ _ _ _ dX1_layWay_146 ⟨_, _, _, _, _, by subst e_w39_z_j_6_11; subst e_w39_y_j_6_14; subst e_w39_y_j_6_13; subst e_w39_y_j_6_12; subst e_x39_5; subst e_r1o0; unfold fX1_layWay; first | (rw [if_pos c2]; done) | (simp only [if_pos c2]), rfl⟩ (by subst e_w39_z_j_6_11; subst e_w39_y_j_6_14; subst e_w39_y_j_6_13; subst e_w39_y_j_6_12; subst e_x39_5; subst e_r1o0; exact (Or.inr rfl)) hH hS
    have lp39_48 : ∀ (d39 i39 : Nat) (x39_5 : Nat) (w39_y_j_6_12 : Int32) (w39_y_j_6_13 : Int32) (w39_y_j_6_14 : Int32) (w39_z_j_6_11 : Nat → Int32) (H : Heap) (locs : List Loc) (ls : Array Slot), i39 + d39 = 8 → ((x39_5, w39_y_j_6_12, w39_y_j_6_13, w39_y_j_6_14, w39_z_j_6_11), false) = it (fX1_layWay_b39 g a z t j pn to set r1o0) i39 ((fr, nI 0, nI 0, nI 0, z (j + 6) 11), false) → xH ω (g, up2 (up2 (up2 y (j + 6) 12 w39_y_j_6_12) (j + 6) 13 w39_y_j_6_13) (j + 6) 14 w39_y_j_6_14, a, up2 (up2 z (j + 6) 10 r1o0) (j + 6) 11 w39_z_j_6_11, dr, pg, t) H → va_S ω.2.2.1 s.heap H locs → lv_has ls 7 [(5, .int (nI x39_5)), (0, .ref (ω.2.1 (j + 6) 99)), (1, .int (nI pn)), (3, .int (nI to)), (4, .int set)] → W p l e rmX1_layWay s m args below meth c H locs 0 0 QQ (F0 m 39 ls []) := by
      intro d39
      induction d39 with
      | zero =>
        intro i39 x39_5 w39_y_j_6_12 w39_y_j_6_13 w39_y_j_6_14 w39_z_j_6_11 H locs ls hi39 hS39 hH hS hl
        have hj39 : 8 = i39 := by omega
        subst hj39
        exact absurd (show (it (fX1_layWay_b39 g a z t j pn to set r1o0) 8 ((fr, nI 0, nI 0, nI 0, z (j + 6) 11), false)).2 = true from (hw2.1)) (by rw [← hS39]; exact Bool.false_ne_true)
      | succ d39 ih =>
        intro i39 x39_5 w39_y_j_6_12 w39_y_j_6_13 w39_y_j_6_14 w39_z_j_6_11 H locs ls hi39 hS39 hH hS hl
        obtain ⟨hc8, hy2, hcn⟩ := hw2.2 i39 x39_5 w39_y_j_6_12 w39_y_j_6_13 w39_y_j_6_14 w39_z_j_6_11 (by omega) hS39
        refine lv_iload hF.1 hF.2.1 dX1_layWay_39 (lv_at hl 0 rfl) ?_
        refine lv_iload_n hF.1 hF.2.1 dX1_layWay_41 rfl (lv_at hl 3 rfl) ?_
        refine n_eq (tgt := 145) hF.1 hF.2.1 dX1_layWay_42 (by decide) (by omega) (by omega) (fun c3 => ?_) (fun c3 => ?_)
        · skip
          exact kx39_49 _ _ _ _ _ _ _ _ (by rw [it_stop (fX1_layWay_b39_s g a z t j pn to set r1o0) (i := i39 + 1) (a := (x39_5, w39_y_j_6_12, w39_y_j_6_13, w39_y_j_6_14, w39_z_j_6_11)) (by rw [it_succ (fX1_layWay_b39 g a z t j pn to set r1o0) i39 _, ← hS39]; unfold fX1_layWay_b39; dsimp only; first | (rw [if_neg (show ¬ (false = true) from Bool.false_ne_true), if_pos c3]; done) | (simp only [if_neg (show ¬ (false = true) from Bool.false_ne_true), if_pos c3])) 8 (by omega)]) hH hS (lv_sub hl [] rfl)
        · skip
          obtain ⟨hstep, hsn⟩ := hcn c3
          refine lv_aload_n hF.1 hF.2.1 dX1_layWay_45 rfl (lv_at hl 1 rfl) ?_
          refine lv_iload_n hF.1 hF.2.1 dX1_layWay_46 rfl (lv_at hl 2 rfl) ?_
          refine lv_iload hF.1 hF.2.1 dX1_layWay_47 (lv_at hl 0 rfl) ?_
          refine lv_iload hF.1 hF.2.1 dX1_layWay_49 (lv_at hl 4 rfl) ?_
          refine g_vPi (As := [.int (nI pn), .int (nI x39_5), .int set]) (rest := []) hF (kX1_stepFrom l ω g (up2 (up2 (up2 y (j + 6) 12 w39_y_j_6_12) (j + 6) 13 w39_y_j_6_13) (j + 6) 14 w39_y_j_6_14) a (up2 (up2 z (j + 6) 10 r1o0) (j + 6) 11 w39_z_j_6_11) dr pg t j hj pn x39_5 set (by omega) (by omega) hstep) (lw_V q663 q665 qs17 q96 q666) 3 hdX1_stepFrom rfl rfl ⟨Nat.le_of_ble_eq_true rfl, Nat.le_of_ble_eq_true rfl⟩ (x_preV1 hj hK hH) rfl hl.1 rfl (Nat.le_of_ble_eq_true rfl) dX1_layWay_51 ⟨Nat.zero_le _, Nat.zero_le _⟩ (fun r4 e_r4 => ?_)
          subst e_r4
          refine lv_istore (lv' := [(6, .int (nI (fX1_stepFrom g a (up2 (up2 z (j + 6) 10 r1o0) (j + 6) 11 w39_z_j_6_11) t j pn x39_5 set))), (5, .int (nI x39_5)), (0, .ref (ω.2.1 (j + 6) 99)), (1, .int (nI pn)), (3, .int (nI to)), (4, .int set)]) hF.1 hF.2.1 dX1_layWay_54 hl (by decide) rfl (fun ls hl => ?_)
          refine lv_aload_n hF.1 hF.2.1 dX1_layWay_56 rfl (lv_at hl 2 rfl) ?_
          refine xg1_11 (j := j) hj hF hK hH q174 dX1_layWay_57 ?_
          refine lv_aload_n hF.1 hF.2.1 dX1_layWay_60 rfl (lv_at hl 2 rfl) ?_
          refine xg1_12 (j := j) hj hF hK hH q176 dX1_layWay_61 (v := w39_y_j_6_12) (by simp [up2]) ?_
          refine n_top (y := nI i39) (hy2) ?_
          refine lv_iload hF.1 hF.2.1 dX1_layWay_64 (lv_at hl 0 rfl) ?_
          refine x1_zst (z' := up2 (up2 z (j + 6) 10 r1o0) (j + 6) 11 (upd w39_z_j_6_11 i39 (nI (fX1_stepFrom g a (up2 (up2 z (j + 6) 10 r1o0) (j + 6) 11 w39_z_j_6_11) t j pn x39_5 set)))) (j := j) hj hF hK hH hS 11 (n := 8) rfl rfl (by decide) rfl (f := w39_z_j_6_11) (by simp [up2]) (i := i39) (by omega) (by decide) dX1_layWay_66 (by simp [up2]) (by intro i q hq; simp only [up2, if_neg hq]) (fun H locs hH hS => ?_)
          refine lv_aload_n hF.1 hF.2.1 dX1_layWay_67 rfl (lv_at hl 2 rfl) ?_
          refine lv_dup hF.1 hF.2.1 dX1_layWay_68 rfl ?_
          refine xg1_12 (j := j) hj hF hK hH q176 dX1_layWay_69 (v := w39_y_j_6_12) (by simp [up2]) ?_
          refine lv_iconst (v := nI 1) hF.1 hF.2.1 dX1_layWay_72 (by decide) ?_
          refine lv_iadd hF.1 hF.2.1 dX1_layWay_73 ?_
          refine xp1_12 (j := j) hj hF hK hH hS q176 dX1_layWay_74 (y' := up2 (up2 (up2 y (j + 6) 12 (w39_y_j_6_12 + (nI 1))) (j + 6) 13 w39_y_j_6_13) (j + 6) 14 w39_y_j_6_14) (by simp [up2]) (by intro i q hq; simp only [up2, if_neg hq]) (fun H locs hH hS => ?_)
          refine lv_aload_n hF.1 hF.2.1 dX1_layWay_77 rfl (lv_at hl 2 rfl) ?_
          refine lv_dup hF.1 hF.2.1 dX1_layWay_78 rfl ?_
          refine xg1_13 (j := j) hj hF hK hH q178 dX1_layWay_79 (v := w39_y_j_6_13) (by simp [up2]) ?_
          refine lv_aload_n hF.1 hF.2.1 dX1_layWay_82 rfl (lv_at hl 2 rfl) ?_
          refine lv_iload_n hF.1 hF.2.1 dX1_layWay_83 rfl (lv_at hl 3 rfl) ?_
          refine lv_iload hF.1 hF.2.1 dX1_layWay_84 (lv_at hl 0 rfl) ?_
          refine g_vPi (As := [.int (nI pn), .int (nI (fX1_stepFrom g a (up2 (up2 z (j + 6) 10 r1o0) (j + 6) 11 w39_z_j_6_11) t j pn x39_5 set))]) (rest := [.int w39_y_j_6_13, .ref (ω.2.1 (j + 6) 99)]) hF (kX1_hurts l ω g (up2 (up2 (up2 y (j + 6) 12 (w39_y_j_6_12 + (nI 1))) (j + 6) 13 w39_y_j_6_13) (j + 6) 14 w39_y_j_6_14) a (up2 (up2 z (j + 6) 10 r1o0) (j + 6) 11 (upd w39_z_j_6_11 i39 (nI (fX1_stepFrom g a (up2 (up2 z (j + 6) 10 r1o0) (j + 6) 11 w39_z_j_6_11) t j pn x39_5 set)))) dr pg t j hj pn (fX1_stepFrom g a (up2 (up2 z (j + 6) 10 r1o0) (j + 6) 11 w39_z_j_6_11) t j pn x39_5 set) (by omega) (by omega)) (lw_V q632 q633 q634 q96 q635) 2 hdX1_hurts rfl rfl ⟨Nat.le_of_ble_eq_true rfl, Nat.le_of_ble_eq_true rfl⟩ (x_preV1 hj hK hH) rfl hl.1 rfl (Nat.le_of_ble_eq_true rfl) dX1_layWay_86 ⟨Nat.zero_le _, Nat.zero_le _⟩ (fun r5 e_r5 => ?_)
          refine lv_iadd hF.1 hF.2.1 dX1_layWay_89 ?_
          refine xp1_13 (j := j) hj hF hK hH hS q178 dX1_layWay_90 (y' := up2 (up2 (up2 y (j + 6) 12 (w39_y_j_6_12 + (nI 1))) (j + 6) 13 (w39_y_j_6_13 + r5)) (j + 6) 14 w39_y_j_6_14) (by simp [up2]) (by intro i q hq; simp only [up2, if_neg hq]) (fun H locs hH hS => ?_)
          refine lv_aload_n hF.1 hF.2.1 dX1_layWay_93 rfl (lv_at hl 2 rfl) ?_
          refine lv_dup hF.1 hF.2.1 dX1_layWay_94 rfl ?_
          refine xg1_14 (j := j) hj hF hK hH q180 dX1_layWay_95 (v := w39_y_j_6_14) (by simp [up2]) ?_
          refine lv_aload_n hF.1 hF.2.1 dX1_layWay_98 rfl (lv_at hl 2 rfl) ?_
          refine xg1_15 (j := j) hj hF hK hH q182 dX1_layWay_99 ?_
          refine xgN_q217 hF hK hH dX1_layWay_102 ?_
          refine lv_iload hF.1 hF.2.1 dX1_layWay_105 (lv_at hl 0 rfl) ?_
          refine g_vPr (As := [.int (nI (fX1_stepFrom g a (up2 (up2 z (j + 6) 10 r1o0) (j + 6) 11 w39_z_j_6_11) t j pn x39_5 set))]) (rest := [.int w39_y_j_6_14, .ref (ω.2.1 (j + 6) 99)]) hF (kJ2_get l ω g (up2 (up2 (up2 y (j + 6) 12 (w39_y_j_6_12 + (nI 1))) (j + 6) 13 (w39_y_j_6_13 + r5)) (j + 6) 14 w39_y_j_6_14) a (up2 (up2 z (j + 6) 10 r1o0) (j + 6) 11 (upd w39_z_j_6_11 i39 (nI (fX1_stepFrom g a (up2 (up2 z (j + 6) 10 r1o0) (j + 6) 11 w39_z_j_6_11) t j pn x39_5 set)))) dr pg t (fX1_stepFrom g a (up2 (up2 z (j + 6) 10 r1o0) (j + 6) 11 w39_z_j_6_11) t j pn x39_5 set) (by omega)) (lw_V q623 q571 q572 q95 q573) 1 hdJ2_get rfl rfl ⟨Nat.le_of_ble_eq_true rfl, Nat.le_of_ble_eq_true rfl⟩ (x_preVL hK hH) rfl hl.1 rfl (Nat.le_of_ble_eq_true rfl) dX1_layWay_107 ⟨Nat.zero_le _, Nat.zero_le _⟩ ?_
          refine x_cast hF hK hH (i := fX1_stepFrom g a (up2 (up2 z (j + 6) 10 r1o0) (j + 6) 11 w39_z_j_6_11) t j pn x39_5 set) (by omega) q624 dX1_layWay_110 ?_
          refine xs_g2 hF hK hH (i := fX1_stepFrom g a (up2 (up2 z (j + 6) 10 r1o0) (j + 6) 11 w39_z_j_6_11) t j pn x39_5 set) (by omega) q448 dX1_layWay_113 ?_
          have hst113 := hH.2.2.2.2 (fX1_stepFrom g a (up2 (up2 z (j + 6) 10 r1o0) (j + 6) 11 w39_z_j_6_11) t j pn x39_5 set) (by first | exact hsn | (show _ < tn t; omega))
          change tk t (fX1_stepFrom g a (up2 (up2 z (j + 6) 10 r1o0) (j + 6) 11 w39_z_j_6_11) t j pn x39_5 set) < 5 ∧ ta t (fX1_stepFrom g a (up2 (up2 z (j + 6) 10 r1o0) (j + 6) 11 w39_z_j_6_11) t j pn x39_5 set) < 8 ∧ tb t (fX1_stepFrom g a (up2 (up2 z (j + 6) 10 r1o0) (j + 6) 11 w39_z_j_6_11) t j pn x39_5 set) < 8 ∧ ¬ ta t (fX1_stepFrom g a (up2 (up2 z (j + 6) 10 r1o0) (j + 6) 11 w39_z_j_6_11) t j pn x39_5 set) = tb t (fX1_stepFrom g a (up2 (up2 z (j + 6) 10 r1o0) (j + 6) 11 w39_z_j_6_11) t j pn x39_5 set) ∧ 1 ≤ tl t (fX1_stepFrom g a (up2 (up2 z (j + 6) 10 r1o0) (j + 6) 11 w39_z_j_6_11) t j pn x39_5 set) ∧ tl t (fX1_stepFrom g a (up2 (up2 z (j + 6) 10 r1o0) (j + 6) 11 w39_z_j_6_11) t j pn x39_5 set) ≤ 9 at hst113
          refine lv_iadd hF.1 hF.2.1 dX1_layWay_116 ?_
          refine xp1_14 (j := j) hj hF hK hH hS q180 dX1_layWay_117 (y' := up2 (up2 (up2 y (j + 6) 12 (w39_y_j_6_12 + (nI 1))) (j + 6) 13 (w39_y_j_6_13 + r5)) (j + 6) 14 (w39_y_j_6_14 + (nI (tl t (fX1_stepFrom g a (up2 (up2 z (j + 6) 10 r1o0) (j + 6) 11 w39_z_j_6_11) t j pn x39_5 set))))) (by simp [up2]) (by intro i q hq; simp only [up2, if_neg hq]) (fun H locs hH hS => ?_)
          refine lv_aload_n hF.1 hF.2.1 dX1_layWay_120 rfl (lv_at hl 2 rfl) ?_
          refine xg1_15 (j := j) hj hF hK hH q182 dX1_layWay_121 ?_
          refine xgN_q217 hF hK hH dX1_layWay_124 ?_
          refine lv_iload hF.1 hF.2.1 dX1_layWay_127 (lv_at hl 0 rfl) ?_
          refine g_vPr (As := [.int (nI (fX1_stepFrom g a (up2 (up2 z (j + 6) 10 r1o0) (j + 6) 11 w39_z_j_6_11) t j pn x39_5 set))]) (rest := []) hF (kJ2_get l ω g (up2 (up2 (up2 y (j + 6) 12 (w39_y_j_6_12 + (nI 1))) (j + 6) 13 (w39_y_j_6_13 + r5)) (j + 6) 14 (w39_y_j_6_14 + (nI (tl t (fX1_stepFrom g a (up2 (up2 z (j + 6) 10 r1o0) (j + 6) 11 w39_z_j_6_11) t j pn x39_5 set))))) a (up2 (up2 z (j + 6) 10 r1o0) (j + 6) 11 (upd w39_z_j_6_11 i39 (nI (fX1_stepFrom g a (up2 (up2 z (j + 6) 10 r1o0) (j + 6) 11 w39_z_j_6_11) t j pn x39_5 set)))) dr pg t (fX1_stepFrom g a (up2 (up2 z (j + 6) 10 r1o0) (j + 6) 11 w39_z_j_6_11) t j pn x39_5 set) (by omega)) (lw_V q623 q571 q572 q95 q573) 1 hdJ2_get rfl rfl ⟨Nat.le_of_ble_eq_true rfl, Nat.le_of_ble_eq_true rfl⟩ (x_preVL hK hH) rfl hl.1 rfl (Nat.le_of_ble_eq_true rfl) dX1_layWay_129 ⟨Nat.zero_le _, Nat.zero_le _⟩ ?_
          refine x_cast hF hK hH (i := fX1_stepFrom g a (up2 (up2 z (j + 6) 10 r1o0) (j + 6) 11 w39_z_j_6_11) t j pn x39_5 set) (by omega) q624 dX1_layWay_132 ?_
          refine lv_iload hF.1 hF.2.1 dX1_layWay_135 (lv_at hl 1 rfl) ?_
          refine x_vfrom (rest := []) hF hK hH (fX1_stepFrom g a (up2 (up2 z (j + 6) 10 r1o0) (j + 6) 11 w39_z_j_6_11) t j pn x39_5 set) (by omega) x39_5 (by omega) q676 ⟨Nat.le_of_ble_eq_true rfl, Nat.le_of_ble_eq_true rfl⟩ hl.1 rfl (Nat.le_of_ble_eq_true rfl) dX1_layWay_137 ⟨Nat.zero_le _, Nat.zero_le _⟩ ?_
          have hfr137 := fX5_from_lt (show tOK t from hH.2.2) x39_5 (show (fX1_stepFrom g a (up2 (up2 z (j + 6) 10 r1o0) (j + 6) 11 w39_z_j_6_11) t j pn x39_5 set) < tn t by omega)
          refine lv_istore (lv' := [(5, .int (nI (fX5_from t (fX1_stepFrom g a (up2 (up2 z (j + 6) 10 r1o0) (j + 6) 11 w39_z_j_6_11) t j pn x39_5 set) x39_5))), (6, .int (nI (fX1_stepFrom g a (up2 (up2 z (j + 6) 10 r1o0) (j + 6) 11 w39_z_j_6_11) t j pn x39_5 set))), (0, .ref (ω.2.1 (j + 6) 99)), (1, .int (nI pn)), (3, .int (nI to)), (4, .int set)]) hF.1 hF.2.1 dX1_layWay_140 hl (by decide) rfl (fun ls hl => ?_)
          refine lv_goto (tgt := 39) hF.1 hF.2.1 dX1_layWay_142 (by decide) ?_
          exact ih (i39 + 1) _ _ _ _ _ _ _ _ (by omega) (by subst e_r5; rw [it_succ (fX1_layWay_b39 g a z t j pn to set r1o0) i39 _, ← hS39]; unfold fX1_layWay_b39; dsimp only; first | (rw [if_neg (show ¬ (false = true) from Bool.false_ne_true), if_neg c3]; done) | (simp only [if_neg (show ¬ (false = true) from Bool.false_ne_true), if_neg c3])) hH hS (lv_sub hl [0, 2, 3, 4, 5] rfl)
    have hH : xH ω (g, up2 (up2 (up2 y (j + 6) 12 (nI 0)) (j + 6) 13 (nI 0)) (j + 6) 14 (nI 0), a, up2 (up2 z (j + 6) 10 r1o0) (j + 6) 11 (z (j + 6) 11), dr, pg, t) H := x_ext (fun _ _ => rfl) (fun _ _ => rfl) (fun _ _ => rfl) (by intro o k; by_cases h0 : o = (j + 6) ∧ k = 11; (obtain ⟨rfl, rfl⟩ := h0; simp [up2]); simp only [up2, if_neg h0]) hH
    exact lp39_48 8 0 _ _ _ _ _ _ _ _ (by omega) rfl hH hS (lv_sub hl [0, 1, 2, 4, 5] rfl)
  · skip
    refine lv_iconst (v := nI 0) hF.1 hF.2.1 dX1_layWay_34 (by decide) ?_
    have hH : xH ω (g, up2 (up2 (up2 y (j + 6) 12 (nI 0)) (j + 6) 13 (nI 0)) (j + 6) 14 (nI 0), a, up2 (up2 z (j + 6) 10 r1o0) (j + 6) 11 (z (j + 6) 11), dr, pg, t) H := x_ext (fun _ _ => rfl) (fun _ _ => rfl) (fun _ _ => rfl) (by intro o k; by_cases h0 : o = (j + 6) ∧ k = 11; (obtain ⟨rfl, rfl⟩ := h0; simp [up2]); simp only [up2, if_neg h0]) hH
    exact hret _ _ _ _ _ _ dX1_layWay_35 ⟨_, _, _, _, _, by subst e_r1o0; unfold fX1_layWay; first | (rw [if_neg c2]; done) | (simp only [if_neg c2]), rfl⟩ (by subst e_r1o0; exact (Or.inl nI_0)) hH hS

