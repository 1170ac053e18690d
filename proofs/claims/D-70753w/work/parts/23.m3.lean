/-! MODEL: what is told of streets, drivers -/
set_option maxRecDepth 100000
def fX2_reachOf_b17 (a : Nat → Nat → Int32) (set : Int32) (i17 : Nat) (S : Int32) : Int32 := if ((set >>> ((nI i17) &&& 31)) &&& (nI 1)) = (nI 1) then if (S &&& (((nI 1) <<< ((a 7 ((4 * i17) + 1)) &&& 31)) ||| ((nI 1) <<< ((a 7 ((4 * i17) + 2)) &&& 31)))) = 0 then S ||| (nI 0) else S ||| (((nI 1) <<< ((a 7 ((4 * i17) + 1)) &&& 31)) ||| ((nI 1) <<< ((a 7 ((4 * i17) + 2)) &&& 31))) else S ||| (nI 0)
def fX2_reachOf_b7 (g : Nat → Nat) (a : Nat → Nat → Int32) (set : Int32) (i7 : Nat) (S : Int32) : Int32 := (it (fX2_reachOf_b17 a set) (g 4) S)
def fX2_reachOf (g : Nat → Nat) (a : Nat → Nat → Int32) (cn : Int32) (set : Int32) : Int32 := (it (fX2_reachOf_b7 g a set) 8 ((nI 1) <<< (cn &&& 31)))
def rmX2_reachOf : Room := { frames := 1, cells := 0, slots := 0, locals := 24 }
theorem hdX2_reachOf : yX2_reachOf.cls = RX2 ∧ yX2_reachOf.cls ≠ "java/lang/invoke/MethodHandle" ∧ yX2_reachOf.cls ≠ "java/lang/invoke/VarHandle" ∧ (parseMethodDescriptor yX2_reachOf.desc).map (fun d => d.parameters.length) = some 2 := by decide +kernel
set_option maxHeartbeats 4000000 in
theorem kX2_reachOf (l : Launch) (ω : OM) (g : Nat → Nat) (y : Nat → Int32) (a z : Nat → Nat → Int32) (kt : Int32) (hs : Int64) (cn : Int32) (set : Int32) (hr : mRows (g 4) (a 7)) : Met l yX2_reachOf (ws_ yX2_reachOf cX2_reachOf 7 (some .int)) rmX2_reachOf (va_Pc [.ref (ω.2.1 0 99), .int cn, .int set] (fun U => mK ω U ∧ mH ω (g, y, a, z, kt, hs) U.heap)) (vp_Si (fun r => r = (fX2_reachOf g a cn set))) 0 0 (fun _ => False) := by
  refine g_entPi (C := RX2) rfl (by decide) (Nat.le_of_ble_eq_true rfl) ?_
  intro p e s m args below meth c QQ ls hF hKH hl hret
  have hl : lv_has ls 7 [(0, .ref (ω.2.1 0 99)), (1, .int cn), (2, .int set)] := hl
  obtain ⟨hK, hH⟩ := hKH
  have hn := hr.1
  refine lv_iconst (v := nI 1) hF.1 hF.2.1 dX2_reachOf_0 (by decide) ?_
  refine lv_iload_n hF.1 hF.2.1 dX2_reachOf_1 rfl (lv_at hl 1 rfl) ?_
  refine lv_ishl hF.1 hF.2.1 dX2_reachOf_2 ?_
  refine lv_istore_n (lv' := [(3, .int ((nI 1) <<< (cn &&& 31))), (0, .ref (ω.2.1 0 99)), (1, .int cn), (2, .int set)]) hF.1 hF.2.1 dX2_reachOf_3 rfl hl (by decide) rfl (fun ls hl => ?_)
  refine lv_iconst (v := nI 0) hF.1 hF.2.1 dX2_reachOf_4 (by decide) ?_
  refine lv_istore (lv' := [(4, .int (nI 0)), (3, .int ((nI 1) <<< (cn &&& 31))), (0, .ref (ω.2.1 0 99)), (1, .int cn), (2, .int set)]) hF.1 hF.2.1 dX2_reachOf_5 hl (by decide) rfl (fun ls hl => ?_)
  have lp7_38 : ∀ (d7 i7 : Nat) (x7_3 : Int32) (ls : Array Slot), i7 + d7 = 8 → x7_3 = it (fX2_reachOf_b7 g a set) i7 ((nI 1) <<< (cn &&& 31)) → lv_has ls 7 [(4, .int (nI i7)), (3, .int x7_3), (0, .ref (ω.2.1 0 99)), (2, .int set)] → W p l e rmX2_reachOf s m args below meth c s.heap [] 0 0 QQ (F0 m 7 ls []) := by
    intro d7
    induction d7 with
    | zero =>
      intro i7 x7_3 ls hi7 hS7 hl
      have hj7 : 8 = i7 := by omega
      subst hj7
      have e_x7_3 := hS7
      refine lv_iload hF.1 hF.2.1 dX2_reachOf_7 (lv_at hl 0 rfl) ?_
      refine lv_bipush (v := nI 8) hF.1 hF.2.1 dX2_reachOf_9 (by decide) ?_
      refine n_ge (tgt := 93) hF.1 hF.2.1 dX2_reachOf_11 (by decide) (by omega) (by omega) (fun c1 => ?_) (fun c1 => ?_)
      · skip
        refine lv_iload_n hF.1 hF.2.1 dX2_reachOf_93 rfl (lv_at hl 1 rfl) ?_
        exact hret _ _ _ dX2_reachOf_94 (by subst e_x7_3; rfl)
      · exact absurd (by omega) c1
    | succ d7 ih =>
      intro i7 x7_3 ls hi7 hS7 hl
      refine lv_iload hF.1 hF.2.1 dX2_reachOf_7 (lv_at hl 0 rfl) ?_
      refine lv_bipush (v := nI 8) hF.1 hF.2.1 dX2_reachOf_9 (by decide) ?_
      refine n_ge (tgt := 93) hF.1 hF.2.1 dX2_reachOf_11 (by decide) (by omega) (by omega) (fun c2 => ?_) (fun c2 => ?_)
      · exact absurd c2 (by omega)
      · skip
        refine lv_iconst (v := nI 0) hF.1 hF.2.1 dX2_reachOf_14 (by decide) ?_
        refine lv_istore (lv' := [(5, .int (nI 0)), (4, .int (nI i7)), (3, .int x7_3), (0, .ref (ω.2.1 0 99)), (2, .int set)]) hF.1 hF.2.1 dX2_reachOf_15 hl (by decide) rfl (fun ls hl => ?_)
        have lp17_40 : ∀ (d17 i17 : Nat) (x17_3 : Int32) (ls : Array Slot), i17 + d17 = g 4 → x17_3 = it (fX2_reachOf_b17 a set) i17 x7_3 → lv_has ls 7 [(5, .int (nI i17)), (4, .int (nI i7)), (3, .int x17_3), (0, .ref (ω.2.1 0 99)), (2, .int set)] → W p l e rmX2_reachOf s m args below meth c s.heap [] 0 0 QQ (F0 m 17 ls []) := by
          intro d17
          induction d17 with
          | zero =>
            intro i17 x17_3 ls hi17 hS17 hl
            have hj17 : g 4 = i17 := by omega
            subst hj17
            have e_x17_3 := hS17
            refine lv_iload hF.1 hF.2.1 dX2_reachOf_17 (lv_at hl 0 rfl) ?_
            refine lv_aload_n hF.1 hF.2.1 dX2_reachOf_19 rfl (lv_at hl 3 rfl) ?_
            refine mg_4 hF hK hH q975 dX2_reachOf_20 (v := g 4) rfl ?_
            refine n_ge (tgt := 87) hF.1 hF.2.1 dX2_reachOf_23 (by decide) (by omega) (by omega) (fun c3 => ?_) (fun c3 => ?_)
            · skip
              refine n_iinc (lv' := [(4, .int (nI (i7 + 1))), (5, .int (nI (g 4))), (3, .int x17_3), (0, .ref (ω.2.1 0 99)), (2, .int set)]) hF.1 hF.2.1 dX2_reachOf_87 hl (k := 1) rfl (by decide) rfl (fun ls hl => ?_)
              refine lv_goto (tgt := 7) hF.1 hF.2.1 dX2_reachOf_90 (by decide) ?_
              exact ih (i7 + 1) _ _ (by omega) (by subst e_x17_3; rw [it_succ (fX2_reachOf_b7 g a set) i7 _, ← hS7]; try rfl) (lv_sub hl [0, 2, 3, 4] rfl)
            · exact absurd (by omega) c3
          | succ d17 ih =>
            intro i17 x17_3 ls hi17 hS17 hl
            refine lv_iload hF.1 hF.2.1 dX2_reachOf_17 (lv_at hl 0 rfl) ?_
            refine lv_aload_n hF.1 hF.2.1 dX2_reachOf_19 rfl (lv_at hl 3 rfl) ?_
            refine mg_4 hF hK hH q975 dX2_reachOf_20 (v := g 4) rfl ?_
            refine n_ge (tgt := 87) hF.1 hF.2.1 dX2_reachOf_23 (by decide) (by omega) (by omega) (fun c4 => ?_) (fun c4 => ?_)
            · exact absurd c4 (by omega)
            · skip
              refine lv_iconst (v := nI 1) hF.1 hF.2.1 dX2_reachOf_26 (by decide) ?_
              refine lv_aload_n hF.1 hF.2.1 dX2_reachOf_27 rfl (lv_at hl 3 rfl) ?_
              refine mg_7 hF hK hH q978 dX2_reachOf_28 ?_
              refine lv_iconst (v := nI 4) hF.1 hF.2.1 dX2_reachOf_31 (by decide) ?_
              refine lv_iload hF.1 hF.2.1 dX2_reachOf_32 (lv_at hl 0 rfl) ?_
              refine n_imul hF.1 hF.2.1 dX2_reachOf_34 ?_
              refine lv_iconst (v := nI 1) hF.1 hF.2.1 dX2_reachOf_35 (by decide) ?_
              refine n_iadd hF.1 hF.2.1 dX2_reachOf_36 ?_
              refine m_ald hF hK hH 7 (n := 36) rfl rfl (by decide) rfl (f := a 7) rfl (i := (4 * i17) + 1) (by omega) (by decide) dX2_reachOf_37 ?_
              refine lv_ishl hF.1 hF.2.1 dX2_reachOf_38 ?_
              refine lv_iconst (v := nI 1) hF.1 hF.2.1 dX2_reachOf_39 (by decide) ?_
              refine lv_aload_n hF.1 hF.2.1 dX2_reachOf_40 rfl (lv_at hl 3 rfl) ?_
              refine mg_7 hF hK hH q978 dX2_reachOf_41 ?_
              refine lv_iconst (v := nI 4) hF.1 hF.2.1 dX2_reachOf_44 (by decide) ?_
              refine lv_iload hF.1 hF.2.1 dX2_reachOf_45 (lv_at hl 0 rfl) ?_
              refine n_imul hF.1 hF.2.1 dX2_reachOf_47 ?_
              refine lv_iconst (v := nI 2) hF.1 hF.2.1 dX2_reachOf_48 (by decide) ?_
              refine n_iadd hF.1 hF.2.1 dX2_reachOf_49 ?_
              refine m_ald hF hK hH 7 (n := 36) rfl rfl (by decide) rfl (f := a 7) rfl (i := (4 * i17) + 2) (by omega) (by decide) dX2_reachOf_50 ?_
              refine lv_ishl hF.1 hF.2.1 dX2_reachOf_51 ?_
              refine lv_ior hF.1 hF.2.1 dX2_reachOf_52 ?_
              refine lv_istore (lv' := [(6, .int (((nI 1) <<< ((a 7 ((4 * i17) + 1)) &&& 31)) ||| ((nI 1) <<< ((a 7 ((4 * i17) + 2)) &&& 31)))), (5, .int (nI i17)), (4, .int (nI i7)), (3, .int x17_3), (0, .ref (ω.2.1 0 99)), (2, .int set)]) hF.1 hF.2.1 dX2_reachOf_53 hl (by decide) rfl (fun ls hl => ?_)
              refine lv_iload_n hF.1 hF.2.1 dX2_reachOf_55 rfl (lv_at hl 3 rfl) ?_
              refine lv_iload_n hF.1 hF.2.1 dX2_reachOf_56 rfl (lv_at hl 5 rfl) ?_
              refine lv_iload hF.1 hF.2.1 dX2_reachOf_57 (lv_at hl 1 rfl) ?_
              refine lv_ishr hF.1 hF.2.1 dX2_reachOf_59 ?_
              refine lv_iconst (v := nI 1) hF.1 hF.2.1 dX2_reachOf_60 (by decide) ?_
              refine lv_iand hF.1 hF.2.1 dX2_reachOf_61 ?_
              refine lv_iconst (v := nI 1) hF.1 hF.2.1 dX2_reachOf_62 (by decide) ?_
              refine lv_icmp_ne (tgt := 78) hF.1 hF.2.1 dX2_reachOf_63 (by decide) (fun c5 => ?_) (fun c5 => ?_)
              · skip
                refine lv_iconst (v := nI 0) hF.1 hF.2.1 dX2_reachOf_78 (by decide) ?_
                refine lv_ior hF.1 hF.2.1 dX2_reachOf_79 ?_
                refine lv_istore_n (lv' := [(3, .int (x17_3 ||| (nI 0))), (6, .int (((nI 1) <<< ((a 7 ((4 * i17) + 1)) &&& 31)) ||| ((nI 1) <<< ((a 7 ((4 * i17) + 2)) &&& 31)))), (5, .int (nI i17)), (4, .int (nI i7)), (0, .ref (ω.2.1 0 99)), (2, .int set)]) hF.1 hF.2.1 dX2_reachOf_80 rfl hl (by decide) rfl (fun ls hl => ?_)
                refine n_iinc (lv' := [(5, .int (nI (i17 + 1))), (3, .int (x17_3 ||| (nI 0))), (6, .int (((nI 1) <<< ((a 7 ((4 * i17) + 1)) &&& 31)) ||| ((nI 1) <<< ((a 7 ((4 * i17) + 2)) &&& 31)))), (4, .int (nI i7)), (0, .ref (ω.2.1 0 99)), (2, .int set)]) hF.1 hF.2.1 dX2_reachOf_81 hl (k := 2) rfl (by decide) rfl (fun ls hl => ?_)
                refine lv_goto (tgt := 17) hF.1 hF.2.1 dX2_reachOf_84 (by decide) ?_
                exact ih (i17 + 1) _ _ (by omega) (by rw [it_succ (fX2_reachOf_b17 a set) i17 _, ← hS17]; unfold fX2_reachOf_b17; first | (rw [if_neg c5]; done) | (simp only [if_neg c5])) (lv_sub hl [0, 3, 1, 4, 5] rfl)
              · skip
                refine lv_iload_n hF.1 hF.2.1 dX2_reachOf_66 rfl (lv_at hl 3 rfl) ?_
                refine lv_iload hF.1 hF.2.1 dX2_reachOf_67 (lv_at hl 0 rfl) ?_
                refine lv_iand hF.1 hF.2.1 dX2_reachOf_69 ?_
                refine lv_if_eq (tgt := 78) hF.1 hF.2.1 dX2_reachOf_70 (by decide) (fun c6 => ?_) (fun c6 => ?_)
                · skip
                  refine lv_iconst (v := nI 0) hF.1 hF.2.1 dX2_reachOf_78 (by decide) ?_
                  refine lv_ior hF.1 hF.2.1 dX2_reachOf_79 ?_
                  refine lv_istore_n (lv' := [(3, .int (x17_3 ||| (nI 0))), (6, .int (((nI 1) <<< ((a 7 ((4 * i17) + 1)) &&& 31)) ||| ((nI 1) <<< ((a 7 ((4 * i17) + 2)) &&& 31)))), (5, .int (nI i17)), (4, .int (nI i7)), (0, .ref (ω.2.1 0 99)), (2, .int set)]) hF.1 hF.2.1 dX2_reachOf_80 rfl hl (by decide) rfl (fun ls hl => ?_)
                  refine n_iinc (lv' := [(5, .int (nI (i17 + 1))), (3, .int (x17_3 ||| (nI 0))), (6, .int (((nI 1) <<< ((a 7 ((4 * i17) + 1)) &&& 31)) ||| ((nI 1) <<< ((a 7 ((4 * i17) + 2)) &&& 31)))), (4, .int (nI i7)), (0, .ref (ω.2.1 0 99)), (2, .int set)]) hF.1 hF.2.1 dX2_reachOf_81 hl (k := 2) rfl (by decide) rfl (fun ls hl => ?_)
                  refine lv_goto (tgt := 17) hF.1 hF.2.1 dX2_reachOf_84 (by decide) ?_
                  exact ih (i17 + 1) _ _ (by omega) (by rw [it_succ (fX2_reachOf_b17 a set) i17 _, ← hS17]; unfold fX2_reachOf_b17; first | (rw [if_pos c5, if_pos c6]; done) | (simp only [if_pos c5, if_pos c6])) (lv_sub hl [0, 3, 1, 4, 5] rfl)
                · skip
                  refine lv_iload hF.1 hF.2.1 dX2_reachOf_73 (lv_at hl 0 rfl) ?_
                  refine lv_goto (tgt := 79) hF.1 hF.2.1 dX2_reachOf_75 (by decide) ?_
                  refine lv_ior hF.1 hF.2.1 dX2_reachOf_79 ?_
                  refine lv_istore_n (lv' := [(3, .int (x17_3 ||| (((nI 1) <<< ((a 7 ((4 * i17) + 1)) &&& 31)) ||| ((nI 1) <<< ((a 7 ((4 * i17) + 2)) &&& 31))))), (6, .int (((nI 1) <<< ((a 7 ((4 * i17) + 1)) &&& 31)) ||| ((nI 1) <<< ((a 7 ((4 * i17) + 2)) &&& 31)))), (5, .int (nI i17)), (4, .int (nI i7)), (0, .ref (ω.2.1 0 99)), (2, .int set)]) hF.1 hF.2.1 dX2_reachOf_80 rfl hl (by decide) rfl (fun ls hl => ?_)
                  refine n_iinc (lv' := [(5, .int (nI (i17 + 1))), (3, .int (x17_3 ||| (((nI 1) <<< ((a 7 ((4 * i17) + 1)) &&& 31)) ||| ((nI 1) <<< ((a 7 ((4 * i17) + 2)) &&& 31))))), (6, .int (((nI 1) <<< ((a 7 ((4 * i17) + 1)) &&& 31)) ||| ((nI 1) <<< ((a 7 ((4 * i17) + 2)) &&& 31)))), (4, .int (nI i7)), (0, .ref (ω.2.1 0 99)), (2, .int set)]) hF.1 hF.2.1 dX2_reachOf_81 hl (k := 2) rfl (by decide) rfl (fun ls hl => ?_)
                  refine lv_goto (tgt := 17) hF.1 hF.2.1 dX2_reachOf_84 (by decide) ?_
                  exact ih (i17 + 1) _ _ (by omega) (by rw [it_succ (fX2_reachOf_b17 a set) i17 _, ← hS17]; unfold fX2_reachOf_b17; first | (rw [if_pos c5, if_neg c6]; done) | (simp only [if_pos c5, if_neg c6])) (lv_sub hl [0, 3, 1, 4, 5] rfl)
        exact lp17_40 (g 4) 0 _ _ (by omega) rfl (lv_sub hl [0, 1, 2, 3, 4] rfl)
  exact lp7_38 8 0 _ _ (by omega) rfl (lv_sub hl [0, 1, 2, 4] rfl)

def fX2_cornersWithEnds_b4 (a : Nat → Nat → Int32) (i4 : Nat) (S : Int32) : Int32 := S ||| (((nI 1) <<< ((a 7 ((4 * i4) + 1)) &&& 31)) ||| ((nI 1) <<< ((a 7 ((4 * i4) + 2)) &&& 31)))
def fX2_cornersWithEnds (g : Nat → Nat) (a : Nat → Nat → Int32) : Int32 := (it (fX2_cornersWithEnds_b4 a) (g 4) (nI 0))
def rmX2_cornersWithEnds : Room := { frames := 1, cells := 0, slots := 0, locals := 24 }
theorem hdX2_cornersWithEnds : yX2_cornersWithEnds.cls = RX2 ∧ yX2_cornersWithEnds.cls ≠ "java/lang/invoke/MethodHandle" ∧ yX2_cornersWithEnds.cls ≠ "java/lang/invoke/VarHandle" ∧ (parseMethodDescriptor yX2_cornersWithEnds.desc).map (fun d => d.parameters.length) = some 0 := by decide +kernel
set_option maxHeartbeats 4000000 in
theorem kX2_cornersWithEnds (l : Launch) (ω : OM) (g : Nat → Nat) (y : Nat → Int32) (a z : Nat → Nat → Int32) (kt : Int32) (hs : Int64) (hr : mRows (g 4) (a 7)) : Met l yX2_cornersWithEnds (ws_ yX2_cornersWithEnds cX2_cornersWithEnds 3 (some .int)) rmX2_cornersWithEnds (va_Pc [.ref (ω.2.1 0 99)] (fun U => mK ω U ∧ mH ω (g, y, a, z, kt, hs) U.heap)) (vp_Si (fun r => r = (fX2_cornersWithEnds g a))) 0 0 (fun _ => False) := by
  refine g_entPi (C := RX2) rfl (by decide) (Nat.le_of_ble_eq_true rfl) ?_
  intro p e s m args below meth c QQ ls hF hKH hl hret
  have hl : lv_has ls 3 [(0, .ref (ω.2.1 0 99))] := hl
  obtain ⟨hK, hH⟩ := hKH
  have hn := hr.1
  refine lv_iconst (v := nI 0) hF.1 hF.2.1 dX2_cornersWithEnds_0 (by decide) ?_
  refine lv_istore_n (lv' := [(1, .int (nI 0)), (0, .ref (ω.2.1 0 99))]) hF.1 hF.2.1 dX2_cornersWithEnds_1 rfl hl (by decide) rfl (fun ls hl => ?_)
  refine lv_iconst (v := nI 0) hF.1 hF.2.1 dX2_cornersWithEnds_2 (by decide) ?_
  refine lv_istore_n (lv' := [(2, .int (nI 0)), (1, .int (nI 0)), (0, .ref (ω.2.1 0 99))]) hF.1 hF.2.1 dX2_cornersWithEnds_3 rfl hl (by decide) rfl (fun ls hl => ?_)
  have lp4_42 : ∀ (d4 i4 : Nat) (x4_1 : Int32) (ls : Array Slot), i4 + d4 = g 4 → x4_1 = it (fX2_cornersWithEnds_b4 a) i4 (nI 0) → lv_has ls 3 [(2, .int (nI i4)), (1, .int x4_1), (0, .ref (ω.2.1 0 99))] → W p l e rmX2_cornersWithEnds s m args below meth c s.heap [] 0 0 QQ (F0 m 4 ls []) := by
    intro d4
    induction d4 with
    | zero =>
      intro i4 x4_1 ls hi4 hS4 hl
      have hj4 : g 4 = i4 := by omega
      subst hj4
      have e_x4_1 := hS4
      refine lv_iload_n hF.1 hF.2.1 dX2_cornersWithEnds_4 rfl (lv_at hl 0 rfl) ?_
      refine lv_aload_n hF.1 hF.2.1 dX2_cornersWithEnds_5 rfl (lv_at hl 2 rfl) ?_
      refine mg_4 hF hK hH q975 dX2_cornersWithEnds_6 (v := g 4) rfl ?_
      refine n_ge (tgt := 46) hF.1 hF.2.1 dX2_cornersWithEnds_9 (by decide) (by omega) (by omega) (fun c1 => ?_) (fun c1 => ?_)
      · skip
        refine lv_iload_n hF.1 hF.2.1 dX2_cornersWithEnds_46 rfl (lv_at hl 1 rfl) ?_
        exact hret _ _ _ dX2_cornersWithEnds_47 (by subst e_x4_1; rfl)
      · exact absurd (by omega) c1
    | succ d4 ih =>
      intro i4 x4_1 ls hi4 hS4 hl
      refine lv_iload_n hF.1 hF.2.1 dX2_cornersWithEnds_4 rfl (lv_at hl 0 rfl) ?_
      refine lv_aload_n hF.1 hF.2.1 dX2_cornersWithEnds_5 rfl (lv_at hl 2 rfl) ?_
      refine mg_4 hF hK hH q975 dX2_cornersWithEnds_6 (v := g 4) rfl ?_
      refine n_ge (tgt := 46) hF.1 hF.2.1 dX2_cornersWithEnds_9 (by decide) (by omega) (by omega) (fun c2 => ?_) (fun c2 => ?_)
      · exact absurd c2 (by omega)
      · skip
        refine lv_iload_n hF.1 hF.2.1 dX2_cornersWithEnds_12 rfl (lv_at hl 1 rfl) ?_
        refine lv_iconst (v := nI 1) hF.1 hF.2.1 dX2_cornersWithEnds_13 (by decide) ?_
        refine lv_aload_n hF.1 hF.2.1 dX2_cornersWithEnds_14 rfl (lv_at hl 2 rfl) ?_
        refine mg_7 hF hK hH q978 dX2_cornersWithEnds_15 ?_
        refine lv_iconst (v := nI 4) hF.1 hF.2.1 dX2_cornersWithEnds_18 (by decide) ?_
        refine lv_iload_n hF.1 hF.2.1 dX2_cornersWithEnds_19 rfl (lv_at hl 0 rfl) ?_
        refine n_imul hF.1 hF.2.1 dX2_cornersWithEnds_20 ?_
        refine lv_iconst (v := nI 1) hF.1 hF.2.1 dX2_cornersWithEnds_21 (by decide) ?_
        refine n_iadd hF.1 hF.2.1 dX2_cornersWithEnds_22 ?_
        refine m_ald hF hK hH 7 (n := 36) rfl rfl (by decide) rfl (f := a 7) rfl (i := (4 * i4) + 1) (by omega) (by decide) dX2_cornersWithEnds_23 ?_
        refine lv_ishl hF.1 hF.2.1 dX2_cornersWithEnds_24 ?_
        refine lv_iconst (v := nI 1) hF.1 hF.2.1 dX2_cornersWithEnds_25 (by decide) ?_
        refine lv_aload_n hF.1 hF.2.1 dX2_cornersWithEnds_26 rfl (lv_at hl 2 rfl) ?_
        refine mg_7 hF hK hH q978 dX2_cornersWithEnds_27 ?_
        refine lv_iconst (v := nI 4) hF.1 hF.2.1 dX2_cornersWithEnds_30 (by decide) ?_
        refine lv_iload_n hF.1 hF.2.1 dX2_cornersWithEnds_31 rfl (lv_at hl 0 rfl) ?_
        refine n_imul hF.1 hF.2.1 dX2_cornersWithEnds_32 ?_
        refine lv_iconst (v := nI 2) hF.1 hF.2.1 dX2_cornersWithEnds_33 (by decide) ?_
        refine n_iadd hF.1 hF.2.1 dX2_cornersWithEnds_34 ?_
        refine m_ald hF hK hH 7 (n := 36) rfl rfl (by decide) rfl (f := a 7) rfl (i := (4 * i4) + 2) (by omega) (by decide) dX2_cornersWithEnds_35 ?_
        refine lv_ishl hF.1 hF.2.1 dX2_cornersWithEnds_36 ?_
        refine lv_ior hF.1 hF.2.1 dX2_cornersWithEnds_37 ?_
        refine lv_ior hF.1 hF.2.1 dX2_cornersWithEnds_38 ?_
        refine lv_istore_n (lv' := [(1, .int (x4_1 ||| (((nI 1) <<< ((a 7 ((4 * i4) + 1)) &&& 31)) ||| ((nI 1) <<< ((a 7 ((4 * i4) + 2)) &&& 31))))), (2, .int (nI i4)), (0, .ref (ω.2.1 0 99))]) hF.1 hF.2.1 dX2_cornersWithEnds_39 rfl hl (by decide) rfl (fun ls hl => ?_)
        refine n_iinc (lv' := [(2, .int (nI (i4 + 1))), (1, .int (x4_1 ||| (((nI 1) <<< ((a 7 ((4 * i4) + 1)) &&& 31)) ||| ((nI 1) <<< ((a 7 ((4 * i4) + 2)) &&& 31))))), (0, .ref (ω.2.1 0 99))]) hF.1 hF.2.1 dX2_cornersWithEnds_40 hl (k := 1) rfl (by decide) rfl (fun ls hl => ?_)
        refine lv_goto (tgt := 4) hF.1 hF.2.1 dX2_cornersWithEnds_43 (by decide) ?_
        exact ih (i4 + 1) _ _ (by omega) (by rw [it_succ (fX2_cornersWithEnds_b4 a) i4 _, ← hS4]; try rfl) (lv_sub hl [0, 1, 2] rfl)
  exact lp4_42 (g 4) 0 _ _ (by omega) rfl (lv_sub hl [0, 1, 2] rfl)

def fX2_gapsBy_b29 (r1 : Int32) (i10 : Nat) (r4 : Int32) (i29 : Nat) (S : Int32) : Int32 := if (if ((r1 >>> ((nI i10) &&& 31)) &&& (nI 1)) = (nI 1) then if ((r1 >>> ((nI i29) &&& 31)) &&& (nI 1)) = (nI 1) then nI 1 else nI 0 else nI 0) = 0 then S + (nI 0) else if ((r4 >>> ((nI i29) &&& 31)) &&& (nI 1)) = 0 then S + (nI 1) else S + (nI 0)
def fX2_gapsBy_b10 (g : Nat → Nat) (a : Nat → Nat → Int32) (set : Int32) (r1 : Int32) (i10 : Nat) (S : Int32) : Int32 := (it (fX2_gapsBy_b29 r1 i10 (fX2_reachOf g a (nI i10) set)) i10 S)
def fX2_gapsBy (g : Nat → Nat) (a : Nat → Nat → Int32) (set : Int32) : Int32 := (it (fX2_gapsBy_b10 g a set (fX2_cornersWithEnds g a)) 8 (nI 0))
def rmX2_gapsBy : Room := { frames := 2, cells := 0, slots := 0, locals := 50 }
theorem hdX2_gapsBy : yX2_gapsBy.cls = RX2 ∧ yX2_gapsBy.cls ≠ "java/lang/invoke/MethodHandle" ∧ yX2_gapsBy.cls ≠ "java/lang/invoke/VarHandle" ∧ (parseMethodDescriptor yX2_gapsBy.desc).map (fun d => d.parameters.length) = some 1 := by decide +kernel
set_option maxHeartbeats 4000000 in
theorem kX2_gapsBy (l : Launch) (ω : OM) (g : Nat → Nat) (y : Nat → Int32) (a z : Nat → Nat → Int32) (kt : Int32) (hs : Int64) (set : Int32) (hr : mRows (g 4) (a 7)) : Met l yX2_gapsBy (ws_ yX2_gapsBy cX2_gapsBy 8 (some .int)) rmX2_gapsBy (va_Pc [.ref (ω.2.1 0 99), .int set] (fun U => mK ω U ∧ mH ω (g, y, a, z, kt, hs) U.heap)) (vp_Si (fun r => r = (fX2_gapsBy g a set))) 0 0 (fun _ => False) := by
  refine g_entPi (C := RX2) rfl (by decide) (Nat.le_of_ble_eq_true rfl) ?_
  intro p e s m args below meth c QQ ls hF hKH hl hret
  have hl : lv_has ls 8 [(0, .ref (ω.2.1 0 99)), (1, .int set)] := hl
  obtain ⟨hK, hH⟩ := hKH
  have hn := hr.1
  refine lv_aload_n hF.1 hF.2.1 dX2_gapsBy_0 rfl (lv_at hl 0 rfl) ?_
  refine g_vPi (As := []) (rest := []) hF (kX2_cornersWithEnds l ω g y a z kt hs hr) (lw_V q1252 q1254 qs75 q97 q1255) 0 hdX2_cornersWithEnds rfl rfl ⟨Nat.le_of_ble_eq_true rfl, Nat.le_of_ble_eq_true rfl⟩ (m_preV hK hH) rfl hl.1 rfl (Nat.le_of_ble_eq_true rfl) dX2_gapsBy_1 ⟨Nat.zero_le _, Nat.zero_le _⟩ (fun r1 e_r1 => ?_)
  refine lv_istore_n (lv' := [(2, .int r1), (0, .ref (ω.2.1 0 99)), (1, .int set)]) hF.1 hF.2.1 dX2_gapsBy_4 rfl hl (by decide) rfl (fun ls hl => ?_)
  refine lv_iconst (v := nI 0) hF.1 hF.2.1 dX2_gapsBy_5 (by decide) ?_
  refine lv_istore_n (lv' := [(3, .int (nI 0)), (2, .int r1), (0, .ref (ω.2.1 0 99)), (1, .int set)]) hF.1 hF.2.1 dX2_gapsBy_6 rfl hl (by decide) rfl (fun ls hl => ?_)
  refine lv_iconst (v := nI 0) hF.1 hF.2.1 dX2_gapsBy_7 (by decide) ?_
  refine lv_istore (lv' := [(4, .int (nI 0)), (3, .int (nI 0)), (2, .int r1), (0, .ref (ω.2.1 0 99)), (1, .int set)]) hF.1 hF.2.1 dX2_gapsBy_8 hl (by decide) rfl (fun ls hl => ?_)
  have lp10_46 : ∀ (d10 i10 : Nat) (x10_3 : Int32) (ls : Array Slot), i10 + d10 = 8 → x10_3 = it (fX2_gapsBy_b10 g a set r1) i10 (nI 0) → lv_has ls 8 [(4, .int (nI i10)), (3, .int x10_3), (2, .int r1), (0, .ref (ω.2.1 0 99)), (1, .int set)] → W p l e rmX2_gapsBy s m args below meth c s.heap [] 0 0 QQ (F0 m 10 ls []) := by
    intro d10
    induction d10 with
    | zero =>
      intro i10 x10_3 ls hi10 hS10 hl
      have hj10 : 8 = i10 := by omega
      subst hj10
      have e_x10_3 := hS10
      refine lv_iload hF.1 hF.2.1 dX2_gapsBy_10 (lv_at hl 0 rfl) ?_
      refine lv_bipush (v := nI 8) hF.1 hF.2.1 dX2_gapsBy_12 (by decide) ?_
      refine n_ge (tgt := 98) hF.1 hF.2.1 dX2_gapsBy_14 (by decide) (by omega) (by omega) (fun c2 => ?_) (fun c2 => ?_)
      · skip
        refine lv_iload_n hF.1 hF.2.1 dX2_gapsBy_98 rfl (lv_at hl 1 rfl) ?_
        exact hret _ _ _ dX2_gapsBy_99 (by subst e_x10_3; subst e_r1; rfl)
      · exact absurd (by omega) c2
    | succ d10 ih =>
      intro i10 x10_3 ls hi10 hS10 hl
      refine lv_iload hF.1 hF.2.1 dX2_gapsBy_10 (lv_at hl 0 rfl) ?_
      refine lv_bipush (v := nI 8) hF.1 hF.2.1 dX2_gapsBy_12 (by decide) ?_
      refine n_ge (tgt := 98) hF.1 hF.2.1 dX2_gapsBy_14 (by decide) (by omega) (by omega) (fun c3 => ?_) (fun c3 => ?_)
      · exact absurd c3 (by omega)
      · skip
        refine lv_aload_n hF.1 hF.2.1 dX2_gapsBy_17 rfl (lv_at hl 3 rfl) ?_
        refine lv_iload hF.1 hF.2.1 dX2_gapsBy_18 (lv_at hl 0 rfl) ?_
        refine lv_iload_n hF.1 hF.2.1 dX2_gapsBy_20 rfl (lv_at hl 4 rfl) ?_
        refine g_vPi (As := [.int (nI i10), .int set]) (rest := []) hF (kX2_reachOf l ω g y a z kt hs (nI i10) set hr) (lw_V q1256 q1258 qs76 q97 q1259) 2 hdX2_reachOf rfl rfl ⟨Nat.le_of_ble_eq_true rfl, Nat.le_of_ble_eq_true rfl⟩ (m_preV hK hH) rfl hl.1 rfl (Nat.le_of_ble_eq_true rfl) dX2_gapsBy_21 ⟨Nat.zero_le _, Nat.zero_le _⟩ (fun r4 e_r4 => ?_)
        refine lv_istore (lv' := [(5, .int r4), (4, .int (nI i10)), (3, .int x10_3), (2, .int r1), (0, .ref (ω.2.1 0 99)), (1, .int set)]) hF.1 hF.2.1 dX2_gapsBy_24 hl (by decide) rfl (fun ls hl => ?_)
        refine lv_iconst (v := nI 0) hF.1 hF.2.1 dX2_gapsBy_26 (by decide) ?_
        refine lv_istore (lv' := [(6, .int (nI 0)), (5, .int r4), (4, .int (nI i10)), (3, .int x10_3), (2, .int r1), (0, .ref (ω.2.1 0 99)), (1, .int set)]) hF.1 hF.2.1 dX2_gapsBy_27 hl (by decide) rfl (fun ls hl => ?_)
        have lp29_48 : ∀ (d29 i29 : Nat) (x29_3 : Int32) (ls : Array Slot), i29 + d29 = i10 → x29_3 = it (fX2_gapsBy_b29 r1 i10 r4) i29 x10_3 → lv_has ls 8 [(6, .int (nI i29)), (5, .int r4), (4, .int (nI i10)), (3, .int x29_3), (2, .int r1), (0, .ref (ω.2.1 0 99)), (1, .int set)] → W p l e rmX2_gapsBy s m args below meth c s.heap [] 0 0 QQ (F0 m 29 ls []) := by
          intro d29
          induction d29 with
          | zero =>
            intro i29 x29_3 ls hi29 hS29 hl
            have hj29 : i10 = i29 := by omega
            subst hj29
            have e_x29_3 := hS29
            refine lv_iload hF.1 hF.2.1 dX2_gapsBy_29 (lv_at hl 0 rfl) ?_
            refine lv_iload hF.1 hF.2.1 dX2_gapsBy_31 (lv_at hl 2 rfl) ?_
            refine n_ge (tgt := 92) hF.1 hF.2.1 dX2_gapsBy_33 (by decide) (by omega) (by omega) (fun c5 => ?_) (fun c5 => ?_)
            · skip
              refine n_iinc (lv' := [(4, .int (nI (i10 + 1))), (6, .int (nI i10)), (5, .int r4), (3, .int x29_3), (2, .int r1), (0, .ref (ω.2.1 0 99)), (1, .int set)]) hF.1 hF.2.1 dX2_gapsBy_92 hl (k := 2) rfl (by decide) rfl (fun ls hl => ?_)
              refine lv_goto (tgt := 10) hF.1 hF.2.1 dX2_gapsBy_95 (by decide) ?_
              exact ih (i10 + 1) _ _ (by omega) (by subst e_x29_3; subst e_r4; rw [it_succ (fX2_gapsBy_b10 g a set r1) i10 _, ← hS10]; try rfl) (lv_sub hl [0, 3, 4, 5, 6] rfl)
            · exact absurd (by omega) c5
          | succ d29 ih =>
            intro i29 x29_3 ls hi29 hS29 hl
            refine lv_iload hF.1 hF.2.1 dX2_gapsBy_29 (lv_at hl 0 rfl) ?_
            refine lv_iload hF.1 hF.2.1 dX2_gapsBy_31 (lv_at hl 2 rfl) ?_
            refine n_ge (tgt := 92) hF.1 hF.2.1 dX2_gapsBy_33 (by decide) (by omega) (by omega) (fun c6 => ?_) (fun c6 => ?_)
            · exact absurd c6 (by omega)
            · skip
              refine lv_iload_n hF.1 hF.2.1 dX2_gapsBy_36 rfl (lv_at hl 4 rfl) ?_
              refine lv_iload hF.1 hF.2.1 dX2_gapsBy_37 (lv_at hl 2 rfl) ?_
              refine lv_ishr hF.1 hF.2.1 dX2_gapsBy_39 ?_
              refine lv_iconst (v := nI 1) hF.1 hF.2.1 dX2_gapsBy_40 (by decide) ?_
              refine lv_iand hF.1 hF.2.1 dX2_gapsBy_41 ?_
              refine lv_iconst (v := nI 1) hF.1 hF.2.1 dX2_gapsBy_42 (by decide) ?_
              have k61_10 : ∀ (v9 : Int32) (ls : Array Slot), v9 = (if ((r1 >>> ((nI i10) &&& 31)) &&& (nI 1)) = (nI 1) then if ((r1 >>> ((nI i29) &&& 31)) &&& (nI 1)) = (nI 1) then nI 1 else nI 0 else nI 0) → lv_has ls 8 [(6, .int (nI i29)), (5, .int r4), (4, .int (nI i10)), (3, .int x29_3), (2, .int r1), (0, .ref (ω.2.1 0 99)), (1, .int set)] → W p l e rmX2_gapsBy s m args below meth c s.heap [] 0 0 QQ (F0 m 61 ls [.int v9]) := by
                intro v9 ls e_v9 hl
                refine lv_istore (lv' := [(7, .int v9), (6, .int (nI i29)), (5, .int r4), (4, .int (nI i10)), (3, .int x29_3), (2, .int r1), (0, .ref (ω.2.1 0 99)), (1, .int set)]) hF.1 hF.2.1 dX2_gapsBy_61 hl (by decide) rfl (fun ls hl => ?_)
                refine lv_iload_n hF.1 hF.2.1 dX2_gapsBy_63 rfl (lv_at hl 4 rfl) ?_
                refine lv_iload hF.1 hF.2.1 dX2_gapsBy_64 (lv_at hl 0 rfl) ?_
                refine lv_if_eq (tgt := 83) hF.1 hF.2.1 dX2_gapsBy_66 (by decide) (fun c11 => ?_) (fun c11 => ?_)
                · skip
                  refine lv_iconst (v := nI 0) hF.1 hF.2.1 dX2_gapsBy_83 (by decide) ?_
                  refine lv_iadd hF.1 hF.2.1 dX2_gapsBy_84 ?_
                  refine lv_istore_n (lv' := [(3, .int (x29_3 + (nI 0))), (7, .int v9), (6, .int (nI i29)), (5, .int r4), (4, .int (nI i10)), (2, .int r1), (0, .ref (ω.2.1 0 99)), (1, .int set)]) hF.1 hF.2.1 dX2_gapsBy_85 rfl hl (by decide) rfl (fun ls hl => ?_)
                  refine n_iinc (lv' := [(6, .int (nI (i29 + 1))), (3, .int (x29_3 + (nI 0))), (7, .int v9), (5, .int r4), (4, .int (nI i10)), (2, .int r1), (0, .ref (ω.2.1 0 99)), (1, .int set)]) hF.1 hF.2.1 dX2_gapsBy_86 hl (k := 2) rfl (by decide) rfl (fun ls hl => ?_)
                  refine lv_goto (tgt := 29) hF.1 hF.2.1 dX2_gapsBy_89 (by decide) ?_
                  exact ih (i29 + 1) _ _ (by omega) (by subst e_v9; rw [it_succ (fX2_gapsBy_b29 r1 i10 r4) i29 _, ← hS29]; unfold fX2_gapsBy_b29; first | (rw [if_pos c11]; done) | (simp only [if_pos c11])) (lv_sub hl [0, 3, 4, 1, 5, 6, 7] rfl)
                · skip
                  refine lv_iload hF.1 hF.2.1 dX2_gapsBy_69 (lv_at hl 2 rfl) ?_
                  refine lv_iload hF.1 hF.2.1 dX2_gapsBy_71 (lv_at hl 1 rfl) ?_
                  refine lv_ishr hF.1 hF.2.1 dX2_gapsBy_73 ?_
                  refine lv_iconst (v := nI 1) hF.1 hF.2.1 dX2_gapsBy_74 (by decide) ?_
                  refine lv_iand hF.1 hF.2.1 dX2_gapsBy_75 ?_
                  refine lv_if_ne (tgt := 83) hF.1 hF.2.1 dX2_gapsBy_76 (by decide) (fun c12 => ?_) (fun c12 => ?_)
                  · skip
                    refine lv_iconst (v := nI 0) hF.1 hF.2.1 dX2_gapsBy_83 (by decide) ?_
                    refine lv_iadd hF.1 hF.2.1 dX2_gapsBy_84 ?_
                    refine lv_istore_n (lv' := [(3, .int (x29_3 + (nI 0))), (7, .int v9), (6, .int (nI i29)), (5, .int r4), (4, .int (nI i10)), (2, .int r1), (0, .ref (ω.2.1 0 99)), (1, .int set)]) hF.1 hF.2.1 dX2_gapsBy_85 rfl hl (by decide) rfl (fun ls hl => ?_)
                    refine n_iinc (lv' := [(6, .int (nI (i29 + 1))), (3, .int (x29_3 + (nI 0))), (7, .int v9), (5, .int r4), (4, .int (nI i10)), (2, .int r1), (0, .ref (ω.2.1 0 99)), (1, .int set)]) hF.1 hF.2.1 dX2_gapsBy_86 hl (k := 2) rfl (by decide) rfl (fun ls hl => ?_)
                    refine lv_goto (tgt := 29) hF.1 hF.2.1 dX2_gapsBy_89 (by decide) ?_
                    exact ih (i29 + 1) _ _ (by omega) (by subst e_v9; rw [it_succ (fX2_gapsBy_b29 r1 i10 r4) i29 _, ← hS29]; unfold fX2_gapsBy_b29; first | (rw [if_neg c11, if_neg c12]; done) | (simp only [if_neg c11, if_neg c12])) (lv_sub hl [0, 3, 4, 1, 5, 6, 7] rfl)
                  · skip
                    refine lv_iconst (v := nI 1) hF.1 hF.2.1 dX2_gapsBy_79 (by decide) ?_
                    refine lv_goto (tgt := 84) hF.1 hF.2.1 dX2_gapsBy_80 (by decide) ?_
                    refine lv_iadd hF.1 hF.2.1 dX2_gapsBy_84 ?_
                    refine lv_istore_n (lv' := [(3, .int (x29_3 + (nI 1))), (7, .int v9), (6, .int (nI i29)), (5, .int r4), (4, .int (nI i10)), (2, .int r1), (0, .ref (ω.2.1 0 99)), (1, .int set)]) hF.1 hF.2.1 dX2_gapsBy_85 rfl hl (by decide) rfl (fun ls hl => ?_)
                    refine n_iinc (lv' := [(6, .int (nI (i29 + 1))), (3, .int (x29_3 + (nI 1))), (7, .int v9), (5, .int r4), (4, .int (nI i10)), (2, .int r1), (0, .ref (ω.2.1 0 99)), (1, .int set)]) hF.1 hF.2.1 dX2_gapsBy_86 hl (k := 2) rfl (by decide) rfl (fun ls hl => ?_)
                    refine lv_goto (tgt := 29) hF.1 hF.2.1 dX2_gapsBy_89 (by decide) ?_
                    exact ih (i29 + 1) _ _ (by omega) (by subst e_v9; rw [it_succ (fX2_gapsBy_b29 r1 i10 r4) i29 _, ← hS29]; unfold fX2_gapsBy_b29; first | (rw [if_neg c11, if_pos c12]; done) | (simp only [if_neg c11, if_pos c12])) (lv_sub hl [0, 3, 4, 1, 5, 6, 7] rfl)
              refine lv_icmp_ne (tgt := 60) hF.1 hF.2.1 dX2_gapsBy_43 (by decide) (fun c7 => ?_) (fun c7 => ?_)
              · skip
                refine lv_iconst (v := nI 0) hF.1 hF.2.1 dX2_gapsBy_60 (by decide) ?_
                exact k61_10 _ _ (by first | (rw [if_neg c7]; done) | (simp only [if_neg c7])) (lv_sub hl [0, 1, 2, 3, 4, 5, 6] rfl)
              · skip
                refine lv_iload_n hF.1 hF.2.1 dX2_gapsBy_46 rfl (lv_at hl 4 rfl) ?_
                refine lv_iload hF.1 hF.2.1 dX2_gapsBy_47 (lv_at hl 0 rfl) ?_
                refine lv_ishr hF.1 hF.2.1 dX2_gapsBy_49 ?_
                refine lv_iconst (v := nI 1) hF.1 hF.2.1 dX2_gapsBy_50 (by decide) ?_
                refine lv_iand hF.1 hF.2.1 dX2_gapsBy_51 ?_
                refine lv_iconst (v := nI 1) hF.1 hF.2.1 dX2_gapsBy_52 (by decide) ?_
                refine lv_icmp_ne (tgt := 60) hF.1 hF.2.1 dX2_gapsBy_53 (by decide) (fun c8 => ?_) (fun c8 => ?_)
                · skip
                  refine lv_iconst (v := nI 0) hF.1 hF.2.1 dX2_gapsBy_60 (by decide) ?_
                  exact k61_10 _ _ (by first | (rw [if_pos c7, if_neg c8]; done) | (simp only [if_pos c7, if_neg c8])) (lv_sub hl [0, 1, 2, 3, 4, 5, 6] rfl)
                · skip
                  refine lv_iconst (v := nI 1) hF.1 hF.2.1 dX2_gapsBy_56 (by decide) ?_
                  refine lv_goto (tgt := 61) hF.1 hF.2.1 dX2_gapsBy_57 (by decide) ?_
                  exact k61_10 _ _ (by first | (rw [if_pos c7, if_pos c8]; done) | (simp only [if_pos c7, if_pos c8])) (lv_sub hl [0, 1, 2, 3, 4, 5, 6] rfl)
        exact lp29_48 i10 0 _ _ (by omega) rfl (lv_sub hl [0, 1, 2, 3, 4, 5, 6] rfl)
  exact lp10_46 8 0 _ _ (by omega) rfl (lv_sub hl [0, 1, 2, 3, 4] rfl)

def fX2_learnNextOf_b23 (g : Nat → Nat) (a : Nat → Nat → Int32) (dn : Nat) (i23 : Nat) (S : Int32 × Int32) : Int32 × Int32 := if S.1 ≤ (fX2_gapsBy g a ((a 10 ((3 * dn) + 1)) ||| ((nI 1) <<< ((nI i23) &&& 31)))) then (S.1, (if S.1 ≤ (fX2_gapsBy g a ((a 10 ((3 * dn) + 1)) ||| ((nI 1) <<< ((nI i23) &&& 31)))) then S.2 else nI i23)) else ((fX2_gapsBy g a ((a 10 ((3 * dn) + 1)) ||| ((nI 1) <<< ((nI i23) &&& 31)))), (if S.1 ≤ (fX2_gapsBy g a ((a 10 ((3 * dn) + 1)) ||| ((nI 1) <<< ((nI i23) &&& 31)))) then S.2 else nI i23))
def fX2_learnNextOf (g : Nat → Nat) (a : Nat → Nat → Int32) (dn : Nat) : Int32 := ((it (fX2_learnNextOf_b23 g a dn) (g 4) ((fX2_gapsBy g a (a 10 ((3 * dn) + 1))), (-1))).2)
def rmX2_learnNextOf : Room := { frames := 3, cells := 0, slots := 0, locals := 77 }
theorem hdX2_learnNextOf : yX2_learnNextOf.cls = RX2 ∧ yX2_learnNextOf.cls ≠ "java/lang/invoke/MethodHandle" ∧ yX2_learnNextOf.cls ≠ "java/lang/invoke/VarHandle" ∧ (parseMethodDescriptor yX2_learnNextOf.desc).map (fun d => d.parameters.length) = some 1 := by decide +kernel
set_option maxHeartbeats 4000000 in
theorem kX2_learnNextOf (l : Launch) (ω : OM) (g : Nat → Nat) (y : Nat → Int32) (a z : Nat → Nat → Int32) (kt : Int32) (hs : Int64) (dn : Nat) (hdn : dn < 2) (hr : mRows (g 4) (a 7)) : Met l yX2_learnNextOf (ws_ yX2_learnNextOf cX2_learnNextOf 7 (some .int)) rmX2_learnNextOf (va_Pc [.ref (ω.2.1 0 99), .int (nI dn)] (fun U => mK ω U ∧ mH ω (g, y, a, z, kt, hs) U.heap)) (vp_Si (fun r => r = (fX2_learnNextOf g a dn))) 0 0 (fun _ => False) := by
  refine g_entPi (C := RX2) rfl (by decide) (Nat.le_of_ble_eq_true rfl) ?_
  intro p e s m args below meth c QQ ls hF hKH hl hret
  have hl : lv_has ls 7 [(0, .ref (ω.2.1 0 99)), (1, .int (nI dn))] := hl
  obtain ⟨hK, hH⟩ := hKH
  have hn := hr.1
  refine lv_aload_n hF.1 hF.2.1 dX2_learnNextOf_0 rfl (lv_at hl 0 rfl) ?_
  refine mg_10 hF hK hH q981 dX2_learnNextOf_1 ?_
  refine lv_iconst (v := nI 3) hF.1 hF.2.1 dX2_learnNextOf_4 (by decide) ?_
  refine lv_iload_n hF.1 hF.2.1 dX2_learnNextOf_5 rfl (lv_at hl 1 rfl) ?_
  refine n_imul hF.1 hF.2.1 dX2_learnNextOf_6 ?_
  refine lv_iconst (v := nI 1) hF.1 hF.2.1 dX2_learnNextOf_7 (by decide) ?_
  refine n_iadd hF.1 hF.2.1 dX2_learnNextOf_8 ?_
  refine m_ald hF hK hH 10 (n := 6) rfl rfl (by decide) rfl (f := a 10) rfl (i := (3 * dn) + 1) (by omega) (by decide) dX2_learnNextOf_9 ?_
  refine lv_istore_n (lv' := [(2, .int (a 10 ((3 * dn) + 1))), (0, .ref (ω.2.1 0 99)), (1, .int (nI dn))]) hF.1 hF.2.1 dX2_learnNextOf_10 rfl hl (by decide) rfl (fun ls hl => ?_)
  refine lv_iconst (v := (-1)) hF.1 hF.2.1 dX2_learnNextOf_11 (by decide) ?_
  refine lv_istore_n (lv' := [(3, .int (-1)), (2, .int (a 10 ((3 * dn) + 1))), (0, .ref (ω.2.1 0 99)), (1, .int (nI dn))]) hF.1 hF.2.1 dX2_learnNextOf_12 rfl hl (by decide) rfl (fun ls hl => ?_)
  refine lv_aload_n hF.1 hF.2.1 dX2_learnNextOf_13 rfl (lv_at hl 2 rfl) ?_
  refine lv_iload_n hF.1 hF.2.1 dX2_learnNextOf_14 rfl (lv_at hl 1 rfl) ?_
  refine g_vPi (As := [.int (a 10 ((3 * dn) + 1))]) (rest := []) hF (kX2_gapsBy l ω g y a z kt hs (a 10 ((3 * dn) + 1)) hr) (lw_V q1248 q1250 qs74 q97 q1251) 1 hdX2_gapsBy rfl rfl ⟨Nat.le_of_ble_eq_true rfl, Nat.le_of_ble_eq_true rfl⟩ (m_preV hK hH) rfl hl.1 rfl (Nat.le_of_ble_eq_true rfl) dX2_learnNextOf_15 ⟨Nat.zero_le _, Nat.zero_le _⟩ (fun r1 e_r1 => ?_)
  refine lv_istore (lv' := [(4, .int r1), (3, .int (-1)), (2, .int (a 10 ((3 * dn) + 1))), (0, .ref (ω.2.1 0 99)), (1, .int (nI dn))]) hF.1 hF.2.1 dX2_learnNextOf_18 hl (by decide) rfl (fun ls hl => ?_)
  refine lv_iconst (v := nI 0) hF.1 hF.2.1 dX2_learnNextOf_20 (by decide) ?_
  refine lv_istore (lv' := [(5, .int (nI 0)), (4, .int r1), (3, .int (-1)), (2, .int (a 10 ((3 * dn) + 1))), (0, .ref (ω.2.1 0 99)), (1, .int (nI dn))]) hF.1 hF.2.1 dX2_learnNextOf_21 hl (by decide) rfl (fun ls hl => ?_)
  have lp23_50 : ∀ (d23 i23 : Nat) (x23_4 : Int32) (x23_3 : Int32) (ls : Array Slot), i23 + d23 = g 4 → (x23_4, x23_3) = it (fX2_learnNextOf_b23 g a dn) i23 (r1, (-1)) → lv_has ls 7 [(5, .int (nI i23)), (4, .int x23_4), (3, .int x23_3), (2, .int (a 10 ((3 * dn) + 1))), (0, .ref (ω.2.1 0 99))] → W p l e rmX2_learnNextOf s m args below meth c s.heap [] 0 0 QQ (F0 m 23 ls []) := by
    intro d23
    induction d23 with
    | zero =>
      intro i23 x23_4 x23_3 ls hi23 hS23 hl
      have hj23 : g 4 = i23 := by omega
      subst hj23
      have e_x23_4 : x23_4 = (it (fX2_learnNextOf_b23 g a dn) (g 4) (r1, (-1))).1 := by rw [← hS23]
      have e_x23_3 : x23_3 = (it (fX2_learnNextOf_b23 g a dn) (g 4) (r1, (-1))).2 := by rw [← hS23]
      refine lv_iload hF.1 hF.2.1 dX2_learnNextOf_23 (lv_at hl 0 rfl) ?_
      refine lv_aload_n hF.1 hF.2.1 dX2_learnNextOf_25 rfl (lv_at hl 4 rfl) ?_
      refine mg_4 hF hK hH q975 dX2_learnNextOf_26 (v := g 4) rfl ?_
      refine n_ge (tgt := 80) hF.1 hF.2.1 dX2_learnNextOf_29 (by decide) (by omega) (by omega) (fun c2 => ?_) (fun c2 => ?_)
      · skip
        refine lv_iload_n hF.1 hF.2.1 dX2_learnNextOf_80 rfl (lv_at hl 2 rfl) ?_
        exact hret _ _ _ dX2_learnNextOf_81 (by subst e_x23_3; subst e_x23_4; subst e_r1; rfl)
      · exact absurd (by omega) c2
    | succ d23 ih =>
      intro i23 x23_4 x23_3 ls hi23 hS23 hl
      refine lv_iload hF.1 hF.2.1 dX2_learnNextOf_23 (lv_at hl 0 rfl) ?_
      refine lv_aload_n hF.1 hF.2.1 dX2_learnNextOf_25 rfl (lv_at hl 4 rfl) ?_
      refine mg_4 hF hK hH q975 dX2_learnNextOf_26 (v := g 4) rfl ?_
      refine n_ge (tgt := 80) hF.1 hF.2.1 dX2_learnNextOf_29 (by decide) (by omega) (by omega) (fun c3 => ?_) (fun c3 => ?_)
      · exact absurd c3 (by omega)
      · skip
        refine lv_aload_n hF.1 hF.2.1 dX2_learnNextOf_32 rfl (lv_at hl 4 rfl) ?_
        refine lv_iload_n hF.1 hF.2.1 dX2_learnNextOf_33 rfl (lv_at hl 3 rfl) ?_
        refine lv_iconst (v := nI 1) hF.1 hF.2.1 dX2_learnNextOf_34 (by decide) ?_
        refine lv_iload hF.1 hF.2.1 dX2_learnNextOf_35 (lv_at hl 0 rfl) ?_
        refine lv_ishl hF.1 hF.2.1 dX2_learnNextOf_37 ?_
        refine lv_ior hF.1 hF.2.1 dX2_learnNextOf_38 ?_
        refine g_vPi (As := [.int ((a 10 ((3 * dn) + 1)) ||| ((nI 1) <<< ((nI i23) &&& 31)))]) (rest := []) hF (kX2_gapsBy l ω g y a z kt hs ((a 10 ((3 * dn) + 1)) ||| ((nI 1) <<< ((nI i23) &&& 31))) hr) (lw_V q1248 q1250 qs74 q97 q1251) 1 hdX2_gapsBy rfl rfl ⟨Nat.le_of_ble_eq_true rfl, Nat.le_of_ble_eq_true rfl⟩ (m_preV hK hH) rfl hl.1 rfl (Nat.le_of_ble_eq_true rfl) dX2_learnNextOf_39 ⟨Nat.zero_le _, Nat.zero_le _⟩ (fun r4 e_r4 => ?_)
        refine lv_istore (lv' := [(6, .int r4), (5, .int (nI i23)), (4, .int x23_4), (3, .int x23_3), (2, .int (a 10 ((3 * dn) + 1))), (0, .ref (ω.2.1 0 99))]) hF.1 hF.2.1 dX2_learnNextOf_42 hl (by decide) rfl (fun ls hl => ?_)
        refine lv_iload hF.1 hF.2.1 dX2_learnNextOf_44 (lv_at hl 0 rfl) ?_
        refine lv_iload hF.1 hF.2.1 dX2_learnNextOf_46 (lv_at hl 2 rfl) ?_
        have k57_7 : ∀ (v6 : Int32) (ls : Array Slot), v6 = (if x23_4 ≤ r4 then x23_3 else nI i23) → lv_has ls 7 [(6, .int r4), (5, .int (nI i23)), (4, .int x23_4), (2, .int (a 10 ((3 * dn) + 1))), (0, .ref (ω.2.1 0 99))] → W p l e rmX2_learnNextOf s m args below meth c s.heap [] 0 0 QQ (F0 m 57 ls [.int v6]) := by
          intro v6 ls e_v6 hl
          refine lv_istore_n (lv' := [(3, .int v6), (6, .int r4), (5, .int (nI i23)), (4, .int x23_4), (2, .int (a 10 ((3 * dn) + 1))), (0, .ref (ω.2.1 0 99))]) hF.1 hF.2.1 dX2_learnNextOf_57 rfl hl (by decide) rfl (fun ls hl => ?_)
          refine lv_iload hF.1 hF.2.1 dX2_learnNextOf_58 (lv_at hl 1 rfl) ?_
          refine lv_iload hF.1 hF.2.1 dX2_learnNextOf_60 (lv_at hl 3 rfl) ?_
          refine lv_icmp_ge (tgt := 70) hF.1 hF.2.1 dX2_learnNextOf_62 (by decide) (fun c8 => ?_) (fun c8 => ?_)
          · skip
            refine lv_iload hF.1 hF.2.1 dX2_learnNextOf_70 (lv_at hl 3 rfl) ?_
            refine lv_istore (lv' := [(4, .int x23_4), (3, .int v6), (6, .int r4), (5, .int (nI i23)), (2, .int (a 10 ((3 * dn) + 1))), (0, .ref (ω.2.1 0 99))]) hF.1 hF.2.1 dX2_learnNextOf_72 hl (by decide) rfl (fun ls hl => ?_)
            refine n_iinc (lv' := [(5, .int (nI (i23 + 1))), (4, .int x23_4), (3, .int v6), (6, .int r4), (2, .int (a 10 ((3 * dn) + 1))), (0, .ref (ω.2.1 0 99))]) hF.1 hF.2.1 dX2_learnNextOf_74 hl (k := 3) rfl (by decide) rfl (fun ls hl => ?_)
            refine lv_goto (tgt := 23) hF.1 hF.2.1 dX2_learnNextOf_77 (by decide) ?_
            exact ih (i23 + 1) _ _ _ (by omega) (by subst e_v6; subst e_r4; rw [it_succ (fX2_learnNextOf_b23 g a dn) i23 _, ← hS23]; unfold fX2_learnNextOf_b23; dsimp only; first | (rw [if_pos c8]; done) | (simp only [if_pos c8])) (lv_sub hl [0, 1, 2, 4, 5] rfl)
          · skip
            refine lv_iload hF.1 hF.2.1 dX2_learnNextOf_65 (lv_at hl 1 rfl) ?_
            refine lv_goto (tgt := 72) hF.1 hF.2.1 dX2_learnNextOf_67 (by decide) ?_
            refine lv_istore (lv' := [(4, .int r4), (3, .int v6), (6, .int r4), (5, .int (nI i23)), (2, .int (a 10 ((3 * dn) + 1))), (0, .ref (ω.2.1 0 99))]) hF.1 hF.2.1 dX2_learnNextOf_72 hl (by decide) rfl (fun ls hl => ?_)
            refine n_iinc (lv' := [(5, .int (nI (i23 + 1))), (4, .int r4), (3, .int v6), (6, .int r4), (2, .int (a 10 ((3 * dn) + 1))), (0, .ref (ω.2.1 0 99))]) hF.1 hF.2.1 dX2_learnNextOf_74 hl (k := 3) rfl (by decide) rfl (fun ls hl => ?_)
            refine lv_goto (tgt := 23) hF.1 hF.2.1 dX2_learnNextOf_77 (by decide) ?_
            exact ih (i23 + 1) _ _ _ (by omega) (by subst e_v6; subst e_r4; rw [it_succ (fX2_learnNextOf_b23 g a dn) i23 _, ← hS23]; unfold fX2_learnNextOf_b23; dsimp only; first | (rw [if_neg c8]; done) | (simp only [if_neg c8])) (lv_sub hl [0, 1, 2, 4, 5] rfl)
        refine lv_icmp_ge (tgt := 56) hF.1 hF.2.1 dX2_learnNextOf_48 (by decide) (fun c5 => ?_) (fun c5 => ?_)
        · skip
          refine lv_iload_n hF.1 hF.2.1 dX2_learnNextOf_56 rfl (lv_at hl 3 rfl) ?_
          exact k57_7 _ _ (by first | (rw [if_pos c5]; done) | (simp only [if_pos c5])) (lv_sub hl [0, 1, 2, 4, 5] rfl)
        · skip
          refine lv_iload hF.1 hF.2.1 dX2_learnNextOf_51 (lv_at hl 1 rfl) ?_
          refine lv_goto (tgt := 57) hF.1 hF.2.1 dX2_learnNextOf_53 (by decide) ?_
          exact k57_7 _ _ (by first | (rw [if_neg c5]; done) | (simp only [if_neg c5])) (lv_sub hl [0, 1, 2, 4, 5] rfl)
  exact lp23_50 (g 4) 0 _ _ _ (by omega) rfl (lv_sub hl [0, 1, 2, 3, 4] rfl)

def fX2_knownBy (a : Nat → Nat → Int32) (sn : Int32) : Int32 := (((a 10 1) >>> (sn &&& 31)) &&& (nI 1)) + ((nI 2) * (((a 10 4) >>> (sn &&& 31)) &&& (nI 1)))
def rmX2_knownBy : Room := { frames := 1, cells := 0, slots := 0, locals := 24 }
theorem hdX2_knownBy : yX2_knownBy.cls = RX2 ∧ yX2_knownBy.cls ≠ "java/lang/invoke/MethodHandle" ∧ yX2_knownBy.cls ≠ "java/lang/invoke/VarHandle" ∧ (parseMethodDescriptor yX2_knownBy.desc).map (fun d => d.parameters.length) = some 1 := by decide +kernel
set_option maxHeartbeats 4000000 in
theorem kX2_knownBy (l : Launch) (ω : OM) (g : Nat → Nat) (y : Nat → Int32) (a z : Nat → Nat → Int32) (kt : Int32) (hs : Int64) (sn : Int32) : Met l yX2_knownBy (ws_ yX2_knownBy cX2_knownBy 2 (some .int)) rmX2_knownBy (va_Pc [.ref (ω.2.1 0 99), .int sn] (fun U => mK ω U ∧ mH ω (g, y, a, z, kt, hs) U.heap)) (vp_Si (fun r => r = (fX2_knownBy a sn))) 0 0 (fun _ => False) := by
  refine g_entPi (C := RX2) rfl (by decide) (Nat.le_of_ble_eq_true rfl) ?_
  intro p e s m args below meth c QQ ls hF hKH hl hret
  have hl : lv_has ls 2 [(0, .ref (ω.2.1 0 99)), (1, .int sn)] := hl
  obtain ⟨hK, hH⟩ := hKH
  refine lv_aload_n hF.1 hF.2.1 dX2_knownBy_0 rfl (lv_at hl 0 rfl) ?_
  refine mg_10 hF hK hH q981 dX2_knownBy_1 ?_
  refine lv_iconst (v := nI 1) hF.1 hF.2.1 dX2_knownBy_4 (by decide) ?_
  refine m_ald hF hK hH 10 (n := 6) rfl rfl (by decide) rfl (f := a 10) rfl (i := 1) (by omega) (by decide) dX2_knownBy_5 ?_
  refine lv_iload_n hF.1 hF.2.1 dX2_knownBy_6 rfl (lv_at hl 1 rfl) ?_
  refine lv_ishr hF.1 hF.2.1 dX2_knownBy_7 ?_
  refine lv_iconst (v := nI 1) hF.1 hF.2.1 dX2_knownBy_8 (by decide) ?_
  refine lv_iand hF.1 hF.2.1 dX2_knownBy_9 ?_
  refine lv_iconst (v := nI 2) hF.1 hF.2.1 dX2_knownBy_10 (by decide) ?_
  refine lv_aload_n hF.1 hF.2.1 dX2_knownBy_11 rfl (lv_at hl 0 rfl) ?_
  refine mg_10 hF hK hH q981 dX2_knownBy_12 ?_
  refine lv_iconst (v := nI 4) hF.1 hF.2.1 dX2_knownBy_15 (by decide) ?_
  refine m_ald hF hK hH 10 (n := 6) rfl rfl (by decide) rfl (f := a 10) rfl (i := 4) (by omega) (by decide) dX2_knownBy_16 ?_
  refine lv_iload_n hF.1 hF.2.1 dX2_knownBy_17 rfl (lv_at hl 1 rfl) ?_
  refine lv_ishr hF.1 hF.2.1 dX2_knownBy_18 ?_
  refine lv_iconst (v := nI 1) hF.1 hF.2.1 dX2_knownBy_19 (by decide) ?_
  refine lv_iand hF.1 hF.2.1 dX2_knownBy_20 ?_
  refine lv_imul hF.1 hF.2.1 dX2_knownBy_21 ?_
  refine lv_iadd hF.1 hF.2.1 dX2_knownBy_22 ?_
  exact hret _ _ _ dX2_knownBy_23 (by rfl)

def fX2_tellStreet (a : Nat → Nat → Int32) (sn : Nat) (wh : Int32) : Int32 := if (fX2_in wh.toInt64 0 3) = 0 then if wh = (nI 4) then (fX2_knownBy a (nI sn)) else (-102) else a 7 ((4 * sn) + (toN wh))
def rmX2_tellStreet : Room := { frames := 2, cells := 0, slots := 0, locals := 49 }
theorem hdX2_tellStreet : yX2_tellStreet.cls = RX2 ∧ yX2_tellStreet.cls ≠ "java/lang/invoke/MethodHandle" ∧ yX2_tellStreet.cls ≠ "java/lang/invoke/VarHandle" ∧ (parseMethodDescriptor yX2_tellStreet.desc).map (fun d => d.parameters.length) = some 2 := by decide +kernel
set_option maxHeartbeats 4000000 in
theorem kX2_tellStreet (l : Launch) (ω : OM) (g : Nat → Nat) (y : Nat → Int32) (a z : Nat → Nat → Int32) (kt : Int32) (hs : Int64) (sn : Nat) (wh : Int32) (hsn : sn < 9) : Met l yX2_tellStreet (ws_ yX2_tellStreet cX2_tellStreet 3 (some .int)) rmX2_tellStreet (va_Pc [.ref (ω.2.1 0 99), .int (nI sn), .int wh] (fun U => mK ω U ∧ mH ω (g, y, a, z, kt, hs) U.heap)) (vp_Si (fun r => r = (fX2_tellStreet a sn wh))) 0 0 (fun _ => False) := by
  refine g_entPi (C := RX2) rfl (by decide) (Nat.le_of_ble_eq_true rfl) ?_
  intro p e s m args below meth c QQ ls hF hKH hl hret
  have hl : lv_has ls 3 [(0, .ref (ω.2.1 0 99)), (1, .int (nI sn)), (2, .int wh)] := hl
  obtain ⟨hK, hH⟩ := hKH
  refine lv_iload_n hF.1 hF.2.1 dX2_tellStreet_0 rfl (lv_at hl 2 rfl) ?_
  refine lv_i2l (v := wh.toInt64) hF.1 hF.2.1 dX2_tellStreet_1 rfl ?_
  refine lv_lconst (v := 0) hF.1 hF.2.1 dX2_tellStreet_2 (by decide) ?_
  refine lv_ldc2 (v := 3) hF.1 hF.2.1 hF.2.2.2.1 (hF.2.2.2.2 _ q1209) dX2_tellStreet_3 ?_
  refine g_sPi (As := [.long wh.toInt64, .long 0, .long 3]) (rest := []) hF (kX2_in l wh.toInt64 0 3) (lw_S q1061 q1062 q97 q1063) 3 hdX2_in.2 rfl rfl ⟨Nat.le_of_ble_eq_true rfl, Nat.le_of_ble_eq_true rfl⟩ g_pre0 rfl hl.1 rfl (Nat.le_of_ble_eq_true rfl) dX2_tellStreet_6 ⟨Nat.zero_le _, Nat.zero_le _⟩ (fun r1 e_r1 => ?_)
  refine lv_if_eq (tgt := 25) hF.1 hF.2.1 dX2_tellStreet_9 (by decide) (fun c2 => ?_) (fun c2 => ?_)
  · skip
    refine lv_iload_n hF.1 hF.2.1 dX2_tellStreet_25 rfl (lv_at hl 2 rfl) ?_
    refine lv_iconst (v := nI 4) hF.1 hF.2.1 dX2_tellStreet_26 (by decide) ?_
    refine lv_icmp_ne (tgt := 38) hF.1 hF.2.1 dX2_tellStreet_27 (by decide) (fun c3 => ?_) (fun c3 => ?_)
    · skip
      refine lv_bipush (v := (-102)) hF.1 hF.2.1 dX2_tellStreet_38 (by decide) ?_
      exact hret _ _ _ dX2_tellStreet_40 (by subst e_r1; unfold fX2_tellStreet; first | (rw [if_pos c2, if_neg c3]; done) | (simp only [if_pos c2, if_neg c3]))
    · skip
      refine lv_aload_n hF.1 hF.2.1 dX2_tellStreet_30 rfl (lv_at hl 0 rfl) ?_
      refine lv_iload_n hF.1 hF.2.1 dX2_tellStreet_31 rfl (lv_at hl 1 rfl) ?_
      refine g_vPi (As := [.int (nI sn)]) (rest := []) hF (kX2_knownBy l ω g y a z kt hs (nI sn)) (lw_V q1210 q1212 qs70 q97 q1213) 1 hdX2_knownBy rfl rfl ⟨Nat.le_of_ble_eq_true rfl, Nat.le_of_ble_eq_true rfl⟩ (m_preV hK hH) rfl hl.1 rfl (Nat.le_of_ble_eq_true rfl) dX2_tellStreet_32 ⟨Nat.zero_le _, Nat.zero_le _⟩ (fun r4 e_r4 => ?_)
      refine lv_goto (tgt := 40) hF.1 hF.2.1 dX2_tellStreet_35 (by decide) ?_
      exact hret _ _ _ dX2_tellStreet_40 (by subst e_r4; subst e_r1; unfold fX2_tellStreet; first | (rw [if_pos c2, if_pos c3]; done) | (simp only [if_pos c2, if_pos c3]))
  · skip
    obtain ⟨b5e, b5l⟩ := g_lift (r := wh) (n := 4) (in64_lift (k := 3) rfl (by omega) (by rw [← e_r1]; exact c2)) (by omega)
    refine lv_aload_n hF.1 hF.2.1 dX2_tellStreet_12 rfl (lv_at hl 0 rfl) ?_
    refine mg_7 hF hK hH q978 dX2_tellStreet_13 ?_
    refine lv_iconst (v := nI 4) hF.1 hF.2.1 dX2_tellStreet_16 (by decide) ?_
    refine lv_iload_n hF.1 hF.2.1 dX2_tellStreet_17 rfl (lv_at hl 1 rfl) ?_
    refine n_imul hF.1 hF.2.1 dX2_tellStreet_18 ?_
    refine lv_iload_n hF.1 hF.2.1 dX2_tellStreet_19 rfl (lv_at hl 2 rfl) ?_
    refine n_top b5e ?_
    refine n_iadd hF.1 hF.2.1 dX2_tellStreet_20 ?_
    refine m_ald hF hK hH 7 (n := 36) rfl rfl (by decide) rfl (f := a 7) rfl (i := (4 * sn) + (toN wh)) (by omega) (by decide) dX2_tellStreet_21 ?_
    refine lv_goto (tgt := 40) hF.1 hF.2.1 dX2_tellStreet_22 (by decide) ?_
    exact hret _ _ _ dX2_tellStreet_40 (by subst e_r1; unfold fX2_tellStreet; first | (rw [if_neg c2]; done) | (simp only [if_neg c2]))

def fX2_street (g : Nat → Nat) (a : Nat → Nat → Int32) (sn : Int32) (wh : Int32) : Int32 := if (fX2_isStreet g sn) = 0 then (-101) else (fX2_tellStreet a (toN sn) wh)
def rmX2_street : Room := { frames := 3, cells := 0, slots := 0, locals := 71 }
theorem hdX2_street : yX2_street.cls = RX2 ∧ yX2_street.cls ≠ "java/lang/invoke/MethodHandle" ∧ yX2_street.cls ≠ "java/lang/invoke/VarHandle" ∧ (parseMethodDescriptor yX2_street.desc).map (fun d => d.parameters.length) = some 2 := by decide +kernel
set_option maxHeartbeats 4000000 in
theorem kX2_street (l : Launch) (ω : OM) (g : Nat → Nat) (y : Nat → Int32) (a z : Nat → Nat → Int32) (kt : Int32) (hs : Int64) (sn : Int32) (wh : Int32) (hn9 : g 4 ≤ 9) : Met l yX2_street (ws_ yX2_street cX2_street 3 (some .int)) rmX2_street (va_Pc [.ref (ω.2.1 0 99), .int sn, .int wh] (fun U => mK ω U ∧ mH ω (g, y, a, z, kt, hs) U.heap)) (vp_Si (fun r => r = (fX2_street g a sn wh))) 0 0 (fun _ => False) := by
  refine g_entPi (C := RX2) rfl (by decide) (Nat.le_of_ble_eq_true rfl) ?_
  intro p e s m args below meth c QQ ls hF hKH hl hret
  have hl : lv_has ls 3 [(0, .ref (ω.2.1 0 99)), (1, .int sn), (2, .int wh)] := hl
  obtain ⟨hK, hH⟩ := hKH
  refine lv_aload_n hF.1 hF.2.1 dX2_street_0 rfl (lv_at hl 0 rfl) ?_
  refine lv_iload_n hF.1 hF.2.1 dX2_street_1 rfl (lv_at hl 1 rfl) ?_
  refine g_vPi (As := [.int sn]) (rest := []) hF (kX2_isStreet l ω g y a z kt hs sn) (lw_V q1201 q1203 qs68 q97 q1204) 1 hdX2_isStreet rfl rfl ⟨Nat.le_of_ble_eq_true rfl, Nat.le_of_ble_eq_true rfl⟩ (m_preV hK hH) rfl hl.1 rfl (Nat.le_of_ble_eq_true rfl) dX2_street_2 ⟨Nat.zero_le _, Nat.zero_le _⟩ (fun r1 e_r1 => ?_)
  refine lv_if_eq (tgt := 17) hF.1 hF.2.1 dX2_street_5 (by decide) (fun c2 => ?_) (fun c2 => ?_)
  · skip
    refine lv_bipush (v := (-101)) hF.1 hF.2.1 dX2_street_17 (by decide) ?_
    exact hret _ _ _ dX2_street_19 (by subst e_r1; unfold fX2_street; first | (rw [if_pos c2]; done) | (simp only [if_pos c2]))
  · skip
    obtain ⟨b3e, b3l⟩ := g_lift (r := sn) (n := g 4) (isStreet_lift hn9 (by rw [← e_r1]; exact c2)) (by omega)
    refine lv_aload_n hF.1 hF.2.1 dX2_street_8 rfl (lv_at hl 0 rfl) ?_
    refine lv_iload_n hF.1 hF.2.1 dX2_street_9 rfl (lv_at hl 1 rfl) ?_
    refine n_top b3e ?_
    refine lv_iload_n hF.1 hF.2.1 dX2_street_10 rfl (lv_at hl 2 rfl) ?_
    refine g_vPi (As := [.int (nI (toN sn)), .int wh]) (rest := []) hF (kX2_tellStreet l ω g y a z kt hs (toN sn) wh (by omega)) (lw_V q1205 q1207 qs69 q97 q1208) 2 hdX2_tellStreet rfl rfl ⟨Nat.le_of_ble_eq_true rfl, Nat.le_of_ble_eq_true rfl⟩ (m_preV hK hH) rfl hl.1 rfl (Nat.le_of_ble_eq_true rfl) dX2_street_11 ⟨Nat.zero_le _, Nat.zero_le _⟩ (fun r4 e_r4 => ?_)
    refine lv_goto (tgt := 19) hF.1 hF.2.1 dX2_street_14 (by decide) ?_
    exact hret _ _ _ dX2_street_19 (by subst e_r4; subst e_r1; unfold fX2_street; first | (rw [if_neg c2]; done) | (simp only [if_neg c2]))

def fX2_as (g : Nat → Nat) (a : Nat → Nat → Int32) (sn : Int32) (kd : Int32) : Int32 := if (fX2_isStreet g sn) = 0 then (-101) else if (fX2_in kd.toInt64 0 4) = 0 then (-102) else if kd = 0 then if 1 = 0 then (-1) else nI (toN sn) else if kd = (a 7 (4 * (toN sn))) then if 1 = 0 then (-1) else nI (toN sn) else if kd = (nI 1) then if (a 7 (4 * (toN sn))) = (nI 4) then if 1 = 0 then (-1) else nI (toN sn) else if 0 = 0 then (-1) else nI (toN sn) else if 0 = 0 then (-1) else nI (toN sn)
def rmX2_as : Room := { frames := 3, cells := 0, slots := 0, locals := 70 }
theorem hdX2_as : yX2_as.cls = RX2 ∧ yX2_as.cls ≠ "java/lang/invoke/MethodHandle" ∧ yX2_as.cls ≠ "java/lang/invoke/VarHandle" ∧ (parseMethodDescriptor yX2_as.desc).map (fun d => d.parameters.length) = some 2 := by decide +kernel
set_option maxHeartbeats 4000000 in
theorem kX2_as (l : Launch) (ω : OM) (g : Nat → Nat) (y : Nat → Int32) (a z : Nat → Nat → Int32) (kt : Int32) (hs : Int64) (sn : Int32) (kd : Int32) (hn9 : g 4 ≤ 9) : Met l yX2_as (ws_ yX2_as cX2_as 5 (some .int)) rmX2_as (va_Pc [.ref (ω.2.1 0 99), .int sn, .int kd] (fun U => mK ω U ∧ mH ω (g, y, a, z, kt, hs) U.heap)) (vp_Si (fun r => r = (fX2_as g a sn kd))) 0 0 (fun _ => False) := by
  refine g_entPi (C := RX2) rfl (by decide) (Nat.le_of_ble_eq_true rfl) ?_
  intro p e s m args below meth c QQ ls hF hKH hl hret
  have hl : lv_has ls 5 [(0, .ref (ω.2.1 0 99)), (1, .int sn), (2, .int kd)] := hl
  obtain ⟨hK, hH⟩ := hKH
  refine lv_aload_n hF.1 hF.2.1 dX2_as_0 rfl (lv_at hl 0 rfl) ?_
  refine lv_iload_n hF.1 hF.2.1 dX2_as_1 rfl (lv_at hl 1 rfl) ?_
  refine g_vPi (As := [.int sn]) (rest := []) hF (kX2_isStreet l ω g y a z kt hs sn) (lw_V q1201 q1203 qs68 q97 q1204) 1 hdX2_isStreet rfl rfl ⟨Nat.le_of_ble_eq_true rfl, Nat.le_of_ble_eq_true rfl⟩ (m_preV hK hH) rfl hl.1 rfl (Nat.le_of_ble_eq_true rfl) dX2_as_2 ⟨Nat.zero_le _, Nat.zero_le _⟩ (fun r1 e_r1 => ?_)
  refine lv_if_ne (tgt := 11) hF.1 hF.2.1 dX2_as_5 (by decide) (fun c2 => ?_) (fun c2 => ?_)
  · skip
    refine lv_iload_n hF.1 hF.2.1 dX2_as_11 rfl (lv_at hl 2 rfl) ?_
    refine lv_i2l (v := kd.toInt64) hF.1 hF.2.1 dX2_as_12 rfl ?_
    refine lv_lconst (v := 0) hF.1 hF.2.1 dX2_as_13 (by decide) ?_
    refine lv_ldc2 (v := 4) hF.1 hF.2.1 hF.2.2.2.1 (hF.2.2.2.2 _ q1218) dX2_as_14 ?_
    refine g_sPi (As := [.long kd.toInt64, .long 0, .long 4]) (rest := []) hF (kX2_in l kd.toInt64 0 4) (lw_S q1061 q1062 q97 q1063) 3 hdX2_in.2 rfl rfl ⟨Nat.le_of_ble_eq_true rfl, Nat.le_of_ble_eq_true rfl⟩ g_pre0 rfl hl.1 rfl (Nat.le_of_ble_eq_true rfl) dX2_as_17 ⟨Nat.zero_le _, Nat.zero_le _⟩ (fun r3 e_r3 => ?_)
    refine lv_if_ne (tgt := 26) hF.1 hF.2.1 dX2_as_20 (by decide) (fun c4 => ?_) (fun c4 => ?_)
    · skip
      obtain ⟨b5e, b5l⟩ := g_lift (r := sn) (n := g 4) (isStreet_lift hn9 (by rw [← e_r1]; exact c2)) (by omega)
      refine lv_aload_n hF.1 hF.2.1 dX2_as_26 rfl (lv_at hl 0 rfl) ?_
      refine mg_7 hF hK hH q978 dX2_as_27 ?_
      refine lv_iconst (v := nI 4) hF.1 hF.2.1 dX2_as_30 (by decide) ?_
      refine lv_iload_n hF.1 hF.2.1 dX2_as_31 rfl (lv_at hl 1 rfl) ?_
      refine n_top b5e ?_
      refine n_imul hF.1 hF.2.1 dX2_as_32 ?_
      refine m_ald hF hK hH 7 (n := 36) rfl rfl (by decide) rfl (f := a 7) rfl (i := 4 * (toN sn)) (by omega) (by decide) dX2_as_33 ?_
      refine lv_istore_n (lv' := [(3, .int (a 7 (4 * (toN sn)))), (0, .ref (ω.2.1 0 99)), (1, .int sn), (2, .int kd)]) hF.1 hF.2.1 dX2_as_34 rfl hl (by decide) rfl (fun ls hl => ?_)
      refine lv_iload_n hF.1 hF.2.1 dX2_as_35 rfl (lv_at hl 3 rfl) ?_
      refine lv_if_eq (tgt := 54) hF.1 hF.2.1 dX2_as_36 (by decide) (fun c6 => ?_) (fun c6 => ?_)
      · skip
        refine lv_iconst (v := nI 1) hF.1 hF.2.1 dX2_as_54 (by decide) ?_
        refine lv_goto (tgt := 59) hF.1 hF.2.1 dX2_as_55 (by decide) ?_
        refine lv_istore (lv' := [(4, .int (nI 1)), (3, .int (a 7 (4 * (toN sn)))), (0, .ref (ω.2.1 0 99)), (1, .int sn), (2, .int kd)]) hF.1 hF.2.1 dX2_as_59 hl (by decide) rfl (fun ls hl => ?_)
        refine lv_iload hF.1 hF.2.1 dX2_as_61 (lv_at hl 0 rfl) ?_
        refine n_ifeq (tgt := 70) hF.1 hF.2.1 dX2_as_63 (by decide) (by omega) (fun c7 => ?_) (fun c7 => ?_)
        · skip
          refine lv_iconst (v := (-1)) hF.1 hF.2.1 dX2_as_70 (by decide) ?_
          exact hret _ _ _ dX2_as_71 (by subst e_r3; subst e_r1; unfold fX2_as; first | (rw [if_neg c2, if_neg c4, if_pos c6, if_pos c7]; done) | (simp only [if_neg c2, if_neg c4, if_pos c6, if_pos c7]))
        · skip
          refine lv_iload_n hF.1 hF.2.1 dX2_as_66 rfl (lv_at hl 3 rfl) ?_
          refine n_top b5e ?_
          refine lv_goto (tgt := 71) hF.1 hF.2.1 dX2_as_67 (by decide) ?_
          exact hret _ _ _ dX2_as_71 (by subst e_r3; subst e_r1; unfold fX2_as; first | (rw [if_neg c2, if_neg c4, if_pos c6, if_neg c7]; done) | (simp only [if_neg c2, if_neg c4, if_pos c6, if_neg c7]))
      · skip
        refine lv_iload_n hF.1 hF.2.1 dX2_as_39 rfl (lv_at hl 3 rfl) ?_
        refine lv_iload_n hF.1 hF.2.1 dX2_as_40 rfl (lv_at hl 0 rfl) ?_
        refine lv_icmp_eq (tgt := 54) hF.1 hF.2.1 dX2_as_41 (by decide) (fun c8 => ?_) (fun c8 => ?_)
        · skip
          refine lv_iconst (v := nI 1) hF.1 hF.2.1 dX2_as_54 (by decide) ?_
          refine lv_goto (tgt := 59) hF.1 hF.2.1 dX2_as_55 (by decide) ?_
          refine lv_istore (lv' := [(4, .int (nI 1)), (3, .int (a 7 (4 * (toN sn)))), (0, .ref (ω.2.1 0 99)), (1, .int sn), (2, .int kd)]) hF.1 hF.2.1 dX2_as_59 hl (by decide) rfl (fun ls hl => ?_)
          refine lv_iload hF.1 hF.2.1 dX2_as_61 (lv_at hl 0 rfl) ?_
          refine n_ifeq (tgt := 70) hF.1 hF.2.1 dX2_as_63 (by decide) (by omega) (fun c9 => ?_) (fun c9 => ?_)
          · skip
            refine lv_iconst (v := (-1)) hF.1 hF.2.1 dX2_as_70 (by decide) ?_
            exact hret _ _ _ dX2_as_71 (by subst e_r3; subst e_r1; unfold fX2_as; first | (rw [if_neg c2, if_neg c4, if_neg c6, if_pos c8, if_pos c9]; done) | (simp only [if_neg c2, if_neg c4, if_neg c6, if_pos c8, if_pos c9]))
          · skip
            refine lv_iload_n hF.1 hF.2.1 dX2_as_66 rfl (lv_at hl 3 rfl) ?_
            refine n_top b5e ?_
            refine lv_goto (tgt := 71) hF.1 hF.2.1 dX2_as_67 (by decide) ?_
            exact hret _ _ _ dX2_as_71 (by subst e_r3; subst e_r1; unfold fX2_as; first | (rw [if_neg c2, if_neg c4, if_neg c6, if_pos c8, if_neg c9]; done) | (simp only [if_neg c2, if_neg c4, if_neg c6, if_pos c8, if_neg c9]))
        · skip
          refine lv_iload_n hF.1 hF.2.1 dX2_as_44 rfl (lv_at hl 3 rfl) ?_
          refine lv_iconst (v := nI 1) hF.1 hF.2.1 dX2_as_45 (by decide) ?_
          refine lv_icmp_ne (tgt := 58) hF.1 hF.2.1 dX2_as_46 (by decide) (fun c10 => ?_) (fun c10 => ?_)
          · skip
            refine lv_iconst (v := nI 0) hF.1 hF.2.1 dX2_as_58 (by decide) ?_
            refine lv_istore (lv' := [(4, .int (nI 0)), (3, .int (a 7 (4 * (toN sn)))), (0, .ref (ω.2.1 0 99)), (1, .int sn), (2, .int kd)]) hF.1 hF.2.1 dX2_as_59 hl (by decide) rfl (fun ls hl => ?_)
            refine lv_iload hF.1 hF.2.1 dX2_as_61 (lv_at hl 0 rfl) ?_
            refine n_ifeq (tgt := 70) hF.1 hF.2.1 dX2_as_63 (by decide) (by omega) (fun c11 => ?_) (fun c11 => ?_)
            · skip
              refine lv_iconst (v := (-1)) hF.1 hF.2.1 dX2_as_70 (by decide) ?_
              exact hret _ _ _ dX2_as_71 (by subst e_r3; subst e_r1; unfold fX2_as; first | (rw [if_neg c2, if_neg c4, if_neg c6, if_neg c8, if_neg c10, if_pos c11]; done) | (simp only [if_neg c2, if_neg c4, if_neg c6, if_neg c8, if_neg c10, if_pos c11]))
            · skip
              refine lv_iload_n hF.1 hF.2.1 dX2_as_66 rfl (lv_at hl 3 rfl) ?_
              refine n_top b5e ?_
              refine lv_goto (tgt := 71) hF.1 hF.2.1 dX2_as_67 (by decide) ?_
              exact hret _ _ _ dX2_as_71 (by subst e_r3; subst e_r1; unfold fX2_as; first | (rw [if_neg c2, if_neg c4, if_neg c6, if_neg c8, if_neg c10, if_neg c11]; done) | (simp only [if_neg c2, if_neg c4, if_neg c6, if_neg c8, if_neg c10, if_neg c11]))
          · skip
            refine lv_iload_n hF.1 hF.2.1 dX2_as_49 rfl (lv_at hl 0 rfl) ?_
            refine lv_iconst (v := nI 4) hF.1 hF.2.1 dX2_as_50 (by decide) ?_
            refine lv_icmp_ne (tgt := 58) hF.1 hF.2.1 dX2_as_51 (by decide) (fun c12 => ?_) (fun c12 => ?_)
            · skip
              refine lv_iconst (v := nI 0) hF.1 hF.2.1 dX2_as_58 (by decide) ?_
              refine lv_istore (lv' := [(4, .int (nI 0)), (3, .int (a 7 (4 * (toN sn)))), (0, .ref (ω.2.1 0 99)), (1, .int sn), (2, .int kd)]) hF.1 hF.2.1 dX2_as_59 hl (by decide) rfl (fun ls hl => ?_)
              refine lv_iload hF.1 hF.2.1 dX2_as_61 (lv_at hl 0 rfl) ?_
              refine n_ifeq (tgt := 70) hF.1 hF.2.1 dX2_as_63 (by decide) (by omega) (fun c13 => ?_) (fun c13 => ?_)
              · skip
                refine lv_iconst (v := (-1)) hF.1 hF.2.1 dX2_as_70 (by decide) ?_
                exact hret _ _ _ dX2_as_71 (by subst e_r3; subst e_r1; unfold fX2_as; first | (rw [if_neg c2, if_neg c4, if_neg c6, if_neg c8, if_pos c10, if_neg c12, if_pos c13]; done) | (simp only [if_neg c2, if_neg c4, if_neg c6, if_neg c8, if_pos c10, if_neg c12, if_pos c13]))
              · skip
                refine lv_iload_n hF.1 hF.2.1 dX2_as_66 rfl (lv_at hl 3 rfl) ?_
                refine n_top b5e ?_
                refine lv_goto (tgt := 71) hF.1 hF.2.1 dX2_as_67 (by decide) ?_
                exact hret _ _ _ dX2_as_71 (by subst e_r3; subst e_r1; unfold fX2_as; first | (rw [if_neg c2, if_neg c4, if_neg c6, if_neg c8, if_pos c10, if_neg c12, if_neg c13]; done) | (simp only [if_neg c2, if_neg c4, if_neg c6, if_neg c8, if_pos c10, if_neg c12, if_neg c13]))
            · skip
              refine lv_iconst (v := nI 1) hF.1 hF.2.1 dX2_as_54 (by decide) ?_
              refine lv_goto (tgt := 59) hF.1 hF.2.1 dX2_as_55 (by decide) ?_
              refine lv_istore (lv' := [(4, .int (nI 1)), (3, .int (a 7 (4 * (toN sn)))), (0, .ref (ω.2.1 0 99)), (1, .int sn), (2, .int kd)]) hF.1 hF.2.1 dX2_as_59 hl (by decide) rfl (fun ls hl => ?_)
              refine lv_iload hF.1 hF.2.1 dX2_as_61 (lv_at hl 0 rfl) ?_
              refine n_ifeq (tgt := 70) hF.1 hF.2.1 dX2_as_63 (by decide) (by omega) (fun c14 => ?_) (fun c14 => ?_)
              · skip
                refine lv_iconst (v := (-1)) hF.1 hF.2.1 dX2_as_70 (by decide) ?_
                exact hret _ _ _ dX2_as_71 (by subst e_r3; subst e_r1; unfold fX2_as; first | (rw [if_neg c2, if_neg c4, if_neg c6, if_neg c8, if_pos c10, if_pos c12, if_pos c14]; done) | (simp only [if_neg c2, if_neg c4, if_neg c6, if_neg c8, if_pos c10, if_pos c12, if_pos c14]))
              · skip
                refine lv_iload_n hF.1 hF.2.1 dX2_as_66 rfl (lv_at hl 3 rfl) ?_
                refine n_top b5e ?_
                refine lv_goto (tgt := 71) hF.1 hF.2.1 dX2_as_67 (by decide) ?_
                exact hret _ _ _ dX2_as_71 (by subst e_r3; subst e_r1; unfold fX2_as; first | (rw [if_neg c2, if_neg c4, if_neg c6, if_neg c8, if_pos c10, if_pos c12, if_neg c14]; done) | (simp only [if_neg c2, if_neg c4, if_neg c6, if_neg c8, if_pos c10, if_pos c12, if_neg c14]))
    · skip
      refine lv_bipush (v := (-102)) hF.1 hF.2.1 dX2_as_23 (by decide) ?_
      exact hret _ _ _ dX2_as_25 (by subst e_r3; subst e_r1; unfold fX2_as; first | (rw [if_neg c2, if_pos c4]; done) | (simp only [if_neg c2, if_pos c4]))
  · skip
    refine lv_bipush (v := (-101)) hF.1 hF.2.1 dX2_as_8 (by decide) ?_
    exact hret _ _ _ dX2_as_10 (by subst e_r1; unfold fX2_as; first | (rw [if_pos c2]; done) | (simp only [if_pos c2]))

def fX2_hurts (g : Nat → Nat) (a : Nat → Nat → Int32) (pn : Int32) (sn : Int32) : Int32 := if (fX2_isPerson g pn) = 0 then (-101) else if (fX2_isStreet g sn) = 0 then (-101) else (fX2_hurtsOf g a (toN pn) (toN sn))
def rmX2_hurts : Room := { frames := 3, cells := 0, slots := 0, locals := 70 }
theorem hdX2_hurts : yX2_hurts.cls = RX2 ∧ yX2_hurts.cls ≠ "java/lang/invoke/MethodHandle" ∧ yX2_hurts.cls ≠ "java/lang/invoke/VarHandle" ∧ (parseMethodDescriptor yX2_hurts.desc).map (fun d => d.parameters.length) = some 2 := by decide +kernel
set_option maxHeartbeats 4000000 in
theorem kX2_hurts (l : Launch) (ω : OM) (g : Nat → Nat) (y : Nat → Int32) (a z : Nat → Nat → Int32) (kt : Int32) (hs : Int64) (pn : Int32) (sn : Int32) (hp3 : g 3 ≤ 3) (hn9 : g 4 ≤ 9) : Met l yX2_hurts (ws_ yX2_hurts cX2_hurts 3 (some .int)) rmX2_hurts (va_Pc [.ref (ω.2.1 0 99), .int pn, .int sn] (fun U => mK ω U ∧ mH ω (g, y, a, z, kt, hs) U.heap)) (vp_Si (fun r => r = (fX2_hurts g a pn sn))) 0 0 (fun _ => False) := by
  refine g_entPi (C := RX2) rfl (by decide) (Nat.le_of_ble_eq_true rfl) ?_
  intro p e s m args below meth c QQ ls hF hKH hl hret
  have hl : lv_has ls 3 [(0, .ref (ω.2.1 0 99)), (1, .int pn), (2, .int sn)] := hl
  obtain ⟨hK, hH⟩ := hKH
  refine lv_aload_n hF.1 hF.2.1 dX2_hurts_0 rfl (lv_at hl 0 rfl) ?_
  refine lv_iload_n hF.1 hF.2.1 dX2_hurts_1 rfl (lv_at hl 1 rfl) ?_
  refine g_vPi (As := [.int pn]) (rest := []) hF (kX2_isPerson l ω g y a z kt hs pn) (lw_V q1103 q1105 qs51 q97 q1106) 1 hdX2_isPerson rfl rfl ⟨Nat.le_of_ble_eq_true rfl, Nat.le_of_ble_eq_true rfl⟩ (m_preV hK hH) rfl hl.1 rfl (Nat.le_of_ble_eq_true rfl) dX2_hurts_2 ⟨Nat.zero_le _, Nat.zero_le _⟩ (fun r1 e_r1 => ?_)
  refine lv_if_eq (tgt := 25) hF.1 hF.2.1 dX2_hurts_5 (by decide) (fun c2 => ?_) (fun c2 => ?_)
  · skip
    refine lv_bipush (v := (-101)) hF.1 hF.2.1 dX2_hurts_25 (by decide) ?_
    exact hret _ _ _ dX2_hurts_27 (by subst e_r1; unfold fX2_hurts; first | (rw [if_pos c2]; done) | (simp only [if_pos c2]))
  · skip
    refine lv_aload_n hF.1 hF.2.1 dX2_hurts_8 rfl (lv_at hl 0 rfl) ?_
    refine lv_iload_n hF.1 hF.2.1 dX2_hurts_9 rfl (lv_at hl 2 rfl) ?_
    refine g_vPi (As := [.int sn]) (rest := []) hF (kX2_isStreet l ω g y a z kt hs sn) (lw_V q1201 q1203 qs68 q97 q1204) 1 hdX2_isStreet rfl rfl ⟨Nat.le_of_ble_eq_true rfl, Nat.le_of_ble_eq_true rfl⟩ (m_preV hK hH) rfl hl.1 rfl (Nat.le_of_ble_eq_true rfl) dX2_hurts_10 ⟨Nat.zero_le _, Nat.zero_le _⟩ (fun r3 e_r3 => ?_)
    refine lv_if_eq (tgt := 25) hF.1 hF.2.1 dX2_hurts_13 (by decide) (fun c4 => ?_) (fun c4 => ?_)
    · skip
      refine lv_bipush (v := (-101)) hF.1 hF.2.1 dX2_hurts_25 (by decide) ?_
      exact hret _ _ _ dX2_hurts_27 (by subst e_r3; subst e_r1; unfold fX2_hurts; first | (rw [if_neg c2, if_pos c4]; done) | (simp only [if_neg c2, if_pos c4]))
    · skip
      obtain ⟨b5e, b5l⟩ := g_lift (r := pn) (n := 3) (isPerson_lift3 hp3 (by rw [← e_r1]; exact c2)) (by omega)
      obtain ⟨b6e, b6l⟩ := g_lift (r := sn) (n := g 4) (isStreet_lift hn9 (by rw [← e_r3]; exact c4)) (by omega)
      refine lv_aload_n hF.1 hF.2.1 dX2_hurts_16 rfl (lv_at hl 0 rfl) ?_
      refine lv_iload_n hF.1 hF.2.1 dX2_hurts_17 rfl (lv_at hl 1 rfl) ?_
      refine n_top b5e ?_
      refine lv_iload_n hF.1 hF.2.1 dX2_hurts_18 rfl (lv_at hl 2 rfl) ?_
      refine n_top b6e ?_
      refine g_vPi (As := [.int (nI (toN pn)), .int (nI (toN sn))]) (rest := []) hF (kX2_hurtsOf l ω g y a z kt hs (toN pn) (toN sn) (by omega) (by omega)) (lw_V q1160 q1162 qs62 q97 q1163) 2 hdX2_hurtsOf rfl rfl ⟨Nat.le_of_ble_eq_true rfl, Nat.le_of_ble_eq_true rfl⟩ (m_preV hK hH) rfl hl.1 rfl (Nat.le_of_ble_eq_true rfl) dX2_hurts_19 ⟨Nat.zero_le _, Nat.zero_le _⟩ (fun r7 e_r7 => ?_)
      refine lv_goto (tgt := 27) hF.1 hF.2.1 dX2_hurts_22 (by decide) ?_
      exact hret _ _ _ dX2_hurts_27 (by subst e_r7; subst e_r3; subst e_r1; unfold fX2_hurts; first | (rw [if_neg c2, if_neg c4]; done) | (simp only [if_neg c2, if_neg c4]))

def fX2_tender (g : Nat → Nat) (a : Nat → Nat → Int32) (pn : Int32) (td : Int32) : Int32 × (Nat → Int32) := if (fX2_isPerson g pn) = 0 then ((-101), a 8) else if (fX2_in td.toInt64 0 9) = 0 then ((-102), a 8) else (a 8 (5 * (toN pn)), upd (a 8) (5 * (toN pn)) td)
def rmX2_tender : Room := { frames := 3, cells := 0, slots := 0, locals := 70 }
theorem hdX2_tender : yX2_tender.cls = RX2 ∧ yX2_tender.cls ≠ "java/lang/invoke/MethodHandle" ∧ yX2_tender.cls ≠ "java/lang/invoke/VarHandle" ∧ (parseMethodDescriptor yX2_tender.desc).map (fun d => d.parameters.length) = some 2 := by decide +kernel
set_option maxHeartbeats 4000000 in
theorem kX2_tender (l : Launch) (ω : OM) (g : Nat → Nat) (y : Nat → Int32) (a z : Nat → Nat → Int32) (kt : Int32) (hs : Int64) (pn : Int32) (td : Int32) (hp3 : g 3 ≤ 3) : Met l yX2_tender (ws_ yX2_tender cX2_tender 4 (some .int)) rmX2_tender (va_Pc [.ref (ω.2.1 0 99), .int pn, .int td] (fun U => mK ω U ∧ mH ω (g, y, a, z, kt, hs) U.heap)) (va_Qi (fun (r : Int32) (u : MS) => ∃ (o0 : Nat → Int32), (r, o0) = (fX2_tender g a pn td) ∧ u = (g, y, va_up a 8 o0, z, kt, hs)) (fun u t => mH ω u t.heap) ω.2.2.1) 0 0 ω.2.2.1 := by
  refine g_entWi (C := RX2) rfl (by decide) (Nat.le_of_ble_eq_true rfl) ?_
  intro p e s m args below meth c QQ ls H locs hF hK hH hS hl hret
  have hl : lv_has ls 4 [(0, .ref (ω.2.1 0 99)), (1, .int pn), (2, .int td)] := hl
  refine lv_aload_n hF.1 hF.2.1 dX2_tender_0 rfl (lv_at hl 0 rfl) ?_
  refine lv_iload_n hF.1 hF.2.1 dX2_tender_1 rfl (lv_at hl 1 rfl) ?_
  refine g_vPi (As := [.int pn]) (rest := []) hF (kX2_isPerson l ω g y a z kt hs pn) (lw_V q1103 q1105 qs51 q97 q1106) 1 hdX2_isPerson rfl rfl ⟨Nat.le_of_ble_eq_true rfl, Nat.le_of_ble_eq_true rfl⟩ (m_preV hK hH) rfl hl.1 rfl (Nat.le_of_ble_eq_true rfl) dX2_tender_2 ⟨Nat.zero_le _, Nat.zero_le _⟩ (fun r1 e_r1 => ?_)
  refine lv_if_ne (tgt := 11) hF.1 hF.2.1 dX2_tender_5 (by decide) (fun c2 => ?_) (fun c2 => ?_)
  · skip
    refine lv_iload_n hF.1 hF.2.1 dX2_tender_11 rfl (lv_at hl 2 rfl) ?_
    refine lv_i2l (v := td.toInt64) hF.1 hF.2.1 dX2_tender_12 rfl ?_
    refine lv_lconst (v := 0) hF.1 hF.2.1 dX2_tender_13 (by decide) ?_
    refine lv_ldc2 (v := 9) hF.1 hF.2.1 hF.2.2.2.1 (hF.2.2.2.2 _ q1227) dX2_tender_14 ?_
    refine g_sPi (As := [.long td.toInt64, .long 0, .long 9]) (rest := []) hF (kX2_in l td.toInt64 0 9) (lw_S q1061 q1062 q97 q1063) 3 hdX2_in.2 rfl rfl ⟨Nat.le_of_ble_eq_true rfl, Nat.le_of_ble_eq_true rfl⟩ g_pre0 rfl hl.1 rfl (Nat.le_of_ble_eq_true rfl) dX2_tender_17 ⟨Nat.zero_le _, Nat.zero_le _⟩ (fun r3 e_r3 => ?_)
    refine lv_if_ne (tgt := 26) hF.1 hF.2.1 dX2_tender_20 (by decide) (fun c4 => ?_) (fun c4 => ?_)
    · skip
      obtain ⟨b5e, b5l⟩ := g_lift (r := pn) (n := 3) (isPerson_lift3 hp3 (by rw [← e_r1]; exact c2)) (by omega)
      refine lv_aload_n hF.1 hF.2.1 dX2_tender_26 rfl (lv_at hl 0 rfl) ?_
      refine mg_8 hF hK hH q979 dX2_tender_27 ?_
      refine lv_iconst (v := nI 5) hF.1 hF.2.1 dX2_tender_30 (by decide) ?_
      refine lv_iload_n hF.1 hF.2.1 dX2_tender_31 rfl (lv_at hl 1 rfl) ?_
      refine n_top b5e ?_
      refine n_imul hF.1 hF.2.1 dX2_tender_32 ?_
      refine m_ald hF hK hH 8 (n := 15) rfl rfl (by decide) rfl (f := a 8) rfl (i := 5 * (toN pn)) (by omega) (by decide) dX2_tender_33 ?_
      refine lv_istore_n (lv' := [(3, .int (a 8 (5 * (toN pn)))), (0, .ref (ω.2.1 0 99)), (1, .int pn), (2, .int td)]) hF.1 hF.2.1 dX2_tender_34 rfl hl (by decide) rfl (fun ls hl => ?_)
      refine lv_aload_n hF.1 hF.2.1 dX2_tender_35 rfl (lv_at hl 1 rfl) ?_
      refine mg_8 hF hK hH q979 dX2_tender_36 ?_
      refine lv_iconst (v := nI 5) hF.1 hF.2.1 dX2_tender_39 (by decide) ?_
      refine lv_iload_n hF.1 hF.2.1 dX2_tender_40 rfl (lv_at hl 2 rfl) ?_
      refine n_top b5e ?_
      refine n_imul hF.1 hF.2.1 dX2_tender_41 ?_
      refine lv_iload_n hF.1 hF.2.1 dX2_tender_42 rfl (lv_at hl 3 rfl) ?_
      refine m_ast (a' := va_up a 8 (upd (a 8) (5 * (toN pn)) td)) hF hK hH hS 8 (n := 15) rfl rfl (by decide) rfl (f := a 8) rfl (i := 5 * (toN pn)) (by omega) (by decide) dX2_tender_43 rfl (by intro j hj; simp only [va_up, if_neg hj]) (fun H locs hH hS => ?_)
      refine lv_iload_n hF.1 hF.2.1 dX2_tender_44 rfl (lv_at hl 0 rfl) ?_
      exact hret _ _ _ _ _ _ dX2_tender_45 ⟨_, by subst e_r3; subst e_r1; unfold fX2_tender; first | (rw [if_neg c2, if_neg c4]; done) | (simp only [if_neg c2, if_neg c4]), rfl⟩ hH hS
    · skip
      refine lv_bipush (v := (-102)) hF.1 hF.2.1 dX2_tender_23 (by decide) ?_
      have hH : mH ω (g, y, va_up a 8 (a 8), z, kt, hs) H := m_ext (fun _ => rfl) (fun _ => rfl) (by intro k; by_cases h0 : k = 8; (subst h0; simp [va_up]); simp only [va_up, if_neg h0]) (fun _ => rfl) hH
      exact hret _ _ _ _ _ _ dX2_tender_25 ⟨_, by subst e_r3; subst e_r1; unfold fX2_tender; first | (rw [if_neg c2, if_pos c4]; done) | (simp only [if_neg c2, if_pos c4]), rfl⟩ hH hS
  · skip
    refine lv_bipush (v := (-101)) hF.1 hF.2.1 dX2_tender_8 (by decide) ?_
    have hH : mH ω (g, y, va_up a 8 (a 8), z, kt, hs) H := m_ext (fun _ => rfl) (fun _ => rfl) (by intro k; by_cases h0 : k = 8; (subst h0; simp [va_up]); simp only [va_up, if_neg h0]) (fun _ => rfl) hH
    exact hret _ _ _ _ _ _ dX2_tender_10 ⟨_, by subst e_r1; unfold fX2_tender; first | (rw [if_pos c2]; done) | (simp only [if_pos c2]), rfl⟩ hH hS

def fX2_day (g : Nat → Nat) : Int32 × Nat := if (fX2_lacks g) = 0 then if (g 5) = 99 then ((-104), g 5) else (nI ((g 5) + 1), (g 5) + 1) else ((-103), g 5)
def rmX2_day : Room := { frames := 2, cells := 0, slots := 0, locals := 44 }
theorem hdX2_day : yX2_day.cls = RX2 ∧ yX2_day.cls ≠ "java/lang/invoke/MethodHandle" ∧ yX2_day.cls ≠ "java/lang/invoke/VarHandle" ∧ (parseMethodDescriptor yX2_day.desc).map (fun d => d.parameters.length) = some 0 := by decide +kernel
set_option maxHeartbeats 4000000 in
theorem kX2_day (l : Launch) (ω : OM) (g : Nat → Nat) (y : Nat → Int32) (a z : Nat → Nat → Int32) (kt : Int32) (hs : Int64) (hn9 : g 4 ≤ 9) (hd : g 5 ≤ 99) : Met l yX2_day (ws_ yX2_day cX2_day 1 (some .int)) rmX2_day (va_Pc [.ref (ω.2.1 0 99)] (fun U => mK ω U ∧ mH ω (g, y, a, z, kt, hs) U.heap)) (va_Qi (fun (r : Int32) (u : MS) => ∃ (o0 : Nat), (r, o0) = (fX2_day g) ∧ u = (va_up g 5 o0, y, a, z, kt, hs)) (fun u t => mH ω u t.heap) ω.2.2.1) 0 0 ω.2.2.1 := by
  refine g_entWi (C := RX2) rfl (by decide) (Nat.le_of_ble_eq_true rfl) ?_
  intro p e s m args below meth c QQ ls H locs hF hK hH hS hl hret
  have hl : lv_has ls 1 [(0, .ref (ω.2.1 0 99))] := hl
  refine lv_aload_n hF.1 hF.2.1 dX2_day_0 rfl (lv_at hl 0 rfl) ?_
  refine g_vPi (As := []) (rest := []) hF (kX2_lacks l ω g y a z kt hs (by omega)) (lw_V q1232 q1234 qs71 q97 q1235) 0 hdX2_lacks rfl rfl ⟨Nat.le_of_ble_eq_true rfl, Nat.le_of_ble_eq_true rfl⟩ (m_preV hK hH) rfl hl.1 rfl (Nat.le_of_ble_eq_true rfl) dX2_day_1 ⟨Nat.zero_le _, Nat.zero_le _⟩ (fun r1 e_r1 => ?_)
  refine lv_if_eq (tgt := 10) hF.1 hF.2.1 dX2_day_4 (by decide) (fun c2 => ?_) (fun c2 => ?_)
  · skip
    refine lv_aload_n hF.1 hF.2.1 dX2_day_10 rfl (lv_at hl 0 rfl) ?_
    refine mg_5 hF hK hH q976 dX2_day_11 (v := g 5) rfl ?_
    refine lv_bipush (v := nI 99) hF.1 hF.2.1 dX2_day_14 (by decide) ?_
    refine n_ne (tgt := 22) hF.1 hF.2.1 dX2_day_16 (by decide) (by omega) (by omega) (fun c3 => ?_) (fun c3 => ?_)
    · skip
      refine lv_aload_n hF.1 hF.2.1 dX2_day_22 rfl (lv_at hl 0 rfl) ?_
      refine lv_dup hF.1 hF.2.1 dX2_day_23 rfl ?_
      refine mg_5 hF hK hH q976 dX2_day_24 (v := g 5) rfl ?_
      refine lv_iconst (v := nI 1) hF.1 hF.2.1 dX2_day_27 (by decide) ?_
      refine n_iadd hF.1 hF.2.1 dX2_day_28 ?_
      refine mp_5 hF hK hH hS q976 dX2_day_29 (g' := va_up g 5 ((g 5) + 1)) rfl (by intro j hj; simp only [va_up, if_neg hj]) (fun H locs hH hS => ?_)
      refine lv_aload_n hF.1 hF.2.1 dX2_day_32 rfl (lv_at hl 0 rfl) ?_
      refine mg_5 hF hK hH q976 dX2_day_33 (v := (g 5) + 1) rfl ?_
      exact hret _ _ _ _ _ _ dX2_day_36 ⟨_, by subst e_r1; unfold fX2_day; first | (rw [if_pos c2, if_neg c3]; done) | (simp only [if_pos c2, if_neg c3]), rfl⟩ hH hS
    · skip
      refine lv_bipush (v := (-104)) hF.1 hF.2.1 dX2_day_19 (by decide) ?_
      have hH : mH ω (va_up g 5 (g 5), y, a, z, kt, hs) H := m_ext (by intro k; by_cases h0 : k = 5; (subst h0; simp [va_up]); simp only [va_up, if_neg h0]) (fun _ => rfl) (fun _ => rfl) (fun _ => rfl) hH
      exact hret _ _ _ _ _ _ dX2_day_21 ⟨_, by subst e_r1; unfold fX2_day; first | (rw [if_pos c2, if_pos c3]; done) | (simp only [if_pos c2, if_pos c3]), rfl⟩ hH hS
  · skip
    refine lv_bipush (v := (-103)) hF.1 hF.2.1 dX2_day_7 (by decide) ?_
    have hH : mH ω (va_up g 5 (g 5), y, a, z, kt, hs) H := m_ext (by intro k; by_cases h0 : k = 5; (subst h0; simp [va_up]); simp only [va_up, if_neg h0]) (fun _ => rfl) (fun _ => rfl) (fun _ => rfl) hH
    exact hret _ _ _ _ _ _ dX2_day_9 ⟨_, by subst e_r1; unfold fX2_day; first | (rw [if_neg c2]; done) | (simp only [if_neg c2]), rfl⟩ hH hS

def fX2_knows (a : Nat → Nat → Int32) (dn : Nat) (sn : Int32) : Int32 := if (((a 10 ((3 * dn) + 1)) >>> (sn &&& 31)) &&& (nI 1)) = (nI 1) then nI 1 else nI 0
theorem fX2_knows_b (a : Nat → Nat → Int32) (dn : Nat) (sn : Int32) : (fX2_knows a dn sn) = 0 ∨ (fX2_knows a dn sn) = 1 := by
  unfold fX2_knows
  exact (g_ite (Or.inr rfl) (Or.inl nI_0))
def rmX2_knows : Room := { frames := 1, cells := 0, slots := 0, locals := 24 }
theorem hdX2_knows : yX2_knows.cls = RX2 ∧ yX2_knows.cls ≠ "java/lang/invoke/MethodHandle" ∧ yX2_knows.cls ≠ "java/lang/invoke/VarHandle" ∧ (parseMethodDescriptor yX2_knows.desc).map (fun d => d.parameters.length) = some 2 := by decide +kernel
set_option maxHeartbeats 4000000 in
theorem kX2_knows (l : Launch) (ω : OM) (g : Nat → Nat) (y : Nat → Int32) (a z : Nat → Nat → Int32) (kt : Int32) (hs : Int64) (dn : Nat) (sn : Int32) (hdn : dn < 2) : Met l yX2_knows (ws_ yX2_knows cX2_knows 3 (some .boolean)) rmX2_knows (va_Pc [.ref (ω.2.1 0 99), .int (nI dn), .int sn] (fun U => mK ω U ∧ mH ω (g, y, a, z, kt, hs) U.heap)) (vp_Si (fun r => r = (fX2_knows a dn sn))) 0 0 (fun _ => False) := by
  refine g_entPz (C := RX2) rfl (by decide) (Nat.le_of_ble_eq_true rfl) ?_
  intro p e s m args below meth c QQ ls hF hKH hl hret
  have hl : lv_has ls 3 [(0, .ref (ω.2.1 0 99)), (1, .int (nI dn)), (2, .int sn)] := hl
  obtain ⟨hK, hH⟩ := hKH
  refine lv_aload_n hF.1 hF.2.1 dX2_knows_0 rfl (lv_at hl 0 rfl) ?_
  refine mg_10 hF hK hH q981 dX2_knows_1 ?_
  refine lv_iconst (v := nI 3) hF.1 hF.2.1 dX2_knows_4 (by decide) ?_
  refine lv_iload_n hF.1 hF.2.1 dX2_knows_5 rfl (lv_at hl 1 rfl) ?_
  refine n_imul hF.1 hF.2.1 dX2_knows_6 ?_
  refine lv_iconst (v := nI 1) hF.1 hF.2.1 dX2_knows_7 (by decide) ?_
  refine n_iadd hF.1 hF.2.1 dX2_knows_8 ?_
  refine m_ald hF hK hH 10 (n := 6) rfl rfl (by decide) rfl (f := a 10) rfl (i := (3 * dn) + 1) (by omega) (by decide) dX2_knows_9 ?_
  refine lv_iload_n hF.1 hF.2.1 dX2_knows_10 rfl (lv_at hl 2 rfl) ?_
  refine lv_ishr hF.1 hF.2.1 dX2_knows_11 ?_
  refine lv_iconst (v := nI 1) hF.1 hF.2.1 dX2_knows_12 (by decide) ?_
  refine lv_iand hF.1 hF.2.1 dX2_knows_13 ?_
  refine lv_iconst (v := nI 1) hF.1 hF.2.1 dX2_knows_14 (by decide) ?_
  refine lv_icmp_ne (tgt := 22) hF.1 hF.2.1 dX2_knows_15 (by decide) (fun c1 => ?_) (fun c1 => ?_)
  · skip
    refine lv_iconst (v := nI 0) hF.1 hF.2.1 dX2_knows_22 (by decide) ?_
    exact hret _ _ _ dX2_knows_23 (by unfold fX2_knows; first | (rw [if_neg c1]; done) | (simp only [if_neg c1])) (by exact (Or.inl nI_0))
  · skip
    refine lv_iconst (v := nI 1) hF.1 hF.2.1 dX2_knows_18 (by decide) ?_
    refine lv_goto (tgt := 23) hF.1 hF.2.1 dX2_knows_19 (by decide) ?_
    exact hret _ _ _ dX2_knows_23 (by unfold fX2_knows; first | (rw [if_pos c1]; done) | (simp only [if_pos c1])) (by exact (Or.inr rfl))

def fX2_tellDriver (g : Nat → Nat) (a : Nat → Nat → Int32) (dn : Nat) (wh : Int32) : Int32 := if wh = nI 0 then a 10 ((3 * dn) + 0) else if wh = nI 1 then a 10 ((3 * dn) + 1) else if wh = nI 2 then (fX2_gapsBy g a (a 10 ((3 * dn) + 1))) else if wh = nI 3 then (fX2_learnNextOf g a dn) else if wh = nI 4 then a 10 ((3 * dn) + 2) else if wh = nI 5 then (fX2_reachOf g a (a 10 (3 * dn)) (a 10 ((3 * dn) + 1))) else (-102)
def rmX2_tellDriver : Room := { frames := 4, cells := 0, slots := 0, locals := 103 }
theorem hdX2_tellDriver : yX2_tellDriver.cls = RX2 ∧ yX2_tellDriver.cls ≠ "java/lang/invoke/MethodHandle" ∧ yX2_tellDriver.cls ≠ "java/lang/invoke/VarHandle" ∧ (parseMethodDescriptor yX2_tellDriver.desc).map (fun d => d.parameters.length) = some 2 := by decide +kernel
set_option maxHeartbeats 4000000 in
theorem kX2_tellDriver (l : Launch) (ω : OM) (g : Nat → Nat) (y : Nat → Int32) (a z : Nat → Nat → Int32) (kt : Int32) (hs : Int64) (dn : Nat) (wh : Int32) (hdn : dn < 2) (hr : mRows (g 4) (a 7)) : Met l yX2_tellDriver (ws_ yX2_tellDriver cX2_tellDriver 3 (some .int)) rmX2_tellDriver (va_Pc [.ref (ω.2.1 0 99), .int (nI dn), .int wh] (fun U => mK ω U ∧ mH ω (g, y, a, z, kt, hs) U.heap)) (vp_Si (fun r => r = (fX2_tellDriver g a dn wh))) 0 0 (fun _ => False) := by
  refine g_entPi (C := RX2) rfl (by decide) (Nat.le_of_ble_eq_true rfl) ?_
  intro p e s m args below meth c QQ ls hF hKH hl hret
  have hl : lv_has ls 3 [(0, .ref (ω.2.1 0 99)), (1, .int (nI dn)), (2, .int wh)] := hl
  obtain ⟨hK, hH⟩ := hKH
  refine lv_iload_n hF.1 hF.2.1 dX2_tellDriver_0 rfl (lv_at hl 2 rfl) ?_
  by_cases c2 : wh = nI 0
  · skip
    refine n_top (y := nI 0) c2 ?_
    refine lv_tableIn (off := 39) (tgt := 40) hF.1 hF.2.1 dX2_tellDriver_1 (by decide) (by decide) (by decide) (by decide) ?_
    refine lv_aload_n hF.1 hF.2.1 dX2_tellDriver_40 rfl (lv_at hl 0 rfl) ?_
    refine mg_10 hF hK hH q981 dX2_tellDriver_41 ?_
    refine lv_iconst (v := nI 3) hF.1 hF.2.1 dX2_tellDriver_44 (by decide) ?_
    refine lv_iload_n hF.1 hF.2.1 dX2_tellDriver_45 rfl (lv_at hl 1 rfl) ?_
    refine n_imul hF.1 hF.2.1 dX2_tellDriver_46 ?_
    refine lv_iload_n hF.1 hF.2.1 dX2_tellDriver_47 rfl (lv_at hl 2 rfl) ?_
    refine n_top c2 ?_
    refine n_iadd hF.1 hF.2.1 dX2_tellDriver_48 ?_
    refine m_ald hF hK hH 10 (n := 6) rfl rfl (by decide) rfl (f := a 10) rfl (i := (3 * dn) + 0) (by omega) (by decide) dX2_tellDriver_49 ?_
    exact hret _ _ _ dX2_tellDriver_50 (by unfold fX2_tellDriver; first | (rw [if_pos c2]; done) | (simp only [if_pos c2]))
  by_cases c3 : wh = nI 1
  · skip
    refine n_top (y := nI 1) c3 ?_
    refine lv_tableIn (off := 39) (tgt := 40) hF.1 hF.2.1 dX2_tellDriver_1 (by decide) (by decide) (by decide) (by decide) ?_
    refine lv_aload_n hF.1 hF.2.1 dX2_tellDriver_40 rfl (lv_at hl 0 rfl) ?_
    refine mg_10 hF hK hH q981 dX2_tellDriver_41 ?_
    refine lv_iconst (v := nI 3) hF.1 hF.2.1 dX2_tellDriver_44 (by decide) ?_
    refine lv_iload_n hF.1 hF.2.1 dX2_tellDriver_45 rfl (lv_at hl 1 rfl) ?_
    refine n_imul hF.1 hF.2.1 dX2_tellDriver_46 ?_
    refine lv_iload_n hF.1 hF.2.1 dX2_tellDriver_47 rfl (lv_at hl 2 rfl) ?_
    refine n_top c3 ?_
    refine n_iadd hF.1 hF.2.1 dX2_tellDriver_48 ?_
    refine m_ald hF hK hH 10 (n := 6) rfl rfl (by decide) rfl (f := a 10) rfl (i := (3 * dn) + 1) (by omega) (by decide) dX2_tellDriver_49 ?_
    exact hret _ _ _ dX2_tellDriver_50 (by unfold fX2_tellDriver; first | (rw [if_neg c2, if_pos c3]; done) | (simp only [if_neg c2, if_pos c3]))
  by_cases c4 : wh = nI 2
  · skip
    refine n_top (y := nI 2) c4 ?_
    refine lv_tableIn (off := 50) (tgt := 51) hF.1 hF.2.1 dX2_tellDriver_1 (by decide) (by decide) (by decide) (by decide) ?_
    refine lv_aload_n hF.1 hF.2.1 dX2_tellDriver_51 rfl (lv_at hl 0 rfl) ?_
    refine lv_aload_n hF.1 hF.2.1 dX2_tellDriver_52 rfl (lv_at hl 0 rfl) ?_
    refine mg_10 hF hK hH q981 dX2_tellDriver_53 ?_
    refine lv_iconst (v := nI 3) hF.1 hF.2.1 dX2_tellDriver_56 (by decide) ?_
    refine lv_iload_n hF.1 hF.2.1 dX2_tellDriver_57 rfl (lv_at hl 1 rfl) ?_
    refine n_imul hF.1 hF.2.1 dX2_tellDriver_58 ?_
    refine lv_iconst (v := nI 1) hF.1 hF.2.1 dX2_tellDriver_59 (by decide) ?_
    refine n_iadd hF.1 hF.2.1 dX2_tellDriver_60 ?_
    refine m_ald hF hK hH 10 (n := 6) rfl rfl (by decide) rfl (f := a 10) rfl (i := (3 * dn) + 1) (by omega) (by decide) dX2_tellDriver_61 ?_
    refine g_vPi (As := [.int (a 10 ((3 * dn) + 1))]) (rest := []) hF (kX2_gapsBy l ω g y a z kt hs (a 10 ((3 * dn) + 1)) hr) (lw_V q1248 q1250 qs74 q97 q1251) 1 hdX2_gapsBy rfl rfl ⟨Nat.le_of_ble_eq_true rfl, Nat.le_of_ble_eq_true rfl⟩ (m_preV hK hH) rfl hl.1 rfl (Nat.le_of_ble_eq_true rfl) dX2_tellDriver_62 ⟨Nat.zero_le _, Nat.zero_le _⟩ (fun r5 e_r5 => ?_)
    exact hret _ _ _ dX2_tellDriver_65 (by subst e_r5; unfold fX2_tellDriver; first | (rw [if_neg c2, if_neg c3, if_pos c4]; done) | (simp only [if_neg c2, if_neg c3, if_pos c4]))
  by_cases c6 : wh = nI 3
  · skip
    refine n_top (y := nI 3) c6 ?_
    refine lv_tableIn (off := 65) (tgt := 66) hF.1 hF.2.1 dX2_tellDriver_1 (by decide) (by decide) (by decide) (by decide) ?_
    refine lv_aload_n hF.1 hF.2.1 dX2_tellDriver_66 rfl (lv_at hl 0 rfl) ?_
    refine lv_iload_n hF.1 hF.2.1 dX2_tellDriver_67 rfl (lv_at hl 1 rfl) ?_
    refine g_vPi (As := [.int (nI dn)]) (rest := []) hF (kX2_learnNextOf l ω g y a z kt hs dn (by omega) hr) (lw_V q1260 q1262 qs77 q97 q1263) 1 hdX2_learnNextOf rfl rfl ⟨Nat.le_of_ble_eq_true rfl, Nat.le_of_ble_eq_true rfl⟩ (m_preV hK hH) rfl hl.1 rfl (Nat.le_of_ble_eq_true rfl) dX2_tellDriver_68 ⟨Nat.zero_le _, Nat.zero_le _⟩ (fun r7 e_r7 => ?_)
    exact hret _ _ _ dX2_tellDriver_71 (by subst e_r7; unfold fX2_tellDriver; first | (rw [if_neg c2, if_neg c3, if_neg c4, if_pos c6]; done) | (simp only [if_neg c2, if_neg c3, if_neg c4, if_pos c6]))
  by_cases c8 : wh = nI 4
  · skip
    refine n_top (y := nI 4) c8 ?_
    refine lv_tableIn (off := 71) (tgt := 72) hF.1 hF.2.1 dX2_tellDriver_1 (by decide) (by decide) (by decide) (by decide) ?_
    refine lv_aload_n hF.1 hF.2.1 dX2_tellDriver_72 rfl (lv_at hl 0 rfl) ?_
    refine mg_10 hF hK hH q981 dX2_tellDriver_73 ?_
    refine lv_iconst (v := nI 3) hF.1 hF.2.1 dX2_tellDriver_76 (by decide) ?_
    refine lv_iload_n hF.1 hF.2.1 dX2_tellDriver_77 rfl (lv_at hl 1 rfl) ?_
    refine n_imul hF.1 hF.2.1 dX2_tellDriver_78 ?_
    refine lv_iconst (v := nI 2) hF.1 hF.2.1 dX2_tellDriver_79 (by decide) ?_
    refine n_iadd hF.1 hF.2.1 dX2_tellDriver_80 ?_
    refine m_ald hF hK hH 10 (n := 6) rfl rfl (by decide) rfl (f := a 10) rfl (i := (3 * dn) + 2) (by omega) (by decide) dX2_tellDriver_81 ?_
    exact hret _ _ _ dX2_tellDriver_82 (by unfold fX2_tellDriver; first | (rw [if_neg c2, if_neg c3, if_neg c4, if_neg c6, if_pos c8]; done) | (simp only [if_neg c2, if_neg c3, if_neg c4, if_neg c6, if_pos c8]))
  by_cases c9 : wh = nI 5
  · skip
    refine n_top (y := nI 5) c9 ?_
    refine lv_tableIn (off := 82) (tgt := 83) hF.1 hF.2.1 dX2_tellDriver_1 (by decide) (by decide) (by decide) (by decide) ?_
    refine lv_aload_n hF.1 hF.2.1 dX2_tellDriver_83 rfl (lv_at hl 0 rfl) ?_
    refine lv_aload_n hF.1 hF.2.1 dX2_tellDriver_84 rfl (lv_at hl 0 rfl) ?_
    refine mg_10 hF hK hH q981 dX2_tellDriver_85 ?_
    refine lv_iconst (v := nI 3) hF.1 hF.2.1 dX2_tellDriver_88 (by decide) ?_
    refine lv_iload_n hF.1 hF.2.1 dX2_tellDriver_89 rfl (lv_at hl 1 rfl) ?_
    refine n_imul hF.1 hF.2.1 dX2_tellDriver_90 ?_
    refine m_ald hF hK hH 10 (n := 6) rfl rfl (by decide) rfl (f := a 10) rfl (i := 3 * dn) (by omega) (by decide) dX2_tellDriver_91 ?_
    refine lv_aload_n hF.1 hF.2.1 dX2_tellDriver_92 rfl (lv_at hl 0 rfl) ?_
    refine mg_10 hF hK hH q981 dX2_tellDriver_93 ?_
    refine lv_iconst (v := nI 3) hF.1 hF.2.1 dX2_tellDriver_96 (by decide) ?_
    refine lv_iload_n hF.1 hF.2.1 dX2_tellDriver_97 rfl (lv_at hl 1 rfl) ?_
    refine n_imul hF.1 hF.2.1 dX2_tellDriver_98 ?_
    refine lv_iconst (v := nI 1) hF.1 hF.2.1 dX2_tellDriver_99 (by decide) ?_
    refine n_iadd hF.1 hF.2.1 dX2_tellDriver_100 ?_
    refine m_ald hF hK hH 10 (n := 6) rfl rfl (by decide) rfl (f := a 10) rfl (i := (3 * dn) + 1) (by omega) (by decide) dX2_tellDriver_101 ?_
    refine g_vPi (As := [.int (a 10 (3 * dn)), .int (a 10 ((3 * dn) + 1))]) (rest := []) hF (kX2_reachOf l ω g y a z kt hs (a 10 (3 * dn)) (a 10 ((3 * dn) + 1)) hr) (lw_V q1256 q1258 qs76 q97 q1259) 2 hdX2_reachOf rfl rfl ⟨Nat.le_of_ble_eq_true rfl, Nat.le_of_ble_eq_true rfl⟩ (m_preV hK hH) rfl hl.1 rfl (Nat.le_of_ble_eq_true rfl) dX2_tellDriver_102 ⟨Nat.zero_le _, Nat.zero_le _⟩ (fun r10 e_r10 => ?_)
    exact hret _ _ _ dX2_tellDriver_105 (by subst e_r10; unfold fX2_tellDriver; first | (rw [if_neg c2, if_neg c3, if_neg c4, if_neg c6, if_neg c8, if_pos c9]; done) | (simp only [if_neg c2, if_neg c3, if_neg c4, if_neg c6, if_neg c8, if_pos c9]))
  have kd1 : W p l e rmX2_tellDriver s m args below meth c s.heap [] 0 0 QQ (F0 m 106 ls []) := by
    skip
    refine lv_bipush (v := (-102)) hF.1 hF.2.1 dX2_tellDriver_106 (by decide) ?_
    exact hret _ _ _ dX2_tellDriver_108 (by unfold fX2_tellDriver; first | (rw [if_neg c2, if_neg c3, if_neg c4, if_neg c6, if_neg c8, if_neg c9]; done) | (simp only [if_neg c2, if_neg c3, if_neg c4, if_neg c6, if_neg c8, if_neg c9]))
  by_cases hlo : wh.toInt < 0
  · exact lv_tableOut (tgt := 106) hF.1 hF.2.1 dX2_tellDriver_1 (Or.inl hlo) (by decide) kd1
  by_cases hhi : 5 < wh.toInt
  · exact lv_tableOut (tgt := 106) hF.1 hF.2.1 dX2_tellDriver_1 (Or.inr hhi) (by decide) kd1
  by_cases hv0 : wh.toInt = 0
  · exact absurd (Int32.toInt_inj.mp (hv0.trans (by decide)) : wh = nI 0) c2
  by_cases hv1 : wh.toInt = 1
  · exact absurd (Int32.toInt_inj.mp (hv1.trans (by decide)) : wh = nI 1) c3
  by_cases hv2 : wh.toInt = 2
  · exact absurd (Int32.toInt_inj.mp (hv2.trans (by decide)) : wh = nI 2) c4
  by_cases hv3 : wh.toInt = 3
  · exact absurd (Int32.toInt_inj.mp (hv3.trans (by decide)) : wh = nI 3) c6
  by_cases hv4 : wh.toInt = 4
  · exact absurd (Int32.toInt_inj.mp (hv4.trans (by decide)) : wh = nI 4) c8
  by_cases hv5 : wh.toInt = 5
  · exact absurd (Int32.toInt_inj.mp (hv5.trans (by decide)) : wh = nI 5) c9
  exfalso
  omega

def fX2_driver (g : Nat → Nat) (a : Nat → Nat → Int32) (dn : Int32) (wh : Int32) : Int32 := if (fX2_isDriver g dn) = 0 then (-101) else (fX2_tellDriver g a (toN dn) wh)
def rmX2_driver : Room := { frames := 5, cells := 0, slots := 0, locals := 125 }
theorem hdX2_driver : yX2_driver.cls = RX2 ∧ yX2_driver.cls ≠ "java/lang/invoke/MethodHandle" ∧ yX2_driver.cls ≠ "java/lang/invoke/VarHandle" ∧ (parseMethodDescriptor yX2_driver.desc).map (fun d => d.parameters.length) = some 2 := by decide +kernel
set_option maxHeartbeats 4000000 in
theorem kX2_driver (l : Launch) (ω : OM) (g : Nat → Nat) (y : Nat → Int32) (a z : Nat → Nat → Int32) (kt : Int32) (hs : Int64) (dn : Int32) (wh : Int32) (hr : mRows (g 4) (a 7)) : Met l yX2_driver (ws_ yX2_driver cX2_driver 3 (some .int)) rmX2_driver (va_Pc [.ref (ω.2.1 0 99), .int dn, .int wh] (fun U => mK ω U ∧ mH ω (g, y, a, z, kt, hs) U.heap)) (vp_Si (fun r => r = (fX2_driver g a dn wh))) 0 0 (fun _ => False) := by
  refine g_entPi (C := RX2) rfl (by decide) (Nat.le_of_ble_eq_true rfl) ?_
  intro p e s m args below meth c QQ ls hF hKH hl hret
  have hl : lv_has ls 3 [(0, .ref (ω.2.1 0 99)), (1, .int dn), (2, .int wh)] := hl
  obtain ⟨hK, hH⟩ := hKH
  have hn := hr.1
  refine lv_aload_n hF.1 hF.2.1 dX2_driver_0 rfl (lv_at hl 0 rfl) ?_
  refine lv_iload_n hF.1 hF.2.1 dX2_driver_1 rfl (lv_at hl 1 rfl) ?_
  refine g_vPi (As := [.int dn]) (rest := []) hF (kX2_isDriver l ω g y a z kt hs dn (by omega)) (lw_V q1240 q1242 qs72 q97 q1243) 1 hdX2_isDriver rfl rfl ⟨Nat.le_of_ble_eq_true rfl, Nat.le_of_ble_eq_true rfl⟩ (m_preV hK hH) rfl hl.1 rfl (Nat.le_of_ble_eq_true rfl) dX2_driver_2 ⟨Nat.zero_le _, Nat.zero_le _⟩ (fun r1 e_r1 => ?_)
  refine lv_if_eq (tgt := 17) hF.1 hF.2.1 dX2_driver_5 (by decide) (fun c2 => ?_) (fun c2 => ?_)
  · skip
    refine lv_bipush (v := (-101)) hF.1 hF.2.1 dX2_driver_17 (by decide) ?_
    exact hret _ _ _ dX2_driver_19 (by subst e_r1; unfold fX2_driver; first | (rw [if_pos c2]; done) | (simp only [if_pos c2]))
  · skip
    obtain ⟨b3e, b3l⟩ := g_lift (r := dn) (n := 2) (isDriver_lift (by rw [← e_r1]; exact c2)) (by omega)
    refine lv_aload_n hF.1 hF.2.1 dX2_driver_8 rfl (lv_at hl 0 rfl) ?_
    refine lv_iload_n hF.1 hF.2.1 dX2_driver_9 rfl (lv_at hl 1 rfl) ?_
    refine n_top b3e ?_
    refine lv_iload_n hF.1 hF.2.1 dX2_driver_10 rfl (lv_at hl 2 rfl) ?_
    refine g_vPi (As := [.int (nI (toN dn)), .int wh]) (rest := []) hF (kX2_tellDriver l ω g y a z kt hs (toN dn) wh (by omega) hr) (lw_V q1244 q1246 qs73 q97 q1247) 2 hdX2_tellDriver rfl rfl ⟨Nat.le_of_ble_eq_true rfl, Nat.le_of_ble_eq_true rfl⟩ (m_preV hK hH) rfl hl.1 rfl (Nat.le_of_ble_eq_true rfl) dX2_driver_11 ⟨Nat.zero_le _, Nat.zero_le _⟩ (fun r4 e_r4 => ?_)
    refine lv_goto (tgt := 19) hF.1 hF.2.1 dX2_driver_14 (by decide) ?_
    exact hret _ _ _ dX2_driver_19 (by subst e_r4; subst e_r1; unfold fX2_driver; first | (rw [if_neg c2]; done) | (simp only [if_neg c2]))

def fX2_learn (g : Nat → Nat) (a : Nat → Nat → Int32) (dn : Int32) (sn : Int32) : Int32 × (Nat → Int32) := if (fX2_isDriver g dn) = 0 then ((-101), a 10) else if (fX2_isStreet g sn) = 0 then ((-101), a 10) else if (fX2_knows a (toN dn) sn) = 0 then ((fX2_ones ((upd (a 10) ((3 * (toN dn)) + 1) ((a 10 ((3 * (toN dn)) + 1)) ||| ((nI 1) <<< (sn &&& 31)))) ((3 * (toN dn)) + 1))), upd (a 10) ((3 * (toN dn)) + 1) ((a 10 ((3 * (toN dn)) + 1)) ||| ((nI 1) <<< (sn &&& 31)))) else ((-103), a 10)
def rmX2_learn : Room := { frames := 3, cells := 0, slots := 0, locals := 70 }
theorem hdX2_learn : yX2_learn.cls = RX2 ∧ yX2_learn.cls ≠ "java/lang/invoke/MethodHandle" ∧ yX2_learn.cls ≠ "java/lang/invoke/VarHandle" ∧ (parseMethodDescriptor yX2_learn.desc).map (fun d => d.parameters.length) = some 2 := by decide +kernel
set_option maxHeartbeats 4000000 in
theorem kX2_learn (l : Launch) (ω : OM) (g : Nat → Nat) (y : Nat → Int32) (a z : Nat → Nat → Int32) (kt : Int32) (hs : Int64) (dn : Int32) (sn : Int32) (hn9 : g 4 ≤ 9) : Met l yX2_learn (ws_ yX2_learn cX2_learn 3 (some .int)) rmX2_learn (va_Pc [.ref (ω.2.1 0 99), .int dn, .int sn] (fun U => mK ω U ∧ mH ω (g, y, a, z, kt, hs) U.heap)) (va_Qi (fun (r : Int32) (u : MS) => ∃ (o0 : Nat → Int32), (r, o0) = (fX2_learn g a dn sn) ∧ u = (g, y, va_up a 10 o0, z, kt, hs)) (fun u t => mH ω u t.heap) ω.2.2.1) 0 0 ω.2.2.1 := by
  refine g_entWi (C := RX2) rfl (by decide) (Nat.le_of_ble_eq_true rfl) ?_
  intro p e s m args below meth c QQ ls H locs hF hK hH hS hl hret
  have hl : lv_has ls 3 [(0, .ref (ω.2.1 0 99)), (1, .int dn), (2, .int sn)] := hl
  refine lv_aload_n hF.1 hF.2.1 dX2_learn_0 rfl (lv_at hl 0 rfl) ?_
  refine lv_iload_n hF.1 hF.2.1 dX2_learn_1 rfl (lv_at hl 1 rfl) ?_
  refine g_vPi (As := [.int dn]) (rest := []) hF (kX2_isDriver l ω g y a z kt hs dn (by omega)) (lw_V q1240 q1242 qs72 q97 q1243) 1 hdX2_isDriver rfl rfl ⟨Nat.le_of_ble_eq_true rfl, Nat.le_of_ble_eq_true rfl⟩ (m_preV hK hH) rfl hl.1 rfl (Nat.le_of_ble_eq_true rfl) dX2_learn_2 ⟨Nat.zero_le _, Nat.zero_le _⟩ (fun r1 e_r1 => ?_)
  refine lv_if_eq (tgt := 16) hF.1 hF.2.1 dX2_learn_5 (by decide) (fun c2 => ?_) (fun c2 => ?_)
  · skip
    refine lv_bipush (v := (-101)) hF.1 hF.2.1 dX2_learn_16 (by decide) ?_
    have hH : mH ω (g, y, va_up a 10 (a 10), z, kt, hs) H := m_ext (fun _ => rfl) (fun _ => rfl) (by intro k; by_cases h0 : k = 10; (subst h0; simp [va_up]); simp only [va_up, if_neg h0]) (fun _ => rfl) hH
    exact hret _ _ _ _ _ _ dX2_learn_18 ⟨_, by subst e_r1; unfold fX2_learn; first | (rw [if_pos c2]; done) | (simp only [if_pos c2]), rfl⟩ hH hS
  · skip
    refine lv_aload_n hF.1 hF.2.1 dX2_learn_8 rfl (lv_at hl 0 rfl) ?_
    refine lv_iload_n hF.1 hF.2.1 dX2_learn_9 rfl (lv_at hl 2 rfl) ?_
    refine g_vPi (As := [.int sn]) (rest := []) hF (kX2_isStreet l ω g y a z kt hs sn) (lw_V q1201 q1203 qs68 q97 q1204) 1 hdX2_isStreet rfl rfl ⟨Nat.le_of_ble_eq_true rfl, Nat.le_of_ble_eq_true rfl⟩ (m_preV hK hH) rfl hl.1 rfl (Nat.le_of_ble_eq_true rfl) dX2_learn_10 ⟨Nat.zero_le _, Nat.zero_le _⟩ (fun r3 e_r3 => ?_)
    refine lv_if_ne (tgt := 19) hF.1 hF.2.1 dX2_learn_13 (by decide) (fun c4 => ?_) (fun c4 => ?_)
    · skip
      obtain ⟨b5e, b5l⟩ := g_lift (r := dn) (n := 2) (isDriver_lift (by rw [← e_r1]; exact c2)) (by omega)
      refine lv_aload_n hF.1 hF.2.1 dX2_learn_19 rfl (lv_at hl 0 rfl) ?_
      refine lv_iload_n hF.1 hF.2.1 dX2_learn_20 rfl (lv_at hl 1 rfl) ?_
      refine n_top b5e ?_
      refine lv_iload_n hF.1 hF.2.1 dX2_learn_21 rfl (lv_at hl 2 rfl) ?_
      refine g_vPi (As := [.int (nI (toN dn)), .int sn]) (rest := []) hF (kX2_knows l ω g y a z kt hs (toN dn) sn (by omega)) (lw_V q1268 q1270 qs78 q97 q1271) 2 hdX2_knows rfl rfl ⟨Nat.le_of_ble_eq_true rfl, Nat.le_of_ble_eq_true rfl⟩ (m_preV hK hH) rfl hl.1 rfl (Nat.le_of_ble_eq_true rfl) dX2_learn_22 ⟨Nat.zero_le _, Nat.zero_le _⟩ (fun r6 e_r6 => ?_)
      refine lv_if_eq (tgt := 31) hF.1 hF.2.1 dX2_learn_25 (by decide) (fun c7 => ?_) (fun c7 => ?_)
      · skip
        refine lv_aload_n hF.1 hF.2.1 dX2_learn_31 rfl (lv_at hl 0 rfl) ?_
        refine mg_10 hF hK hH q981 dX2_learn_32 ?_
        refine lv_iconst (v := nI 3) hF.1 hF.2.1 dX2_learn_35 (by decide) ?_
        refine lv_iload_n hF.1 hF.2.1 dX2_learn_36 rfl (lv_at hl 1 rfl) ?_
        refine n_top b5e ?_
        refine n_imul hF.1 hF.2.1 dX2_learn_37 ?_
        refine lv_iconst (v := nI 1) hF.1 hF.2.1 dX2_learn_38 (by decide) ?_
        refine n_iadd hF.1 hF.2.1 dX2_learn_39 ?_
        refine lv_dup2_11 hF.1 hF.2.1 dX2_learn_40 rfl rfl ?_
        refine m_ald hF hK hH 10 (n := 6) rfl rfl (by decide) rfl (f := a 10) rfl (i := (3 * (toN dn)) + 1) (by omega) (by decide) dX2_learn_41 ?_
        refine lv_iconst (v := nI 1) hF.1 hF.2.1 dX2_learn_42 (by decide) ?_
        refine lv_iload_n hF.1 hF.2.1 dX2_learn_43 rfl (lv_at hl 2 rfl) ?_
        refine lv_ishl hF.1 hF.2.1 dX2_learn_44 ?_
        refine lv_ior hF.1 hF.2.1 dX2_learn_45 ?_
        refine m_ast (a' := va_up a 10 (upd (a 10) ((3 * (toN dn)) + 1) ((a 10 ((3 * (toN dn)) + 1)) ||| ((nI 1) <<< (sn &&& 31))))) hF hK hH hS 10 (n := 6) rfl rfl (by decide) rfl (f := a 10) rfl (i := (3 * (toN dn)) + 1) (by omega) (by decide) dX2_learn_46 rfl (by intro j hj; simp only [va_up, if_neg hj]) (fun H locs hH hS => ?_)
        refine lv_aload_n hF.1 hF.2.1 dX2_learn_47 rfl (lv_at hl 0 rfl) ?_
        refine mg_10 hF hK hH q981 dX2_learn_48 ?_
        refine lv_iconst (v := nI 3) hF.1 hF.2.1 dX2_learn_51 (by decide) ?_
        refine lv_iload_n hF.1 hF.2.1 dX2_learn_52 rfl (lv_at hl 1 rfl) ?_
        refine n_top b5e ?_
        refine n_imul hF.1 hF.2.1 dX2_learn_53 ?_
        refine lv_iconst (v := nI 1) hF.1 hF.2.1 dX2_learn_54 (by decide) ?_
        refine n_iadd hF.1 hF.2.1 dX2_learn_55 ?_
        refine m_ald hF hK hH 10 (n := 6) rfl rfl (by decide) rfl (f := upd (a 10) ((3 * (toN dn)) + 1) ((a 10 ((3 * (toN dn)) + 1)) ||| ((nI 1) <<< (sn &&& 31)))) rfl (i := (3 * (toN dn)) + 1) (by omega) (by decide) dX2_learn_56 ?_
        refine g_sPi (As := [.int ((upd (a 10) ((3 * (toN dn)) + 1) ((a 10 ((3 * (toN dn)) + 1)) ||| ((nI 1) <<< (sn &&& 31)))) ((3 * (toN dn)) + 1))]) (rest := []) hF (kX2_ones l ((upd (a 10) ((3 * (toN dn)) + 1) ((a 10 ((3 * (toN dn)) + 1)) ||| ((nI 1) <<< (sn &&& 31)))) ((3 * (toN dn)) + 1))) (lw_S q1272 q1273 q97 q1274) 1 hdX2_ones.2 rfl rfl ⟨Nat.le_of_ble_eq_true rfl, Nat.le_of_ble_eq_true rfl⟩ g_pre0 rfl hl.1 rfl (Nat.le_of_ble_eq_true rfl) dX2_learn_57 ⟨Nat.zero_le _, Nat.zero_le _⟩ (fun r8 e_r8 => ?_)
        exact hret _ _ _ _ _ _ dX2_learn_60 ⟨_, by subst e_r8; subst e_r6; subst e_r3; subst e_r1; unfold fX2_learn; first | (rw [if_neg c2, if_neg c4, if_pos c7]; done) | (simp only [if_neg c2, if_neg c4, if_pos c7]), rfl⟩ hH hS
      · skip
        refine lv_bipush (v := (-103)) hF.1 hF.2.1 dX2_learn_28 (by decide) ?_
        have hH : mH ω (g, y, va_up a 10 (a 10), z, kt, hs) H := m_ext (fun _ => rfl) (fun _ => rfl) (by intro k; by_cases h0 : k = 10; (subst h0; simp [va_up]); simp only [va_up, if_neg h0]) (fun _ => rfl) hH
        exact hret _ _ _ _ _ _ dX2_learn_30 ⟨_, by subst e_r6; subst e_r3; subst e_r1; unfold fX2_learn; first | (rw [if_neg c2, if_neg c4, if_neg c7]; done) | (simp only [if_neg c2, if_neg c4, if_neg c7]), rfl⟩ hH hS
    · skip
      refine lv_bipush (v := (-101)) hF.1 hF.2.1 dX2_learn_16 (by decide) ?_
      have hH : mH ω (g, y, va_up a 10 (a 10), z, kt, hs) H := m_ext (fun _ => rfl) (fun _ => rfl) (by intro k; by_cases h0 : k = 10; (subst h0; simp [va_up]); simp only [va_up, if_neg h0]) (fun _ => rfl) hH
      exact hret _ _ _ _ _ _ dX2_learn_18 ⟨_, by subst e_r3; subst e_r1; unfold fX2_learn; first | (rw [if_neg c2, if_pos c4]; done) | (simp only [if_neg c2, if_pos c4]), rfl⟩ hH hS

def fX2_lose (g : Nat → Nat) (a : Nat → Nat → Int32) (dn : Int32) (sn : Int32) : Int32 × (Nat → Int32) := if (fX2_isDriver g dn) = 0 then ((-101), a 10) else if (fX2_isStreet g sn) = 0 then ((-101), a 10) else if (fX2_knows a (toN dn) sn) = 0 then ((-103), a 10) else ((fX2_ones ((upd (a 10) ((3 * (toN dn)) + 1) ((a 10 ((3 * (toN dn)) + 1)) - ((nI 1) <<< (sn &&& 31)))) ((3 * (toN dn)) + 1))), upd (a 10) ((3 * (toN dn)) + 1) ((a 10 ((3 * (toN dn)) + 1)) - ((nI 1) <<< (sn &&& 31))))
def rmX2_lose : Room := { frames := 3, cells := 0, slots := 0, locals := 70 }
theorem hdX2_lose : yX2_lose.cls = RX2 ∧ yX2_lose.cls ≠ "java/lang/invoke/MethodHandle" ∧ yX2_lose.cls ≠ "java/lang/invoke/VarHandle" ∧ (parseMethodDescriptor yX2_lose.desc).map (fun d => d.parameters.length) = some 2 := by decide +kernel
set_option maxHeartbeats 4000000 in
theorem kX2_lose (l : Launch) (ω : OM) (g : Nat → Nat) (y : Nat → Int32) (a z : Nat → Nat → Int32) (kt : Int32) (hs : Int64) (dn : Int32) (sn : Int32) (hn9 : g 4 ≤ 9) : Met l yX2_lose (ws_ yX2_lose cX2_lose 3 (some .int)) rmX2_lose (va_Pc [.ref (ω.2.1 0 99), .int dn, .int sn] (fun U => mK ω U ∧ mH ω (g, y, a, z, kt, hs) U.heap)) (va_Qi (fun (r : Int32) (u : MS) => ∃ (o0 : Nat → Int32), (r, o0) = (fX2_lose g a dn sn) ∧ u = (g, y, va_up a 10 o0, z, kt, hs)) (fun u t => mH ω u t.heap) ω.2.2.1) 0 0 ω.2.2.1 := by
  refine g_entWi (C := RX2) rfl (by decide) (Nat.le_of_ble_eq_true rfl) ?_
  intro p e s m args below meth c QQ ls H locs hF hK hH hS hl hret
  have hl : lv_has ls 3 [(0, .ref (ω.2.1 0 99)), (1, .int dn), (2, .int sn)] := hl
  refine lv_aload_n hF.1 hF.2.1 dX2_lose_0 rfl (lv_at hl 0 rfl) ?_
  refine lv_iload_n hF.1 hF.2.1 dX2_lose_1 rfl (lv_at hl 1 rfl) ?_
  refine g_vPi (As := [.int dn]) (rest := []) hF (kX2_isDriver l ω g y a z kt hs dn (by omega)) (lw_V q1240 q1242 qs72 q97 q1243) 1 hdX2_isDriver rfl rfl ⟨Nat.le_of_ble_eq_true rfl, Nat.le_of_ble_eq_true rfl⟩ (m_preV hK hH) rfl hl.1 rfl (Nat.le_of_ble_eq_true rfl) dX2_lose_2 ⟨Nat.zero_le _, Nat.zero_le _⟩ (fun r1 e_r1 => ?_)
  refine lv_if_eq (tgt := 16) hF.1 hF.2.1 dX2_lose_5 (by decide) (fun c2 => ?_) (fun c2 => ?_)
  · skip
    refine lv_bipush (v := (-101)) hF.1 hF.2.1 dX2_lose_16 (by decide) ?_
    have hH : mH ω (g, y, va_up a 10 (a 10), z, kt, hs) H := m_ext (fun _ => rfl) (fun _ => rfl) (by intro k; by_cases h0 : k = 10; (subst h0; simp [va_up]); simp only [va_up, if_neg h0]) (fun _ => rfl) hH
    exact hret _ _ _ _ _ _ dX2_lose_18 ⟨_, by subst e_r1; unfold fX2_lose; first | (rw [if_pos c2]; done) | (simp only [if_pos c2]), rfl⟩ hH hS
  · skip
    refine lv_aload_n hF.1 hF.2.1 dX2_lose_8 rfl (lv_at hl 0 rfl) ?_
    refine lv_iload_n hF.1 hF.2.1 dX2_lose_9 rfl (lv_at hl 2 rfl) ?_
    refine g_vPi (As := [.int sn]) (rest := []) hF (kX2_isStreet l ω g y a z kt hs sn) (lw_V q1201 q1203 qs68 q97 q1204) 1 hdX2_isStreet rfl rfl ⟨Nat.le_of_ble_eq_true rfl, Nat.le_of_ble_eq_true rfl⟩ (m_preV hK hH) rfl hl.1 rfl (Nat.le_of_ble_eq_true rfl) dX2_lose_10 ⟨Nat.zero_le _, Nat.zero_le _⟩ (fun r3 e_r3 => ?_)
    refine lv_if_ne (tgt := 19) hF.1 hF.2.1 dX2_lose_13 (by decide) (fun c4 => ?_) (fun c4 => ?_)
    · skip
      obtain ⟨b5e, b5l⟩ := g_lift (r := dn) (n := 2) (isDriver_lift (by rw [← e_r1]; exact c2)) (by omega)
      refine lv_aload_n hF.1 hF.2.1 dX2_lose_19 rfl (lv_at hl 0 rfl) ?_
      refine lv_iload_n hF.1 hF.2.1 dX2_lose_20 rfl (lv_at hl 1 rfl) ?_
      refine n_top b5e ?_
      refine lv_iload_n hF.1 hF.2.1 dX2_lose_21 rfl (lv_at hl 2 rfl) ?_
      refine g_vPi (As := [.int (nI (toN dn)), .int sn]) (rest := []) hF (kX2_knows l ω g y a z kt hs (toN dn) sn (by omega)) (lw_V q1268 q1270 qs78 q97 q1271) 2 hdX2_knows rfl rfl ⟨Nat.le_of_ble_eq_true rfl, Nat.le_of_ble_eq_true rfl⟩ (m_preV hK hH) rfl hl.1 rfl (Nat.le_of_ble_eq_true rfl) dX2_lose_22 ⟨Nat.zero_le _, Nat.zero_le _⟩ (fun r6 e_r6 => ?_)
      refine lv_if_ne (tgt := 31) hF.1 hF.2.1 dX2_lose_25 (by decide) (fun c7 => ?_) (fun c7 => ?_)
      · skip
        refine lv_aload_n hF.1 hF.2.1 dX2_lose_31 rfl (lv_at hl 0 rfl) ?_
        refine mg_10 hF hK hH q981 dX2_lose_32 ?_
        refine lv_iconst (v := nI 3) hF.1 hF.2.1 dX2_lose_35 (by decide) ?_
        refine lv_iload_n hF.1 hF.2.1 dX2_lose_36 rfl (lv_at hl 1 rfl) ?_
        refine n_top b5e ?_
        refine n_imul hF.1 hF.2.1 dX2_lose_37 ?_
        refine lv_iconst (v := nI 1) hF.1 hF.2.1 dX2_lose_38 (by decide) ?_
        refine n_iadd hF.1 hF.2.1 dX2_lose_39 ?_
        refine lv_dup2_11 hF.1 hF.2.1 dX2_lose_40 rfl rfl ?_
        refine m_ald hF hK hH 10 (n := 6) rfl rfl (by decide) rfl (f := a 10) rfl (i := (3 * (toN dn)) + 1) (by omega) (by decide) dX2_lose_41 ?_
        refine lv_iconst (v := nI 1) hF.1 hF.2.1 dX2_lose_42 (by decide) ?_
        refine lv_iload_n hF.1 hF.2.1 dX2_lose_43 rfl (lv_at hl 2 rfl) ?_
        refine lv_ishl hF.1 hF.2.1 dX2_lose_44 ?_
        refine lv_isub hF.1 hF.2.1 dX2_lose_45 ?_
        refine m_ast (a' := va_up a 10 (upd (a 10) ((3 * (toN dn)) + 1) ((a 10 ((3 * (toN dn)) + 1)) - ((nI 1) <<< (sn &&& 31))))) hF hK hH hS 10 (n := 6) rfl rfl (by decide) rfl (f := a 10) rfl (i := (3 * (toN dn)) + 1) (by omega) (by decide) dX2_lose_46 rfl (by intro j hj; simp only [va_up, if_neg hj]) (fun H locs hH hS => ?_)
        refine lv_aload_n hF.1 hF.2.1 dX2_lose_47 rfl (lv_at hl 0 rfl) ?_
        refine mg_10 hF hK hH q981 dX2_lose_48 ?_
        refine lv_iconst (v := nI 3) hF.1 hF.2.1 dX2_lose_51 (by decide) ?_
        refine lv_iload_n hF.1 hF.2.1 dX2_lose_52 rfl (lv_at hl 1 rfl) ?_
        refine n_top b5e ?_
        refine n_imul hF.1 hF.2.1 dX2_lose_53 ?_
        refine lv_iconst (v := nI 1) hF.1 hF.2.1 dX2_lose_54 (by decide) ?_
        refine n_iadd hF.1 hF.2.1 dX2_lose_55 ?_
        refine m_ald hF hK hH 10 (n := 6) rfl rfl (by decide) rfl (f := upd (a 10) ((3 * (toN dn)) + 1) ((a 10 ((3 * (toN dn)) + 1)) - ((nI 1) <<< (sn &&& 31)))) rfl (i := (3 * (toN dn)) + 1) (by omega) (by decide) dX2_lose_56 ?_
        refine g_sPi (As := [.int ((upd (a 10) ((3 * (toN dn)) + 1) ((a 10 ((3 * (toN dn)) + 1)) - ((nI 1) <<< (sn &&& 31)))) ((3 * (toN dn)) + 1))]) (rest := []) hF (kX2_ones l ((upd (a 10) ((3 * (toN dn)) + 1) ((a 10 ((3 * (toN dn)) + 1)) - ((nI 1) <<< (sn &&& 31)))) ((3 * (toN dn)) + 1))) (lw_S q1272 q1273 q97 q1274) 1 hdX2_ones.2 rfl rfl ⟨Nat.le_of_ble_eq_true rfl, Nat.le_of_ble_eq_true rfl⟩ g_pre0 rfl hl.1 rfl (Nat.le_of_ble_eq_true rfl) dX2_lose_57 ⟨Nat.zero_le _, Nat.zero_le _⟩ (fun r8 e_r8 => ?_)
        exact hret _ _ _ _ _ _ dX2_lose_60 ⟨_, by subst e_r8; subst e_r6; subst e_r3; subst e_r1; unfold fX2_lose; first | (rw [if_neg c2, if_neg c4, if_neg c7]; done) | (simp only [if_neg c2, if_neg c4, if_neg c7]), rfl⟩ hH hS
      · skip
        refine lv_bipush (v := (-103)) hF.1 hF.2.1 dX2_lose_28 (by decide) ?_
        have hH : mH ω (g, y, va_up a 10 (a 10), z, kt, hs) H := m_ext (fun _ => rfl) (fun _ => rfl) (by intro k; by_cases h0 : k = 10; (subst h0; simp [va_up]); simp only [va_up, if_neg h0]) (fun _ => rfl) hH
        exact hret _ _ _ _ _ _ dX2_lose_30 ⟨_, by subst e_r6; subst e_r3; subst e_r1; unfold fX2_lose; first | (rw [if_neg c2, if_neg c4, if_pos c7]; done) | (simp only [if_neg c2, if_neg c4, if_pos c7]), rfl⟩ hH hS
    · skip
      refine lv_bipush (v := (-101)) hF.1 hF.2.1 dX2_lose_16 (by decide) ?_
      have hH : mH ω (g, y, va_up a 10 (a 10), z, kt, hs) H := m_ext (fun _ => rfl) (fun _ => rfl) (by intro k; by_cases h0 : k = 10; (subst h0; simp [va_up]); simp only [va_up, if_neg h0]) (fun _ => rfl) hH
      exact hret _ _ _ _ _ _ dX2_lose_18 ⟨_, by subst e_r3; subst e_r1; unfold fX2_lose; first | (rw [if_neg c2, if_pos c4]; done) | (simp only [if_neg c2, if_pos c4]), rfl⟩ hH hS

def fX2_stand (g : Nat → Nat) (a : Nat → Nat → Int32) (dn : Int32) (cn : Int32) : Int32 × (Nat → Int32) := if (fX2_isDriver g dn) = 0 then ((-101), a 10) else if (fX2_isCorner cn) = 0 then ((-101), a 10) else (a 10 (3 * (toN dn)), upd (a 10) (3 * (toN dn)) cn)
def rmX2_stand : Room := { frames := 3, cells := 0, slots := 0, locals := 70 }
theorem hdX2_stand : yX2_stand.cls = RX2 ∧ yX2_stand.cls ≠ "java/lang/invoke/MethodHandle" ∧ yX2_stand.cls ≠ "java/lang/invoke/VarHandle" ∧ (parseMethodDescriptor yX2_stand.desc).map (fun d => d.parameters.length) = some 2 := by decide +kernel
set_option maxHeartbeats 4000000 in
theorem kX2_stand (l : Launch) (ω : OM) (g : Nat → Nat) (y : Nat → Int32) (a z : Nat → Nat → Int32) (kt : Int32) (hs : Int64) (dn : Int32) (cn : Int32) (hn9 : g 4 ≤ 9) : Met l yX2_stand (ws_ yX2_stand cX2_stand 4 (some .int)) rmX2_stand (va_Pc [.ref (ω.2.1 0 99), .int dn, .int cn] (fun U => mK ω U ∧ mH ω (g, y, a, z, kt, hs) U.heap)) (va_Qi (fun (r : Int32) (u : MS) => ∃ (o0 : Nat → Int32), (r, o0) = (fX2_stand g a dn cn) ∧ u = (g, y, va_up a 10 o0, z, kt, hs)) (fun u t => mH ω u t.heap) ω.2.2.1) 0 0 ω.2.2.1 := by
  refine g_entWi (C := RX2) rfl (by decide) (Nat.le_of_ble_eq_true rfl) ?_
  intro p e s m args below meth c QQ ls H locs hF hK hH hS hl hret
  have hl : lv_has ls 4 [(0, .ref (ω.2.1 0 99)), (1, .int dn), (2, .int cn)] := hl
  refine lv_aload_n hF.1 hF.2.1 dX2_stand_0 rfl (lv_at hl 0 rfl) ?_
  refine lv_iload_n hF.1 hF.2.1 dX2_stand_1 rfl (lv_at hl 1 rfl) ?_
  refine g_vPi (As := [.int dn]) (rest := []) hF (kX2_isDriver l ω g y a z kt hs dn (by omega)) (lw_V q1240 q1242 qs72 q97 q1243) 1 hdX2_isDriver rfl rfl ⟨Nat.le_of_ble_eq_true rfl, Nat.le_of_ble_eq_true rfl⟩ (m_preV hK hH) rfl hl.1 rfl (Nat.le_of_ble_eq_true rfl) dX2_stand_2 ⟨Nat.zero_le _, Nat.zero_le _⟩ (fun r1 e_r1 => ?_)
  refine lv_if_eq (tgt := 15) hF.1 hF.2.1 dX2_stand_5 (by decide) (fun c2 => ?_) (fun c2 => ?_)
  · skip
    refine lv_bipush (v := (-101)) hF.1 hF.2.1 dX2_stand_15 (by decide) ?_
    have hH : mH ω (g, y, va_up a 10 (a 10), z, kt, hs) H := m_ext (fun _ => rfl) (fun _ => rfl) (by intro k; by_cases h0 : k = 10; (subst h0; simp [va_up]); simp only [va_up, if_neg h0]) (fun _ => rfl) hH
    exact hret _ _ _ _ _ _ dX2_stand_17 ⟨_, by subst e_r1; unfold fX2_stand; first | (rw [if_pos c2]; done) | (simp only [if_pos c2]), rfl⟩ hH hS
  · skip
    refine lv_iload_n hF.1 hF.2.1 dX2_stand_8 rfl (lv_at hl 2 rfl) ?_
    refine g_sPi (As := [.int cn]) (rest := []) hF (kX2_isCorner l cn) (lw_S q1107 q1108 q97 q1109) 1 hdX2_isCorner.2 rfl rfl ⟨Nat.le_of_ble_eq_true rfl, Nat.le_of_ble_eq_true rfl⟩ g_pre0 rfl hl.1 rfl (Nat.le_of_ble_eq_true rfl) dX2_stand_9 ⟨Nat.zero_le _, Nat.zero_le _⟩ (fun r3 e_r3 => ?_)
    refine lv_if_ne (tgt := 18) hF.1 hF.2.1 dX2_stand_12 (by decide) (fun c4 => ?_) (fun c4 => ?_)
    · skip
      obtain ⟨b5e, b5l⟩ := g_lift (r := dn) (n := 2) (isDriver_lift (by rw [← e_r1]; exact c2)) (by omega)
      refine lv_aload_n hF.1 hF.2.1 dX2_stand_18 rfl (lv_at hl 0 rfl) ?_
      refine mg_10 hF hK hH q981 dX2_stand_19 ?_
      refine lv_iconst (v := nI 3) hF.1 hF.2.1 dX2_stand_22 (by decide) ?_
      refine lv_iload_n hF.1 hF.2.1 dX2_stand_23 rfl (lv_at hl 1 rfl) ?_
      refine n_top b5e ?_
      refine n_imul hF.1 hF.2.1 dX2_stand_24 ?_
      refine m_ald hF hK hH 10 (n := 6) rfl rfl (by decide) rfl (f := a 10) rfl (i := 3 * (toN dn)) (by omega) (by decide) dX2_stand_25 ?_
      refine lv_istore_n (lv' := [(3, .int (a 10 (3 * (toN dn)))), (0, .ref (ω.2.1 0 99)), (1, .int dn), (2, .int cn)]) hF.1 hF.2.1 dX2_stand_26 rfl hl (by decide) rfl (fun ls hl => ?_)
      refine lv_aload_n hF.1 hF.2.1 dX2_stand_27 rfl (lv_at hl 1 rfl) ?_
      refine mg_10 hF hK hH q981 dX2_stand_28 ?_
      refine lv_iconst (v := nI 3) hF.1 hF.2.1 dX2_stand_31 (by decide) ?_
      refine lv_iload_n hF.1 hF.2.1 dX2_stand_32 rfl (lv_at hl 2 rfl) ?_
      refine n_top b5e ?_
      refine n_imul hF.1 hF.2.1 dX2_stand_33 ?_
      refine lv_iload_n hF.1 hF.2.1 dX2_stand_34 rfl (lv_at hl 3 rfl) ?_
      refine m_ast (a' := va_up a 10 (upd (a 10) (3 * (toN dn)) cn)) hF hK hH hS 10 (n := 6) rfl rfl (by decide) rfl (f := a 10) rfl (i := 3 * (toN dn)) (by omega) (by decide) dX2_stand_35 rfl (by intro j hj; simp only [va_up, if_neg hj]) (fun H locs hH hS => ?_)
      refine lv_iload_n hF.1 hF.2.1 dX2_stand_36 rfl (lv_at hl 0 rfl) ?_
      exact hret _ _ _ _ _ _ dX2_stand_37 ⟨_, by subst e_r3; subst e_r1; unfold fX2_stand; first | (rw [if_neg c2, if_neg c4]; done) | (simp only [if_neg c2, if_neg c4]), rfl⟩ hH hS
    · skip
      refine lv_bipush (v := (-101)) hF.1 hF.2.1 dX2_stand_15 (by decide) ?_
      have hH : mH ω (g, y, va_up a 10 (a 10), z, kt, hs) H := m_ext (fun _ => rfl) (fun _ => rfl) (by intro k; by_cases h0 : k = 10; (subst h0; simp [va_up]); simp only [va_up, if_neg h0]) (fun _ => rfl) hH
      exact hret _ _ _ _ _ _ dX2_stand_17 ⟨_, by subst e_r3; subst e_r1; unfold fX2_stand; first | (rw [if_neg c2, if_pos c4]; done) | (simp only [if_neg c2, if_pos c4]), rfl⟩ hH hS

