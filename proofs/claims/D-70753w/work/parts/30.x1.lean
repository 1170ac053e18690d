/-! CLASS: leaves, the list, streets -/
set_option maxRecDepth 100000
def fX0_in (v : Int32) (lo : Int32) (hi : Int32) : Int32 := if v < lo then nI 0 else if hi < v then nI 0 else nI 1
theorem fX0_in_b (v : Int32) (lo : Int32) (hi : Int32) : (fX0_in v lo hi) = 0 ∨ (fX0_in v lo hi) = 1 := by
  unfold fX0_in
  exact (g_ite (Or.inl nI_0) (g_ite (Or.inl nI_0) (Or.inr rfl)))
def rmX0_in : Room := { frames := 1, cells := 0, slots := 0, locals := 24 }
theorem hdX0_in : yX0_in.cls = RX0 ∧ yX0_in.cls ≠ "java/lang/invoke/MethodHandle" ∧ yX0_in.cls ≠ "java/lang/invoke/VarHandle" ∧ (parseMethodDescriptor yX0_in.desc).map (fun d => d.parameters.length) = some 3 := by decide +kernel
set_option maxHeartbeats 4000000 in
theorem kX0_in (l : Launch) (v : Int32) (lo : Int32) (hi : Int32) : Met l yX0_in (ws_ yX0_in cX0_in 3 (some .boolean)) rmX0_in (va_Pc [.int v, .int lo, .int hi] (fun _ => True)) (vp_Si (fun r => r = (fX0_in v lo hi))) 0 0 (fun _ => False) := by
  refine g_entPz (C := RX0) rfl (by decide) (Nat.le_of_ble_eq_true rfl) ?_
  intro p e s m args below meth c QQ ls hF hKH hl hret
  have hl : lv_has ls 3 [(0, .int v), (1, .int lo), (2, .int hi)] := hl
  refine lv_iload_n hF.1 hF.2.1 dX0_in_0 rfl (lv_at hl 0 rfl) ?_
  refine lv_iload_n hF.1 hF.2.1 dX0_in_1 rfl (lv_at hl 1 rfl) ?_
  refine lv_icmp_lt (tgt := 14) hF.1 hF.2.1 dX0_in_2 (by decide) (fun c1 => ?_) (fun c1 => ?_)
  · skip
    refine lv_iconst (v := nI 0) hF.1 hF.2.1 dX0_in_14 (by decide) ?_
    exact hret _ _ _ dX0_in_15 (by unfold fX0_in; first | (rw [if_pos c1]; done) | (simp only [if_pos c1])) (by exact (Or.inl nI_0))
  · skip
    refine lv_iload_n hF.1 hF.2.1 dX0_in_5 rfl (lv_at hl 0 rfl) ?_
    refine lv_iload_n hF.1 hF.2.1 dX0_in_6 rfl (lv_at hl 2 rfl) ?_
    refine lv_icmp_gt (tgt := 14) hF.1 hF.2.1 dX0_in_7 (by decide) (fun c2 => ?_) (fun c2 => ?_)
    · skip
      refine lv_iconst (v := nI 0) hF.1 hF.2.1 dX0_in_14 (by decide) ?_
      exact hret _ _ _ dX0_in_15 (by unfold fX0_in; first | (rw [if_neg c1, if_pos c2]; done) | (simp only [if_neg c1, if_pos c2])) (by exact (Or.inl nI_0))
    · skip
      refine lv_iconst (v := nI 1) hF.1 hF.2.1 dX0_in_10 (by decide) ?_
      refine lv_goto (tgt := 15) hF.1 hF.2.1 dX0_in_11 (by decide) ?_
      exact hret _ _ _ dX0_in_15 (by unfold fX0_in; first | (rw [if_neg c1, if_neg c2]; done) | (simp only [if_neg c1, if_neg c2])) (by exact (Or.inr rfl))

def fX0_isIn (set : Int32) (k : Int32) : Int32 := if ((set >>> (k &&& 31)) &&& (nI 1)) = (nI 1) then nI 1 else nI 0
theorem fX0_isIn_b (set : Int32) (k : Int32) : (fX0_isIn set k) = 0 ∨ (fX0_isIn set k) = 1 := by
  unfold fX0_isIn
  exact (g_ite (Or.inr rfl) (Or.inl nI_0))
def rmX0_isIn : Room := { frames := 1, cells := 0, slots := 0, locals := 24 }
theorem hdX0_isIn : yX0_isIn.cls = RX0 ∧ yX0_isIn.cls ≠ "java/lang/invoke/MethodHandle" ∧ yX0_isIn.cls ≠ "java/lang/invoke/VarHandle" ∧ (parseMethodDescriptor yX0_isIn.desc).map (fun d => d.parameters.length) = some 2 := by decide +kernel
set_option maxHeartbeats 4000000 in
theorem kX0_isIn (l : Launch) (set : Int32) (k : Int32) : Met l yX0_isIn (ws_ yX0_isIn cX0_isIn 2 (some .boolean)) rmX0_isIn (va_Pc [.int set, .int k] (fun _ => True)) (vp_Si (fun r => r = (fX0_isIn set k))) 0 0 (fun _ => False) := by
  refine g_entPz (C := RX0) rfl (by decide) (Nat.le_of_ble_eq_true rfl) ?_
  intro p e s m args below meth c QQ ls hF hKH hl hret
  have hl : lv_has ls 2 [(0, .int set), (1, .int k)] := hl
  refine lv_iload_n hF.1 hF.2.1 dX0_isIn_0 rfl (lv_at hl 0 rfl) ?_
  refine lv_iload_n hF.1 hF.2.1 dX0_isIn_1 rfl (lv_at hl 1 rfl) ?_
  refine lv_ishr hF.1 hF.2.1 dX0_isIn_2 ?_
  refine lv_iconst (v := nI 1) hF.1 hF.2.1 dX0_isIn_3 (by decide) ?_
  refine lv_iand hF.1 hF.2.1 dX0_isIn_4 ?_
  refine lv_iconst (v := nI 1) hF.1 hF.2.1 dX0_isIn_5 (by decide) ?_
  refine lv_icmp_ne (tgt := 13) hF.1 hF.2.1 dX0_isIn_6 (by decide) (fun c1 => ?_) (fun c1 => ?_)
  · skip
    refine lv_iconst (v := nI 0) hF.1 hF.2.1 dX0_isIn_13 (by decide) ?_
    exact hret _ _ _ dX0_isIn_14 (by unfold fX0_isIn; first | (rw [if_neg c1]; done) | (simp only [if_neg c1])) (by exact (Or.inl nI_0))
  · skip
    refine lv_iconst (v := nI 1) hF.1 hF.2.1 dX0_isIn_9 (by decide) ?_
    refine lv_goto (tgt := 14) hF.1 hF.2.1 dX0_isIn_10 (by decide) ?_
    exact hret _ _ _ dX0_isIn_14 (by unfold fX0_isIn; first | (rw [if_pos c1]; done) | (simp only [if_pos c1])) (by exact (Or.inr rfl))

def fX0_isCorner (cn : Int32) : Int32 := (fX0_in cn (nI 0) (nI 7))
theorem fX0_isCorner_b (cn : Int32) : (fX0_isCorner cn) = 0 ∨ (fX0_isCorner cn) = 1 := by
  unfold fX0_isCorner
  exact (fX0_in_b ..)
def rmX0_isCorner : Room := { frames := 2, cells := 0, slots := 0, locals := 46 }
theorem hdX0_isCorner : yX0_isCorner.cls = RX0 ∧ yX0_isCorner.cls ≠ "java/lang/invoke/MethodHandle" ∧ yX0_isCorner.cls ≠ "java/lang/invoke/VarHandle" ∧ (parseMethodDescriptor yX0_isCorner.desc).map (fun d => d.parameters.length) = some 1 := by decide +kernel
set_option maxHeartbeats 4000000 in
theorem kX0_isCorner (l : Launch) (cn : Int32) : Met l yX0_isCorner (ws_ yX0_isCorner cX0_isCorner 1 (some .boolean)) rmX0_isCorner (va_Pc [.int cn] (fun _ => True)) (vp_Si (fun r => r = (fX0_isCorner cn))) 0 0 (fun _ => False) := by
  refine g_entPz (C := RX0) rfl (by decide) (Nat.le_of_ble_eq_true rfl) ?_
  intro p e s m args below meth c QQ ls hF hKH hl hret
  have hl : lv_has ls 1 [(0, .int cn)] := hl
  refine lv_iload_n hF.1 hF.2.1 dX0_isCorner_0 rfl (lv_at hl 0 rfl) ?_
  refine lv_iconst (v := nI 0) hF.1 hF.2.1 dX0_isCorner_1 (by decide) ?_
  refine lv_bipush (v := nI 7) hF.1 hF.2.1 dX0_isCorner_2 (by decide) ?_
  refine g_sPi (As := [.int cn, .int (nI 0), .int (nI 7)]) (rest := []) hF (kX0_in l cn (nI 0) (nI 7)) (lw_S q301 q302 q92 q303) 3 hdX0_in.2 rfl rfl ⟨Nat.le_of_ble_eq_true rfl, Nat.le_of_ble_eq_true rfl⟩ g_pre0 rfl hl.1 rfl (Nat.le_of_ble_eq_true rfl) dX0_isCorner_4 ⟨Nat.zero_le _, Nat.zero_le _⟩ (fun r1 e_r1 => ?_)
  exact hret _ _ _ dX0_isCorner_7 (by subst e_r1; rfl) (by subst e_r1; exact (fX0_in_b ..))

def fJ10_bitCount (v : Int32) : Int32 := (((((((v - (((v.toUInt32 >>> ((nI 1).toUInt32 &&& Int32.toUInt32 31)).toInt32) &&& (nI 1431655765))) &&& (nI 858993459)) + ((((v - (((v.toUInt32 >>> ((nI 1).toUInt32 &&& Int32.toUInt32 31)).toInt32) &&& (nI 1431655765))).toUInt32 >>> ((nI 2).toUInt32 &&& Int32.toUInt32 31)).toInt32) &&& (nI 858993459))) + (((((v - (((v.toUInt32 >>> ((nI 1).toUInt32 &&& Int32.toUInt32 31)).toInt32) &&& (nI 1431655765))) &&& (nI 858993459)) + ((((v - (((v.toUInt32 >>> ((nI 1).toUInt32 &&& Int32.toUInt32 31)).toInt32) &&& (nI 1431655765))).toUInt32 >>> ((nI 2).toUInt32 &&& Int32.toUInt32 31)).toInt32) &&& (nI 858993459))).toUInt32 >>> ((nI 4).toUInt32 &&& Int32.toUInt32 31)).toInt32)) &&& (nI 252645135)) + (((((((v - (((v.toUInt32 >>> ((nI 1).toUInt32 &&& Int32.toUInt32 31)).toInt32) &&& (nI 1431655765))) &&& (nI 858993459)) + ((((v - (((v.toUInt32 >>> ((nI 1).toUInt32 &&& Int32.toUInt32 31)).toInt32) &&& (nI 1431655765))).toUInt32 >>> ((nI 2).toUInt32 &&& Int32.toUInt32 31)).toInt32) &&& (nI 858993459))) + (((((v - (((v.toUInt32 >>> ((nI 1).toUInt32 &&& Int32.toUInt32 31)).toInt32) &&& (nI 1431655765))) &&& (nI 858993459)) + ((((v - (((v.toUInt32 >>> ((nI 1).toUInt32 &&& Int32.toUInt32 31)).toInt32) &&& (nI 1431655765))).toUInt32 >>> ((nI 2).toUInt32 &&& Int32.toUInt32 31)).toInt32) &&& (nI 858993459))).toUInt32 >>> ((nI 4).toUInt32 &&& Int32.toUInt32 31)).toInt32)) &&& (nI 252645135)).toUInt32 >>> ((nI 8).toUInt32 &&& Int32.toUInt32 31)).toInt32)) + ((((((((v - (((v.toUInt32 >>> ((nI 1).toUInt32 &&& Int32.toUInt32 31)).toInt32) &&& (nI 1431655765))) &&& (nI 858993459)) + ((((v - (((v.toUInt32 >>> ((nI 1).toUInt32 &&& Int32.toUInt32 31)).toInt32) &&& (nI 1431655765))).toUInt32 >>> ((nI 2).toUInt32 &&& Int32.toUInt32 31)).toInt32) &&& (nI 858993459))) + (((((v - (((v.toUInt32 >>> ((nI 1).toUInt32 &&& Int32.toUInt32 31)).toInt32) &&& (nI 1431655765))) &&& (nI 858993459)) + ((((v - (((v.toUInt32 >>> ((nI 1).toUInt32 &&& Int32.toUInt32 31)).toInt32) &&& (nI 1431655765))).toUInt32 >>> ((nI 2).toUInt32 &&& Int32.toUInt32 31)).toInt32) &&& (nI 858993459))).toUInt32 >>> ((nI 4).toUInt32 &&& Int32.toUInt32 31)).toInt32)) &&& (nI 252645135)) + (((((((v - (((v.toUInt32 >>> ((nI 1).toUInt32 &&& Int32.toUInt32 31)).toInt32) &&& (nI 1431655765))) &&& (nI 858993459)) + ((((v - (((v.toUInt32 >>> ((nI 1).toUInt32 &&& Int32.toUInt32 31)).toInt32) &&& (nI 1431655765))).toUInt32 >>> ((nI 2).toUInt32 &&& Int32.toUInt32 31)).toInt32) &&& (nI 858993459))) + (((((v - (((v.toUInt32 >>> ((nI 1).toUInt32 &&& Int32.toUInt32 31)).toInt32) &&& (nI 1431655765))) &&& (nI 858993459)) + ((((v - (((v.toUInt32 >>> ((nI 1).toUInt32 &&& Int32.toUInt32 31)).toInt32) &&& (nI 1431655765))).toUInt32 >>> ((nI 2).toUInt32 &&& Int32.toUInt32 31)).toInt32) &&& (nI 858993459))).toUInt32 >>> ((nI 4).toUInt32 &&& Int32.toUInt32 31)).toInt32)) &&& (nI 252645135)).toUInt32 >>> ((nI 8).toUInt32 &&& Int32.toUInt32 31)).toInt32)).toUInt32 >>> ((nI 16).toUInt32 &&& Int32.toUInt32 31)).toInt32)) &&& (nI 63)
def rmJ10_bitCount : Room := { frames := 1, cells := 0, slots := 0, locals := 24 }
theorem hdJ10_bitCount : yJ10_bitCount.cls = RJ10 ∧ yJ10_bitCount.cls ≠ "java/lang/invoke/MethodHandle" ∧ yJ10_bitCount.cls ≠ "java/lang/invoke/VarHandle" ∧ (parseMethodDescriptor yJ10_bitCount.desc).map (fun d => d.parameters.length) = some 1 := by decide +kernel
set_option maxHeartbeats 4000000 in
theorem kJ10_bitCount (l : Launch) (v : Int32) : Met l yJ10_bitCount (ws_ yJ10_bitCount cJ10_bitCount 1 (some .int)) rmJ10_bitCount (va_Pc [.int v] (fun _ => True)) (vp_Si (fun r => r = (fJ10_bitCount v))) 0 0 (fun _ => False) := by
  refine g_entPi (C := RJ10) rfl (by decide) (Nat.le_of_ble_eq_true rfl) ?_
  intro p e s m args below meth c QQ ls hF hKH hl hret
  have hl : lv_has ls 1 [(0, .int v)] := hl
  refine lv_iload_n hF.1 hF.2.1 dJ10_bitCount_0 rfl (lv_at hl 0 rfl) ?_
  refine lv_iload_n hF.1 hF.2.1 dJ10_bitCount_1 rfl (lv_at hl 0 rfl) ?_
  refine lv_iconst (v := nI 1) hF.1 hF.2.1 dJ10_bitCount_2 (by decide) ?_
  refine lv_iushr (v := (v.toUInt32 >>> ((nI 1).toUInt32 &&& Int32.toUInt32 31)).toInt32) hF.1 hF.2.1 dJ10_bitCount_3 rfl ?_
  refine lv_ldcw (v := nI 1431655765) hF.1 hF.2.1 hF.2.2.2.1 (hF.2.2.2.2 _ q836) dJ10_bitCount_4 ?_
  refine lv_iand hF.1 hF.2.1 dJ10_bitCount_7 ?_
  refine lv_isub hF.1 hF.2.1 dJ10_bitCount_8 ?_
  refine lv_istore_n (lv' := [(0, .int (v - (((v.toUInt32 >>> ((nI 1).toUInt32 &&& Int32.toUInt32 31)).toInt32) &&& (nI 1431655765))))]) hF.1 hF.2.1 dJ10_bitCount_9 rfl hl (by decide) rfl (fun ls hl => ?_)
  refine lv_iload_n hF.1 hF.2.1 dJ10_bitCount_10 rfl (lv_at hl 0 rfl) ?_
  refine lv_ldcw (v := nI 858993459) hF.1 hF.2.1 hF.2.2.2.1 (hF.2.2.2.2 _ q837) dJ10_bitCount_11 ?_
  refine lv_iand hF.1 hF.2.1 dJ10_bitCount_14 ?_
  refine lv_iload_n hF.1 hF.2.1 dJ10_bitCount_15 rfl (lv_at hl 0 rfl) ?_
  refine lv_iconst (v := nI 2) hF.1 hF.2.1 dJ10_bitCount_16 (by decide) ?_
  refine lv_iushr (v := ((v - (((v.toUInt32 >>> ((nI 1).toUInt32 &&& Int32.toUInt32 31)).toInt32) &&& (nI 1431655765))).toUInt32 >>> ((nI 2).toUInt32 &&& Int32.toUInt32 31)).toInt32) hF.1 hF.2.1 dJ10_bitCount_17 rfl ?_
  refine lv_ldcw (v := nI 858993459) hF.1 hF.2.1 hF.2.2.2.1 (hF.2.2.2.2 _ q837) dJ10_bitCount_18 ?_
  refine lv_iand hF.1 hF.2.1 dJ10_bitCount_21 ?_
  refine lv_iadd hF.1 hF.2.1 dJ10_bitCount_22 ?_
  refine lv_istore_n (lv' := [(0, .int (((v - (((v.toUInt32 >>> ((nI 1).toUInt32 &&& Int32.toUInt32 31)).toInt32) &&& (nI 1431655765))) &&& (nI 858993459)) + ((((v - (((v.toUInt32 >>> ((nI 1).toUInt32 &&& Int32.toUInt32 31)).toInt32) &&& (nI 1431655765))).toUInt32 >>> ((nI 2).toUInt32 &&& Int32.toUInt32 31)).toInt32) &&& (nI 858993459))))]) hF.1 hF.2.1 dJ10_bitCount_23 rfl hl (by decide) rfl (fun ls hl => ?_)
  refine lv_iload_n hF.1 hF.2.1 dJ10_bitCount_24 rfl (lv_at hl 0 rfl) ?_
  refine lv_iload_n hF.1 hF.2.1 dJ10_bitCount_25 rfl (lv_at hl 0 rfl) ?_
  refine lv_iconst (v := nI 4) hF.1 hF.2.1 dJ10_bitCount_26 (by decide) ?_
  refine lv_iushr (v := ((((v - (((v.toUInt32 >>> ((nI 1).toUInt32 &&& Int32.toUInt32 31)).toInt32) &&& (nI 1431655765))) &&& (nI 858993459)) + ((((v - (((v.toUInt32 >>> ((nI 1).toUInt32 &&& Int32.toUInt32 31)).toInt32) &&& (nI 1431655765))).toUInt32 >>> ((nI 2).toUInt32 &&& Int32.toUInt32 31)).toInt32) &&& (nI 858993459))).toUInt32 >>> ((nI 4).toUInt32 &&& Int32.toUInt32 31)).toInt32) hF.1 hF.2.1 dJ10_bitCount_27 rfl ?_
  refine lv_iadd hF.1 hF.2.1 dJ10_bitCount_28 ?_
  refine lv_ldcw (v := nI 252645135) hF.1 hF.2.1 hF.2.2.2.1 (hF.2.2.2.2 _ q838) dJ10_bitCount_29 ?_
  refine lv_iand hF.1 hF.2.1 dJ10_bitCount_32 ?_
  refine lv_istore_n (lv' := [(0, .int (((((v - (((v.toUInt32 >>> ((nI 1).toUInt32 &&& Int32.toUInt32 31)).toInt32) &&& (nI 1431655765))) &&& (nI 858993459)) + ((((v - (((v.toUInt32 >>> ((nI 1).toUInt32 &&& Int32.toUInt32 31)).toInt32) &&& (nI 1431655765))).toUInt32 >>> ((nI 2).toUInt32 &&& Int32.toUInt32 31)).toInt32) &&& (nI 858993459))) + (((((v - (((v.toUInt32 >>> ((nI 1).toUInt32 &&& Int32.toUInt32 31)).toInt32) &&& (nI 1431655765))) &&& (nI 858993459)) + ((((v - (((v.toUInt32 >>> ((nI 1).toUInt32 &&& Int32.toUInt32 31)).toInt32) &&& (nI 1431655765))).toUInt32 >>> ((nI 2).toUInt32 &&& Int32.toUInt32 31)).toInt32) &&& (nI 858993459))).toUInt32 >>> ((nI 4).toUInt32 &&& Int32.toUInt32 31)).toInt32)) &&& (nI 252645135)))]) hF.1 hF.2.1 dJ10_bitCount_33 rfl hl (by decide) rfl (fun ls hl => ?_)
  refine lv_iload_n hF.1 hF.2.1 dJ10_bitCount_34 rfl (lv_at hl 0 rfl) ?_
  refine lv_iload_n hF.1 hF.2.1 dJ10_bitCount_35 rfl (lv_at hl 0 rfl) ?_
  refine lv_bipush (v := nI 8) hF.1 hF.2.1 dJ10_bitCount_36 (by decide) ?_
  refine lv_iushr (v := ((((((v - (((v.toUInt32 >>> ((nI 1).toUInt32 &&& Int32.toUInt32 31)).toInt32) &&& (nI 1431655765))) &&& (nI 858993459)) + ((((v - (((v.toUInt32 >>> ((nI 1).toUInt32 &&& Int32.toUInt32 31)).toInt32) &&& (nI 1431655765))).toUInt32 >>> ((nI 2).toUInt32 &&& Int32.toUInt32 31)).toInt32) &&& (nI 858993459))) + (((((v - (((v.toUInt32 >>> ((nI 1).toUInt32 &&& Int32.toUInt32 31)).toInt32) &&& (nI 1431655765))) &&& (nI 858993459)) + ((((v - (((v.toUInt32 >>> ((nI 1).toUInt32 &&& Int32.toUInt32 31)).toInt32) &&& (nI 1431655765))).toUInt32 >>> ((nI 2).toUInt32 &&& Int32.toUInt32 31)).toInt32) &&& (nI 858993459))).toUInt32 >>> ((nI 4).toUInt32 &&& Int32.toUInt32 31)).toInt32)) &&& (nI 252645135)).toUInt32 >>> ((nI 8).toUInt32 &&& Int32.toUInt32 31)).toInt32) hF.1 hF.2.1 dJ10_bitCount_38 rfl ?_
  refine lv_iadd hF.1 hF.2.1 dJ10_bitCount_39 ?_
  refine lv_istore_n (lv' := [(0, .int ((((((v - (((v.toUInt32 >>> ((nI 1).toUInt32 &&& Int32.toUInt32 31)).toInt32) &&& (nI 1431655765))) &&& (nI 858993459)) + ((((v - (((v.toUInt32 >>> ((nI 1).toUInt32 &&& Int32.toUInt32 31)).toInt32) &&& (nI 1431655765))).toUInt32 >>> ((nI 2).toUInt32 &&& Int32.toUInt32 31)).toInt32) &&& (nI 858993459))) + (((((v - (((v.toUInt32 >>> ((nI 1).toUInt32 &&& Int32.toUInt32 31)).toInt32) &&& (nI 1431655765))) &&& (nI 858993459)) + ((((v - (((v.toUInt32 >>> ((nI 1).toUInt32 &&& Int32.toUInt32 31)).toInt32) &&& (nI 1431655765))).toUInt32 >>> ((nI 2).toUInt32 &&& Int32.toUInt32 31)).toInt32) &&& (nI 858993459))).toUInt32 >>> ((nI 4).toUInt32 &&& Int32.toUInt32 31)).toInt32)) &&& (nI 252645135)) + (((((((v - (((v.toUInt32 >>> ((nI 1).toUInt32 &&& Int32.toUInt32 31)).toInt32) &&& (nI 1431655765))) &&& (nI 858993459)) + ((((v - (((v.toUInt32 >>> ((nI 1).toUInt32 &&& Int32.toUInt32 31)).toInt32) &&& (nI 1431655765))).toUInt32 >>> ((nI 2).toUInt32 &&& Int32.toUInt32 31)).toInt32) &&& (nI 858993459))) + (((((v - (((v.toUInt32 >>> ((nI 1).toUInt32 &&& Int32.toUInt32 31)).toInt32) &&& (nI 1431655765))) &&& (nI 858993459)) + ((((v - (((v.toUInt32 >>> ((nI 1).toUInt32 &&& Int32.toUInt32 31)).toInt32) &&& (nI 1431655765))).toUInt32 >>> ((nI 2).toUInt32 &&& Int32.toUInt32 31)).toInt32) &&& (nI 858993459))).toUInt32 >>> ((nI 4).toUInt32 &&& Int32.toUInt32 31)).toInt32)) &&& (nI 252645135)).toUInt32 >>> ((nI 8).toUInt32 &&& Int32.toUInt32 31)).toInt32)))]) hF.1 hF.2.1 dJ10_bitCount_40 rfl hl (by decide) rfl (fun ls hl => ?_)
  refine lv_iload_n hF.1 hF.2.1 dJ10_bitCount_41 rfl (lv_at hl 0 rfl) ?_
  refine lv_iload_n hF.1 hF.2.1 dJ10_bitCount_42 rfl (lv_at hl 0 rfl) ?_
  refine lv_bipush (v := nI 16) hF.1 hF.2.1 dJ10_bitCount_43 (by decide) ?_
  refine lv_iushr (v := (((((((v - (((v.toUInt32 >>> ((nI 1).toUInt32 &&& Int32.toUInt32 31)).toInt32) &&& (nI 1431655765))) &&& (nI 858993459)) + ((((v - (((v.toUInt32 >>> ((nI 1).toUInt32 &&& Int32.toUInt32 31)).toInt32) &&& (nI 1431655765))).toUInt32 >>> ((nI 2).toUInt32 &&& Int32.toUInt32 31)).toInt32) &&& (nI 858993459))) + (((((v - (((v.toUInt32 >>> ((nI 1).toUInt32 &&& Int32.toUInt32 31)).toInt32) &&& (nI 1431655765))) &&& (nI 858993459)) + ((((v - (((v.toUInt32 >>> ((nI 1).toUInt32 &&& Int32.toUInt32 31)).toInt32) &&& (nI 1431655765))).toUInt32 >>> ((nI 2).toUInt32 &&& Int32.toUInt32 31)).toInt32) &&& (nI 858993459))).toUInt32 >>> ((nI 4).toUInt32 &&& Int32.toUInt32 31)).toInt32)) &&& (nI 252645135)) + (((((((v - (((v.toUInt32 >>> ((nI 1).toUInt32 &&& Int32.toUInt32 31)).toInt32) &&& (nI 1431655765))) &&& (nI 858993459)) + ((((v - (((v.toUInt32 >>> ((nI 1).toUInt32 &&& Int32.toUInt32 31)).toInt32) &&& (nI 1431655765))).toUInt32 >>> ((nI 2).toUInt32 &&& Int32.toUInt32 31)).toInt32) &&& (nI 858993459))) + (((((v - (((v.toUInt32 >>> ((nI 1).toUInt32 &&& Int32.toUInt32 31)).toInt32) &&& (nI 1431655765))) &&& (nI 858993459)) + ((((v - (((v.toUInt32 >>> ((nI 1).toUInt32 &&& Int32.toUInt32 31)).toInt32) &&& (nI 1431655765))).toUInt32 >>> ((nI 2).toUInt32 &&& Int32.toUInt32 31)).toInt32) &&& (nI 858993459))).toUInt32 >>> ((nI 4).toUInt32 &&& Int32.toUInt32 31)).toInt32)) &&& (nI 252645135)).toUInt32 >>> ((nI 8).toUInt32 &&& Int32.toUInt32 31)).toInt32)).toUInt32 >>> ((nI 16).toUInt32 &&& Int32.toUInt32 31)).toInt32) hF.1 hF.2.1 dJ10_bitCount_45 rfl ?_
  refine lv_iadd hF.1 hF.2.1 dJ10_bitCount_46 ?_
  refine lv_istore_n (lv' := [(0, .int (((((((v - (((v.toUInt32 >>> ((nI 1).toUInt32 &&& Int32.toUInt32 31)).toInt32) &&& (nI 1431655765))) &&& (nI 858993459)) + ((((v - (((v.toUInt32 >>> ((nI 1).toUInt32 &&& Int32.toUInt32 31)).toInt32) &&& (nI 1431655765))).toUInt32 >>> ((nI 2).toUInt32 &&& Int32.toUInt32 31)).toInt32) &&& (nI 858993459))) + (((((v - (((v.toUInt32 >>> ((nI 1).toUInt32 &&& Int32.toUInt32 31)).toInt32) &&& (nI 1431655765))) &&& (nI 858993459)) + ((((v - (((v.toUInt32 >>> ((nI 1).toUInt32 &&& Int32.toUInt32 31)).toInt32) &&& (nI 1431655765))).toUInt32 >>> ((nI 2).toUInt32 &&& Int32.toUInt32 31)).toInt32) &&& (nI 858993459))).toUInt32 >>> ((nI 4).toUInt32 &&& Int32.toUInt32 31)).toInt32)) &&& (nI 252645135)) + (((((((v - (((v.toUInt32 >>> ((nI 1).toUInt32 &&& Int32.toUInt32 31)).toInt32) &&& (nI 1431655765))) &&& (nI 858993459)) + ((((v - (((v.toUInt32 >>> ((nI 1).toUInt32 &&& Int32.toUInt32 31)).toInt32) &&& (nI 1431655765))).toUInt32 >>> ((nI 2).toUInt32 &&& Int32.toUInt32 31)).toInt32) &&& (nI 858993459))) + (((((v - (((v.toUInt32 >>> ((nI 1).toUInt32 &&& Int32.toUInt32 31)).toInt32) &&& (nI 1431655765))) &&& (nI 858993459)) + ((((v - (((v.toUInt32 >>> ((nI 1).toUInt32 &&& Int32.toUInt32 31)).toInt32) &&& (nI 1431655765))).toUInt32 >>> ((nI 2).toUInt32 &&& Int32.toUInt32 31)).toInt32) &&& (nI 858993459))).toUInt32 >>> ((nI 4).toUInt32 &&& Int32.toUInt32 31)).toInt32)) &&& (nI 252645135)).toUInt32 >>> ((nI 8).toUInt32 &&& Int32.toUInt32 31)).toInt32)) + ((((((((v - (((v.toUInt32 >>> ((nI 1).toUInt32 &&& Int32.toUInt32 31)).toInt32) &&& (nI 1431655765))) &&& (nI 858993459)) + ((((v - (((v.toUInt32 >>> ((nI 1).toUInt32 &&& Int32.toUInt32 31)).toInt32) &&& (nI 1431655765))).toUInt32 >>> ((nI 2).toUInt32 &&& Int32.toUInt32 31)).toInt32) &&& (nI 858993459))) + (((((v - (((v.toUInt32 >>> ((nI 1).toUInt32 &&& Int32.toUInt32 31)).toInt32) &&& (nI 1431655765))) &&& (nI 858993459)) + ((((v - (((v.toUInt32 >>> ((nI 1).toUInt32 &&& Int32.toUInt32 31)).toInt32) &&& (nI 1431655765))).toUInt32 >>> ((nI 2).toUInt32 &&& Int32.toUInt32 31)).toInt32) &&& (nI 858993459))).toUInt32 >>> ((nI 4).toUInt32 &&& Int32.toUInt32 31)).toInt32)) &&& (nI 252645135)) + (((((((v - (((v.toUInt32 >>> ((nI 1).toUInt32 &&& Int32.toUInt32 31)).toInt32) &&& (nI 1431655765))) &&& (nI 858993459)) + ((((v - (((v.toUInt32 >>> ((nI 1).toUInt32 &&& Int32.toUInt32 31)).toInt32) &&& (nI 1431655765))).toUInt32 >>> ((nI 2).toUInt32 &&& Int32.toUInt32 31)).toInt32) &&& (nI 858993459))) + (((((v - (((v.toUInt32 >>> ((nI 1).toUInt32 &&& Int32.toUInt32 31)).toInt32) &&& (nI 1431655765))) &&& (nI 858993459)) + ((((v - (((v.toUInt32 >>> ((nI 1).toUInt32 &&& Int32.toUInt32 31)).toInt32) &&& (nI 1431655765))).toUInt32 >>> ((nI 2).toUInt32 &&& Int32.toUInt32 31)).toInt32) &&& (nI 858993459))).toUInt32 >>> ((nI 4).toUInt32 &&& Int32.toUInt32 31)).toInt32)) &&& (nI 252645135)).toUInt32 >>> ((nI 8).toUInt32 &&& Int32.toUInt32 31)).toInt32)).toUInt32 >>> ((nI 16).toUInt32 &&& Int32.toUInt32 31)).toInt32)))]) hF.1 hF.2.1 dJ10_bitCount_47 rfl hl (by decide) rfl (fun ls hl => ?_)
  refine lv_iload_n hF.1 hF.2.1 dJ10_bitCount_48 rfl (lv_at hl 0 rfl) ?_
  refine lv_bipush (v := nI 63) hF.1 hF.2.1 dJ10_bitCount_49 (by decide) ?_
  refine lv_iand hF.1 hF.2.1 dJ10_bitCount_51 ?_
  exact hret _ _ _ dJ10_bitCount_52 (by rfl)

def fJ9_checkIndex (ix : Nat) : Int32 := nI ix
def rmJ9_checkIndex : Room := { frames := 1, cells := 0, slots := 0, locals := 24 }
theorem hdJ9_checkIndex : yJ9_checkIndex.cls = RJ9 ∧ yJ9_checkIndex.cls ≠ "java/lang/invoke/MethodHandle" ∧ yJ9_checkIndex.cls ≠ "java/lang/invoke/VarHandle" ∧ (parseMethodDescriptor yJ9_checkIndex.desc).map (fun d => d.parameters.length) = some 3 := by decide +kernel
set_option maxHeartbeats 4000000 in
theorem kJ9_checkIndex (l : Launch) (ix : Nat) (ln : Nat) (hix : ix < ln) (hln : ln < 2 ^ 31) : Met l yJ9_checkIndex (ws_ yJ9_checkIndex cJ9_checkIndex 3 (some .int)) rmJ9_checkIndex (va_Pc [.int (nI ix), .int (nI ln), .null] (fun _ => True)) (vp_Si (fun r => r = (fJ9_checkIndex ix))) 0 0 (fun _ => False) := by
  refine g_entPi (C := RJ9) rfl (by decide) (Nat.le_of_ble_eq_true rfl) ?_
  intro p e s m args below meth c QQ ls hF hKH hl hret
  have hl : lv_has ls 3 [(0, .int (nI ix)), (1, .int (nI ln)), (2, .null)] := hl
  refine lv_iload_n hF.1 hF.2.1 dJ9_checkIndex_0 rfl (lv_at hl 0 rfl) ?_
  refine lv_if_lt (tgt := 9) hF.1 hF.2.1 dJ9_checkIndex_1 (by decide) (fun c1 => ?_) (fun c1 => ?_)
  · exact absurd c1 (nI_pos (by omega))
  · skip
    refine lv_iload_n hF.1 hF.2.1 dJ9_checkIndex_4 rfl (lv_at hl 0 rfl) ?_
    refine lv_iload_n hF.1 hF.2.1 dJ9_checkIndex_5 rfl (lv_at hl 1 rfl) ?_
    refine n_lt (tgt := 16) hF.1 hF.2.1 dJ9_checkIndex_6 (by decide) (by omega) (by omega) (fun c2 => ?_) (fun c2 => ?_)
    · skip
      refine lv_iload_n hF.1 hF.2.1 dJ9_checkIndex_16 rfl (lv_at hl 0 rfl) ?_
      exact hret _ _ _ dJ9_checkIndex_17 (by rfl)
    · exact absurd hix c2

def fJ8_checkIndex (ix : Nat) : Int32 := (fJ9_checkIndex ix)
def rmJ8_checkIndex : Room := { frames := 2, cells := 0, slots := 0, locals := 46 }
theorem hdJ8_checkIndex : yJ8_checkIndex.cls = RJ8 ∧ yJ8_checkIndex.cls ≠ "java/lang/invoke/MethodHandle" ∧ yJ8_checkIndex.cls ≠ "java/lang/invoke/VarHandle" ∧ (parseMethodDescriptor yJ8_checkIndex.desc).map (fun d => d.parameters.length) = some 2 := by decide +kernel
set_option maxHeartbeats 4000000 in
theorem kJ8_checkIndex (l : Launch) (ix : Nat) (ln : Nat) (hix : ix < ln) (hln : ln < 2 ^ 31) : Met l yJ8_checkIndex (ws_ yJ8_checkIndex cJ8_checkIndex 2 (some .int)) rmJ8_checkIndex (va_Pc [.int (nI ix), .int (nI ln)] (fun _ => True)) (vp_Si (fun r => r = (fJ8_checkIndex ix))) 0 0 (fun _ => False) := by
  refine g_entPi (C := RJ8) rfl (by decide) (Nat.le_of_ble_eq_true rfl) ?_
  intro p e s m args below meth c QQ ls hF hKH hl hret
  have hl : lv_has ls 2 [(0, .int (nI ix)), (1, .int (nI ln))] := hl
  refine lv_iload_n hF.1 hF.2.1 dJ8_checkIndex_0 rfl (lv_at hl 0 rfl) ?_
  refine lv_iload_n hF.1 hF.2.1 dJ8_checkIndex_1 rfl (lv_at hl 1 rfl) ?_
  refine lv_null hF.1 hF.2.1 dJ8_checkIndex_2 ?_
  refine g_sPi (As := [.int (nI ix), .int (nI ln), .null]) (rest := []) hF (kJ9_checkIndex l ix ln (by omega) (by omega)) (lw_S q577 q578 q112 q579) 3 hdJ9_checkIndex.2 rfl rfl ⟨Nat.le_of_ble_eq_true rfl, Nat.le_of_ble_eq_true rfl⟩ g_pre0 rfl hl.1 rfl (Nat.le_of_ble_eq_true rfl) dJ8_checkIndex_3 ⟨Nat.zero_le _, Nat.zero_le _⟩ (fun r1 e_r1 => ?_)
  exact hret _ _ _ dJ8_checkIndex_6 (by subst e_r1; rfl)

def fJ2_size (t : TW) : Nat := tn t
def rmJ2_size : Room := { frames := 1, cells := 0, slots := 0, locals := 24 }
theorem hdJ2_size : yJ2_size.cls = RJ2 ∧ yJ2_size.cls ≠ "java/lang/invoke/MethodHandle" ∧ yJ2_size.cls ≠ "java/lang/invoke/VarHandle" ∧ (parseMethodDescriptor yJ2_size.desc).map (fun d => d.parameters.length) = some 0 := by decide +kernel
set_option maxHeartbeats 4000000 in
theorem kJ2_size (l : Launch) (ω : OM) (g : Nat → Nat → Nat) (y : Nat → Nat → Int32) (a z : Nat → Nat → Nat → Int32) (dr : Int64) (pg : Nat → Int32) (t : TW) : Met l yJ2_size (ws_ yJ2_size cJ2_size 1 (some .int)) rmJ2_size (va_Pc [.ref (ω.2.1 1 99)] (fun U => xK ω U ∧ xH ω (g, y, a, z, dr, pg, t) U.heap)) (vp_Si (fun r => r = nI (fJ2_size t))) 0 0 (fun _ => False) := by
  refine g_entPi (C := RJ2) rfl (by decide) (Nat.le_of_ble_eq_true rfl) ?_
  intro p e s m args below meth c QQ ls hF hKH hl hret
  have hl : lv_has ls 1 [(0, .ref (ω.2.1 1 99))] := hl
  obtain ⟨hK, hH⟩ := hKH
  have hn9 : tn t ≤ 9 := hH.2.2.1
  refine lv_aload_n hF.1 hF.2.1 dJ2_size_0 rfl (lv_at hl 0 rfl) ?_
  refine xl_g2 hF hK hH q137 dJ2_size_1 ?_
  exact hret _ _ _ dJ2_size_4 (by rfl)

def fJ2_elementData : Unit := ()
def rmJ2_elementData : Room := { frames := 1, cells := 0, slots := 0, locals := 24 }
theorem hdJ2_elementData : yJ2_elementData.cls = RJ2 ∧ yJ2_elementData.cls ≠ "java/lang/invoke/MethodHandle" ∧ yJ2_elementData.cls ≠ "java/lang/invoke/VarHandle" ∧ (parseMethodDescriptor yJ2_elementData.desc).map (fun d => d.parameters.length) = some 1 := by decide +kernel
set_option maxHeartbeats 4000000 in
theorem kJ2_elementData (l : Launch) (ω : OM) (g : Nat → Nat → Nat) (y : Nat → Nat → Int32) (a z : Nat → Nat → Nat → Int32) (dr : Int64) (pg : Nat → Int32) (t : TW) (sn : Nat) (hsn : sn < tn t) : Met l yJ2_elementData (ws_ yJ2_elementData cJ2_elementData 2 (some (.object "java/lang/Object"))) rmJ2_elementData (va_Pc [.ref (ω.2.1 1 99), .int (nI sn)] (fun U => xK ω U ∧ xH ω (g, y, a, z, dr, pg, t) U.heap)) (va_Sq (fun r => r = some (tsa t sn))) 0 0 (fun _ => False) := by
  refine g_entPr (C := RJ2) rfl (by decide) (Nat.le_of_ble_eq_true rfl) ?_
  intro p e s m args below meth c QQ ls hF hKH hl hret
  have hl : lv_has ls 2 [(0, .ref (ω.2.1 1 99)), (1, .int (nI sn))] := hl
  obtain ⟨hK, hH⟩ := hKH
  have hn9 : tn t ≤ 9 := hH.2.2.1
  refine lv_aload_n hF.1 hF.2.1 dJ2_elementData_0 rfl (lv_at hl 0 rfl) ?_
  refine xl_g1 hF hK hH q136 dJ2_elementData_1 ?_
  refine lv_iload_n hF.1 hF.2.1 dJ2_elementData_4 rfl (lv_at hl 1 rfl) ?_
  refine xl_ld hF hK hH (i := sn) (by omega) dJ2_elementData_5 ?_
  exact hret _ _ dJ2_elementData_6

def fJ2_get : Unit := ()
def rmJ2_get : Room := { frames := 3, cells := 0, slots := 0, locals := 67 }
theorem hdJ2_get : yJ2_get.cls = RJ2 ∧ yJ2_get.cls ≠ "java/lang/invoke/MethodHandle" ∧ yJ2_get.cls ≠ "java/lang/invoke/VarHandle" ∧ (parseMethodDescriptor yJ2_get.desc).map (fun d => d.parameters.length) = some 1 := by decide +kernel
set_option maxHeartbeats 4000000 in
theorem kJ2_get (l : Launch) (ω : OM) (g : Nat → Nat → Nat) (y : Nat → Nat → Int32) (a z : Nat → Nat → Nat → Int32) (dr : Int64) (pg : Nat → Int32) (t : TW) (sn : Nat) (hsn : sn < tn t) : Met l yJ2_get (ws_ yJ2_get cJ2_get 2 (some (.object "java/lang/Object"))) rmJ2_get (va_Pc [.ref (ω.2.1 1 99), .int (nI sn)] (fun U => xK ω U ∧ xH ω (g, y, a, z, dr, pg, t) U.heap)) (va_Sq (fun r => r = some (tsa t sn))) 0 0 (fun _ => False) := by
  refine g_entPr (C := RJ2) rfl (by decide) (Nat.le_of_ble_eq_true rfl) ?_
  intro p e s m args below meth c QQ ls hF hKH hl hret
  have hl : lv_has ls 2 [(0, .ref (ω.2.1 1 99)), (1, .int (nI sn))] := hl
  obtain ⟨hK, hH⟩ := hKH
  have hn9 : tn t ≤ 9 := hH.2.2.1
  refine lv_iload_n hF.1 hF.2.1 dJ2_get_0 rfl (lv_at hl 1 rfl) ?_
  refine lv_aload_n hF.1 hF.2.1 dJ2_get_1 rfl (lv_at hl 0 rfl) ?_
  refine xl_g2 hF hK hH q137 dJ2_get_2 ?_
  refine g_sPi (As := [.int (nI sn), .int (nI (tn t))]) (rest := []) hF (kJ8_checkIndex l sn (tn t) (by omega) (by omega)) (lw_S q574 q575 q111 q576) 2 hdJ8_checkIndex.2 rfl rfl ⟨Nat.le_of_ble_eq_true rfl, Nat.le_of_ble_eq_true rfl⟩ g_pre0 rfl hl.1 rfl (Nat.le_of_ble_eq_true rfl) dJ2_get_5 ⟨Nat.zero_le _, Nat.zero_le _⟩ (fun r1 e_r1 => ?_)
  refine lv_pop hF.1 hF.2.1 dJ2_get_8 rfl ?_
  refine lv_aload_n hF.1 hF.2.1 dJ2_get_9 rfl (lv_at hl 0 rfl) ?_
  refine lv_iload_n hF.1 hF.2.1 dJ2_get_10 rfl (lv_at hl 1 rfl) ?_
  refine g_vPr (As := [.int (nI sn)]) (rest := []) hF (kJ2_elementData l ω g y a z dr pg t sn (by omega)) (lw_V q580 q581 q582 q95 q583) 1 hdJ2_elementData rfl rfl ⟨Nat.le_of_ble_eq_true rfl, Nat.le_of_ble_eq_true rfl⟩ (x_preVL hK hH) rfl hl.1 rfl (Nat.le_of_ble_eq_true rfl) dJ2_get_11 ⟨Nat.zero_le _, Nat.zero_le _⟩ ?_
  exact hret _ _ dJ2_get_14

def fX5_hurts : Int32 := nI 0
def rmX5_hurts : Room := { frames := 1, cells := 0, slots := 0, locals := 24 }
theorem hdX5_hurts : yX5_hurts.cls = RX5 ∧ yX5_hurts.cls ≠ "java/lang/invoke/MethodHandle" ∧ yX5_hurts.cls ≠ "java/lang/invoke/VarHandle" ∧ (parseMethodDescriptor yX5_hurts.desc).map (fun d => d.parameters.length) = some 3 := by decide +kernel
set_option maxHeartbeats 4000000 in
theorem kX5_hurts (l : Launch) (ω : OM) (g : Nat → Nat → Nat) (y : Nat → Nat → Int32) (a z : Nat → Nat → Nat → Int32) (dr : Int64) (pg : Nat → Int32) (t : TW) (sn : Nat) (hsn : sn < tn t) (td : Int32) (dy : Int32) (of : Int32) : Met l yX5_hurts (ws_ yX5_hurts cX5_hurts 4 (some .int)) rmX5_hurts (va_Pc [.ref (tsa t sn), .int td, .int dy, .int of] (fun U => xK ω U ∧ xH ω (g, y, a, z, dr, pg, t) U.heap)) (vp_Si (fun r => r = fX5_hurts)) 0 0 (fun _ => False) := by
  refine g_entPi (C := RX5) rfl (by decide) (Nat.le_of_ble_eq_true rfl) ?_
  intro p e s m args below meth c QQ ls hF hKH hl hret
  have hl : lv_has ls 4 [(0, .ref (tsa t sn)), (1, .int td), (2, .int dy), (3, .int of)] := hl
  obtain ⟨hK, hH⟩ := hKH
  have hn9 : tn t ≤ 9 := hH.2.2.1
  refine lv_iconst (v := nI 0) hF.1 hF.2.1 dX5_hurts_0 (by decide) ?_
  exact hret _ _ _ dX5_hurts_1 (by rfl)

def fX5_kind : Int32 := nI 0
def rmX5_kind : Room := { frames := 1, cells := 0, slots := 0, locals := 24 }
theorem hdX5_kind : yX5_kind.cls = RX5 ∧ yX5_kind.cls ≠ "java/lang/invoke/MethodHandle" ∧ yX5_kind.cls ≠ "java/lang/invoke/VarHandle" ∧ (parseMethodDescriptor yX5_kind.desc).map (fun d => d.parameters.length) = some 0 := by decide +kernel
set_option maxHeartbeats 4000000 in
theorem kX5_kind (l : Launch) (ω : OM) (g : Nat → Nat → Nat) (y : Nat → Nat → Int32) (a z : Nat → Nat → Nat → Int32) (dr : Int64) (pg : Nat → Int32) (t : TW) (sn : Nat) (hsn : sn < tn t) : Met l yX5_kind (ws_ yX5_kind cX5_kind 1 (some .int)) rmX5_kind (va_Pc [.ref (tsa t sn)] (fun U => xK ω U ∧ xH ω (g, y, a, z, dr, pg, t) U.heap)) (vp_Si (fun r => r = fX5_kind)) 0 0 (fun _ => False) := by
  refine g_entPi (C := RX5) rfl (by decide) (Nat.le_of_ble_eq_true rfl) ?_
  intro p e s m args below meth c QQ ls hF hKH hl hret
  have hl : lv_has ls 1 [(0, .ref (tsa t sn))] := hl
  obtain ⟨hK, hH⟩ := hKH
  have hn9 : tn t ≤ 9 := hH.2.2.1
  refine lv_iconst (v := nI 0) hF.1 hF.2.1 dX5_kind_0 (by decide) ?_
  exact hret _ _ _ dX5_kind_1 (by rfl)

def fX6_kind : Int32 := nI 1
def rmX6_kind : Room := { frames := 1, cells := 0, slots := 0, locals := 24 }
theorem hdX6_kind : yX6_kind.cls = RX6 ∧ yX6_kind.cls ≠ "java/lang/invoke/MethodHandle" ∧ yX6_kind.cls ≠ "java/lang/invoke/VarHandle" ∧ (parseMethodDescriptor yX6_kind.desc).map (fun d => d.parameters.length) = some 0 := by decide +kernel
set_option maxHeartbeats 4000000 in
theorem kX6_kind (l : Launch) (ω : OM) (g : Nat → Nat → Nat) (y : Nat → Nat → Int32) (a z : Nat → Nat → Nat → Int32) (dr : Int64) (pg : Nat → Int32) (t : TW) (sn : Nat) (hsn : sn < tn t) : Met l yX6_kind (ws_ yX6_kind cX6_kind 1 (some .int)) rmX6_kind (va_Pc [.ref (tsa t sn)] (fun U => xK ω U ∧ xH ω (g, y, a, z, dr, pg, t) U.heap)) (vp_Si (fun r => r = fX6_kind)) 0 0 (fun _ => False) := by
  refine g_entPi (C := RX6) rfl (by decide) (Nat.le_of_ble_eq_true rfl) ?_
  intro p e s m args below meth c QQ ls hF hKH hl hret
  have hl : lv_has ls 1 [(0, .ref (tsa t sn))] := hl
  obtain ⟨hK, hH⟩ := hKH
  have hn9 : tn t ≤ 9 := hH.2.2.1
  refine lv_iconst (v := nI 1) hF.1 hF.2.1 dX6_kind_0 (by decide) ?_
  exact hret _ _ _ dX6_kind_1 (by rfl)

def fX7_kind : Int32 := nI 2
def rmX7_kind : Room := { frames := 1, cells := 0, slots := 0, locals := 24 }
theorem hdX7_kind : yX7_kind.cls = RX7 ∧ yX7_kind.cls ≠ "java/lang/invoke/MethodHandle" ∧ yX7_kind.cls ≠ "java/lang/invoke/VarHandle" ∧ (parseMethodDescriptor yX7_kind.desc).map (fun d => d.parameters.length) = some 0 := by decide +kernel
set_option maxHeartbeats 4000000 in
theorem kX7_kind (l : Launch) (ω : OM) (g : Nat → Nat → Nat) (y : Nat → Nat → Int32) (a z : Nat → Nat → Nat → Int32) (dr : Int64) (pg : Nat → Int32) (t : TW) (sn : Nat) (hsn : sn < tn t) : Met l yX7_kind (ws_ yX7_kind cX7_kind 1 (some .int)) rmX7_kind (va_Pc [.ref (tsa t sn)] (fun U => xK ω U ∧ xH ω (g, y, a, z, dr, pg, t) U.heap)) (vp_Si (fun r => r = fX7_kind)) 0 0 (fun _ => False) := by
  refine g_entPi (C := RX7) rfl (by decide) (Nat.le_of_ble_eq_true rfl) ?_
  intro p e s m args below meth c QQ ls hF hKH hl hret
  have hl : lv_has ls 1 [(0, .ref (tsa t sn))] := hl
  obtain ⟨hK, hH⟩ := hKH
  have hn9 : tn t ≤ 9 := hH.2.2.1
  refine lv_iconst (v := nI 2) hF.1 hF.2.1 dX7_kind_0 (by decide) ?_
  exact hret _ _ _ dX7_kind_1 (by rfl)

def fX8_kind : Int32 := nI 3
def rmX8_kind : Room := { frames := 1, cells := 0, slots := 0, locals := 24 }
theorem hdX8_kind : yX8_kind.cls = RX8 ∧ yX8_kind.cls ≠ "java/lang/invoke/MethodHandle" ∧ yX8_kind.cls ≠ "java/lang/invoke/VarHandle" ∧ (parseMethodDescriptor yX8_kind.desc).map (fun d => d.parameters.length) = some 0 := by decide +kernel
set_option maxHeartbeats 4000000 in
theorem kX8_kind (l : Launch) (ω : OM) (g : Nat → Nat → Nat) (y : Nat → Nat → Int32) (a z : Nat → Nat → Nat → Int32) (dr : Int64) (pg : Nat → Int32) (t : TW) (sn : Nat) (hsn : sn < tn t) : Met l yX8_kind (ws_ yX8_kind cX8_kind 1 (some .int)) rmX8_kind (va_Pc [.ref (tsa t sn)] (fun U => xK ω U ∧ xH ω (g, y, a, z, dr, pg, t) U.heap)) (vp_Si (fun r => r = fX8_kind)) 0 0 (fun _ => False) := by
  refine g_entPi (C := RX8) rfl (by decide) (Nat.le_of_ble_eq_true rfl) ?_
  intro p e s m args below meth c QQ ls hF hKH hl hret
  have hl : lv_has ls 1 [(0, .ref (tsa t sn))] := hl
  obtain ⟨hK, hH⟩ := hKH
  have hn9 : tn t ≤ 9 := hH.2.2.1
  refine lv_iconst (v := nI 3) hF.1 hF.2.1 dX8_kind_0 (by decide) ?_
  exact hret _ _ _ dX8_kind_1 (by rfl)

def fX9_kind : Int32 := nI 4
def rmX9_kind : Room := { frames := 1, cells := 0, slots := 0, locals := 24 }
theorem hdX9_kind : yX9_kind.cls = RX9 ∧ yX9_kind.cls ≠ "java/lang/invoke/MethodHandle" ∧ yX9_kind.cls ≠ "java/lang/invoke/VarHandle" ∧ (parseMethodDescriptor yX9_kind.desc).map (fun d => d.parameters.length) = some 0 := by decide +kernel
set_option maxHeartbeats 4000000 in
theorem kX9_kind (l : Launch) (ω : OM) (g : Nat → Nat → Nat) (y : Nat → Nat → Int32) (a z : Nat → Nat → Nat → Int32) (dr : Int64) (pg : Nat → Int32) (t : TW) (sn : Nat) (hsn : sn < tn t) : Met l yX9_kind (ws_ yX9_kind cX9_kind 1 (some .int)) rmX9_kind (va_Pc [.ref (tsa t sn)] (fun U => xK ω U ∧ xH ω (g, y, a, z, dr, pg, t) U.heap)) (vp_Si (fun r => r = fX9_kind)) 0 0 (fun _ => False) := by
  refine g_entPi (C := RX9) rfl (by decide) (Nat.le_of_ble_eq_true rfl) ?_
  intro p e s m args below meth c QQ ls hF hKH hl hret
  have hl : lv_has ls 1 [(0, .ref (tsa t sn))] := hl
  obtain ⟨hK, hH⟩ := hKH
  have hn9 : tn t ≤ 9 := hH.2.2.1
  refine lv_iconst (v := nI 4) hF.1 hF.2.1 dX9_kind_0 (by decide) ?_
  exact hret _ _ _ dX9_kind_1 (by rfl)

def fX5_endsAt (t : TW) (sn : Nat) (cn : Nat) : Int32 := if (ta t sn) = cn then nI 1 else if (tb t sn) = cn then nI 1 else nI 0
theorem fX5_endsAt_b (t : TW) (sn : Nat) (cn : Nat) : (fX5_endsAt t sn cn) = 0 ∨ (fX5_endsAt t sn cn) = 1 := by
  unfold fX5_endsAt
  exact (g_ite (Or.inr rfl) (g_ite (Or.inr rfl) (Or.inl nI_0)))
def rmX5_endsAt : Room := { frames := 1, cells := 0, slots := 0, locals := 24 }
theorem hdX5_endsAt : yX5_endsAt.cls = RX5 ∧ yX5_endsAt.cls ≠ "java/lang/invoke/MethodHandle" ∧ yX5_endsAt.cls ≠ "java/lang/invoke/VarHandle" ∧ (parseMethodDescriptor yX5_endsAt.desc).map (fun d => d.parameters.length) = some 1 := by decide +kernel
set_option maxHeartbeats 4000000 in
theorem kX5_endsAt (l : Launch) (ω : OM) (g : Nat → Nat → Nat) (y : Nat → Nat → Int32) (a z : Nat → Nat → Nat → Int32) (dr : Int64) (pg : Nat → Int32) (t : TW) (sn : Nat) (hsn : sn < tn t) (cn : Nat) (hcn : cn < 8) : Met l yX5_endsAt (ws_ yX5_endsAt cX5_endsAt 2 (some .boolean)) rmX5_endsAt (va_Pc [.ref (tsa t sn), .int (nI cn)] (fun U => xK ω U ∧ xH ω (g, y, a, z, dr, pg, t) U.heap)) (vp_Si (fun r => r = (fX5_endsAt t sn cn))) 0 0 (fun _ => False) := by
  refine g_entPz (C := RX5) rfl (by decide) (Nat.le_of_ble_eq_true rfl) ?_
  intro p e s m args below meth c QQ ls hF hKH hl hret
  have hl : lv_has ls 2 [(0, .ref (tsa t sn)), (1, .int (nI cn))] := hl
  obtain ⟨hK, hH⟩ := hKH
  have hn9 : tn t ≤ 9 := hH.2.2.1
  refine lv_aload_n hF.1 hF.2.1 dX5_endsAt_0 rfl (lv_at hl 0 rfl) ?_
  refine xs_g0 hF hK hH (i := sn) (by omega) q440 dX5_endsAt_1 ?_
  have hst1 := hH.2.2.2.2 sn (by first | exact hsn | (show _ < tn t; omega))
  change tk t sn < 5 ∧ ta t sn < 8 ∧ tb t sn < 8 ∧ ¬ ta t sn = tb t sn ∧ 1 ≤ tl t sn ∧ tl t sn ≤ 9 at hst1
  refine lv_iload_n hF.1 hF.2.1 dX5_endsAt_4 rfl (lv_at hl 1 rfl) ?_
  refine n_eq (tgt := 16) hF.1 hF.2.1 dX5_endsAt_5 (by decide) (by omega) (by omega) (fun c1 => ?_) (fun c1 => ?_)
  · skip
    refine lv_iconst (v := nI 1) hF.1 hF.2.1 dX5_endsAt_16 (by decide) ?_
    refine lv_goto (tgt := 21) hF.1 hF.2.1 dX5_endsAt_17 (by decide) ?_
    exact hret _ _ _ dX5_endsAt_21 (by unfold fX5_endsAt; first | (rw [if_pos c1]; done) | (simp only [if_pos c1])) (by exact (Or.inr rfl))
  · skip
    refine lv_aload_n hF.1 hF.2.1 dX5_endsAt_8 rfl (lv_at hl 0 rfl) ?_
    refine xs_g1 hF hK hH (i := sn) (by omega) q444 dX5_endsAt_9 ?_
    have hst9 := hH.2.2.2.2 sn (by first | exact hsn | (show _ < tn t; omega))
    change tk t sn < 5 ∧ ta t sn < 8 ∧ tb t sn < 8 ∧ ¬ ta t sn = tb t sn ∧ 1 ≤ tl t sn ∧ tl t sn ≤ 9 at hst9
    refine lv_iload_n hF.1 hF.2.1 dX5_endsAt_12 rfl (lv_at hl 1 rfl) ?_
    refine n_ne (tgt := 20) hF.1 hF.2.1 dX5_endsAt_13 (by decide) (by omega) (by omega) (fun c2 => ?_) (fun c2 => ?_)
    · skip
      refine lv_iconst (v := nI 0) hF.1 hF.2.1 dX5_endsAt_20 (by decide) ?_
      exact hret _ _ _ dX5_endsAt_21 (by unfold fX5_endsAt; first | (rw [if_neg c1, if_neg c2]; done) | (simp only [if_neg c1, if_neg c2])) (by exact (Or.inl nI_0))
    · skip
      refine lv_iconst (v := nI 1) hF.1 hF.2.1 dX5_endsAt_16 (by decide) ?_
      refine lv_goto (tgt := 21) hF.1 hF.2.1 dX5_endsAt_17 (by decide) ?_
      exact hret _ _ _ dX5_endsAt_21 (by unfold fX5_endsAt; first | (rw [if_neg c1, if_pos c2]; done) | (simp only [if_neg c1, if_pos c2])) (by exact (Or.inr rfl))

def fX5_from (t : TW) (sn : Nat) (cn : Nat) : Nat := if (ta t sn) = cn then tb t sn else ta t sn
def rmX5_from : Room := { frames := 1, cells := 0, slots := 0, locals := 24 }
theorem hdX5_from : yX5_from.cls = RX5 ∧ yX5_from.cls ≠ "java/lang/invoke/MethodHandle" ∧ yX5_from.cls ≠ "java/lang/invoke/VarHandle" ∧ (parseMethodDescriptor yX5_from.desc).map (fun d => d.parameters.length) = some 1 := by decide +kernel
set_option maxHeartbeats 4000000 in
theorem kX5_from (l : Launch) (ω : OM) (g : Nat → Nat → Nat) (y : Nat → Nat → Int32) (a z : Nat → Nat → Nat → Int32) (dr : Int64) (pg : Nat → Int32) (t : TW) (sn : Nat) (hsn : sn < tn t) (cn : Nat) (hcn : cn < 8) : Met l yX5_from (ws_ yX5_from cX5_from 2 (some .int)) rmX5_from (va_Pc [.ref (tsa t sn), .int (nI cn)] (fun U => xK ω U ∧ xH ω (g, y, a, z, dr, pg, t) U.heap)) (vp_Si (fun r => r = nI (fX5_from t sn cn))) 0 0 (fun _ => False) := by
  refine g_entPi (C := RX5) rfl (by decide) (Nat.le_of_ble_eq_true rfl) ?_
  intro p e s m args below meth c QQ ls hF hKH hl hret
  have hl : lv_has ls 2 [(0, .ref (tsa t sn)), (1, .int (nI cn))] := hl
  obtain ⟨hK, hH⟩ := hKH
  have hn9 : tn t ≤ 9 := hH.2.2.1
  refine lv_aload_n hF.1 hF.2.1 dX5_from_0 rfl (lv_at hl 0 rfl) ?_
  refine xs_g0 hF hK hH (i := sn) (by omega) q440 dX5_from_1 ?_
  have hst1 := hH.2.2.2.2 sn (by first | exact hsn | (show _ < tn t; omega))
  change tk t sn < 5 ∧ ta t sn < 8 ∧ tb t sn < 8 ∧ ¬ ta t sn = tb t sn ∧ 1 ≤ tl t sn ∧ tl t sn ≤ 9 at hst1
  refine lv_iload_n hF.1 hF.2.1 dX5_from_4 rfl (lv_at hl 1 rfl) ?_
  refine n_ne (tgt := 15) hF.1 hF.2.1 dX5_from_5 (by decide) (by omega) (by omega) (fun c1 => ?_) (fun c1 => ?_)
  · skip
    refine lv_aload_n hF.1 hF.2.1 dX5_from_15 rfl (lv_at hl 0 rfl) ?_
    refine xs_g0 hF hK hH (i := sn) (by omega) q440 dX5_from_16 ?_
    have hst16 := hH.2.2.2.2 sn (by first | exact hsn | (show _ < tn t; omega))
    change tk t sn < 5 ∧ ta t sn < 8 ∧ tb t sn < 8 ∧ ¬ ta t sn = tb t sn ∧ 1 ≤ tl t sn ∧ tl t sn ≤ 9 at hst16
    exact hret _ _ _ dX5_from_19 (by unfold fX5_from; first | (rw [if_neg c1]; done) | (simp only [if_neg c1]))
  · skip
    refine lv_aload_n hF.1 hF.2.1 dX5_from_8 rfl (lv_at hl 0 rfl) ?_
    refine xs_g1 hF hK hH (i := sn) (by omega) q444 dX5_from_9 ?_
    have hst9 := hH.2.2.2.2 sn (by first | exact hsn | (show _ < tn t; omega))
    change tk t sn < 5 ∧ ta t sn < 8 ∧ tb t sn < 8 ∧ ¬ ta t sn = tb t sn ∧ 1 ≤ tl t sn ∧ tl t sn ≤ 9 at hst9
    refine lv_goto (tgt := 19) hF.1 hF.2.1 dX5_from_12 (by decide) ?_
    exact hret _ _ _ dX5_from_19 (by unfold fX5_from; first | (rw [if_pos c1]; done) | (simp only [if_pos c1]))

def fX7_hurts (td : Int32) (dy : Int32) : Int32 := jmax fX5_hurts (td - ((nI 2) * dy))
def rmX7_hurts : Room := { frames := 2, cells := 0, slots := 0, locals := 47 }
theorem hdX7_hurts : yX7_hurts.cls = RX7 ∧ yX7_hurts.cls ≠ "java/lang/invoke/MethodHandle" ∧ yX7_hurts.cls ≠ "java/lang/invoke/VarHandle" ∧ (parseMethodDescriptor yX7_hurts.desc).map (fun d => d.parameters.length) = some 3 := by decide +kernel
set_option maxHeartbeats 4000000 in
theorem kX7_hurts (l : Launch) (ω : OM) (g : Nat → Nat → Nat) (y : Nat → Nat → Int32) (a z : Nat → Nat → Nat → Int32) (dr : Int64) (pg : Nat → Int32) (t : TW) (sn : Nat) (hsn : sn < tn t) (td : Int32) (dy : Int32) (of : Int32) (hk : tk t sn = 2) : Met l yX7_hurts (ws_ yX7_hurts cX7_hurts 4 (some .int)) rmX7_hurts (va_Pc [.ref (tsa t sn), .int td, .int dy, .int of] (fun U => xK ω U ∧ xH ω (g, y, a, z, dr, pg, t) U.heap)) (vp_Si (fun r => r = (fX7_hurts td dy))) 0 0 (fun _ => False) := by
  refine g_entPi (C := RX7) rfl (by decide) (Nat.le_of_ble_eq_true rfl) ?_
  intro p e s m args below meth c QQ ls hF hKH hl hret
  have hl : lv_has ls 4 [(0, .ref (tsa t sn)), (1, .int td), (2, .int dy), (3, .int of)] := hl
  obtain ⟨hK, hH⟩ := hKH
  have hn9 : tn t ≤ 9 := hH.2.2.1
  refine lv_aload_n hF.1 hF.2.1 dX7_hurts_0 rfl (lv_at hl 0 rfl) ?_
  refine lv_iload_n hF.1 hF.2.1 dX7_hurts_1 rfl (lv_at hl 1 rfl) ?_
  refine lv_iload_n hF.1 hF.2.1 dX7_hurts_2 rfl (lv_at hl 2 rfl) ?_
  refine lv_iload_n hF.1 hF.2.1 dX7_hurts_3 rfl (lv_at hl 3 rfl) ?_
  refine x_superPi (As := [.int td, .int dy, .int of]) (rest := []) hF hK hH (i := sn) hsn hk rfl (kX5_hurts l ω g y a z dr pg t sn (by omega) td dy of) (lw_SU q655 q639 q467 q637 q102 q657) 3 (by decide +kernel) rfl rfl ⟨Nat.le_of_ble_eq_true rfl, Nat.le_of_ble_eq_true rfl⟩ rfl hl.1 rfl (Nat.le_of_ble_eq_true rfl) dX7_hurts_4 ⟨Nat.zero_le _, Nat.zero_le _⟩ (fun r1 e_r1 => ?_)
  refine lv_iload_n hF.1 hF.2.1 dX7_hurts_7 rfl (lv_at hl 1 rfl) ?_
  refine lv_iconst (v := nI 2) hF.1 hF.2.1 dX7_hurts_8 (by decide) ?_
  refine lv_iload_n hF.1 hF.2.1 dX7_hurts_9 rfl (lv_at hl 2 rfl) ?_
  refine lv_imul hF.1 hF.2.1 dX7_hurts_10 ?_
  refine lv_isub hF.1 hF.2.1 dX7_hurts_11 ?_
  refine va_mmax hF.1 hF.2.1 (hF.2.2.1.trans hl.1.symm) hF.2.2.2.1 (hF.2.2.2.2 _ q656) (hF.2.2.2.2 _ q515) (hF.2.2.2.2 _ q108) (hF.2.2.2.2 _ q516) (Nat.le_of_ble_eq_true rfl) (Nat.le_of_ble_eq_true rfl) (Nat.zero_le _) (Nat.zero_le _) dX7_hurts_12 ?_
  refine n_top (y := jmax r1 (td - ((nI 2) * dy))) rfl ?_
  exact hret _ _ _ dX7_hurts_15 (by subst e_r1; rfl)

def fX8_hurts (td : Int32) : Int32 := (fX5_hurts + (nI 9)) - td
def rmX8_hurts : Room := { frames := 2, cells := 0, slots := 0, locals := 47 }
theorem hdX8_hurts : yX8_hurts.cls = RX8 ∧ yX8_hurts.cls ≠ "java/lang/invoke/MethodHandle" ∧ yX8_hurts.cls ≠ "java/lang/invoke/VarHandle" ∧ (parseMethodDescriptor yX8_hurts.desc).map (fun d => d.parameters.length) = some 3 := by decide +kernel
set_option maxHeartbeats 4000000 in
theorem kX8_hurts (l : Launch) (ω : OM) (g : Nat → Nat → Nat) (y : Nat → Nat → Int32) (a z : Nat → Nat → Nat → Int32) (dr : Int64) (pg : Nat → Int32) (t : TW) (sn : Nat) (hsn : sn < tn t) (td : Int32) (dy : Int32) (of : Int32) (hk : tk t sn = 3) : Met l yX8_hurts (ws_ yX8_hurts cX8_hurts 4 (some .int)) rmX8_hurts (va_Pc [.ref (tsa t sn), .int td, .int dy, .int of] (fun U => xK ω U ∧ xH ω (g, y, a, z, dr, pg, t) U.heap)) (vp_Si (fun r => r = (fX8_hurts td))) 0 0 (fun _ => False) := by
  refine g_entPi (C := RX8) rfl (by decide) (Nat.le_of_ble_eq_true rfl) ?_
  intro p e s m args below meth c QQ ls hF hKH hl hret
  have hl : lv_has ls 4 [(0, .ref (tsa t sn)), (1, .int td), (2, .int dy), (3, .int of)] := hl
  obtain ⟨hK, hH⟩ := hKH
  have hn9 : tn t ≤ 9 := hH.2.2.1
  refine lv_aload_n hF.1 hF.2.1 dX8_hurts_0 rfl (lv_at hl 0 rfl) ?_
  refine lv_iload_n hF.1 hF.2.1 dX8_hurts_1 rfl (lv_at hl 1 rfl) ?_
  refine lv_iload_n hF.1 hF.2.1 dX8_hurts_2 rfl (lv_at hl 2 rfl) ?_
  refine lv_iload_n hF.1 hF.2.1 dX8_hurts_3 rfl (lv_at hl 3 rfl) ?_
  refine x_superPi (As := [.int td, .int dy, .int of]) (rest := []) hF hK hH (i := sn) hsn hk rfl (kX5_hurts l ω g y a z dr pg t sn (by omega) td dy of) (lw_SU q650 q639 q477 q637 q102 q657) 3 (by decide +kernel) rfl rfl ⟨Nat.le_of_ble_eq_true rfl, Nat.le_of_ble_eq_true rfl⟩ rfl hl.1 rfl (Nat.le_of_ble_eq_true rfl) dX8_hurts_4 ⟨Nat.zero_le _, Nat.zero_le _⟩ (fun r1 e_r1 => ?_)
  refine lv_bipush (v := nI 9) hF.1 hF.2.1 dX8_hurts_7 (by decide) ?_
  refine lv_iadd hF.1 hF.2.1 dX8_hurts_9 ?_
  refine lv_iload_n hF.1 hF.2.1 dX8_hurts_10 rfl (lv_at hl 1 rfl) ?_
  refine lv_isub hF.1 hF.2.1 dX8_hurts_11 ?_
  exact hret _ _ _ dX8_hurts_12 (by subst e_r1; rfl)

def fX6_hurts_1 (td : Int32) : Int32 := fX5_hurts + td
def rmX6_hurts_1 : Room := { frames := 2, cells := 0, slots := 0, locals := 47 }
theorem hdX6_hurts_1 : yX6_hurts.cls = RX6 ∧ yX6_hurts.cls ≠ "java/lang/invoke/MethodHandle" ∧ yX6_hurts.cls ≠ "java/lang/invoke/VarHandle" ∧ (parseMethodDescriptor yX6_hurts.desc).map (fun d => d.parameters.length) = some 3 := by decide +kernel
set_option maxHeartbeats 4000000 in
theorem kX6_hurts_1 (l : Launch) (ω : OM) (g : Nat → Nat → Nat) (y : Nat → Nat → Int32) (a z : Nat → Nat → Nat → Int32) (dr : Int64) (pg : Nat → Int32) (t : TW) (sn : Nat) (hsn : sn < tn t) (td : Int32) (dy : Int32) (of : Int32) (hk : tk t sn = 1) : Met l yX6_hurts (ws_ yX6_hurts cX6_hurts 4 (some .int)) rmX6_hurts_1 (va_Pc [.ref (tsa t sn), .int td, .int dy, .int of] (fun U => xK ω U ∧ xH ω (g, y, a, z, dr, pg, t) U.heap)) (vp_Si (fun r => r = (fX6_hurts_1 td))) 0 0 (fun _ => False) := by
  refine g_entPi (C := RX6) rfl (by decide) (Nat.le_of_ble_eq_true rfl) ?_
  intro p e s m args below meth c QQ ls hF hKH hl hret
  have hl : lv_has ls 4 [(0, .ref (tsa t sn)), (1, .int td), (2, .int dy), (3, .int of)] := hl
  obtain ⟨hK, hH⟩ := hKH
  have hn9 : tn t ≤ 9 := hH.2.2.1
  refine lv_aload_n hF.1 hF.2.1 dX6_hurts_0 rfl (lv_at hl 0 rfl) ?_
  refine lv_iload_n hF.1 hF.2.1 dX6_hurts_1 rfl (lv_at hl 1 rfl) ?_
  refine lv_iload_n hF.1 hF.2.1 dX6_hurts_2 rfl (lv_at hl 2 rfl) ?_
  refine lv_iload_n hF.1 hF.2.1 dX6_hurts_3 rfl (lv_at hl 3 rfl) ?_
  refine x_superPi (As := [.int td, .int dy, .int of]) (rest := []) hF hK hH (i := sn) hsn hk rfl (kX5_hurts l ω g y a z dr pg t sn (by omega) td dy of) (lw_SU q646 q639 q457 q637 q102 q657) 3 (by decide +kernel) rfl rfl ⟨Nat.le_of_ble_eq_true rfl, Nat.le_of_ble_eq_true rfl⟩ rfl hl.1 rfl (Nat.le_of_ble_eq_true rfl) dX6_hurts_4 ⟨Nat.zero_le _, Nat.zero_le _⟩ (fun r1 e_r1 => ?_)
  refine lv_iload_n hF.1 hF.2.1 dX6_hurts_7 rfl (lv_at hl 1 rfl) ?_
  refine lv_iadd hF.1 hF.2.1 dX6_hurts_8 ?_
  exact hret _ _ _ dX6_hurts_9 (by subst e_r1; rfl)

def fX6_hurts_4 (td : Int32) : Int32 := fX5_hurts + td
def rmX6_hurts_4 : Room := { frames := 2, cells := 0, slots := 0, locals := 47 }
theorem hdX6_hurts_4 : yX6_hurts.cls = RX6 ∧ yX6_hurts.cls ≠ "java/lang/invoke/MethodHandle" ∧ yX6_hurts.cls ≠ "java/lang/invoke/VarHandle" ∧ (parseMethodDescriptor yX6_hurts.desc).map (fun d => d.parameters.length) = some 3 := by decide +kernel
set_option maxHeartbeats 4000000 in
theorem kX6_hurts_4 (l : Launch) (ω : OM) (g : Nat → Nat → Nat) (y : Nat → Nat → Int32) (a z : Nat → Nat → Nat → Int32) (dr : Int64) (pg : Nat → Int32) (t : TW) (sn : Nat) (hsn : sn < tn t) (td : Int32) (dy : Int32) (of : Int32) (hk : tk t sn = 4) : Met l yX6_hurts (ws_ yX6_hurts cX6_hurts 4 (some .int)) rmX6_hurts_4 (va_Pc [.ref (tsa t sn), .int td, .int dy, .int of] (fun U => xK ω U ∧ xH ω (g, y, a, z, dr, pg, t) U.heap)) (vp_Si (fun r => r = (fX6_hurts_4 td))) 0 0 (fun _ => False) := by
  refine g_entPi (C := RX6) rfl (by decide) (Nat.le_of_ble_eq_true rfl) ?_
  intro p e s m args below meth c QQ ls hF hKH hl hret
  have hl : lv_has ls 4 [(0, .ref (tsa t sn)), (1, .int td), (2, .int dy), (3, .int of)] := hl
  obtain ⟨hK, hH⟩ := hKH
  have hn9 : tn t ≤ 9 := hH.2.2.1
  refine lv_aload_n hF.1 hF.2.1 dX6_hurts_0 rfl (lv_at hl 0 rfl) ?_
  refine lv_iload_n hF.1 hF.2.1 dX6_hurts_1 rfl (lv_at hl 1 rfl) ?_
  refine lv_iload_n hF.1 hF.2.1 dX6_hurts_2 rfl (lv_at hl 2 rfl) ?_
  refine lv_iload_n hF.1 hF.2.1 dX6_hurts_3 rfl (lv_at hl 3 rfl) ?_
  refine x_superPi (As := [.int td, .int dy, .int of]) (rest := []) hF hK hH (i := sn) hsn hk rfl (kX5_hurts l ω g y a z dr pg t sn (by omega) td dy of) (lw_SU q646 q639 q457 q637 q102 q657) 3 (by decide +kernel) rfl rfl ⟨Nat.le_of_ble_eq_true rfl, Nat.le_of_ble_eq_true rfl⟩ rfl hl.1 rfl (Nat.le_of_ble_eq_true rfl) dX6_hurts_4 ⟨Nat.zero_le _, Nat.zero_le _⟩ (fun r1 e_r1 => ?_)
  refine lv_iload_n hF.1 hF.2.1 dX6_hurts_7 rfl (lv_at hl 1 rfl) ?_
  refine lv_iadd hF.1 hF.2.1 dX6_hurts_8 ?_
  exact hret _ _ _ dX6_hurts_9 (by subst e_r1; rfl)

def fX9_hurts (td : Int32) (of : Int32) : Int32 := (fX6_hurts_4 td) + of
def rmX9_hurts : Room := { frames := 3, cells := 0, slots := 0, locals := 70 }
theorem hdX9_hurts : yX9_hurts.cls = RX9 ∧ yX9_hurts.cls ≠ "java/lang/invoke/MethodHandle" ∧ yX9_hurts.cls ≠ "java/lang/invoke/VarHandle" ∧ (parseMethodDescriptor yX9_hurts.desc).map (fun d => d.parameters.length) = some 3 := by decide +kernel
set_option maxHeartbeats 4000000 in
theorem kX9_hurts (l : Launch) (ω : OM) (g : Nat → Nat → Nat) (y : Nat → Nat → Int32) (a z : Nat → Nat → Nat → Int32) (dr : Int64) (pg : Nat → Int32) (t : TW) (sn : Nat) (hsn : sn < tn t) (td : Int32) (dy : Int32) (of : Int32) (hk : tk t sn = 4) : Met l yX9_hurts (ws_ yX9_hurts cX9_hurts 4 (some .int)) rmX9_hurts (va_Pc [.ref (tsa t sn), .int td, .int dy, .int of] (fun U => xK ω U ∧ xH ω (g, y, a, z, dr, pg, t) U.heap)) (vp_Si (fun r => r = (fX9_hurts td of))) 0 0 (fun _ => False) := by
  refine g_entPi (C := RX9) rfl (by decide) (Nat.le_of_ble_eq_true rfl) ?_
  intro p e s m args below meth c QQ ls hF hKH hl hret
  have hl : lv_has ls 4 [(0, .ref (tsa t sn)), (1, .int td), (2, .int dy), (3, .int of)] := hl
  obtain ⟨hK, hH⟩ := hKH
  have hn9 : tn t ≤ 9 := hH.2.2.1
  refine lv_aload_n hF.1 hF.2.1 dX9_hurts_0 rfl (lv_at hl 0 rfl) ?_
  refine lv_iload_n hF.1 hF.2.1 dX9_hurts_1 rfl (lv_at hl 1 rfl) ?_
  refine lv_iload_n hF.1 hF.2.1 dX9_hurts_2 rfl (lv_at hl 2 rfl) ?_
  refine lv_iload_n hF.1 hF.2.1 dX9_hurts_3 rfl (lv_at hl 3 rfl) ?_
  refine x_superPi (As := [.int td, .int dy, .int of]) (rest := []) hF hK hH (i := sn) hsn hk rfl (kX6_hurts_4 l ω g y a z dr pg t sn (by omega) td dy of hk) (lw_SU q643 q1387 q487 q644 q103 q645) 3 (by decide +kernel) rfl rfl ⟨Nat.le_of_ble_eq_true rfl, Nat.le_of_ble_eq_true rfl⟩ rfl hl.1 rfl (Nat.le_of_ble_eq_true rfl) dX9_hurts_4 ⟨Nat.zero_le _, Nat.zero_le _⟩ (fun r1 e_r1 => ?_)
  refine lv_iload_n hF.1 hF.2.1 dX9_hurts_7 rfl (lv_at hl 3 rfl) ?_
  refine lv_iadd hF.1 hF.2.1 dX9_hurts_8 ?_
  exact hret _ _ _ dX9_hurts_9 (by subst e_r1; rfl)

