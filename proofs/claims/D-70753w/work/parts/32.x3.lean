/-! CLASS: isOf -/
set_option maxRecDepth 100000
def fX5_isOf (t : TW) (sn : Nat) (kd : Int32) : Int32 := if kd = 0 then nI 1 else if kd = (nI (tk t sn)) then nI 1 else nI 0
theorem fX5_isOf_b (t : TW) (sn : Nat) (kd : Int32) : (fX5_isOf t sn kd) = 0 ∨ (fX5_isOf t sn kd) = 1 := by
  unfold fX5_isOf
  exact (g_ite (Or.inr rfl) (g_ite (Or.inr rfl) (Or.inl nI_0)))
def rmX5_isOf : Room := { frames := 2, cells := 0, slots := 0, locals := 44 }
theorem hdX5_isOf : yX5_isOf.cls = RX5 ∧ yX5_isOf.cls ≠ "java/lang/invoke/MethodHandle" ∧ yX5_isOf.cls ≠ "java/lang/invoke/VarHandle" ∧ (parseMethodDescriptor yX5_isOf.desc).map (fun d => d.parameters.length) = some 1 := by decide +kernel
set_option maxHeartbeats 4000000 in
theorem kX5_isOf (l : Launch) (ω : OM) (g : Nat → Nat → Nat) (y : Nat → Nat → Int32) (a z : Nat → Nat → Nat → Int32) (dr : Int64) (pg : Nat → Int32) (t : TW) (sn : Nat) (hsn : sn < tn t) (kd : Int32) : Met l yX5_isOf (ws_ yX5_isOf cX5_isOf 2 (some .boolean)) rmX5_isOf (va_Pc [.ref (tsa t sn), .int kd] (fun U => xK ω U ∧ xH ω (g, y, a, z, dr, pg, t) U.heap)) (vp_Si (fun r => r = (fX5_isOf t sn kd))) 0 0 (fun _ => False) := by
  refine g_entPz (C := RX5) rfl (by decide) (Nat.le_of_ble_eq_true rfl) ?_
  intro p e s m args below meth c QQ ls hF hKH hl hret
  have hl : lv_has ls 2 [(0, .ref (tsa t sn)), (1, .int kd)] := hl
  obtain ⟨hK, hH⟩ := hKH
  have hn9 : tn t ≤ 9 := hH.2.2.1
  refine lv_iload_n hF.1 hF.2.1 dX5_isOf_0 rfl (lv_at hl 1 rfl) ?_
  refine lv_if_eq (tgt := 12) hF.1 hF.2.1 dX5_isOf_1 (by decide) (fun c1 => ?_) (fun c1 => ?_)
  · skip
    refine lv_iconst (v := nI 1) hF.1 hF.2.1 dX5_isOf_12 (by decide) ?_
    refine lv_goto (tgt := 17) hF.1 hF.2.1 dX5_isOf_13 (by decide) ?_
    exact hret _ _ _ dX5_isOf_17 (by unfold fX5_isOf; first | (rw [if_pos c1]; done) | (simp only [if_pos c1])) (by exact (Or.inr rfl))
  · skip
    refine lv_iload_n hF.1 hF.2.1 dX5_isOf_4 rfl (lv_at hl 1 rfl) ?_
    refine lv_aload_n hF.1 hF.2.1 dX5_isOf_5 rfl (lv_at hl 0 rfl) ?_
    refine x_vkind (rest := [.int kd]) hF hK hH sn (by omega)  q738 ⟨Nat.le_of_ble_eq_true rfl, Nat.le_of_ble_eq_true rfl⟩ hl.1 rfl (Nat.le_of_ble_eq_true rfl) dX5_isOf_6 ⟨Nat.zero_le _, Nat.zero_le _⟩ ?_
    refine lv_icmp_ne (tgt := 16) hF.1 hF.2.1 dX5_isOf_9 (by decide) (fun c2 => ?_) (fun c2 => ?_)
    · skip
      refine lv_iconst (v := nI 0) hF.1 hF.2.1 dX5_isOf_16 (by decide) ?_
      exact hret _ _ _ dX5_isOf_17 (by unfold fX5_isOf; first | (rw [if_neg c1, if_neg c2]; done) | (simp only [if_neg c1, if_neg c2])) (by exact (Or.inl nI_0))
    · skip
      refine lv_iconst (v := nI 1) hF.1 hF.2.1 dX5_isOf_12 (by decide) ?_
      refine lv_goto (tgt := 17) hF.1 hF.2.1 dX5_isOf_13 (by decide) ?_
      exact hret _ _ _ dX5_isOf_17 (by unfold fX5_isOf; first | (rw [if_neg c1, if_pos c2]; done) | (simp only [if_neg c1, if_pos c2])) (by exact (Or.inr rfl))

def fX6_isOf_1 (t : TW) (sn : Nat) (kd : Int32) : Int32 := if kd = (nI 1) then nI 1 else if (fX5_isOf t sn kd) = 0 then nI 0 else nI 1
theorem fX6_isOf_1_b (t : TW) (sn : Nat) (kd : Int32) : (fX6_isOf_1 t sn kd) = 0 ∨ (fX6_isOf_1 t sn kd) = 1 := by
  unfold fX6_isOf_1
  exact (g_ite (Or.inr rfl) (g_ite (Or.inl nI_0) (Or.inr rfl)))
def rmX6_isOf_1 : Room := { frames := 3, cells := 0, slots := 0, locals := 65 }
theorem hdX6_isOf_1 : yX6_isOf.cls = RX6 ∧ yX6_isOf.cls ≠ "java/lang/invoke/MethodHandle" ∧ yX6_isOf.cls ≠ "java/lang/invoke/VarHandle" ∧ (parseMethodDescriptor yX6_isOf.desc).map (fun d => d.parameters.length) = some 1 := by decide +kernel
set_option maxHeartbeats 4000000 in
theorem kX6_isOf_1 (l : Launch) (ω : OM) (g : Nat → Nat → Nat) (y : Nat → Nat → Int32) (a z : Nat → Nat → Nat → Int32) (dr : Int64) (pg : Nat → Int32) (t : TW) (sn : Nat) (hsn : sn < tn t) (kd : Int32) (hk : tk t sn = 1) : Met l yX6_isOf (ws_ yX6_isOf cX6_isOf 2 (some .boolean)) rmX6_isOf_1 (va_Pc [.ref (tsa t sn), .int kd] (fun U => xK ω U ∧ xH ω (g, y, a, z, dr, pg, t) U.heap)) (vp_Si (fun r => r = (fX6_isOf_1 t sn kd))) 0 0 (fun _ => False) := by
  refine g_entPz (C := RX6) rfl (by decide) (Nat.le_of_ble_eq_true rfl) ?_
  intro p e s m args below meth c QQ ls hF hKH hl hret
  have hl : lv_has ls 2 [(0, .ref (tsa t sn)), (1, .int kd)] := hl
  obtain ⟨hK, hH⟩ := hKH
  have hn9 : tn t ≤ 9 := hH.2.2.1
  refine lv_iload_n hF.1 hF.2.1 dX6_isOf_0 rfl (lv_at hl 1 rfl) ?_
  refine lv_iconst (v := nI 1) hF.1 hF.2.1 dX6_isOf_1 (by decide) ?_
  refine lv_icmp_eq (tgt := 13) hF.1 hF.2.1 dX6_isOf_2 (by decide) (fun c1 => ?_) (fun c1 => ?_)
  · skip
    refine lv_iconst (v := nI 1) hF.1 hF.2.1 dX6_isOf_13 (by decide) ?_
    refine lv_goto (tgt := 18) hF.1 hF.2.1 dX6_isOf_14 (by decide) ?_
    exact hret _ _ _ dX6_isOf_18 (by unfold fX6_isOf_1; first | (rw [if_pos c1]; done) | (simp only [if_pos c1])) (by exact (Or.inr rfl))
  · skip
    refine lv_aload_n hF.1 hF.2.1 dX6_isOf_5 rfl (lv_at hl 0 rfl) ?_
    refine lv_iload_n hF.1 hF.2.1 dX6_isOf_6 rfl (lv_at hl 1 rfl) ?_
    refine x_superPi (As := [.int kd]) (rest := []) hF hK hH (i := sn) hsn hk rfl (kX5_isOf l ω g y a z dr pg t sn (by omega) kd) (lw_SU q733 q726 q457 q724 q102 q737) 1 (by decide +kernel) rfl rfl ⟨Nat.le_of_ble_eq_true rfl, Nat.le_of_ble_eq_true rfl⟩ rfl hl.1 rfl (Nat.le_of_ble_eq_true rfl) dX6_isOf_7 ⟨Nat.zero_le _, Nat.zero_le _⟩ (fun r2 e_r2 => ?_)
    refine lv_if_eq (tgt := 17) hF.1 hF.2.1 dX6_isOf_10 (by decide) (fun c3 => ?_) (fun c3 => ?_)
    · skip
      refine lv_iconst (v := nI 0) hF.1 hF.2.1 dX6_isOf_17 (by decide) ?_
      exact hret _ _ _ dX6_isOf_18 (by subst e_r2; unfold fX6_isOf_1; first | (rw [if_neg c1, if_pos c3]; done) | (simp only [if_neg c1, if_pos c3])) (by subst e_r2; exact (Or.inl nI_0))
    · skip
      refine lv_iconst (v := nI 1) hF.1 hF.2.1 dX6_isOf_13 (by decide) ?_
      refine lv_goto (tgt := 18) hF.1 hF.2.1 dX6_isOf_14 (by decide) ?_
      exact hret _ _ _ dX6_isOf_18 (by subst e_r2; unfold fX6_isOf_1; first | (rw [if_neg c1, if_neg c3]; done) | (simp only [if_neg c1, if_neg c3])) (by subst e_r2; exact (Or.inr rfl))

def fX6_isOf_4 (t : TW) (sn : Nat) (kd : Int32) : Int32 := if kd = (nI 1) then nI 1 else if (fX5_isOf t sn kd) = 0 then nI 0 else nI 1
theorem fX6_isOf_4_b (t : TW) (sn : Nat) (kd : Int32) : (fX6_isOf_4 t sn kd) = 0 ∨ (fX6_isOf_4 t sn kd) = 1 := by
  unfold fX6_isOf_4
  exact (g_ite (Or.inr rfl) (g_ite (Or.inl nI_0) (Or.inr rfl)))
def rmX6_isOf_4 : Room := { frames := 3, cells := 0, slots := 0, locals := 65 }
theorem hdX6_isOf_4 : yX6_isOf.cls = RX6 ∧ yX6_isOf.cls ≠ "java/lang/invoke/MethodHandle" ∧ yX6_isOf.cls ≠ "java/lang/invoke/VarHandle" ∧ (parseMethodDescriptor yX6_isOf.desc).map (fun d => d.parameters.length) = some 1 := by decide +kernel
set_option maxHeartbeats 4000000 in
theorem kX6_isOf_4 (l : Launch) (ω : OM) (g : Nat → Nat → Nat) (y : Nat → Nat → Int32) (a z : Nat → Nat → Nat → Int32) (dr : Int64) (pg : Nat → Int32) (t : TW) (sn : Nat) (hsn : sn < tn t) (kd : Int32) (hk : tk t sn = 4) : Met l yX6_isOf (ws_ yX6_isOf cX6_isOf 2 (some .boolean)) rmX6_isOf_4 (va_Pc [.ref (tsa t sn), .int kd] (fun U => xK ω U ∧ xH ω (g, y, a, z, dr, pg, t) U.heap)) (vp_Si (fun r => r = (fX6_isOf_4 t sn kd))) 0 0 (fun _ => False) := by
  refine g_entPz (C := RX6) rfl (by decide) (Nat.le_of_ble_eq_true rfl) ?_
  intro p e s m args below meth c QQ ls hF hKH hl hret
  have hl : lv_has ls 2 [(0, .ref (tsa t sn)), (1, .int kd)] := hl
  obtain ⟨hK, hH⟩ := hKH
  have hn9 : tn t ≤ 9 := hH.2.2.1
  refine lv_iload_n hF.1 hF.2.1 dX6_isOf_0 rfl (lv_at hl 1 rfl) ?_
  refine lv_iconst (v := nI 1) hF.1 hF.2.1 dX6_isOf_1 (by decide) ?_
  refine lv_icmp_eq (tgt := 13) hF.1 hF.2.1 dX6_isOf_2 (by decide) (fun c1 => ?_) (fun c1 => ?_)
  · skip
    refine lv_iconst (v := nI 1) hF.1 hF.2.1 dX6_isOf_13 (by decide) ?_
    refine lv_goto (tgt := 18) hF.1 hF.2.1 dX6_isOf_14 (by decide) ?_
    exact hret _ _ _ dX6_isOf_18 (by unfold fX6_isOf_4; first | (rw [if_pos c1]; done) | (simp only [if_pos c1])) (by exact (Or.inr rfl))
  · skip
    refine lv_aload_n hF.1 hF.2.1 dX6_isOf_5 rfl (lv_at hl 0 rfl) ?_
    refine lv_iload_n hF.1 hF.2.1 dX6_isOf_6 rfl (lv_at hl 1 rfl) ?_
    refine x_superPi (As := [.int kd]) (rest := []) hF hK hH (i := sn) hsn hk rfl (kX5_isOf l ω g y a z dr pg t sn (by omega) kd) (lw_SU q733 q726 q457 q724 q102 q737) 1 (by decide +kernel) rfl rfl ⟨Nat.le_of_ble_eq_true rfl, Nat.le_of_ble_eq_true rfl⟩ rfl hl.1 rfl (Nat.le_of_ble_eq_true rfl) dX6_isOf_7 ⟨Nat.zero_le _, Nat.zero_le _⟩ (fun r2 e_r2 => ?_)
    refine lv_if_eq (tgt := 17) hF.1 hF.2.1 dX6_isOf_10 (by decide) (fun c3 => ?_) (fun c3 => ?_)
    · skip
      refine lv_iconst (v := nI 0) hF.1 hF.2.1 dX6_isOf_17 (by decide) ?_
      exact hret _ _ _ dX6_isOf_18 (by subst e_r2; unfold fX6_isOf_4; first | (rw [if_neg c1, if_pos c3]; done) | (simp only [if_neg c1, if_pos c3])) (by subst e_r2; exact (Or.inl nI_0))
    · skip
      refine lv_iconst (v := nI 1) hF.1 hF.2.1 dX6_isOf_13 (by decide) ?_
      refine lv_goto (tgt := 18) hF.1 hF.2.1 dX6_isOf_14 (by decide) ?_
      exact hret _ _ _ dX6_isOf_18 (by subst e_r2; unfold fX6_isOf_4; first | (rw [if_neg c1, if_neg c3]; done) | (simp only [if_neg c1, if_neg c3])) (by subst e_r2; exact (Or.inr rfl))

def fX9_isOf (t : TW) (sn : Nat) (kd : Int32) : Int32 := if kd = (nI 4) then nI 1 else if (fX6_isOf_4 t sn kd) = 0 then nI 0 else nI 1
theorem fX9_isOf_b (t : TW) (sn : Nat) (kd : Int32) : (fX9_isOf t sn kd) = 0 ∨ (fX9_isOf t sn kd) = 1 := by
  unfold fX9_isOf
  exact (g_ite (Or.inr rfl) (g_ite (Or.inl nI_0) (Or.inr rfl)))
def rmX9_isOf : Room := { frames := 4, cells := 0, slots := 0, locals := 86 }
theorem hdX9_isOf : yX9_isOf.cls = RX9 ∧ yX9_isOf.cls ≠ "java/lang/invoke/MethodHandle" ∧ yX9_isOf.cls ≠ "java/lang/invoke/VarHandle" ∧ (parseMethodDescriptor yX9_isOf.desc).map (fun d => d.parameters.length) = some 1 := by decide +kernel
set_option maxHeartbeats 4000000 in
theorem kX9_isOf (l : Launch) (ω : OM) (g : Nat → Nat → Nat) (y : Nat → Nat → Int32) (a z : Nat → Nat → Nat → Int32) (dr : Int64) (pg : Nat → Int32) (t : TW) (sn : Nat) (hsn : sn < tn t) (kd : Int32) (hk : tk t sn = 4) : Met l yX9_isOf (ws_ yX9_isOf cX9_isOf 2 (some .boolean)) rmX9_isOf (va_Pc [.ref (tsa t sn), .int kd] (fun U => xK ω U ∧ xH ω (g, y, a, z, dr, pg, t) U.heap)) (vp_Si (fun r => r = (fX9_isOf t sn kd))) 0 0 (fun _ => False) := by
  refine g_entPz (C := RX9) rfl (by decide) (Nat.le_of_ble_eq_true rfl) ?_
  intro p e s m args below meth c QQ ls hF hKH hl hret
  have hl : lv_has ls 2 [(0, .ref (tsa t sn)), (1, .int kd)] := hl
  obtain ⟨hK, hH⟩ := hKH
  have hn9 : tn t ≤ 9 := hH.2.2.1
  refine lv_iload_n hF.1 hF.2.1 dX9_isOf_0 rfl (lv_at hl 1 rfl) ?_
  refine lv_iconst (v := nI 4) hF.1 hF.2.1 dX9_isOf_1 (by decide) ?_
  refine lv_icmp_eq (tgt := 13) hF.1 hF.2.1 dX9_isOf_2 (by decide) (fun c1 => ?_) (fun c1 => ?_)
  · skip
    refine lv_iconst (v := nI 1) hF.1 hF.2.1 dX9_isOf_13 (by decide) ?_
    refine lv_goto (tgt := 18) hF.1 hF.2.1 dX9_isOf_14 (by decide) ?_
    exact hret _ _ _ dX9_isOf_18 (by unfold fX9_isOf; first | (rw [if_pos c1]; done) | (simp only [if_pos c1])) (by exact (Or.inr rfl))
  · skip
    refine lv_aload_n hF.1 hF.2.1 dX9_isOf_5 rfl (lv_at hl 0 rfl) ?_
    refine lv_iload_n hF.1 hF.2.1 dX9_isOf_6 rfl (lv_at hl 1 rfl) ?_
    refine x_superPi (As := [.int kd]) (rest := []) hF hK hH (i := sn) hsn hk rfl (kX6_isOf_4 l ω g y a z dr pg t sn (by omega) kd hk) (lw_SU q730 q1388 q487 q731 q103 q732) 1 (by decide +kernel) rfl rfl ⟨Nat.le_of_ble_eq_true rfl, Nat.le_of_ble_eq_true rfl⟩ rfl hl.1 rfl (Nat.le_of_ble_eq_true rfl) dX9_isOf_7 ⟨Nat.zero_le _, Nat.zero_le _⟩ (fun r2 e_r2 => ?_)
    refine lv_if_eq (tgt := 17) hF.1 hF.2.1 dX9_isOf_10 (by decide) (fun c3 => ?_) (fun c3 => ?_)
    · skip
      refine lv_iconst (v := nI 0) hF.1 hF.2.1 dX9_isOf_17 (by decide) ?_
      exact hret _ _ _ dX9_isOf_18 (by subst e_r2; unfold fX9_isOf; first | (rw [if_neg c1, if_pos c3]; done) | (simp only [if_neg c1, if_pos c3])) (by subst e_r2; exact (Or.inl nI_0))
    · skip
      refine lv_iconst (v := nI 1) hF.1 hF.2.1 dX9_isOf_13 (by decide) ?_
      refine lv_goto (tgt := 18) hF.1 hF.2.1 dX9_isOf_14 (by decide) ?_
      exact hret _ _ _ dX9_isOf_18 (by subst e_r2; unfold fX9_isOf; first | (rw [if_neg c1, if_neg c3]; done) | (simp only [if_neg c1, if_neg c3])) (by subst e_r2; exact (Or.inr rfl))

