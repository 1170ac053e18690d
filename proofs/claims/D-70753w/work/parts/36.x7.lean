/-! CLASS: tests -/
set_option maxRecDepth 100000
def fX0_isPerson (g : Nat → Nat → Nat) (pn : Int32) : Int32 := (fX0_in pn (nI 0) ((nI (g 0 1)) - (nI 1)))
theorem fX0_isPerson_b (g : Nat → Nat → Nat) (pn : Int32) : (fX0_isPerson g pn) = 0 ∨ (fX0_isPerson g pn) = 1 := by
  unfold fX0_isPerson
  exact (fX0_in_b ..)
def rmX0_isPerson : Room := { frames := 2, cells := 0, slots := 0, locals := 46 }
theorem hdX0_isPerson : yX0_isPerson.cls = RX0 ∧ yX0_isPerson.cls ≠ "java/lang/invoke/MethodHandle" ∧ yX0_isPerson.cls ≠ "java/lang/invoke/VarHandle" ∧ (parseMethodDescriptor yX0_isPerson.desc).map (fun d => d.parameters.length) = some 1 := by decide +kernel
set_option maxHeartbeats 4000000 in
theorem kX0_isPerson (l : Launch) (ω : OM) (g : Nat → Nat → Nat) (y : Nat → Nat → Int32) (a z : Nat → Nat → Nat → Int32) (dr : Int64) (pg : Nat → Int32) (t : TW) (pn : Int32) : Met l yX0_isPerson (ws_ yX0_isPerson cX0_isPerson 2 (some .boolean)) rmX0_isPerson (va_Pc [.ref (ω.2.1 0 99), .int pn] (fun U => xK ω U ∧ xH ω (g, y, a, z, dr, pg, t) U.heap)) (vp_Si (fun r => r = (fX0_isPerson g pn))) 0 0 (fun _ => False) := by
  refine g_entPz (C := RX0) rfl (by decide) (Nat.le_of_ble_eq_true rfl) ?_
  intro p e s m args below meth c QQ ls hF hKH hl hret
  have hl : lv_has ls 2 [(0, .ref (ω.2.1 0 99)), (1, .int pn)] := hl
  obtain ⟨hK, hH⟩ := hKH
  have hn9 : tn t ≤ 9 := hH.2.2.1
  refine lv_iload_n hF.1 hF.2.1 dX0_isPerson_0 rfl (lv_at hl 1 rfl) ?_
  refine lv_iconst (v := nI 0) hF.1 hF.2.1 dX0_isPerson_1 (by decide) ?_
  refine lv_aload_n hF.1 hF.2.1 dX0_isPerson_2 rfl (lv_at hl 0 rfl) ?_
  refine xg0_1 hF hK hH q219 dX0_isPerson_3 (v := g 0 1) rfl ?_
  refine lv_iconst (v := nI 1) hF.1 hF.2.1 dX0_isPerson_6 (by decide) ?_
  refine lv_isub hF.1 hF.2.1 dX0_isPerson_7 ?_
  refine g_sPi (As := [.int pn, .int (nI 0), .int ((nI (g 0 1)) - (nI 1))]) (rest := []) hF (kX0_in l pn (nI 0) ((nI (g 0 1)) - (nI 1))) (lw_S q301 q302 q92 q303) 3 hdX0_in.2 rfl rfl ⟨Nat.le_of_ble_eq_true rfl, Nat.le_of_ble_eq_true rfl⟩ g_pre0 rfl hl.1 rfl (Nat.le_of_ble_eq_true rfl) dX0_isPerson_8 ⟨Nat.zero_le _, Nat.zero_le _⟩ (fun r1 e_r1 => ?_)
  exact hret _ _ _ dX0_isPerson_11 (by subst e_r1; rfl) (by subst e_r1; exact (fX0_in_b ..))

def fX0_isStreet (t : TW) (sn : Int32) : Int32 := (fX0_in sn (nI 0) ((nI (tn t)) - (nI 1)))
theorem fX0_isStreet_b (t : TW) (sn : Int32) : (fX0_isStreet t sn) = 0 ∨ (fX0_isStreet t sn) = 1 := by
  unfold fX0_isStreet
  exact (fX0_in_b ..)
def rmX0_isStreet : Room := { frames := 2, cells := 0, slots := 0, locals := 46 }
theorem hdX0_isStreet : yX0_isStreet.cls = RX0 ∧ yX0_isStreet.cls ≠ "java/lang/invoke/MethodHandle" ∧ yX0_isStreet.cls ≠ "java/lang/invoke/VarHandle" ∧ (parseMethodDescriptor yX0_isStreet.desc).map (fun d => d.parameters.length) = some 1 := by decide +kernel
set_option maxHeartbeats 4000000 in
theorem kX0_isStreet (l : Launch) (ω : OM) (g : Nat → Nat → Nat) (y : Nat → Nat → Int32) (a z : Nat → Nat → Nat → Int32) (dr : Int64) (pg : Nat → Int32) (t : TW) (sn : Int32) : Met l yX0_isStreet (ws_ yX0_isStreet cX0_isStreet 2 (some .boolean)) rmX0_isStreet (va_Pc [.ref (ω.2.1 0 99), .int sn] (fun U => xK ω U ∧ xH ω (g, y, a, z, dr, pg, t) U.heap)) (vp_Si (fun r => r = (fX0_isStreet t sn))) 0 0 (fun _ => False) := by
  refine g_entPz (C := RX0) rfl (by decide) (Nat.le_of_ble_eq_true rfl) ?_
  intro p e s m args below meth c QQ ls hF hKH hl hret
  have hl : lv_has ls 2 [(0, .ref (ω.2.1 0 99)), (1, .int sn)] := hl
  obtain ⟨hK, hH⟩ := hKH
  have hn9 : tn t ≤ 9 := hH.2.2.1
  refine lv_iload_n hF.1 hF.2.1 dX0_isStreet_0 rfl (lv_at hl 1 rfl) ?_
  refine lv_iconst (v := nI 0) hF.1 hF.2.1 dX0_isStreet_1 (by decide) ?_
  refine lv_aload_n hF.1 hF.2.1 dX0_isStreet_2 rfl (lv_at hl 0 rfl) ?_
  refine xg0_0 hF hK hH q218 dX0_isStreet_3 ?_
  refine g_vPi (As := []) (rest := [.int (nI 0), .int sn]) hF (kJ2_size l ω g y a z dr pg t) (lw_V q569 q554 q555 q95 q556) 0 hdJ2_size rfl rfl ⟨Nat.le_of_ble_eq_true rfl, Nat.le_of_ble_eq_true rfl⟩ (x_preVL hK hH) rfl hl.1 rfl (Nat.le_of_ble_eq_true rfl) dX0_isStreet_6 ⟨Nat.zero_le _, Nat.zero_le _⟩ (fun r1 e_r1 => ?_)
  subst e_r1
  refine n_top (y := nI (tn t)) rfl ?_
  refine lv_iconst (v := nI 1) hF.1 hF.2.1 dX0_isStreet_9 (by decide) ?_
  refine lv_isub hF.1 hF.2.1 dX0_isStreet_10 ?_
  refine g_sPi (As := [.int sn, .int (nI 0), .int ((nI (tn t)) - (nI 1))]) (rest := []) hF (kX0_in l sn (nI 0) ((nI (tn t)) - (nI 1))) (lw_S q301 q302 q92 q303) 3 hdX0_in.2 rfl rfl ⟨Nat.le_of_ble_eq_true rfl, Nat.le_of_ble_eq_true rfl⟩ g_pre0 rfl hl.1 rfl (Nat.le_of_ble_eq_true rfl) dX0_isStreet_11 ⟨Nat.zero_le _, Nat.zero_le _⟩ (fun r2 e_r2 => ?_)
  exact hret _ _ _ dX0_isStreet_14 (by subst e_r2; rfl) (by subst e_r2; exact (fX0_in_b ..))

def fX0_isTown (g : Nat → Nat → Nat) : Int32 := if (nI (g 0 1)) ≤ 0 then nI 0 else nI 1
theorem fX0_isTown_b (g : Nat → Nat → Nat) : (fX0_isTown g) = 0 ∨ (fX0_isTown g) = 1 := by
  unfold fX0_isTown
  exact (g_ite (Or.inl nI_0) (Or.inr rfl))
def rmX0_isTown : Room := { frames := 1, cells := 0, slots := 0, locals := 24 }
theorem hdX0_isTown : yX0_isTown.cls = RX0 ∧ yX0_isTown.cls ≠ "java/lang/invoke/MethodHandle" ∧ yX0_isTown.cls ≠ "java/lang/invoke/VarHandle" ∧ (parseMethodDescriptor yX0_isTown.desc).map (fun d => d.parameters.length) = some 0 := by decide +kernel
set_option maxHeartbeats 4000000 in
theorem kX0_isTown (l : Launch) (ω : OM) (g : Nat → Nat → Nat) (y : Nat → Nat → Int32) (a z : Nat → Nat → Nat → Int32) (dr : Int64) (pg : Nat → Int32) (t : TW) (hp3 : g 0 1 ≤ 3) : Met l yX0_isTown (ws_ yX0_isTown cX0_isTown 1 (some .boolean)) rmX0_isTown (va_Pc [.ref (ω.2.1 0 99)] (fun U => xK ω U ∧ xH ω (g, y, a, z, dr, pg, t) U.heap)) (vp_Si (fun r => r = (fX0_isTown g))) 0 0 (fun _ => False) := by
  refine g_entPz (C := RX0) rfl (by decide) (Nat.le_of_ble_eq_true rfl) ?_
  intro p e s m args below meth c QQ ls hF hKH hl hret
  have hl : lv_has ls 1 [(0, .ref (ω.2.1 0 99))] := hl
  obtain ⟨hK, hH⟩ := hKH
  have hn9 : tn t ≤ 9 := hH.2.2.1
  refine lv_aload_n hF.1 hF.2.1 dX0_isTown_0 rfl (lv_at hl 0 rfl) ?_
  refine xg0_1 hF hK hH q219 dX0_isTown_1 (v := g 0 1) rfl ?_
  refine lv_if_le (tgt := 11) hF.1 hF.2.1 dX0_isTown_4 (by decide) (fun c1 => ?_) (fun c1 => ?_)
  · skip
    refine lv_iconst (v := nI 0) hF.1 hF.2.1 dX0_isTown_11 (by decide) ?_
    exact hret _ _ _ dX0_isTown_12 (by unfold fX0_isTown; first | (rw [if_pos c1]; done) | (simp only [if_pos c1])) (by exact (Or.inl nI_0))
  · skip
    refine lv_iconst (v := nI 1) hF.1 hF.2.1 dX0_isTown_7 (by decide) ?_
    refine lv_goto (tgt := 12) hF.1 hF.2.1 dX0_isTown_8 (by decide) ?_
    exact hret _ _ _ dX0_isTown_12 (by unfold fX0_isTown; first | (rw [if_neg c1]; done) | (simp only [if_neg c1])) (by exact (Or.inr rfl))

def fX0_isDriver (g : Nat → Nat → Nat) (dn : Int32) : Int32 := if (fX0_isTown g) = 0 then nI 0 else if (fX0_in dn (nI 0) (nI 1)) = 0 then nI 0 else nI 1
theorem fX0_isDriver_b (g : Nat → Nat → Nat) (dn : Int32) : (fX0_isDriver g dn) = 0 ∨ (fX0_isDriver g dn) = 1 := by
  unfold fX0_isDriver
  exact (g_ite (Or.inl nI_0) (g_ite (Or.inl nI_0) (Or.inr rfl)))
def rmX0_isDriver : Room := { frames := 2, cells := 0, slots := 0, locals := 46 }
theorem hdX0_isDriver : yX0_isDriver.cls = RX0 ∧ yX0_isDriver.cls ≠ "java/lang/invoke/MethodHandle" ∧ yX0_isDriver.cls ≠ "java/lang/invoke/VarHandle" ∧ (parseMethodDescriptor yX0_isDriver.desc).map (fun d => d.parameters.length) = some 1 := by decide +kernel
set_option maxHeartbeats 4000000 in
theorem kX0_isDriver (l : Launch) (ω : OM) (g : Nat → Nat → Nat) (y : Nat → Nat → Int32) (a z : Nat → Nat → Nat → Int32) (dr : Int64) (pg : Nat → Int32) (t : TW) (dn : Int32) (hp3 : g 0 1 ≤ 3) : Met l yX0_isDriver (ws_ yX0_isDriver cX0_isDriver 2 (some .boolean)) rmX0_isDriver (va_Pc [.ref (ω.2.1 0 99), .int dn] (fun U => xK ω U ∧ xH ω (g, y, a, z, dr, pg, t) U.heap)) (vp_Si (fun r => r = (fX0_isDriver g dn))) 0 0 (fun _ => False) := by
  refine g_entPz (C := RX0) rfl (by decide) (Nat.le_of_ble_eq_true rfl) ?_
  intro p e s m args below meth c QQ ls hF hKH hl hret
  have hl : lv_has ls 2 [(0, .ref (ω.2.1 0 99)), (1, .int dn)] := hl
  obtain ⟨hK, hH⟩ := hKH
  have hn9 : tn t ≤ 9 := hH.2.2.1
  refine lv_aload_n hF.1 hF.2.1 dX0_isDriver_0 rfl (lv_at hl 0 rfl) ?_
  refine g_vPi (As := []) (rest := []) hF (kX0_isTown l ω g y a z dr pg t (by omega)) (lw_V q752 q754 qs21 q92 q755) 0 hdX0_isTown rfl rfl ⟨Nat.le_of_ble_eq_true rfl, Nat.le_of_ble_eq_true rfl⟩ (x_preV0 hK hH) rfl hl.1 rfl (Nat.le_of_ble_eq_true rfl) dX0_isDriver_1 ⟨Nat.zero_le _, Nat.zero_le _⟩ (fun r1 e_r1 => ?_)
  refine lv_if_eq (tgt := 20) hF.1 hF.2.1 dX0_isDriver_4 (by decide) (fun c2 => ?_) (fun c2 => ?_)
  · skip
    refine lv_iconst (v := nI 0) hF.1 hF.2.1 dX0_isDriver_20 (by decide) ?_
    exact hret _ _ _ dX0_isDriver_21 (by subst e_r1; unfold fX0_isDriver; first | (rw [if_pos c2]; done) | (simp only [if_pos c2])) (by subst e_r1; exact (Or.inl nI_0))
  · skip
    refine lv_iload_n hF.1 hF.2.1 dX0_isDriver_7 rfl (lv_at hl 1 rfl) ?_
    refine lv_iconst (v := nI 0) hF.1 hF.2.1 dX0_isDriver_8 (by decide) ?_
    refine lv_iconst (v := nI 1) hF.1 hF.2.1 dX0_isDriver_9 (by decide) ?_
    refine g_sPi (As := [.int dn, .int (nI 0), .int (nI 1)]) (rest := []) hF (kX0_in l dn (nI 0) (nI 1)) (lw_S q301 q302 q92 q303) 3 hdX0_in.2 rfl rfl ⟨Nat.le_of_ble_eq_true rfl, Nat.le_of_ble_eq_true rfl⟩ g_pre0 rfl hl.1 rfl (Nat.le_of_ble_eq_true rfl) dX0_isDriver_10 ⟨Nat.zero_le _, Nat.zero_le _⟩ (fun r3 e_r3 => ?_)
    refine lv_if_eq (tgt := 20) hF.1 hF.2.1 dX0_isDriver_13 (by decide) (fun c4 => ?_) (fun c4 => ?_)
    · skip
      refine lv_iconst (v := nI 0) hF.1 hF.2.1 dX0_isDriver_20 (by decide) ?_
      exact hret _ _ _ dX0_isDriver_21 (by subst e_r3; subst e_r1; unfold fX0_isDriver; first | (rw [if_neg c2, if_pos c4]; done) | (simp only [if_neg c2, if_pos c4])) (by subst e_r3; subst e_r1; exact (Or.inl nI_0))
    · skip
      refine lv_iconst (v := nI 1) hF.1 hF.2.1 dX0_isDriver_16 (by decide) ?_
      refine lv_goto (tgt := 21) hF.1 hF.2.1 dX0_isDriver_17 (by decide) ?_
      exact hret _ _ _ dX0_isDriver_21 (by subst e_r3; subst e_r1; unfold fX0_isDriver; first | (rw [if_neg c2, if_neg c4]; done) | (simp only [if_neg c2, if_neg c4])) (by subst e_r3; subst e_r1; exact (Or.inr rfl))

def fX0_isWay (g : Nat → Nat → Nat) (pn : Int32) (fr : Int32) (to : Int32) : Int32 := if (fX0_isPerson g pn) = 0 then nI 0 else if (fX0_isCorner fr) = 0 then nI 0 else if (fX0_isCorner to) = 0 then nI 0 else nI 1
theorem fX0_isWay_b (g : Nat → Nat → Nat) (pn : Int32) (fr : Int32) (to : Int32) : (fX0_isWay g pn fr to) = 0 ∨ (fX0_isWay g pn fr to) = 1 := by
  unfold fX0_isWay
  exact (g_ite (Or.inl nI_0) (g_ite (Or.inl nI_0) (g_ite (Or.inl nI_0) (Or.inr rfl))))
def rmX0_isWay : Room := { frames := 3, cells := 0, slots := 0, locals := 67 }
theorem hdX0_isWay : yX0_isWay.cls = RX0 ∧ yX0_isWay.cls ≠ "java/lang/invoke/MethodHandle" ∧ yX0_isWay.cls ≠ "java/lang/invoke/VarHandle" ∧ (parseMethodDescriptor yX0_isWay.desc).map (fun d => d.parameters.length) = some 3 := by decide +kernel
set_option maxHeartbeats 4000000 in
theorem kX0_isWay (l : Launch) (ω : OM) (g : Nat → Nat → Nat) (y : Nat → Nat → Int32) (a z : Nat → Nat → Nat → Int32) (dr : Int64) (pg : Nat → Int32) (t : TW) (pn : Int32) (fr : Int32) (to : Int32) : Met l yX0_isWay (ws_ yX0_isWay cX0_isWay 4 (some .boolean)) rmX0_isWay (va_Pc [.ref (ω.2.1 0 99), .int pn, .int fr, .int to] (fun U => xK ω U ∧ xH ω (g, y, a, z, dr, pg, t) U.heap)) (vp_Si (fun r => r = (fX0_isWay g pn fr to))) 0 0 (fun _ => False) := by
  refine g_entPz (C := RX0) rfl (by decide) (Nat.le_of_ble_eq_true rfl) ?_
  intro p e s m args below meth c QQ ls hF hKH hl hret
  have hl : lv_has ls 4 [(0, .ref (ω.2.1 0 99)), (1, .int pn), (2, .int fr), (3, .int to)] := hl
  obtain ⟨hK, hH⟩ := hKH
  have hn9 : tn t ≤ 9 := hH.2.2.1
  refine lv_aload_n hF.1 hF.2.1 dX0_isWay_0 rfl (lv_at hl 0 rfl) ?_
  refine lv_iload_n hF.1 hF.2.1 dX0_isWay_1 rfl (lv_at hl 1 rfl) ?_
  refine g_vPi (As := [.int pn]) (rest := []) hF (kX0_isPerson l ω g y a z dr pg t pn) (lw_V q593 q595 qs10 q92 q596) 1 hdX0_isPerson rfl rfl ⟨Nat.le_of_ble_eq_true rfl, Nat.le_of_ble_eq_true rfl⟩ (x_preV0 hK hH) rfl hl.1 rfl (Nat.le_of_ble_eq_true rfl) dX0_isWay_2 ⟨Nat.zero_le _, Nat.zero_le _⟩ (fun r1 e_r1 => ?_)
  refine lv_if_eq (tgt := 26) hF.1 hF.2.1 dX0_isWay_5 (by decide) (fun c2 => ?_) (fun c2 => ?_)
  · skip
    refine lv_iconst (v := nI 0) hF.1 hF.2.1 dX0_isWay_26 (by decide) ?_
    exact hret _ _ _ dX0_isWay_27 (by subst e_r1; unfold fX0_isWay; first | (rw [if_pos c2]; done) | (simp only [if_pos c2])) (by subst e_r1; exact (Or.inl nI_0))
  · skip
    refine lv_iload_n hF.1 hF.2.1 dX0_isWay_8 rfl (lv_at hl 2 rfl) ?_
    refine g_sPi (As := [.int fr]) (rest := []) hF (kX0_isCorner l fr) (lw_S q764 q765 q92 q766) 1 hdX0_isCorner.2 rfl rfl ⟨Nat.le_of_ble_eq_true rfl, Nat.le_of_ble_eq_true rfl⟩ g_pre0 rfl hl.1 rfl (Nat.le_of_ble_eq_true rfl) dX0_isWay_9 ⟨Nat.zero_le _, Nat.zero_le _⟩ (fun r3 e_r3 => ?_)
    refine lv_if_eq (tgt := 26) hF.1 hF.2.1 dX0_isWay_12 (by decide) (fun c4 => ?_) (fun c4 => ?_)
    · skip
      refine lv_iconst (v := nI 0) hF.1 hF.2.1 dX0_isWay_26 (by decide) ?_
      exact hret _ _ _ dX0_isWay_27 (by subst e_r3; subst e_r1; unfold fX0_isWay; first | (rw [if_neg c2, if_pos c4]; done) | (simp only [if_neg c2, if_pos c4])) (by subst e_r3; subst e_r1; exact (Or.inl nI_0))
    · skip
      refine lv_iload_n hF.1 hF.2.1 dX0_isWay_15 rfl (lv_at hl 3 rfl) ?_
      refine g_sPi (As := [.int to]) (rest := []) hF (kX0_isCorner l to) (lw_S q764 q765 q92 q766) 1 hdX0_isCorner.2 rfl rfl ⟨Nat.le_of_ble_eq_true rfl, Nat.le_of_ble_eq_true rfl⟩ g_pre0 rfl hl.1 rfl (Nat.le_of_ble_eq_true rfl) dX0_isWay_16 ⟨Nat.zero_le _, Nat.zero_le _⟩ (fun r5 e_r5 => ?_)
      refine lv_if_eq (tgt := 26) hF.1 hF.2.1 dX0_isWay_19 (by decide) (fun c6 => ?_) (fun c6 => ?_)
      · skip
        refine lv_iconst (v := nI 0) hF.1 hF.2.1 dX0_isWay_26 (by decide) ?_
        exact hret _ _ _ dX0_isWay_27 (by subst e_r5; subst e_r3; subst e_r1; unfold fX0_isWay; first | (rw [if_neg c2, if_neg c4, if_pos c6]; done) | (simp only [if_neg c2, if_neg c4, if_pos c6])) (by subst e_r5; subst e_r3; subst e_r1; exact (Or.inl nI_0))
      · skip
        refine lv_iconst (v := nI 1) hF.1 hF.2.1 dX0_isWay_22 (by decide) ?_
        refine lv_goto (tgt := 27) hF.1 hF.2.1 dX0_isWay_23 (by decide) ?_
        exact hret _ _ _ dX0_isWay_27 (by subst e_r5; subst e_r3; subst e_r1; unfold fX0_isWay; first | (rw [if_neg c2, if_neg c4, if_neg c6]; done) | (simp only [if_neg c2, if_neg c4, if_neg c6])) (by subst e_r5; subst e_r3; subst e_r1; exact (Or.inr rfl))

def fX0_all (t : TW) : Int32 := ((nI 1) <<< ((nI (tn t)) &&& 31)) - (nI 1)
def rmX0_all : Room := { frames := 2, cells := 0, slots := 0, locals := 44 }
theorem hdX0_all : yX0_all.cls = RX0 ∧ yX0_all.cls ≠ "java/lang/invoke/MethodHandle" ∧ yX0_all.cls ≠ "java/lang/invoke/VarHandle" ∧ (parseMethodDescriptor yX0_all.desc).map (fun d => d.parameters.length) = some 0 := by decide +kernel
set_option maxHeartbeats 4000000 in
theorem kX0_all (l : Launch) (ω : OM) (g : Nat → Nat → Nat) (y : Nat → Nat → Int32) (a z : Nat → Nat → Nat → Int32) (dr : Int64) (pg : Nat → Int32) (t : TW) : Met l yX0_all (ws_ yX0_all cX0_all 1 (some .int)) rmX0_all (va_Pc [.ref (ω.2.1 0 99)] (fun U => xK ω U ∧ xH ω (g, y, a, z, dr, pg, t) U.heap)) (vp_Si (fun r => r = (fX0_all t))) 0 0 (fun _ => False) := by
  refine g_entPi (C := RX0) rfl (by decide) (Nat.le_of_ble_eq_true rfl) ?_
  intro p e s m args below meth c QQ ls hF hKH hl hret
  have hl : lv_has ls 1 [(0, .ref (ω.2.1 0 99))] := hl
  obtain ⟨hK, hH⟩ := hKH
  have hn9 : tn t ≤ 9 := hH.2.2.1
  refine lv_iconst (v := nI 1) hF.1 hF.2.1 dX0_all_0 (by decide) ?_
  refine lv_aload_n hF.1 hF.2.1 dX0_all_1 rfl (lv_at hl 0 rfl) ?_
  refine xg0_0 hF hK hH q218 dX0_all_2 ?_
  refine g_vPi (As := []) (rest := [.int (nI 1)]) hF (kJ2_size l ω g y a z dr pg t) (lw_V q569 q554 q555 q95 q556) 0 hdJ2_size rfl rfl ⟨Nat.le_of_ble_eq_true rfl, Nat.le_of_ble_eq_true rfl⟩ (x_preVL hK hH) rfl hl.1 rfl (Nat.le_of_ble_eq_true rfl) dX0_all_5 ⟨Nat.zero_le _, Nat.zero_le _⟩ (fun r1 e_r1 => ?_)
  subst e_r1
  refine n_top (y := nI (tn t)) rfl ?_
  refine lv_ishl hF.1 hF.2.1 dX0_all_8 ?_
  refine lv_iconst (v := nI 1) hF.1 hF.2.1 dX0_all_9 (by decide) ?_
  refine lv_isub hF.1 hF.2.1 dX0_all_10 ?_
  exact hret _ _ _ dX0_all_11 (by rfl)

def fX0_mixed (h : Int64) (v : Int64) : Int64 := (31 * h) + v
def rmX0_mixed : Room := { frames := 1, cells := 0, slots := 0, locals := 24 }
theorem hdX0_mixed : yX0_mixed.cls = RX0 ∧ yX0_mixed.cls ≠ "java/lang/invoke/MethodHandle" ∧ yX0_mixed.cls ≠ "java/lang/invoke/VarHandle" ∧ (parseMethodDescriptor yX0_mixed.desc).map (fun d => d.parameters.length) = some 2 := by decide +kernel
set_option maxHeartbeats 4000000 in
theorem kX0_mixed (l : Launch) (h : Int64) (v : Int64) : Met l yX0_mixed (ws_ yX0_mixed cX0_mixed 4 (some .long)) rmX0_mixed (va_Pc [.long h, .long v] (fun _ => True)) (vp_Sl (fun r => r = (fX0_mixed h v))) 0 0 (fun _ => False) := by
  refine g_entPl (C := RX0) rfl (by decide) (Nat.le_of_ble_eq_true rfl) ?_
  intro p e s m args below meth c QQ ls hF hKH hl hret
  have hl : lv_has ls 4 [(0, .long h), (2, .long v)] := hl
  refine lv_ldc2 (v := 31) hF.1 hF.2.1 hF.2.2.2.1 (hF.2.2.2.2 _ q960) dX0_mixed_0 ?_
  refine lv_lload_n hF.1 hF.2.1 dX0_mixed_3 rfl (lv_at hl 0 rfl) ?_
  refine lv_lmul hF.1 hF.2.1 dX0_mixed_4 ?_
  refine lv_lload_n hF.1 hF.2.1 dX0_mixed_5 rfl (lv_at hl 1 rfl) ?_
  refine lv_ladd hF.1 hF.2.1 dX0_mixed_6 ?_
  exact hret _ _ _ dX0_mixed_7 (by rfl)

