/-! MODEL: rides, counts, images, lengths, rails -/
set_option maxRecDepth 100000
def fX2_isTrip (g : Nat → Nat) (pn : Int32) (fr : Int32) (to : Int32) : Int32 := if (fX2_isPerson g pn) = 0 then nI 0 else if (fX2_isCorner fr) = 0 then nI 0 else if (fX2_isCorner to) = 0 then nI 0 else nI 1
theorem fX2_isTrip_b (g : Nat → Nat) (pn : Int32) (fr : Int32) (to : Int32) : (fX2_isTrip g pn fr to) = 0 ∨ (fX2_isTrip g pn fr to) = 1 := by
  unfold fX2_isTrip
  exact (g_ite (Or.inl nI_0) (g_ite (Or.inl nI_0) (g_ite (Or.inl nI_0) (Or.inr rfl))))
def rmX2_isTrip : Room := { frames := 3, cells := 0, slots := 0, locals := 70 }
theorem hdX2_isTrip : yX2_isTrip.cls = RX2 ∧ yX2_isTrip.cls ≠ "java/lang/invoke/MethodHandle" ∧ yX2_isTrip.cls ≠ "java/lang/invoke/VarHandle" ∧ (parseMethodDescriptor yX2_isTrip.desc).map (fun d => d.parameters.length) = some 3 := by decide +kernel
set_option maxHeartbeats 4000000 in
theorem kX2_isTrip (l : Launch) (ω : OM) (g : Nat → Nat) (y : Nat → Int32) (a z : Nat → Nat → Int32) (kt : Int32) (hs : Int64) (pn : Int32) (fr : Int32) (to : Int32) : Met l yX2_isTrip (ws_ yX2_isTrip cX2_isTrip 4 (some .boolean)) rmX2_isTrip (va_Pc [.ref (ω.2.1 0 99), .int pn, .int fr, .int to] (fun U => mK ω U ∧ mH ω (g, y, a, z, kt, hs) U.heap)) (vp_Si (fun r => r = (fX2_isTrip g pn fr to))) 0 0 (fun _ => False) := by
  refine g_entPz (C := RX2) rfl (by decide) (Nat.le_of_ble_eq_true rfl) ?_
  intro p e s m args below meth c QQ ls hF hKH hl hret
  have hl : lv_has ls 4 [(0, .ref (ω.2.1 0 99)), (1, .int pn), (2, .int fr), (3, .int to)] := hl
  obtain ⟨hK, hH⟩ := hKH
  refine lv_aload_n hF.1 hF.2.1 dX2_isTrip_0 rfl (lv_at hl 0 rfl) ?_
  refine lv_iload_n hF.1 hF.2.1 dX2_isTrip_1 rfl (lv_at hl 1 rfl) ?_
  refine g_vPi (As := [.int pn]) (rest := []) hF (kX2_isPerson l ω g y a z kt hs pn) (lw_V q1103 q1105 qs51 q97 q1106) 1 hdX2_isPerson rfl rfl ⟨Nat.le_of_ble_eq_true rfl, Nat.le_of_ble_eq_true rfl⟩ (m_preV hK hH) rfl hl.1 rfl (Nat.le_of_ble_eq_true rfl) dX2_isTrip_2 ⟨Nat.zero_le _, Nat.zero_le _⟩ (fun r1 e_r1 => ?_)
  refine lv_if_eq (tgt := 26) hF.1 hF.2.1 dX2_isTrip_5 (by decide) (fun c2 => ?_) (fun c2 => ?_)
  · skip
    refine lv_iconst (v := nI 0) hF.1 hF.2.1 dX2_isTrip_26 (by decide) ?_
    exact hret _ _ _ dX2_isTrip_27 (by subst e_r1; unfold fX2_isTrip; first | (rw [if_pos c2]; done) | (simp only [if_pos c2])) (by subst e_r1; exact (Or.inl nI_0))
  · skip
    refine lv_iload_n hF.1 hF.2.1 dX2_isTrip_8 rfl (lv_at hl 2 rfl) ?_
    refine g_sPi (As := [.int fr]) (rest := []) hF (kX2_isCorner l fr) (lw_S q1107 q1108 q97 q1109) 1 hdX2_isCorner.2 rfl rfl ⟨Nat.le_of_ble_eq_true rfl, Nat.le_of_ble_eq_true rfl⟩ g_pre0 rfl hl.1 rfl (Nat.le_of_ble_eq_true rfl) dX2_isTrip_9 ⟨Nat.zero_le _, Nat.zero_le _⟩ (fun r3 e_r3 => ?_)
    refine lv_if_eq (tgt := 26) hF.1 hF.2.1 dX2_isTrip_12 (by decide) (fun c4 => ?_) (fun c4 => ?_)
    · skip
      refine lv_iconst (v := nI 0) hF.1 hF.2.1 dX2_isTrip_26 (by decide) ?_
      exact hret _ _ _ dX2_isTrip_27 (by subst e_r3; subst e_r1; unfold fX2_isTrip; first | (rw [if_neg c2, if_pos c4]; done) | (simp only [if_neg c2, if_pos c4])) (by subst e_r3; subst e_r1; exact (Or.inl nI_0))
    · skip
      refine lv_iload_n hF.1 hF.2.1 dX2_isTrip_15 rfl (lv_at hl 3 rfl) ?_
      refine g_sPi (As := [.int to]) (rest := []) hF (kX2_isCorner l to) (lw_S q1107 q1108 q97 q1109) 1 hdX2_isCorner.2 rfl rfl ⟨Nat.le_of_ble_eq_true rfl, Nat.le_of_ble_eq_true rfl⟩ g_pre0 rfl hl.1 rfl (Nat.le_of_ble_eq_true rfl) dX2_isTrip_16 ⟨Nat.zero_le _, Nat.zero_le _⟩ (fun r5 e_r5 => ?_)
      refine lv_if_eq (tgt := 26) hF.1 hF.2.1 dX2_isTrip_19 (by decide) (fun c6 => ?_) (fun c6 => ?_)
      · skip
        refine lv_iconst (v := nI 0) hF.1 hF.2.1 dX2_isTrip_26 (by decide) ?_
        exact hret _ _ _ dX2_isTrip_27 (by subst e_r5; subst e_r3; subst e_r1; unfold fX2_isTrip; first | (rw [if_neg c2, if_neg c4, if_pos c6]; done) | (simp only [if_neg c2, if_neg c4, if_pos c6])) (by subst e_r5; subst e_r3; subst e_r1; exact (Or.inl nI_0))
      · skip
        refine lv_iconst (v := nI 1) hF.1 hF.2.1 dX2_isTrip_22 (by decide) ?_
        refine lv_goto (tgt := 27) hF.1 hF.2.1 dX2_isTrip_23 (by decide) ?_
        exact hret _ _ _ dX2_isTrip_27 (by subst e_r5; subst e_r3; subst e_r1; unfold fX2_isTrip; first | (rw [if_neg c2, if_neg c4, if_neg c6]; done) | (simp only [if_neg c2, if_neg c4, if_neg c6])) (by subst e_r5; subst e_r3; subst e_r1; exact (Or.inr rfl))

def fX2_takeThrough_b2 (z : Nat → Nat → Int32) (pn : Nat) (i2 : Nat) (S : (Nat → Int32)) : (Nat → Int32) := upd S ((9 * pn) + (toN (z 12 i2))) ((S ((9 * pn) + (toN (z 12 i2)))) + (nI 1))
def fX2_takeThrough (a : Nat → Nat → Int32) (z : Nat → Nat → Int32) (pn : Nat) (many : Nat) : (Nat → Int32) := (it (fX2_takeThrough_b2 z pn) many (a 9))
def rmX2_takeThrough : Room := { frames := 1, cells := 0, slots := 0, locals := 24 }
theorem hdX2_takeThrough : yX2_takeThrough.cls = RX2 ∧ yX2_takeThrough.cls ≠ "java/lang/invoke/MethodHandle" ∧ yX2_takeThrough.cls ≠ "java/lang/invoke/VarHandle" ∧ (parseMethodDescriptor yX2_takeThrough.desc).map (fun d => d.parameters.length) = some 2 := by decide +kernel
set_option maxHeartbeats 4000000 in
theorem kX2_takeThrough (l : Launch) (ω : OM) (g : Nat → Nat) (y : Nat → Int32) (a z : Nat → Nat → Int32) (kt : Int32) (hs : Int64) (pn : Nat) (many : Nat) (hpn : pn < 3) (hmany : many ≤ 8) (hrow : ∀ k, k < many → ∃ j, j < 9 ∧ z 12 k = nI j) : Met l yX2_takeThrough (ws_ yX2_takeThrough cX2_takeThrough 4 none) rmX2_takeThrough (va_Pc [.ref (ω.2.1 0 99), .int (nI pn), .int (nI many)] (fun U => mK ω U ∧ mH ω (g, y, a, z, kt, hs) U.heap)) (va_Qv (fun (u : MS) => ∃ (o0 : Nat → Int32), o0 = (fX2_takeThrough a z pn many) ∧ u = (g, y, va_up a 9 o0, z, kt, hs)) (fun u t => mH ω u t.heap) ω.2.2.1) 0 0 ω.2.2.1 := by
  refine g_entWv (C := RX2) rfl (by decide) (Nat.le_of_ble_eq_true rfl) ?_
  intro p e s m args below meth c QQ ls H locs hF hK hH hS hl hret
  have hl : lv_has ls 4 [(0, .ref (ω.2.1 0 99)), (1, .int (nI pn)), (2, .int (nI many))] := hl
  refine lv_iconst (v := nI 0) hF.1 hF.2.1 dX2_takeThrough_0 (by decide) ?_
  refine lv_istore_n (lv' := [(3, .int (nI 0)), (0, .ref (ω.2.1 0 99)), (1, .int (nI pn)), (2, .int (nI many))]) hF.1 hF.2.1 dX2_takeThrough_1 rfl hl (by decide) rfl (fun ls hl => ?_)
  have lp2_52 : ∀ (d2 i2 : Nat) (w2_a9 : Nat → Int32) (H : Heap) (locs : List Loc) (ls : Array Slot), i2 + d2 = many → w2_a9 = it (fX2_takeThrough_b2 z pn) i2 (a 9) → mH ω (g, y, va_up a 9 w2_a9, z, kt, hs) H → va_S ω.2.2.1 s.heap H locs → lv_has ls 4 [(3, .int (nI i2)), (0, .ref (ω.2.1 0 99)), (1, .int (nI pn)), (2, .int (nI many))] → W p l e rmX2_takeThrough s m args below meth c H locs 0 0 QQ (F0 m 2 ls []) := by
    intro d2
    induction d2 with
    | zero =>
      intro i2 w2_a9 H locs ls hi2 hS2 hH hS hl
      have hj2 : many = i2 := by omega
      subst hj2
      have e_w2_a9 := hS2
      refine lv_iload_n hF.1 hF.2.1 dX2_takeThrough_2 rfl (lv_at hl 0 rfl) ?_
      refine lv_iload_n hF.1 hF.2.1 dX2_takeThrough_3 rfl (lv_at hl 3 rfl) ?_
      refine n_ge (tgt := 33) hF.1 hF.2.1 dX2_takeThrough_4 (by decide) (by omega) (by omega) (fun c1 => ?_) (fun c1 => ?_)
      · skip
        exact hret _ _ _ _ _ dX2_takeThrough_33 ⟨_, by subst e_w2_a9; rfl, rfl⟩ hH hS
      · exact absurd (by omega) c1
    | succ d2 ih =>
      intro i2 w2_a9 H locs ls hi2 hS2 hH hS hl
      refine lv_iload_n hF.1 hF.2.1 dX2_takeThrough_2 rfl (lv_at hl 0 rfl) ?_
      refine lv_iload_n hF.1 hF.2.1 dX2_takeThrough_3 rfl (lv_at hl 3 rfl) ?_
      refine n_ge (tgt := 33) hF.1 hF.2.1 dX2_takeThrough_4 (by decide) (by omega) (by omega) (fun c2 => ?_) (fun c2 => ?_)
      · exact absurd c2 (by omega)
      · skip
        refine lv_aload_n hF.1 hF.2.1 dX2_takeThrough_7 rfl (lv_at hl 1 rfl) ?_
        refine mg_9 hF hK hH q980 dX2_takeThrough_8 ?_
        refine lv_bipush (v := nI 9) hF.1 hF.2.1 dX2_takeThrough_11 (by decide) ?_
        refine lv_iload_n hF.1 hF.2.1 dX2_takeThrough_13 rfl (lv_at hl 2 rfl) ?_
        refine n_imul hF.1 hF.2.1 dX2_takeThrough_14 ?_
        refine lv_aload_n hF.1 hF.2.1 dX2_takeThrough_15 rfl (lv_at hl 1 rfl) ?_
        refine mg_12 hF hK hH q983 dX2_takeThrough_16 ?_
        refine lv_iload_n hF.1 hF.2.1 dX2_takeThrough_19 rfl (lv_at hl 0 rfl) ?_
        refine m_zld hF hK hH 12 (n := 8) rfl rfl (by decide) rfl (f := z 12) rfl (i := i2) (by omega) (by decide) dX2_takeThrough_20 ?_
        obtain ⟨b3e, b3l⟩ := g_lift (r := z 12 i2) (n := 9) (hrow _ (by omega)) (by omega)
        refine n_top b3e ?_
        refine n_iadd hF.1 hF.2.1 dX2_takeThrough_21 ?_
        refine lv_dup2_11 hF.1 hF.2.1 dX2_takeThrough_22 rfl rfl ?_
        refine m_ald hF hK hH 9 (n := 27) rfl rfl (by decide) rfl (f := w2_a9) rfl (i := (9 * pn) + (toN (z 12 i2))) (by omega) (by decide) dX2_takeThrough_23 ?_
        refine lv_iconst (v := nI 1) hF.1 hF.2.1 dX2_takeThrough_24 (by decide) ?_
        refine lv_iadd hF.1 hF.2.1 dX2_takeThrough_25 ?_
        refine m_ast (a' := va_up a 9 (upd w2_a9 ((9 * pn) + (toN (z 12 i2))) ((w2_a9 ((9 * pn) + (toN (z 12 i2)))) + (nI 1)))) hF hK hH hS 9 (n := 27) rfl rfl (by decide) rfl (f := w2_a9) rfl (i := (9 * pn) + (toN (z 12 i2))) (by omega) (by decide) dX2_takeThrough_26 rfl (by intro j hj; simp only [va_up, if_neg hj]) (fun H locs hH hS => ?_)
        refine n_iinc (lv' := [(3, .int (nI (i2 + 1))), (0, .ref (ω.2.1 0 99)), (1, .int (nI pn)), (2, .int (nI many))]) hF.1 hF.2.1 dX2_takeThrough_27 hl (k := 0) rfl (by decide) rfl (fun ls hl => ?_)
        refine lv_goto (tgt := 2) hF.1 hF.2.1 dX2_takeThrough_30 (by decide) ?_
        exact ih (i2 + 1) _ _ _ _ (by omega) (by rw [it_succ (fX2_takeThrough_b2 z pn) i2 _, ← hS2]; try rfl) hH hS (lv_sub hl [0, 1, 2, 3] rfl)
  have hH : mH ω (g, y, va_up a 9 (a 9), z, kt, hs) H := m_ext (fun _ => rfl) (fun _ => rfl) (by intro k; by_cases h0 : k = 9; (subst h0; simp [va_up]); simp only [va_up, if_neg h0]) (fun _ => rfl) hH
  exact lp2_52 many 0 _ _ _ _ (by omega) rfl hH hS (lv_sub hl [0, 1, 2, 3] rfl)

def fX2_waits (g : Nat → Nat) (a : Nat → Nat → Int32) (pn : Int32) (fr : Int32) (to : Int32) : Int32 × (Nat → Int32) := if (fX2_isPerson g pn) = 0 then ((-101), a 8) else if fr = (-1) then if fr = (-1) then if fr = (-1) then (a 8 ((5 * (toN pn)) + 3), upd (upd (a 8) ((5 * (toN pn)) + 3) fr) ((5 * (toN pn)) + 4) (-1)) else (a 8 ((5 * (toN pn)) + 3), upd (upd (a 8) ((5 * (toN pn)) + 3) fr) ((5 * (toN pn)) + 4) to) else if fr = to then ((-103), a 8) else if fr = (-1) then (a 8 ((5 * (toN pn)) + 3), upd (upd (a 8) ((5 * (toN pn)) + 3) fr) ((5 * (toN pn)) + 4) (-1)) else (a 8 ((5 * (toN pn)) + 3), upd (upd (a 8) ((5 * (toN pn)) + 3) fr) ((5 * (toN pn)) + 4) to) else if (fX2_isCorner fr) = 0 then ((-101), a 8) else if (fX2_isCorner to) = 0 then ((-101), a 8) else if fr = (-1) then if fr = (-1) then (a 8 ((5 * (toN pn)) + 3), upd (upd (a 8) ((5 * (toN pn)) + 3) fr) ((5 * (toN pn)) + 4) (-1)) else (a 8 ((5 * (toN pn)) + 3), upd (upd (a 8) ((5 * (toN pn)) + 3) fr) ((5 * (toN pn)) + 4) to) else if fr = to then ((-103), a 8) else if fr = (-1) then (a 8 ((5 * (toN pn)) + 3), upd (upd (a 8) ((5 * (toN pn)) + 3) fr) ((5 * (toN pn)) + 4) (-1)) else (a 8 ((5 * (toN pn)) + 3), upd (upd (a 8) ((5 * (toN pn)) + 3) fr) ((5 * (toN pn)) + 4) to)
def rmX2_waits : Room := { frames := 3, cells := 0, slots := 0, locals := 70 }
theorem hdX2_waits : yX2_waits.cls = RX2 ∧ yX2_waits.cls ≠ "java/lang/invoke/MethodHandle" ∧ yX2_waits.cls ≠ "java/lang/invoke/VarHandle" ∧ (parseMethodDescriptor yX2_waits.desc).map (fun d => d.parameters.length) = some 3 := by decide +kernel
set_option maxHeartbeats 4000000 in
theorem kX2_waits (l : Launch) (ω : OM) (g : Nat → Nat) (y : Nat → Int32) (a z : Nat → Nat → Int32) (kt : Int32) (hs : Int64) (pn : Int32) (fr : Int32) (to : Int32) (hp3 : g 3 ≤ 3) : Met l yX2_waits (ws_ yX2_waits cX2_waits 5 (some .int)) rmX2_waits (va_Pc [.ref (ω.2.1 0 99), .int pn, .int fr, .int to] (fun U => mK ω U ∧ mH ω (g, y, a, z, kt, hs) U.heap)) (va_Qi (fun (r : Int32) (u : MS) => ∃ (o0 : Nat → Int32), (r, o0) = (fX2_waits g a pn fr to) ∧ u = (g, y, va_up a 8 o0, z, kt, hs)) (fun u t => mH ω u t.heap) ω.2.2.1) 0 0 ω.2.2.1 := by
  refine g_entWi (C := RX2) rfl (by decide) (Nat.le_of_ble_eq_true rfl) ?_
  intro p e s m args below meth c QQ ls H locs hF hK hH hS hl hret
  have hl : lv_has ls 5 [(0, .ref (ω.2.1 0 99)), (1, .int pn), (2, .int fr), (3, .int to)] := hl
  refine lv_aload_n hF.1 hF.2.1 dX2_waits_0 rfl (lv_at hl 0 rfl) ?_
  refine lv_iload_n hF.1 hF.2.1 dX2_waits_1 rfl (lv_at hl 1 rfl) ?_
  refine g_vPi (As := [.int pn]) (rest := []) hF (kX2_isPerson l ω g y a z kt hs pn) (lw_V q1103 q1105 qs51 q97 q1106) 1 hdX2_isPerson rfl rfl ⟨Nat.le_of_ble_eq_true rfl, Nat.le_of_ble_eq_true rfl⟩ (m_preV hK hH) rfl hl.1 rfl (Nat.le_of_ble_eq_true rfl) dX2_waits_2 ⟨Nat.zero_le _, Nat.zero_le _⟩ (fun r1 e_r1 => ?_)
  refine lv_if_eq (tgt := 27) hF.1 hF.2.1 dX2_waits_5 (by decide) (fun c2 => ?_) (fun c2 => ?_)
  · skip
    refine lv_bipush (v := (-101)) hF.1 hF.2.1 dX2_waits_27 (by decide) ?_
    have hH : mH ω (g, y, va_up a 8 (a 8), z, kt, hs) H := m_ext (fun _ => rfl) (fun _ => rfl) (by intro k; by_cases h0 : k = 8; (subst h0; simp [va_up]); simp only [va_up, if_neg h0]) (fun _ => rfl) hH
    exact hret _ _ _ _ _ _ dX2_waits_29 ⟨_, by subst e_r1; unfold fX2_waits; first | (rw [if_pos c2]; done) | (simp only [if_pos c2]), rfl⟩ hH hS
  · skip
    refine lv_iload_n hF.1 hF.2.1 dX2_waits_8 rfl (lv_at hl 2 rfl) ?_
    refine lv_iconst (v := (-1)) hF.1 hF.2.1 dX2_waits_9 (by decide) ?_
    refine lv_icmp_eq (tgt := 30) hF.1 hF.2.1 dX2_waits_10 (by decide) (fun c3 => ?_) (fun c3 => ?_)
    · skip
      refine lv_iload_n hF.1 hF.2.1 dX2_waits_30 rfl (lv_at hl 2 rfl) ?_
      refine lv_iconst (v := (-1)) hF.1 hF.2.1 dX2_waits_31 (by decide) ?_
      refine lv_icmp_eq (tgt := 43) hF.1 hF.2.1 dX2_waits_32 (by decide) (fun c4 => ?_) (fun c4 => ?_)
      · skip
        obtain ⟨b5e, b5l⟩ := g_lift (r := pn) (n := 3) (isPerson_lift3 hp3 (by rw [← e_r1]; exact c2)) (by omega)
        refine lv_aload_n hF.1 hF.2.1 dX2_waits_43 rfl (lv_at hl 0 rfl) ?_
        refine mg_8 hF hK hH q979 dX2_waits_44 ?_
        refine lv_iconst (v := nI 5) hF.1 hF.2.1 dX2_waits_47 (by decide) ?_
        refine lv_iload_n hF.1 hF.2.1 dX2_waits_48 rfl (lv_at hl 1 rfl) ?_
        refine n_top b5e ?_
        refine n_imul hF.1 hF.2.1 dX2_waits_49 ?_
        refine lv_iconst (v := nI 3) hF.1 hF.2.1 dX2_waits_50 (by decide) ?_
        refine n_iadd hF.1 hF.2.1 dX2_waits_51 ?_
        refine m_ald hF hK hH 8 (n := 15) rfl rfl (by decide) rfl (f := a 8) rfl (i := (5 * (toN pn)) + 3) (by omega) (by decide) dX2_waits_52 ?_
        refine lv_istore (lv' := [(4, .int (a 8 ((5 * (toN pn)) + 3))), (0, .ref (ω.2.1 0 99)), (1, .int pn), (2, .int fr), (3, .int to)]) hF.1 hF.2.1 dX2_waits_53 hl (by decide) rfl (fun ls hl => ?_)
        refine lv_aload_n hF.1 hF.2.1 dX2_waits_55 rfl (lv_at hl 1 rfl) ?_
        refine mg_8 hF hK hH q979 dX2_waits_56 ?_
        refine lv_iconst (v := nI 5) hF.1 hF.2.1 dX2_waits_59 (by decide) ?_
        refine lv_iload_n hF.1 hF.2.1 dX2_waits_60 rfl (lv_at hl 2 rfl) ?_
        refine n_top b5e ?_
        refine n_imul hF.1 hF.2.1 dX2_waits_61 ?_
        refine lv_iconst (v := nI 3) hF.1 hF.2.1 dX2_waits_62 (by decide) ?_
        refine n_iadd hF.1 hF.2.1 dX2_waits_63 ?_
        refine lv_iload_n hF.1 hF.2.1 dX2_waits_64 rfl (lv_at hl 3 rfl) ?_
        refine m_ast (a' := va_up a 8 (upd (a 8) ((5 * (toN pn)) + 3) fr)) hF hK hH hS 8 (n := 15) rfl rfl (by decide) rfl (f := a 8) rfl (i := (5 * (toN pn)) + 3) (by omega) (by decide) dX2_waits_65 rfl (by intro j hj; simp only [va_up, if_neg hj]) (fun H locs hH hS => ?_)
        refine lv_aload_n hF.1 hF.2.1 dX2_waits_66 rfl (lv_at hl 1 rfl) ?_
        refine mg_8 hF hK hH q979 dX2_waits_67 ?_
        refine lv_iconst (v := nI 5) hF.1 hF.2.1 dX2_waits_70 (by decide) ?_
        refine lv_iload_n hF.1 hF.2.1 dX2_waits_71 rfl (lv_at hl 2 rfl) ?_
        refine n_top b5e ?_
        refine n_imul hF.1 hF.2.1 dX2_waits_72 ?_
        refine lv_iconst (v := nI 4) hF.1 hF.2.1 dX2_waits_73 (by decide) ?_
        refine n_iadd hF.1 hF.2.1 dX2_waits_74 ?_
        refine lv_iload_n hF.1 hF.2.1 dX2_waits_75 rfl (lv_at hl 3 rfl) ?_
        refine lv_iconst (v := (-1)) hF.1 hF.2.1 dX2_waits_76 (by decide) ?_
        refine lv_icmp_ne (tgt := 84) hF.1 hF.2.1 dX2_waits_77 (by decide) (fun c6 => ?_) (fun c6 => ?_)
        · skip
          refine lv_iload_n hF.1 hF.2.1 dX2_waits_84 rfl (lv_at hl 4 rfl) ?_
          refine m_ast (a' := va_up a 8 (upd (upd (a 8) ((5 * (toN pn)) + 3) fr) ((5 * (toN pn)) + 4) to)) hF hK hH hS 8 (n := 15) rfl rfl (by decide) rfl (f := upd (a 8) ((5 * (toN pn)) + 3) fr) rfl (i := (5 * (toN pn)) + 4) (by omega) (by decide) dX2_waits_85 rfl (by intro j hj; simp only [va_up, if_neg hj]) (fun H locs hH hS => ?_)
          refine lv_iload hF.1 hF.2.1 dX2_waits_86 (lv_at hl 0 rfl) ?_
          exact hret _ _ _ _ _ _ dX2_waits_88 ⟨_, by subst e_r1; unfold fX2_waits; first | (rw [if_neg c2, if_pos c3, if_pos c4, if_neg c6]; done) | (simp only [if_neg c2, if_pos c3, if_pos c4, if_neg c6]), rfl⟩ hH hS
        · skip
          refine lv_iconst (v := (-1)) hF.1 hF.2.1 dX2_waits_80 (by decide) ?_
          refine lv_goto (tgt := 85) hF.1 hF.2.1 dX2_waits_81 (by decide) ?_
          refine m_ast (a' := va_up a 8 (upd (upd (a 8) ((5 * (toN pn)) + 3) fr) ((5 * (toN pn)) + 4) (-1))) hF hK hH hS 8 (n := 15) rfl rfl (by decide) rfl (f := upd (a 8) ((5 * (toN pn)) + 3) fr) rfl (i := (5 * (toN pn)) + 4) (by omega) (by decide) dX2_waits_85 rfl (by intro j hj; simp only [va_up, if_neg hj]) (fun H locs hH hS => ?_)
          refine lv_iload hF.1 hF.2.1 dX2_waits_86 (lv_at hl 0 rfl) ?_
          exact hret _ _ _ _ _ _ dX2_waits_88 ⟨_, by subst e_r1; unfold fX2_waits; first | (rw [if_neg c2, if_pos c3, if_pos c4, if_pos c6]; done) | (simp only [if_neg c2, if_pos c3, if_pos c4, if_pos c6]), rfl⟩ hH hS
      · skip
        refine lv_iload_n hF.1 hF.2.1 dX2_waits_35 rfl (lv_at hl 2 rfl) ?_
        refine lv_iload_n hF.1 hF.2.1 dX2_waits_36 rfl (lv_at hl 3 rfl) ?_
        refine lv_icmp_ne (tgt := 43) hF.1 hF.2.1 dX2_waits_37 (by decide) (fun c7 => ?_) (fun c7 => ?_)
        · skip
          obtain ⟨b8e, b8l⟩ := g_lift (r := pn) (n := 3) (isPerson_lift3 hp3 (by rw [← e_r1]; exact c2)) (by omega)
          refine lv_aload_n hF.1 hF.2.1 dX2_waits_43 rfl (lv_at hl 0 rfl) ?_
          refine mg_8 hF hK hH q979 dX2_waits_44 ?_
          refine lv_iconst (v := nI 5) hF.1 hF.2.1 dX2_waits_47 (by decide) ?_
          refine lv_iload_n hF.1 hF.2.1 dX2_waits_48 rfl (lv_at hl 1 rfl) ?_
          refine n_top b8e ?_
          refine n_imul hF.1 hF.2.1 dX2_waits_49 ?_
          refine lv_iconst (v := nI 3) hF.1 hF.2.1 dX2_waits_50 (by decide) ?_
          refine n_iadd hF.1 hF.2.1 dX2_waits_51 ?_
          refine m_ald hF hK hH 8 (n := 15) rfl rfl (by decide) rfl (f := a 8) rfl (i := (5 * (toN pn)) + 3) (by omega) (by decide) dX2_waits_52 ?_
          refine lv_istore (lv' := [(4, .int (a 8 ((5 * (toN pn)) + 3))), (0, .ref (ω.2.1 0 99)), (1, .int pn), (2, .int fr), (3, .int to)]) hF.1 hF.2.1 dX2_waits_53 hl (by decide) rfl (fun ls hl => ?_)
          refine lv_aload_n hF.1 hF.2.1 dX2_waits_55 rfl (lv_at hl 1 rfl) ?_
          refine mg_8 hF hK hH q979 dX2_waits_56 ?_
          refine lv_iconst (v := nI 5) hF.1 hF.2.1 dX2_waits_59 (by decide) ?_
          refine lv_iload_n hF.1 hF.2.1 dX2_waits_60 rfl (lv_at hl 2 rfl) ?_
          refine n_top b8e ?_
          refine n_imul hF.1 hF.2.1 dX2_waits_61 ?_
          refine lv_iconst (v := nI 3) hF.1 hF.2.1 dX2_waits_62 (by decide) ?_
          refine n_iadd hF.1 hF.2.1 dX2_waits_63 ?_
          refine lv_iload_n hF.1 hF.2.1 dX2_waits_64 rfl (lv_at hl 3 rfl) ?_
          refine m_ast (a' := va_up a 8 (upd (a 8) ((5 * (toN pn)) + 3) fr)) hF hK hH hS 8 (n := 15) rfl rfl (by decide) rfl (f := a 8) rfl (i := (5 * (toN pn)) + 3) (by omega) (by decide) dX2_waits_65 rfl (by intro j hj; simp only [va_up, if_neg hj]) (fun H locs hH hS => ?_)
          refine lv_aload_n hF.1 hF.2.1 dX2_waits_66 rfl (lv_at hl 1 rfl) ?_
          refine mg_8 hF hK hH q979 dX2_waits_67 ?_
          refine lv_iconst (v := nI 5) hF.1 hF.2.1 dX2_waits_70 (by decide) ?_
          refine lv_iload_n hF.1 hF.2.1 dX2_waits_71 rfl (lv_at hl 2 rfl) ?_
          refine n_top b8e ?_
          refine n_imul hF.1 hF.2.1 dX2_waits_72 ?_
          refine lv_iconst (v := nI 4) hF.1 hF.2.1 dX2_waits_73 (by decide) ?_
          refine n_iadd hF.1 hF.2.1 dX2_waits_74 ?_
          refine lv_iload_n hF.1 hF.2.1 dX2_waits_75 rfl (lv_at hl 3 rfl) ?_
          refine lv_iconst (v := (-1)) hF.1 hF.2.1 dX2_waits_76 (by decide) ?_
          refine lv_icmp_ne (tgt := 84) hF.1 hF.2.1 dX2_waits_77 (by decide) (fun c9 => ?_) (fun c9 => ?_)
          · skip
            refine lv_iload_n hF.1 hF.2.1 dX2_waits_84 rfl (lv_at hl 4 rfl) ?_
            refine m_ast (a' := va_up a 8 (upd (upd (a 8) ((5 * (toN pn)) + 3) fr) ((5 * (toN pn)) + 4) to)) hF hK hH hS 8 (n := 15) rfl rfl (by decide) rfl (f := upd (a 8) ((5 * (toN pn)) + 3) fr) rfl (i := (5 * (toN pn)) + 4) (by omega) (by decide) dX2_waits_85 rfl (by intro j hj; simp only [va_up, if_neg hj]) (fun H locs hH hS => ?_)
            refine lv_iload hF.1 hF.2.1 dX2_waits_86 (lv_at hl 0 rfl) ?_
            exact hret _ _ _ _ _ _ dX2_waits_88 ⟨_, by subst e_r1; unfold fX2_waits; first | (rw [if_neg c2, if_pos c3, if_neg c4, if_neg c7, if_neg c9]; done) | (simp only [if_neg c2, if_pos c3, if_neg c4, if_neg c7, if_neg c9]), rfl⟩ hH hS
          · skip
            refine lv_iconst (v := (-1)) hF.1 hF.2.1 dX2_waits_80 (by decide) ?_
            refine lv_goto (tgt := 85) hF.1 hF.2.1 dX2_waits_81 (by decide) ?_
            refine m_ast (a' := va_up a 8 (upd (upd (a 8) ((5 * (toN pn)) + 3) fr) ((5 * (toN pn)) + 4) (-1))) hF hK hH hS 8 (n := 15) rfl rfl (by decide) rfl (f := upd (a 8) ((5 * (toN pn)) + 3) fr) rfl (i := (5 * (toN pn)) + 4) (by omega) (by decide) dX2_waits_85 rfl (by intro j hj; simp only [va_up, if_neg hj]) (fun H locs hH hS => ?_)
            refine lv_iload hF.1 hF.2.1 dX2_waits_86 (lv_at hl 0 rfl) ?_
            exact hret _ _ _ _ _ _ dX2_waits_88 ⟨_, by subst e_r1; unfold fX2_waits; first | (rw [if_neg c2, if_pos c3, if_neg c4, if_neg c7, if_pos c9]; done) | (simp only [if_neg c2, if_pos c3, if_neg c4, if_neg c7, if_pos c9]), rfl⟩ hH hS
        · skip
          refine lv_bipush (v := (-103)) hF.1 hF.2.1 dX2_waits_40 (by decide) ?_
          have hH : mH ω (g, y, va_up a 8 (a 8), z, kt, hs) H := m_ext (fun _ => rfl) (fun _ => rfl) (by intro k; by_cases h0 : k = 8; (subst h0; simp [va_up]); simp only [va_up, if_neg h0]) (fun _ => rfl) hH
          exact hret _ _ _ _ _ _ dX2_waits_42 ⟨_, by subst e_r1; unfold fX2_waits; first | (rw [if_neg c2, if_pos c3, if_neg c4, if_pos c7]; done) | (simp only [if_neg c2, if_pos c3, if_neg c4, if_pos c7]), rfl⟩ hH hS
    · skip
      refine lv_iload_n hF.1 hF.2.1 dX2_waits_13 rfl (lv_at hl 2 rfl) ?_
      refine g_sPi (As := [.int fr]) (rest := []) hF (kX2_isCorner l fr) (lw_S q1107 q1108 q97 q1109) 1 hdX2_isCorner.2 rfl rfl ⟨Nat.le_of_ble_eq_true rfl, Nat.le_of_ble_eq_true rfl⟩ g_pre0 rfl hl.1 rfl (Nat.le_of_ble_eq_true rfl) dX2_waits_14 ⟨Nat.zero_le _, Nat.zero_le _⟩ (fun r10 e_r10 => ?_)
      refine lv_if_eq (tgt := 27) hF.1 hF.2.1 dX2_waits_17 (by decide) (fun c11 => ?_) (fun c11 => ?_)
      · skip
        refine lv_bipush (v := (-101)) hF.1 hF.2.1 dX2_waits_27 (by decide) ?_
        have hH : mH ω (g, y, va_up a 8 (a 8), z, kt, hs) H := m_ext (fun _ => rfl) (fun _ => rfl) (by intro k; by_cases h0 : k = 8; (subst h0; simp [va_up]); simp only [va_up, if_neg h0]) (fun _ => rfl) hH
        exact hret _ _ _ _ _ _ dX2_waits_29 ⟨_, by subst e_r10; subst e_r1; unfold fX2_waits; first | (rw [if_neg c2, if_neg c3, if_pos c11]; done) | (simp only [if_neg c2, if_neg c3, if_pos c11]), rfl⟩ hH hS
      · skip
        refine lv_iload_n hF.1 hF.2.1 dX2_waits_20 rfl (lv_at hl 3 rfl) ?_
        refine g_sPi (As := [.int to]) (rest := []) hF (kX2_isCorner l to) (lw_S q1107 q1108 q97 q1109) 1 hdX2_isCorner.2 rfl rfl ⟨Nat.le_of_ble_eq_true rfl, Nat.le_of_ble_eq_true rfl⟩ g_pre0 rfl hl.1 rfl (Nat.le_of_ble_eq_true rfl) dX2_waits_21 ⟨Nat.zero_le _, Nat.zero_le _⟩ (fun r12 e_r12 => ?_)
        refine lv_if_ne (tgt := 30) hF.1 hF.2.1 dX2_waits_24 (by decide) (fun c13 => ?_) (fun c13 => ?_)
        · skip
          refine lv_iload_n hF.1 hF.2.1 dX2_waits_30 rfl (lv_at hl 2 rfl) ?_
          refine lv_iconst (v := (-1)) hF.1 hF.2.1 dX2_waits_31 (by decide) ?_
          refine lv_icmp_eq (tgt := 43) hF.1 hF.2.1 dX2_waits_32 (by decide) (fun c14 => ?_) (fun c14 => ?_)
          · skip
            obtain ⟨b15e, b15l⟩ := g_lift (r := pn) (n := 3) (isPerson_lift3 hp3 (by rw [← e_r1]; exact c2)) (by omega)
            refine lv_aload_n hF.1 hF.2.1 dX2_waits_43 rfl (lv_at hl 0 rfl) ?_
            refine mg_8 hF hK hH q979 dX2_waits_44 ?_
            refine lv_iconst (v := nI 5) hF.1 hF.2.1 dX2_waits_47 (by decide) ?_
            refine lv_iload_n hF.1 hF.2.1 dX2_waits_48 rfl (lv_at hl 1 rfl) ?_
            refine n_top b15e ?_
            refine n_imul hF.1 hF.2.1 dX2_waits_49 ?_
            refine lv_iconst (v := nI 3) hF.1 hF.2.1 dX2_waits_50 (by decide) ?_
            refine n_iadd hF.1 hF.2.1 dX2_waits_51 ?_
            refine m_ald hF hK hH 8 (n := 15) rfl rfl (by decide) rfl (f := a 8) rfl (i := (5 * (toN pn)) + 3) (by omega) (by decide) dX2_waits_52 ?_
            refine lv_istore (lv' := [(4, .int (a 8 ((5 * (toN pn)) + 3))), (0, .ref (ω.2.1 0 99)), (1, .int pn), (2, .int fr), (3, .int to)]) hF.1 hF.2.1 dX2_waits_53 hl (by decide) rfl (fun ls hl => ?_)
            refine lv_aload_n hF.1 hF.2.1 dX2_waits_55 rfl (lv_at hl 1 rfl) ?_
            refine mg_8 hF hK hH q979 dX2_waits_56 ?_
            refine lv_iconst (v := nI 5) hF.1 hF.2.1 dX2_waits_59 (by decide) ?_
            refine lv_iload_n hF.1 hF.2.1 dX2_waits_60 rfl (lv_at hl 2 rfl) ?_
            refine n_top b15e ?_
            refine n_imul hF.1 hF.2.1 dX2_waits_61 ?_
            refine lv_iconst (v := nI 3) hF.1 hF.2.1 dX2_waits_62 (by decide) ?_
            refine n_iadd hF.1 hF.2.1 dX2_waits_63 ?_
            refine lv_iload_n hF.1 hF.2.1 dX2_waits_64 rfl (lv_at hl 3 rfl) ?_
            refine m_ast (a' := va_up a 8 (upd (a 8) ((5 * (toN pn)) + 3) fr)) hF hK hH hS 8 (n := 15) rfl rfl (by decide) rfl (f := a 8) rfl (i := (5 * (toN pn)) + 3) (by omega) (by decide) dX2_waits_65 rfl (by intro j hj; simp only [va_up, if_neg hj]) (fun H locs hH hS => ?_)
            refine lv_aload_n hF.1 hF.2.1 dX2_waits_66 rfl (lv_at hl 1 rfl) ?_
            refine mg_8 hF hK hH q979 dX2_waits_67 ?_
            refine lv_iconst (v := nI 5) hF.1 hF.2.1 dX2_waits_70 (by decide) ?_
            refine lv_iload_n hF.1 hF.2.1 dX2_waits_71 rfl (lv_at hl 2 rfl) ?_
            refine n_top b15e ?_
            refine n_imul hF.1 hF.2.1 dX2_waits_72 ?_
            refine lv_iconst (v := nI 4) hF.1 hF.2.1 dX2_waits_73 (by decide) ?_
            refine n_iadd hF.1 hF.2.1 dX2_waits_74 ?_
            refine lv_iload_n hF.1 hF.2.1 dX2_waits_75 rfl (lv_at hl 3 rfl) ?_
            refine lv_iconst (v := (-1)) hF.1 hF.2.1 dX2_waits_76 (by decide) ?_
            refine lv_icmp_ne (tgt := 84) hF.1 hF.2.1 dX2_waits_77 (by decide) (fun c16 => ?_) (fun c16 => ?_)
            · skip
              refine lv_iload_n hF.1 hF.2.1 dX2_waits_84 rfl (lv_at hl 4 rfl) ?_
              refine m_ast (a' := va_up a 8 (upd (upd (a 8) ((5 * (toN pn)) + 3) fr) ((5 * (toN pn)) + 4) to)) hF hK hH hS 8 (n := 15) rfl rfl (by decide) rfl (f := upd (a 8) ((5 * (toN pn)) + 3) fr) rfl (i := (5 * (toN pn)) + 4) (by omega) (by decide) dX2_waits_85 rfl (by intro j hj; simp only [va_up, if_neg hj]) (fun H locs hH hS => ?_)
              refine lv_iload hF.1 hF.2.1 dX2_waits_86 (lv_at hl 0 rfl) ?_
              exact hret _ _ _ _ _ _ dX2_waits_88 ⟨_, by subst e_r12; subst e_r10; subst e_r1; unfold fX2_waits; first | (rw [if_neg c2, if_neg c3, if_neg c11, if_neg c13, if_pos c14, if_neg c16]; done) | (simp only [if_neg c2, if_neg c3, if_neg c11, if_neg c13, if_pos c14, if_neg c16]), rfl⟩ hH hS
            · skip
              refine lv_iconst (v := (-1)) hF.1 hF.2.1 dX2_waits_80 (by decide) ?_
              refine lv_goto (tgt := 85) hF.1 hF.2.1 dX2_waits_81 (by decide) ?_
              refine m_ast (a' := va_up a 8 (upd (upd (a 8) ((5 * (toN pn)) + 3) fr) ((5 * (toN pn)) + 4) (-1))) hF hK hH hS 8 (n := 15) rfl rfl (by decide) rfl (f := upd (a 8) ((5 * (toN pn)) + 3) fr) rfl (i := (5 * (toN pn)) + 4) (by omega) (by decide) dX2_waits_85 rfl (by intro j hj; simp only [va_up, if_neg hj]) (fun H locs hH hS => ?_)
              refine lv_iload hF.1 hF.2.1 dX2_waits_86 (lv_at hl 0 rfl) ?_
              exact hret _ _ _ _ _ _ dX2_waits_88 ⟨_, by subst e_r12; subst e_r10; subst e_r1; unfold fX2_waits; first | (rw [if_neg c2, if_neg c3, if_neg c11, if_neg c13, if_pos c14, if_pos c16]; done) | (simp only [if_neg c2, if_neg c3, if_neg c11, if_neg c13, if_pos c14, if_pos c16]), rfl⟩ hH hS
          · skip
            refine lv_iload_n hF.1 hF.2.1 dX2_waits_35 rfl (lv_at hl 2 rfl) ?_
            refine lv_iload_n hF.1 hF.2.1 dX2_waits_36 rfl (lv_at hl 3 rfl) ?_
            refine lv_icmp_ne (tgt := 43) hF.1 hF.2.1 dX2_waits_37 (by decide) (fun c17 => ?_) (fun c17 => ?_)
            · skip
              obtain ⟨b18e, b18l⟩ := g_lift (r := pn) (n := 3) (isPerson_lift3 hp3 (by rw [← e_r1]; exact c2)) (by omega)
              refine lv_aload_n hF.1 hF.2.1 dX2_waits_43 rfl (lv_at hl 0 rfl) ?_
              refine mg_8 hF hK hH q979 dX2_waits_44 ?_
              refine lv_iconst (v := nI 5) hF.1 hF.2.1 dX2_waits_47 (by decide) ?_
              refine lv_iload_n hF.1 hF.2.1 dX2_waits_48 rfl (lv_at hl 1 rfl) ?_
              refine n_top b18e ?_
              refine n_imul hF.1 hF.2.1 dX2_waits_49 ?_
              refine lv_iconst (v := nI 3) hF.1 hF.2.1 dX2_waits_50 (by decide) ?_
              refine n_iadd hF.1 hF.2.1 dX2_waits_51 ?_
              refine m_ald hF hK hH 8 (n := 15) rfl rfl (by decide) rfl (f := a 8) rfl (i := (5 * (toN pn)) + 3) (by omega) (by decide) dX2_waits_52 ?_
              refine lv_istore (lv' := [(4, .int (a 8 ((5 * (toN pn)) + 3))), (0, .ref (ω.2.1 0 99)), (1, .int pn), (2, .int fr), (3, .int to)]) hF.1 hF.2.1 dX2_waits_53 hl (by decide) rfl (fun ls hl => ?_)
              refine lv_aload_n hF.1 hF.2.1 dX2_waits_55 rfl (lv_at hl 1 rfl) ?_
              refine mg_8 hF hK hH q979 dX2_waits_56 ?_
              refine lv_iconst (v := nI 5) hF.1 hF.2.1 dX2_waits_59 (by decide) ?_
              refine lv_iload_n hF.1 hF.2.1 dX2_waits_60 rfl (lv_at hl 2 rfl) ?_
              refine n_top b18e ?_
              refine n_imul hF.1 hF.2.1 dX2_waits_61 ?_
              refine lv_iconst (v := nI 3) hF.1 hF.2.1 dX2_waits_62 (by decide) ?_
              refine n_iadd hF.1 hF.2.1 dX2_waits_63 ?_
              refine lv_iload_n hF.1 hF.2.1 dX2_waits_64 rfl (lv_at hl 3 rfl) ?_
              refine m_ast (a' := va_up a 8 (upd (a 8) ((5 * (toN pn)) + 3) fr)) hF hK hH hS 8 (n := 15) rfl rfl (by decide) rfl (f := a 8) rfl (i := (5 * (toN pn)) + 3) (by omega) (by decide) dX2_waits_65 rfl (by intro j hj; simp only [va_up, if_neg hj]) (fun H locs hH hS => ?_)
              refine lv_aload_n hF.1 hF.2.1 dX2_waits_66 rfl (lv_at hl 1 rfl) ?_
              refine mg_8 hF hK hH q979 dX2_waits_67 ?_
              refine lv_iconst (v := nI 5) hF.1 hF.2.1 dX2_waits_70 (by decide) ?_
              refine lv_iload_n hF.1 hF.2.1 dX2_waits_71 rfl (lv_at hl 2 rfl) ?_
              refine n_top b18e ?_
              refine n_imul hF.1 hF.2.1 dX2_waits_72 ?_
              refine lv_iconst (v := nI 4) hF.1 hF.2.1 dX2_waits_73 (by decide) ?_
              refine n_iadd hF.1 hF.2.1 dX2_waits_74 ?_
              refine lv_iload_n hF.1 hF.2.1 dX2_waits_75 rfl (lv_at hl 3 rfl) ?_
              refine lv_iconst (v := (-1)) hF.1 hF.2.1 dX2_waits_76 (by decide) ?_
              refine lv_icmp_ne (tgt := 84) hF.1 hF.2.1 dX2_waits_77 (by decide) (fun c19 => ?_) (fun c19 => ?_)
              · skip
                refine lv_iload_n hF.1 hF.2.1 dX2_waits_84 rfl (lv_at hl 4 rfl) ?_
                refine m_ast (a' := va_up a 8 (upd (upd (a 8) ((5 * (toN pn)) + 3) fr) ((5 * (toN pn)) + 4) to)) hF hK hH hS 8 (n := 15) rfl rfl (by decide) rfl (f := upd (a 8) ((5 * (toN pn)) + 3) fr) rfl (i := (5 * (toN pn)) + 4) (by omega) (by decide) dX2_waits_85 rfl (by intro j hj; simp only [va_up, if_neg hj]) (fun H locs hH hS => ?_)
                refine lv_iload hF.1 hF.2.1 dX2_waits_86 (lv_at hl 0 rfl) ?_
                exact hret _ _ _ _ _ _ dX2_waits_88 ⟨_, by subst e_r12; subst e_r10; subst e_r1; unfold fX2_waits; first | (rw [if_neg c2, if_neg c3, if_neg c11, if_neg c13, if_neg c14, if_neg c17, if_neg c19]; done) | (simp only [if_neg c2, if_neg c3, if_neg c11, if_neg c13, if_neg c14, if_neg c17, if_neg c19]), rfl⟩ hH hS
              · skip
                refine lv_iconst (v := (-1)) hF.1 hF.2.1 dX2_waits_80 (by decide) ?_
                refine lv_goto (tgt := 85) hF.1 hF.2.1 dX2_waits_81 (by decide) ?_
                refine m_ast (a' := va_up a 8 (upd (upd (a 8) ((5 * (toN pn)) + 3) fr) ((5 * (toN pn)) + 4) (-1))) hF hK hH hS 8 (n := 15) rfl rfl (by decide) rfl (f := upd (a 8) ((5 * (toN pn)) + 3) fr) rfl (i := (5 * (toN pn)) + 4) (by omega) (by decide) dX2_waits_85 rfl (by intro j hj; simp only [va_up, if_neg hj]) (fun H locs hH hS => ?_)
                refine lv_iload hF.1 hF.2.1 dX2_waits_86 (lv_at hl 0 rfl) ?_
                exact hret _ _ _ _ _ _ dX2_waits_88 ⟨_, by subst e_r12; subst e_r10; subst e_r1; unfold fX2_waits; first | (rw [if_neg c2, if_neg c3, if_neg c11, if_neg c13, if_neg c14, if_neg c17, if_pos c19]; done) | (simp only [if_neg c2, if_neg c3, if_neg c11, if_neg c13, if_neg c14, if_neg c17, if_pos c19]), rfl⟩ hH hS
            · skip
              refine lv_bipush (v := (-103)) hF.1 hF.2.1 dX2_waits_40 (by decide) ?_
              have hH : mH ω (g, y, va_up a 8 (a 8), z, kt, hs) H := m_ext (fun _ => rfl) (fun _ => rfl) (by intro k; by_cases h0 : k = 8; (subst h0; simp [va_up]); simp only [va_up, if_neg h0]) (fun _ => rfl) hH
              exact hret _ _ _ _ _ _ dX2_waits_42 ⟨_, by subst e_r12; subst e_r10; subst e_r1; unfold fX2_waits; first | (rw [if_neg c2, if_neg c3, if_neg c11, if_neg c13, if_neg c14, if_pos c17]; done) | (simp only [if_neg c2, if_neg c3, if_neg c11, if_neg c13, if_neg c14, if_pos c17]), rfl⟩ hH hS
        · skip
          refine lv_bipush (v := (-101)) hF.1 hF.2.1 dX2_waits_27 (by decide) ?_
          have hH : mH ω (g, y, va_up a 8 (a 8), z, kt, hs) H := m_ext (fun _ => rfl) (fun _ => rfl) (by intro k; by_cases h0 : k = 8; (subst h0; simp [va_up]); simp only [va_up, if_neg h0]) (fun _ => rfl) hH
          exact hret _ _ _ _ _ _ dX2_waits_29 ⟨_, by subst e_r12; subst e_r10; subst e_r1; unfold fX2_waits; first | (rw [if_neg c2, if_neg c3, if_neg c11, if_pos c13]; done) | (simp only [if_neg c2, if_neg c3, if_neg c11, if_pos c13]), rfl⟩ hH hS

def fX2_see (g : Nat → Nat) (a : Nat → Nat → Int32) (pn : Int32) (fr : Int32) (to : Int32) (sn : Int32) : Int32 × (Nat → Int32) × Nat := if (fX2_isTrip g pn fr to) = 0 then ((-101), a 16, g 15) else if (fX2_isStreet g sn) = 0 then ((-101), a 16, g 15) else if fr = to then ((-101), a 16, g 15) else if (g 15) = 6 then ((-104), a 16, g 15) else (nI ((g 15) + 1), upd (upd (upd (upd (a 16) (4 * (g 15)) pn) ((4 * (g 15)) + 1) fr) ((4 * (g 15)) + 2) to) ((4 * (g 15)) + 3) sn, (g 15) + 1)
def rmX2_see : Room := { frames := 4, cells := 0, slots := 0, locals := 93 }
theorem hdX2_see : yX2_see.cls = RX2 ∧ yX2_see.cls ≠ "java/lang/invoke/MethodHandle" ∧ yX2_see.cls ≠ "java/lang/invoke/VarHandle" ∧ (parseMethodDescriptor yX2_see.desc).map (fun d => d.parameters.length) = some 4 := by decide +kernel
set_option maxHeartbeats 4000000 in
theorem kX2_see (l : Launch) (ω : OM) (g : Nat → Nat) (y : Nat → Int32) (a z : Nat → Nat → Int32) (kt : Int32) (hs : Int64) (pn : Int32) (fr : Int32) (to : Int32) (sn : Int32) (hs6 : g 15 ≤ 6) : Met l yX2_see (ws_ yX2_see cX2_see 5 (some .int)) rmX2_see (va_Pc [.ref (ω.2.1 0 99), .int pn, .int fr, .int to, .int sn] (fun U => mK ω U ∧ mH ω (g, y, a, z, kt, hs) U.heap)) (va_Qi (fun (r : Int32) (u : MS) => ∃ (o0 : Nat → Int32) (o1 : Nat), (r, o0, o1) = (fX2_see g a pn fr to sn) ∧ u = (va_up g 15 o1, y, va_up a 16 o0, z, kt, hs)) (fun u t => mH ω u t.heap) ω.2.2.1) 0 0 ω.2.2.1 := by
  refine g_entWi (C := RX2) rfl (by decide) (Nat.le_of_ble_eq_true rfl) ?_
  intro p e s m args below meth c QQ ls H locs hF hK hH hS hl hret
  have hl : lv_has ls 5 [(0, .ref (ω.2.1 0 99)), (1, .int pn), (2, .int fr), (3, .int to), (4, .int sn)] := hl
  refine lv_aload_n hF.1 hF.2.1 dX2_see_0 rfl (lv_at hl 0 rfl) ?_
  refine lv_iload_n hF.1 hF.2.1 dX2_see_1 rfl (lv_at hl 1 rfl) ?_
  refine lv_iload_n hF.1 hF.2.1 dX2_see_2 rfl (lv_at hl 2 rfl) ?_
  refine lv_iload_n hF.1 hF.2.1 dX2_see_3 rfl (lv_at hl 3 rfl) ?_
  refine g_vPi (As := [.int pn, .int fr, .int to]) (rest := []) hF (kX2_isTrip l ω g y a z kt hs pn fr to) (lw_V q1099 q1101 qs50 q97 q1102) 3 hdX2_isTrip rfl rfl ⟨Nat.le_of_ble_eq_true rfl, Nat.le_of_ble_eq_true rfl⟩ (m_preV hK hH) rfl hl.1 rfl (Nat.le_of_ble_eq_true rfl) dX2_see_4 ⟨Nat.zero_le _, Nat.zero_le _⟩ (fun r1 e_r1 => ?_)
  refine lv_if_eq (tgt := 24) hF.1 hF.2.1 dX2_see_7 (by decide) (fun c2 => ?_) (fun c2 => ?_)
  · skip
    refine lv_bipush (v := (-101)) hF.1 hF.2.1 dX2_see_24 (by decide) ?_
    have hH : mH ω (va_up g 15 (g 15), y, va_up a 16 (a 16), z, kt, hs) H := m_ext (by intro k; by_cases h0 : k = 15; (subst h0; simp [va_up]); simp only [va_up, if_neg h0]) (fun _ => rfl) (by intro k; by_cases h0 : k = 16; (subst h0; simp [va_up]); simp only [va_up, if_neg h0]) (fun _ => rfl) hH
    exact hret _ _ _ _ _ _ dX2_see_26 ⟨_, _, by subst e_r1; unfold fX2_see; first | (rw [if_pos c2]; done) | (simp only [if_pos c2]), rfl⟩ hH hS
  · skip
    refine lv_aload_n hF.1 hF.2.1 dX2_see_10 rfl (lv_at hl 0 rfl) ?_
    refine lv_iload hF.1 hF.2.1 dX2_see_11 (lv_at hl 4 rfl) ?_
    refine g_vPi (As := [.int sn]) (rest := []) hF (kX2_isStreet l ω g y a z kt hs sn) (lw_V q1201 q1203 qs68 q97 q1204) 1 hdX2_isStreet rfl rfl ⟨Nat.le_of_ble_eq_true rfl, Nat.le_of_ble_eq_true rfl⟩ (m_preV hK hH) rfl hl.1 rfl (Nat.le_of_ble_eq_true rfl) dX2_see_13 ⟨Nat.zero_le _, Nat.zero_le _⟩ (fun r3 e_r3 => ?_)
    refine lv_if_eq (tgt := 24) hF.1 hF.2.1 dX2_see_16 (by decide) (fun c4 => ?_) (fun c4 => ?_)
    · skip
      refine lv_bipush (v := (-101)) hF.1 hF.2.1 dX2_see_24 (by decide) ?_
      have hH : mH ω (va_up g 15 (g 15), y, va_up a 16 (a 16), z, kt, hs) H := m_ext (by intro k; by_cases h0 : k = 15; (subst h0; simp [va_up]); simp only [va_up, if_neg h0]) (fun _ => rfl) (by intro k; by_cases h0 : k = 16; (subst h0; simp [va_up]); simp only [va_up, if_neg h0]) (fun _ => rfl) hH
      exact hret _ _ _ _ _ _ dX2_see_26 ⟨_, _, by subst e_r3; subst e_r1; unfold fX2_see; first | (rw [if_neg c2, if_pos c4]; done) | (simp only [if_neg c2, if_pos c4]), rfl⟩ hH hS
    · skip
      refine lv_iload_n hF.1 hF.2.1 dX2_see_19 rfl (lv_at hl 2 rfl) ?_
      refine lv_iload_n hF.1 hF.2.1 dX2_see_20 rfl (lv_at hl 3 rfl) ?_
      refine lv_icmp_ne (tgt := 27) hF.1 hF.2.1 dX2_see_21 (by decide) (fun c5 => ?_) (fun c5 => ?_)
      · skip
        refine lv_aload_n hF.1 hF.2.1 dX2_see_27 rfl (lv_at hl 0 rfl) ?_
        refine mg_15 hF hK hH q986 dX2_see_28 (v := g 15) rfl ?_
        refine lv_bipush (v := nI 6) hF.1 hF.2.1 dX2_see_31 (by decide) ?_
        refine n_ne (tgt := 39) hF.1 hF.2.1 dX2_see_33 (by decide) (by omega) (by omega) (fun c6 => ?_) (fun c6 => ?_)
        · skip
          refine lv_aload_n hF.1 hF.2.1 dX2_see_39 rfl (lv_at hl 0 rfl) ?_
          refine mg_16 hF hK hH q987 dX2_see_40 ?_
          refine lv_iconst (v := nI 4) hF.1 hF.2.1 dX2_see_43 (by decide) ?_
          refine lv_aload_n hF.1 hF.2.1 dX2_see_44 rfl (lv_at hl 0 rfl) ?_
          refine mg_15 hF hK hH q986 dX2_see_45 (v := g 15) rfl ?_
          refine n_imul hF.1 hF.2.1 dX2_see_48 ?_
          refine lv_iload_n hF.1 hF.2.1 dX2_see_49 rfl (lv_at hl 1 rfl) ?_
          refine m_ast (a' := va_up a 16 (upd (a 16) (4 * (g 15)) pn)) hF hK hH hS 16 (n := 24) rfl rfl (by decide) rfl (f := a 16) rfl (i := 4 * (g 15)) (by omega) (by decide) dX2_see_50 rfl (by intro j hj; simp only [va_up, if_neg hj]) (fun H locs hH hS => ?_)
          refine lv_aload_n hF.1 hF.2.1 dX2_see_51 rfl (lv_at hl 0 rfl) ?_
          refine mg_16 hF hK hH q987 dX2_see_52 ?_
          refine lv_iconst (v := nI 4) hF.1 hF.2.1 dX2_see_55 (by decide) ?_
          refine lv_aload_n hF.1 hF.2.1 dX2_see_56 rfl (lv_at hl 0 rfl) ?_
          refine mg_15 hF hK hH q986 dX2_see_57 (v := g 15) rfl ?_
          refine n_imul hF.1 hF.2.1 dX2_see_60 ?_
          refine lv_iconst (v := nI 1) hF.1 hF.2.1 dX2_see_61 (by decide) ?_
          refine n_iadd hF.1 hF.2.1 dX2_see_62 ?_
          refine lv_iload_n hF.1 hF.2.1 dX2_see_63 rfl (lv_at hl 2 rfl) ?_
          refine m_ast (a' := va_up a 16 (upd (upd (a 16) (4 * (g 15)) pn) ((4 * (g 15)) + 1) fr)) hF hK hH hS 16 (n := 24) rfl rfl (by decide) rfl (f := upd (a 16) (4 * (g 15)) pn) rfl (i := (4 * (g 15)) + 1) (by omega) (by decide) dX2_see_64 rfl (by intro j hj; simp only [va_up, if_neg hj]) (fun H locs hH hS => ?_)
          refine lv_aload_n hF.1 hF.2.1 dX2_see_65 rfl (lv_at hl 0 rfl) ?_
          refine mg_16 hF hK hH q987 dX2_see_66 ?_
          refine lv_iconst (v := nI 4) hF.1 hF.2.1 dX2_see_69 (by decide) ?_
          refine lv_aload_n hF.1 hF.2.1 dX2_see_70 rfl (lv_at hl 0 rfl) ?_
          refine mg_15 hF hK hH q986 dX2_see_71 (v := g 15) rfl ?_
          refine n_imul hF.1 hF.2.1 dX2_see_74 ?_
          refine lv_iconst (v := nI 2) hF.1 hF.2.1 dX2_see_75 (by decide) ?_
          refine n_iadd hF.1 hF.2.1 dX2_see_76 ?_
          refine lv_iload_n hF.1 hF.2.1 dX2_see_77 rfl (lv_at hl 3 rfl) ?_
          refine m_ast (a' := va_up a 16 (upd (upd (upd (a 16) (4 * (g 15)) pn) ((4 * (g 15)) + 1) fr) ((4 * (g 15)) + 2) to)) hF hK hH hS 16 (n := 24) rfl rfl (by decide) rfl (f := upd (upd (a 16) (4 * (g 15)) pn) ((4 * (g 15)) + 1) fr) rfl (i := (4 * (g 15)) + 2) (by omega) (by decide) dX2_see_78 rfl (by intro j hj; simp only [va_up, if_neg hj]) (fun H locs hH hS => ?_)
          refine lv_aload_n hF.1 hF.2.1 dX2_see_79 rfl (lv_at hl 0 rfl) ?_
          refine mg_16 hF hK hH q987 dX2_see_80 ?_
          refine lv_iconst (v := nI 4) hF.1 hF.2.1 dX2_see_83 (by decide) ?_
          refine lv_aload_n hF.1 hF.2.1 dX2_see_84 rfl (lv_at hl 0 rfl) ?_
          refine mg_15 hF hK hH q986 dX2_see_85 (v := g 15) rfl ?_
          refine n_imul hF.1 hF.2.1 dX2_see_88 ?_
          refine lv_iconst (v := nI 3) hF.1 hF.2.1 dX2_see_89 (by decide) ?_
          refine n_iadd hF.1 hF.2.1 dX2_see_90 ?_
          refine lv_iload hF.1 hF.2.1 dX2_see_91 (lv_at hl 4 rfl) ?_
          refine m_ast (a' := va_up a 16 (upd (upd (upd (upd (a 16) (4 * (g 15)) pn) ((4 * (g 15)) + 1) fr) ((4 * (g 15)) + 2) to) ((4 * (g 15)) + 3) sn)) hF hK hH hS 16 (n := 24) rfl rfl (by decide) rfl (f := upd (upd (upd (a 16) (4 * (g 15)) pn) ((4 * (g 15)) + 1) fr) ((4 * (g 15)) + 2) to) rfl (i := (4 * (g 15)) + 3) (by omega) (by decide) dX2_see_93 rfl (by intro j hj; simp only [va_up, if_neg hj]) (fun H locs hH hS => ?_)
          refine lv_aload_n hF.1 hF.2.1 dX2_see_94 rfl (lv_at hl 0 rfl) ?_
          refine lv_dup hF.1 hF.2.1 dX2_see_95 rfl ?_
          refine mg_15 hF hK hH q986 dX2_see_96 (v := g 15) rfl ?_
          refine lv_iconst (v := nI 1) hF.1 hF.2.1 dX2_see_99 (by decide) ?_
          refine n_iadd hF.1 hF.2.1 dX2_see_100 ?_
          refine mp_15 hF hK hH hS q986 dX2_see_101 (g' := va_up g 15 ((g 15) + 1)) rfl (by intro j hj; simp only [va_up, if_neg hj]) (fun H locs hH hS => ?_)
          refine lv_aload_n hF.1 hF.2.1 dX2_see_104 rfl (lv_at hl 0 rfl) ?_
          refine mg_15 hF hK hH q986 dX2_see_105 (v := (g 15) + 1) rfl ?_
          exact hret _ _ _ _ _ _ dX2_see_108 ⟨_, _, by subst e_r3; subst e_r1; unfold fX2_see; first | (rw [if_neg c2, if_neg c4, if_neg c5, if_neg c6]; done) | (simp only [if_neg c2, if_neg c4, if_neg c5, if_neg c6]), rfl⟩ hH hS
        · skip
          refine lv_bipush (v := (-104)) hF.1 hF.2.1 dX2_see_36 (by decide) ?_
          have hH : mH ω (va_up g 15 (g 15), y, va_up a 16 (a 16), z, kt, hs) H := m_ext (by intro k; by_cases h0 : k = 15; (subst h0; simp [va_up]); simp only [va_up, if_neg h0]) (fun _ => rfl) (by intro k; by_cases h0 : k = 16; (subst h0; simp [va_up]); simp only [va_up, if_neg h0]) (fun _ => rfl) hH
          exact hret _ _ _ _ _ _ dX2_see_38 ⟨_, _, by subst e_r3; subst e_r1; unfold fX2_see; first | (rw [if_neg c2, if_neg c4, if_neg c5, if_pos c6]; done) | (simp only [if_neg c2, if_neg c4, if_neg c5, if_pos c6]), rfl⟩ hH hS
      · skip
        refine lv_bipush (v := (-101)) hF.1 hF.2.1 dX2_see_24 (by decide) ?_
        have hH : mH ω (va_up g 15 (g 15), y, va_up a 16 (a 16), z, kt, hs) H := m_ext (by intro k; by_cases h0 : k = 15; (subst h0; simp [va_up]); simp only [va_up, if_neg h0]) (fun _ => rfl) (by intro k; by_cases h0 : k = 16; (subst h0; simp [va_up]); simp only [va_up, if_neg h0]) (fun _ => rfl) hH
        exact hret _ _ _ _ _ _ dX2_see_26 ⟨_, _, by subst e_r3; subst e_r1; unfold fX2_see; first | (rw [if_neg c2, if_neg c4, if_pos c5]; done) | (simp only [if_neg c2, if_neg c4, if_pos c5]), rfl⟩ hH hS

def fX2_forget (g : Nat → Nat) : Int32 × Nat := (nI (g 15), 0)
def rmX2_forget : Room := { frames := 1, cells := 0, slots := 0, locals := 24 }
theorem hdX2_forget : yX2_forget.cls = RX2 ∧ yX2_forget.cls ≠ "java/lang/invoke/MethodHandle" ∧ yX2_forget.cls ≠ "java/lang/invoke/VarHandle" ∧ (parseMethodDescriptor yX2_forget.desc).map (fun d => d.parameters.length) = some 0 := by decide +kernel
set_option maxHeartbeats 4000000 in
theorem kX2_forget (l : Launch) (ω : OM) (g : Nat → Nat) (y : Nat → Int32) (a z : Nat → Nat → Int32) (kt : Int32) (hs : Int64) : Met l yX2_forget (ws_ yX2_forget cX2_forget 2 (some .int)) rmX2_forget (va_Pc [.ref (ω.2.1 0 99)] (fun U => mK ω U ∧ mH ω (g, y, a, z, kt, hs) U.heap)) (va_Qi (fun (r : Int32) (u : MS) => ∃ (o0 : Nat), (r, o0) = (fX2_forget g) ∧ u = (va_up g 15 o0, y, a, z, kt, hs)) (fun u t => mH ω u t.heap) ω.2.2.1) 0 0 ω.2.2.1 := by
  refine g_entWi (C := RX2) rfl (by decide) (Nat.le_of_ble_eq_true rfl) ?_
  intro p e s m args below meth c QQ ls H locs hF hK hH hS hl hret
  have hl : lv_has ls 2 [(0, .ref (ω.2.1 0 99))] := hl
  refine lv_aload_n hF.1 hF.2.1 dX2_forget_0 rfl (lv_at hl 0 rfl) ?_
  refine mg_15 hF hK hH q986 dX2_forget_1 (v := g 15) rfl ?_
  refine lv_istore_n (lv' := [(1, .int (nI (g 15))), (0, .ref (ω.2.1 0 99))]) hF.1 hF.2.1 dX2_forget_4 rfl hl (by decide) rfl (fun ls hl => ?_)
  refine lv_aload_n hF.1 hF.2.1 dX2_forget_5 rfl (lv_at hl 1 rfl) ?_
  refine lv_iconst (v := nI 0) hF.1 hF.2.1 dX2_forget_6 (by decide) ?_
  refine mp_15 hF hK hH hS q986 dX2_forget_7 (g' := va_up g 15 0) rfl (by intro j hj; simp only [va_up, if_neg hj]) (fun H locs hH hS => ?_)
  refine lv_iload_n hF.1 hF.2.1 dX2_forget_10 rfl (lv_at hl 0 rfl) ?_
  exact hret _ _ _ _ _ _ dX2_forget_11 ⟨_, by rfl, rfl⟩ hH hS

def fX2_draw (y : Nat → Int32) (of : Nat) : Int32 × Int32 := ((((((1103515245 * ((y 18).toInt64)) + 12345) &&& 2147483647).toInt32) / (nI 65536)) - (((((1103515245 * ((y 18).toInt64)) + 12345) &&& 2147483647).toInt32) / (nI 65536)) / (nI of) * (nI of), (((1103515245 * ((y 18).toInt64)) + 12345) &&& 2147483647).toInt32)
def rmX2_draw : Room := { frames := 1, cells := 0, slots := 0, locals := 24 }
theorem hdX2_draw : yX2_draw.cls = RX2 ∧ yX2_draw.cls ≠ "java/lang/invoke/MethodHandle" ∧ yX2_draw.cls ≠ "java/lang/invoke/VarHandle" ∧ (parseMethodDescriptor yX2_draw.desc).map (fun d => d.parameters.length) = some 1 := by decide +kernel
set_option maxHeartbeats 4000000 in
theorem kX2_draw (l : Launch) (ω : OM) (g : Nat → Nat) (y : Nat → Int32) (a z : Nat → Nat → Int32) (kt : Int32) (hs : Int64) (of : Nat) (hof : 0 < of) (hof9 : of < 9) : Met l yX2_draw (ws_ yX2_draw cX2_draw 2 (some .int)) rmX2_draw (va_Pc [.ref (ω.2.1 0 99), .int (nI of)] (fun U => mK ω U ∧ mH ω (g, y, a, z, kt, hs) U.heap)) (va_Qi (fun (r : Int32) (u : MS) => ∃ (o0 : Int32), (r, o0) = (fX2_draw y of) ∧ u = (g, va_up y 18 o0, a, z, kt, hs)) (fun u t => mH ω u t.heap) ω.2.2.1) 0 0 ω.2.2.1 := by
  refine g_entWi (C := RX2) rfl (by decide) (Nat.le_of_ble_eq_true rfl) ?_
  intro p e s m args below meth c QQ ls H locs hF hK hH hS hl hret
  have hl : lv_has ls 2 [(0, .ref (ω.2.1 0 99)), (1, .int (nI of))] := hl
  refine lv_aload_n hF.1 hF.2.1 dX2_draw_0 rfl (lv_at hl 0 rfl) ?_
  refine lv_ldc2 (v := 1103515245) hF.1 hF.2.1 hF.2.2.2.1 (hF.2.2.2.2 _ q1336) dX2_draw_1 ?_
  refine lv_aload_n hF.1 hF.2.1 dX2_draw_4 rfl (lv_at hl 0 rfl) ?_
  refine mg_18 hF hK hH q989 dX2_draw_5 (v := y 18) rfl ?_
  refine lv_i2l (v := (y 18).toInt64) hF.1 hF.2.1 dX2_draw_8 rfl ?_
  refine lv_lmul hF.1 hF.2.1 dX2_draw_9 ?_
  refine lv_ldc2 (v := 12345) hF.1 hF.2.1 hF.2.2.2.1 (hF.2.2.2.2 _ q1337) dX2_draw_10 ?_
  refine lv_ladd hF.1 hF.2.1 dX2_draw_13 ?_
  refine lv_ldc2 (v := 2147483647) hF.1 hF.2.1 hF.2.2.2.1 (hF.2.2.2.2 _ q1338) dX2_draw_14 ?_
  refine lv_land hF.1 hF.2.1 dX2_draw_17 ?_
  refine lv_l2i (v := (((1103515245 * ((y 18).toInt64)) + 12345) &&& 2147483647).toInt32) hF.1 hF.2.1 dX2_draw_18 rfl ?_
  refine mp_18 hF hK hH hS q989 dX2_draw_19 (y' := va_up y 18 ((((1103515245 * ((y 18).toInt64)) + 12345) &&& 2147483647).toInt32)) rfl (by intro j hj; simp only [va_up, if_neg hj]) (fun H locs hH hS => ?_)
  refine lv_aload_n hF.1 hF.2.1 dX2_draw_22 rfl (lv_at hl 0 rfl) ?_
  refine mg_18 hF hK hH q989 dX2_draw_23 (v := (((1103515245 * ((y 18).toInt64)) + 12345) &&& 2147483647).toInt32) rfl ?_
  refine lv_ldc (v := nI 65536) hF.1 hF.2.1 hF.2.2.2.1 (hF.2.2.2.2 _ q1339) dX2_draw_26 ?_
  refine lv_idiv hF.1 hF.2.1 dX2_draw_28 (by decide) ?_
  refine lv_iload_n hF.1 hF.2.1 dX2_draw_29 rfl (lv_at hl 1 rfl) ?_
  refine lv_irem hF.1 hF.2.1 dX2_draw_30 (nI_ne0 hof (by omega)) ?_
  exact hret _ _ _ _ _ _ dX2_draw_31 ⟨_, by rfl, rfl⟩ hH hS

def fX2_hurtAll_b4 (a : Nat → Nat → Int32) (i4 : Nat) (S : Int32) : Int32 := S + (a 8 ((5 * i4) + 2))
def fX2_hurtAll (g : Nat → Nat) (a : Nat → Nat → Int32) : Int32 := (it (fX2_hurtAll_b4 a) (g 3) (nI 0))
def rmX2_hurtAll : Room := { frames := 1, cells := 0, slots := 0, locals := 24 }
theorem hdX2_hurtAll : yX2_hurtAll.cls = RX2 ∧ yX2_hurtAll.cls ≠ "java/lang/invoke/MethodHandle" ∧ yX2_hurtAll.cls ≠ "java/lang/invoke/VarHandle" ∧ (parseMethodDescriptor yX2_hurtAll.desc).map (fun d => d.parameters.length) = some 0 := by decide +kernel
set_option maxHeartbeats 4000000 in
theorem kX2_hurtAll (l : Launch) (ω : OM) (g : Nat → Nat) (y : Nat → Int32) (a z : Nat → Nat → Int32) (kt : Int32) (hs : Int64) (hp3 : g 3 ≤ 3) : Met l yX2_hurtAll (ws_ yX2_hurtAll cX2_hurtAll 3 (some .int)) rmX2_hurtAll (va_Pc [.ref (ω.2.1 0 99)] (fun U => mK ω U ∧ mH ω (g, y, a, z, kt, hs) U.heap)) (vp_Si (fun r => r = (fX2_hurtAll g a))) 0 0 (fun _ => False) := by
  refine g_entPi (C := RX2) rfl (by decide) (Nat.le_of_ble_eq_true rfl) ?_
  intro p e s m args below meth c QQ ls hF hKH hl hret
  have hl : lv_has ls 3 [(0, .ref (ω.2.1 0 99))] := hl
  obtain ⟨hK, hH⟩ := hKH
  refine lv_iconst (v := nI 0) hF.1 hF.2.1 dX2_hurtAll_0 (by decide) ?_
  refine lv_istore_n (lv' := [(1, .int (nI 0)), (0, .ref (ω.2.1 0 99))]) hF.1 hF.2.1 dX2_hurtAll_1 rfl hl (by decide) rfl (fun ls hl => ?_)
  refine lv_iconst (v := nI 0) hF.1 hF.2.1 dX2_hurtAll_2 (by decide) ?_
  refine lv_istore_n (lv' := [(2, .int (nI 0)), (1, .int (nI 0)), (0, .ref (ω.2.1 0 99))]) hF.1 hF.2.1 dX2_hurtAll_3 rfl hl (by decide) rfl (fun ls hl => ?_)
  have lp4_54 : ∀ (d4 i4 : Nat) (x4_1 : Int32) (ls : Array Slot), i4 + d4 = g 3 → x4_1 = it (fX2_hurtAll_b4 a) i4 (nI 0) → lv_has ls 3 [(2, .int (nI i4)), (1, .int x4_1), (0, .ref (ω.2.1 0 99))] → W p l e rmX2_hurtAll s m args below meth c s.heap [] 0 0 QQ (F0 m 4 ls []) := by
    intro d4
    induction d4 with
    | zero =>
      intro i4 x4_1 ls hi4 hS4 hl
      have hj4 : g 3 = i4 := by omega
      subst hj4
      have e_x4_1 := hS4
      refine lv_iload_n hF.1 hF.2.1 dX2_hurtAll_4 rfl (lv_at hl 0 rfl) ?_
      refine lv_aload_n hF.1 hF.2.1 dX2_hurtAll_5 rfl (lv_at hl 2 rfl) ?_
      refine mg_3 hF hK hH q974 dX2_hurtAll_6 (v := g 3) rfl ?_
      refine n_ge (tgt := 31) hF.1 hF.2.1 dX2_hurtAll_9 (by decide) (by omega) (by omega) (fun c1 => ?_) (fun c1 => ?_)
      · skip
        refine lv_iload_n hF.1 hF.2.1 dX2_hurtAll_31 rfl (lv_at hl 1 rfl) ?_
        exact hret _ _ _ dX2_hurtAll_32 (by subst e_x4_1; rfl)
      · exact absurd (by omega) c1
    | succ d4 ih =>
      intro i4 x4_1 ls hi4 hS4 hl
      refine lv_iload_n hF.1 hF.2.1 dX2_hurtAll_4 rfl (lv_at hl 0 rfl) ?_
      refine lv_aload_n hF.1 hF.2.1 dX2_hurtAll_5 rfl (lv_at hl 2 rfl) ?_
      refine mg_3 hF hK hH q974 dX2_hurtAll_6 (v := g 3) rfl ?_
      refine n_ge (tgt := 31) hF.1 hF.2.1 dX2_hurtAll_9 (by decide) (by omega) (by omega) (fun c2 => ?_) (fun c2 => ?_)
      · exact absurd c2 (by omega)
      · skip
        refine lv_iload_n hF.1 hF.2.1 dX2_hurtAll_12 rfl (lv_at hl 1 rfl) ?_
        refine lv_aload_n hF.1 hF.2.1 dX2_hurtAll_13 rfl (lv_at hl 2 rfl) ?_
        refine mg_8 hF hK hH q979 dX2_hurtAll_14 ?_
        refine lv_iconst (v := nI 5) hF.1 hF.2.1 dX2_hurtAll_17 (by decide) ?_
        refine lv_iload_n hF.1 hF.2.1 dX2_hurtAll_18 rfl (lv_at hl 0 rfl) ?_
        refine n_imul hF.1 hF.2.1 dX2_hurtAll_19 ?_
        refine lv_iconst (v := nI 2) hF.1 hF.2.1 dX2_hurtAll_20 (by decide) ?_
        refine n_iadd hF.1 hF.2.1 dX2_hurtAll_21 ?_
        refine m_ald hF hK hH 8 (n := 15) rfl rfl (by decide) rfl (f := a 8) rfl (i := (5 * i4) + 2) (by omega) (by decide) dX2_hurtAll_22 ?_
        refine lv_iadd hF.1 hF.2.1 dX2_hurtAll_23 ?_
        refine lv_istore_n (lv' := [(1, .int (x4_1 + (a 8 ((5 * i4) + 2)))), (2, .int (nI i4)), (0, .ref (ω.2.1 0 99))]) hF.1 hF.2.1 dX2_hurtAll_24 rfl hl (by decide) rfl (fun ls hl => ?_)
        refine n_iinc (lv' := [(2, .int (nI (i4 + 1))), (1, .int (x4_1 + (a 8 ((5 * i4) + 2)))), (0, .ref (ω.2.1 0 99))]) hF.1 hF.2.1 dX2_hurtAll_25 hl (k := 1) rfl (by decide) rfl (fun ls hl => ?_)
        refine lv_goto (tgt := 4) hF.1 hF.2.1 dX2_hurtAll_28 (by decide) ?_
        exact ih (i4 + 1) _ _ (by omega) (by rw [it_succ (fX2_hurtAll_b4 a) i4 _, ← hS4]; try rfl) (lv_sub hl [0, 1, 2] rfl)
  exact lp4_54 (g 3) 0 _ _ (by omega) rfl (lv_sub hl [0, 1, 2] rfl)

def fX2_waiting_b4 (a : Nat → Nat → Int32) (i4 : Nat) (S : Int32) : Int32 := if (a 8 ((5 * i4) + 3)) = (-1) then S + (nI 0) else S + (nI 1)
def fX2_waiting (g : Nat → Nat) (a : Nat → Nat → Int32) : Int32 := (it (fX2_waiting_b4 a) (g 3) (nI 0))
def rmX2_waiting : Room := { frames := 1, cells := 0, slots := 0, locals := 24 }
theorem hdX2_waiting : yX2_waiting.cls = RX2 ∧ yX2_waiting.cls ≠ "java/lang/invoke/MethodHandle" ∧ yX2_waiting.cls ≠ "java/lang/invoke/VarHandle" ∧ (parseMethodDescriptor yX2_waiting.desc).map (fun d => d.parameters.length) = some 0 := by decide +kernel
set_option maxHeartbeats 4000000 in
theorem kX2_waiting (l : Launch) (ω : OM) (g : Nat → Nat) (y : Nat → Int32) (a z : Nat → Nat → Int32) (kt : Int32) (hs : Int64) (hp3 : g 3 ≤ 3) : Met l yX2_waiting (ws_ yX2_waiting cX2_waiting 3 (some .int)) rmX2_waiting (va_Pc [.ref (ω.2.1 0 99)] (fun U => mK ω U ∧ mH ω (g, y, a, z, kt, hs) U.heap)) (vp_Si (fun r => r = (fX2_waiting g a))) 0 0 (fun _ => False) := by
  refine g_entPi (C := RX2) rfl (by decide) (Nat.le_of_ble_eq_true rfl) ?_
  intro p e s m args below meth c QQ ls hF hKH hl hret
  have hl : lv_has ls 3 [(0, .ref (ω.2.1 0 99))] := hl
  obtain ⟨hK, hH⟩ := hKH
  refine lv_iconst (v := nI 0) hF.1 hF.2.1 dX2_waiting_0 (by decide) ?_
  refine lv_istore_n (lv' := [(1, .int (nI 0)), (0, .ref (ω.2.1 0 99))]) hF.1 hF.2.1 dX2_waiting_1 rfl hl (by decide) rfl (fun ls hl => ?_)
  refine lv_iconst (v := nI 0) hF.1 hF.2.1 dX2_waiting_2 (by decide) ?_
  refine lv_istore_n (lv' := [(2, .int (nI 0)), (1, .int (nI 0)), (0, .ref (ω.2.1 0 99))]) hF.1 hF.2.1 dX2_waiting_3 rfl hl (by decide) rfl (fun ls hl => ?_)
  have lp4_56 : ∀ (d4 i4 : Nat) (x4_1 : Int32) (ls : Array Slot), i4 + d4 = g 3 → x4_1 = it (fX2_waiting_b4 a) i4 (nI 0) → lv_has ls 3 [(2, .int (nI i4)), (1, .int x4_1), (0, .ref (ω.2.1 0 99))] → W p l e rmX2_waiting s m args below meth c s.heap [] 0 0 QQ (F0 m 4 ls []) := by
    intro d4
    induction d4 with
    | zero =>
      intro i4 x4_1 ls hi4 hS4 hl
      have hj4 : g 3 = i4 := by omega
      subst hj4
      have e_x4_1 := hS4
      refine lv_iload_n hF.1 hF.2.1 dX2_waiting_4 rfl (lv_at hl 0 rfl) ?_
      refine lv_aload_n hF.1 hF.2.1 dX2_waiting_5 rfl (lv_at hl 2 rfl) ?_
      refine mg_3 hF hK hH q974 dX2_waiting_6 (v := g 3) rfl ?_
      refine n_ge (tgt := 40) hF.1 hF.2.1 dX2_waiting_9 (by decide) (by omega) (by omega) (fun c1 => ?_) (fun c1 => ?_)
      · skip
        refine lv_iload_n hF.1 hF.2.1 dX2_waiting_40 rfl (lv_at hl 1 rfl) ?_
        exact hret _ _ _ dX2_waiting_41 (by subst e_x4_1; rfl)
      · exact absurd (by omega) c1
    | succ d4 ih =>
      intro i4 x4_1 ls hi4 hS4 hl
      refine lv_iload_n hF.1 hF.2.1 dX2_waiting_4 rfl (lv_at hl 0 rfl) ?_
      refine lv_aload_n hF.1 hF.2.1 dX2_waiting_5 rfl (lv_at hl 2 rfl) ?_
      refine mg_3 hF hK hH q974 dX2_waiting_6 (v := g 3) rfl ?_
      refine n_ge (tgt := 40) hF.1 hF.2.1 dX2_waiting_9 (by decide) (by omega) (by omega) (fun c2 => ?_) (fun c2 => ?_)
      · exact absurd c2 (by omega)
      · skip
        refine lv_iload_n hF.1 hF.2.1 dX2_waiting_12 rfl (lv_at hl 1 rfl) ?_
        refine lv_aload_n hF.1 hF.2.1 dX2_waiting_13 rfl (lv_at hl 2 rfl) ?_
        refine mg_8 hF hK hH q979 dX2_waiting_14 ?_
        refine lv_iconst (v := nI 5) hF.1 hF.2.1 dX2_waiting_17 (by decide) ?_
        refine lv_iload_n hF.1 hF.2.1 dX2_waiting_18 rfl (lv_at hl 0 rfl) ?_
        refine n_imul hF.1 hF.2.1 dX2_waiting_19 ?_
        refine lv_iconst (v := nI 3) hF.1 hF.2.1 dX2_waiting_20 (by decide) ?_
        refine n_iadd hF.1 hF.2.1 dX2_waiting_21 ?_
        refine m_ald hF hK hH 8 (n := 15) rfl rfl (by decide) rfl (f := a 8) rfl (i := (5 * i4) + 3) (by omega) (by decide) dX2_waiting_22 ?_
        refine lv_iconst (v := (-1)) hF.1 hF.2.1 dX2_waiting_23 (by decide) ?_
        refine lv_icmp_ne (tgt := 31) hF.1 hF.2.1 dX2_waiting_24 (by decide) (fun c3 => ?_) (fun c3 => ?_)
        · skip
          refine lv_iconst (v := nI 1) hF.1 hF.2.1 dX2_waiting_31 (by decide) ?_
          refine lv_iadd hF.1 hF.2.1 dX2_waiting_32 ?_
          refine lv_istore_n (lv' := [(1, .int (x4_1 + (nI 1))), (2, .int (nI i4)), (0, .ref (ω.2.1 0 99))]) hF.1 hF.2.1 dX2_waiting_33 rfl hl (by decide) rfl (fun ls hl => ?_)
          refine n_iinc (lv' := [(2, .int (nI (i4 + 1))), (1, .int (x4_1 + (nI 1))), (0, .ref (ω.2.1 0 99))]) hF.1 hF.2.1 dX2_waiting_34 hl (k := 1) rfl (by decide) rfl (fun ls hl => ?_)
          refine lv_goto (tgt := 4) hF.1 hF.2.1 dX2_waiting_37 (by decide) ?_
          exact ih (i4 + 1) _ _ (by omega) (by rw [it_succ (fX2_waiting_b4 a) i4 _, ← hS4]; unfold fX2_waiting_b4; first | (rw [if_neg c3]; done) | (simp only [if_neg c3])) (lv_sub hl [0, 1, 2] rfl)
        · skip
          refine lv_iconst (v := nI 0) hF.1 hF.2.1 dX2_waiting_27 (by decide) ?_
          refine lv_goto (tgt := 32) hF.1 hF.2.1 dX2_waiting_28 (by decide) ?_
          refine lv_iadd hF.1 hF.2.1 dX2_waiting_32 ?_
          refine lv_istore_n (lv' := [(1, .int (x4_1 + (nI 0))), (2, .int (nI i4)), (0, .ref (ω.2.1 0 99))]) hF.1 hF.2.1 dX2_waiting_33 rfl hl (by decide) rfl (fun ls hl => ?_)
          refine n_iinc (lv' := [(2, .int (nI (i4 + 1))), (1, .int (x4_1 + (nI 0))), (0, .ref (ω.2.1 0 99))]) hF.1 hF.2.1 dX2_waiting_34 hl (k := 1) rfl (by decide) rfl (fun ls hl => ?_)
          refine lv_goto (tgt := 4) hF.1 hF.2.1 dX2_waiting_37 (by decide) ?_
          exact ih (i4 + 1) _ _ (by omega) (by rw [it_succ (fX2_waiting_b4 a) i4 _, ← hS4]; unfold fX2_waiting_b4; first | (rw [if_pos c3]; done) | (simp only [if_pos c3])) (lv_sub hl [0, 1, 2] rfl)
  exact lp4_56 (g 3) 0 _ _ (by omega) rfl (lv_sub hl [0, 1, 2] rfl)

def fX2_lengthAll_b4 (a : Nat → Nat → Int32) (i4 : Nat) (S : Int32) : Int32 := S + (a 7 ((4 * i4) + 3))
def fX2_lengthAll (g : Nat → Nat) (a : Nat → Nat → Int32) : Int32 := (it (fX2_lengthAll_b4 a) (g 4) (nI 0))
def rmX2_lengthAll : Room := { frames := 1, cells := 0, slots := 0, locals := 24 }
theorem hdX2_lengthAll : yX2_lengthAll.cls = RX2 ∧ yX2_lengthAll.cls ≠ "java/lang/invoke/MethodHandle" ∧ yX2_lengthAll.cls ≠ "java/lang/invoke/VarHandle" ∧ (parseMethodDescriptor yX2_lengthAll.desc).map (fun d => d.parameters.length) = some 0 := by decide +kernel
set_option maxHeartbeats 4000000 in
theorem kX2_lengthAll (l : Launch) (ω : OM) (g : Nat → Nat) (y : Nat → Int32) (a z : Nat → Nat → Int32) (kt : Int32) (hs : Int64) (hn9 : g 4 ≤ 9) : Met l yX2_lengthAll (ws_ yX2_lengthAll cX2_lengthAll 3 (some .int)) rmX2_lengthAll (va_Pc [.ref (ω.2.1 0 99)] (fun U => mK ω U ∧ mH ω (g, y, a, z, kt, hs) U.heap)) (vp_Si (fun r => r = (fX2_lengthAll g a))) 0 0 (fun _ => False) := by
  refine g_entPi (C := RX2) rfl (by decide) (Nat.le_of_ble_eq_true rfl) ?_
  intro p e s m args below meth c QQ ls hF hKH hl hret
  have hl : lv_has ls 3 [(0, .ref (ω.2.1 0 99))] := hl
  obtain ⟨hK, hH⟩ := hKH
  refine lv_iconst (v := nI 0) hF.1 hF.2.1 dX2_lengthAll_0 (by decide) ?_
  refine lv_istore_n (lv' := [(1, .int (nI 0)), (0, .ref (ω.2.1 0 99))]) hF.1 hF.2.1 dX2_lengthAll_1 rfl hl (by decide) rfl (fun ls hl => ?_)
  refine lv_iconst (v := nI 0) hF.1 hF.2.1 dX2_lengthAll_2 (by decide) ?_
  refine lv_istore_n (lv' := [(2, .int (nI 0)), (1, .int (nI 0)), (0, .ref (ω.2.1 0 99))]) hF.1 hF.2.1 dX2_lengthAll_3 rfl hl (by decide) rfl (fun ls hl => ?_)
  have lp4_58 : ∀ (d4 i4 : Nat) (x4_1 : Int32) (ls : Array Slot), i4 + d4 = g 4 → x4_1 = it (fX2_lengthAll_b4 a) i4 (nI 0) → lv_has ls 3 [(2, .int (nI i4)), (1, .int x4_1), (0, .ref (ω.2.1 0 99))] → W p l e rmX2_lengthAll s m args below meth c s.heap [] 0 0 QQ (F0 m 4 ls []) := by
    intro d4
    induction d4 with
    | zero =>
      intro i4 x4_1 ls hi4 hS4 hl
      have hj4 : g 4 = i4 := by omega
      subst hj4
      have e_x4_1 := hS4
      refine lv_iload_n hF.1 hF.2.1 dX2_lengthAll_4 rfl (lv_at hl 0 rfl) ?_
      refine lv_aload_n hF.1 hF.2.1 dX2_lengthAll_5 rfl (lv_at hl 2 rfl) ?_
      refine mg_4 hF hK hH q975 dX2_lengthAll_6 (v := g 4) rfl ?_
      refine n_ge (tgt := 31) hF.1 hF.2.1 dX2_lengthAll_9 (by decide) (by omega) (by omega) (fun c1 => ?_) (fun c1 => ?_)
      · skip
        refine lv_iload_n hF.1 hF.2.1 dX2_lengthAll_31 rfl (lv_at hl 1 rfl) ?_
        exact hret _ _ _ dX2_lengthAll_32 (by subst e_x4_1; rfl)
      · exact absurd (by omega) c1
    | succ d4 ih =>
      intro i4 x4_1 ls hi4 hS4 hl
      refine lv_iload_n hF.1 hF.2.1 dX2_lengthAll_4 rfl (lv_at hl 0 rfl) ?_
      refine lv_aload_n hF.1 hF.2.1 dX2_lengthAll_5 rfl (lv_at hl 2 rfl) ?_
      refine mg_4 hF hK hH q975 dX2_lengthAll_6 (v := g 4) rfl ?_
      refine n_ge (tgt := 31) hF.1 hF.2.1 dX2_lengthAll_9 (by decide) (by omega) (by omega) (fun c2 => ?_) (fun c2 => ?_)
      · exact absurd c2 (by omega)
      · skip
        refine lv_iload_n hF.1 hF.2.1 dX2_lengthAll_12 rfl (lv_at hl 1 rfl) ?_
        refine lv_aload_n hF.1 hF.2.1 dX2_lengthAll_13 rfl (lv_at hl 2 rfl) ?_
        refine mg_7 hF hK hH q978 dX2_lengthAll_14 ?_
        refine lv_iconst (v := nI 4) hF.1 hF.2.1 dX2_lengthAll_17 (by decide) ?_
        refine lv_iload_n hF.1 hF.2.1 dX2_lengthAll_18 rfl (lv_at hl 0 rfl) ?_
        refine n_imul hF.1 hF.2.1 dX2_lengthAll_19 ?_
        refine lv_iconst (v := nI 3) hF.1 hF.2.1 dX2_lengthAll_20 (by decide) ?_
        refine n_iadd hF.1 hF.2.1 dX2_lengthAll_21 ?_
        refine m_ald hF hK hH 7 (n := 36) rfl rfl (by decide) rfl (f := a 7) rfl (i := (4 * i4) + 3) (by omega) (by decide) dX2_lengthAll_22 ?_
        refine lv_iadd hF.1 hF.2.1 dX2_lengthAll_23 ?_
        refine lv_istore_n (lv' := [(1, .int (x4_1 + (a 7 ((4 * i4) + 3)))), (2, .int (nI i4)), (0, .ref (ω.2.1 0 99))]) hF.1 hF.2.1 dX2_lengthAll_24 rfl hl (by decide) rfl (fun ls hl => ?_)
        refine n_iinc (lv' := [(2, .int (nI (i4 + 1))), (1, .int (x4_1 + (a 7 ((4 * i4) + 3)))), (0, .ref (ω.2.1 0 99))]) hF.1 hF.2.1 dX2_lengthAll_25 hl (k := 1) rfl (by decide) rfl (fun ls hl => ?_)
        refine lv_goto (tgt := 4) hF.1 hF.2.1 dX2_lengthAll_28 (by decide) ?_
        exact ih (i4 + 1) _ _ (by omega) (by rw [it_succ (fX2_lengthAll_b4 a) i4 _, ← hS4]; try rfl) (lv_sub hl [0, 1, 2] rfl)
  exact lp4_58 (g 4) 0 _ _ (by omega) rfl (lv_sub hl [0, 1, 2] rfl)

def fX2_countOf (g : Nat → Nat) (a : Nat → Nat → Int32) (wh : Int32) : Int32 := if wh = nI 0 then nI (g 3) else if wh = nI 1 then nI (g 4) else if wh = nI 2 then (fX2_ones (fX2_cornersWithEnds g a)) else if wh = nI 3 then nI (g 5) else if wh = nI 4 then (a 10 2) + (a 10 5) else if wh = nI 5 then (fX2_hurtAll g a) else if wh = nI 6 then (fX2_ones ((a 10 1) ||| (a 10 4))) else if wh = nI 7 then (fX2_waiting g a) else if wh = nI 8 then nI (g 15) else if wh = nI 9 then nI (g 1) else if wh = nI 10 then nI (g 6) else if wh = nI 11 then (fX2_lengthAll g a) else (-102)
def rmX2_countOf : Room := { frames := 2, cells := 0, slots := 0, locals := 46 }
theorem hdX2_countOf : yX2_countOf.cls = RX2 ∧ yX2_countOf.cls ≠ "java/lang/invoke/MethodHandle" ∧ yX2_countOf.cls ≠ "java/lang/invoke/VarHandle" ∧ (parseMethodDescriptor yX2_countOf.desc).map (fun d => d.parameters.length) = some 1 := by decide +kernel
set_option maxHeartbeats 4000000 in
theorem kX2_countOf (l : Launch) (ω : OM) (g : Nat → Nat) (y : Nat → Int32) (a z : Nat → Nat → Int32) (kt : Int32) (hs : Int64) (wh : Int32) (hp3 : g 3 ≤ 3) (hr : mRows (g 4) (a 7)) : Met l yX2_countOf (ws_ yX2_countOf cX2_countOf 2 (some .int)) rmX2_countOf (va_Pc [.ref (ω.2.1 0 99), .int wh] (fun U => mK ω U ∧ mH ω (g, y, a, z, kt, hs) U.heap)) (vp_Si (fun r => r = (fX2_countOf g a wh))) 0 0 (fun _ => False) := by
  refine g_entPi (C := RX2) rfl (by decide) (Nat.le_of_ble_eq_true rfl) ?_
  intro p e s m args below meth c QQ ls hF hKH hl hret
  have hl : lv_has ls 2 [(0, .ref (ω.2.1 0 99)), (1, .int wh)] := hl
  obtain ⟨hK, hH⟩ := hKH
  have hn9 := hr.1
  refine lv_iload_n hF.1 hF.2.1 dX2_countOf_0 rfl (lv_at hl 1 rfl) ?_
  by_cases c2 : wh = nI 0
  · skip
    refine n_top (y := nI 0) c2 ?_
    refine lv_tableIn (off := 63) (tgt := 64) hF.1 hF.2.1 dX2_countOf_1 (by decide) (by decide) (by decide) (by decide) ?_
    refine lv_aload_n hF.1 hF.2.1 dX2_countOf_64 rfl (lv_at hl 0 rfl) ?_
    refine mg_3 hF hK hH q974 dX2_countOf_65 (v := g 3) rfl ?_
    exact hret _ _ _ dX2_countOf_68 (by unfold fX2_countOf; first | (rw [if_pos c2]; done) | (simp only [if_pos c2]))
  by_cases c3 : wh = nI 1
  · skip
    refine n_top (y := nI 1) c3 ?_
    refine lv_tableIn (off := 68) (tgt := 69) hF.1 hF.2.1 dX2_countOf_1 (by decide) (by decide) (by decide) (by decide) ?_
    refine lv_aload_n hF.1 hF.2.1 dX2_countOf_69 rfl (lv_at hl 0 rfl) ?_
    refine mg_4 hF hK hH q975 dX2_countOf_70 (v := g 4) rfl ?_
    exact hret _ _ _ dX2_countOf_73 (by unfold fX2_countOf; first | (rw [if_neg c2, if_pos c3]; done) | (simp only [if_neg c2, if_pos c3]))
  by_cases c4 : wh = nI 2
  · skip
    refine n_top (y := nI 2) c4 ?_
    refine lv_tableIn (off := 73) (tgt := 74) hF.1 hF.2.1 dX2_countOf_1 (by decide) (by decide) (by decide) (by decide) ?_
    refine lv_aload_n hF.1 hF.2.1 dX2_countOf_74 rfl (lv_at hl 0 rfl) ?_
    refine g_vPi (As := []) (rest := []) hF (kX2_cornersWithEnds l ω g y a z kt hs hr) (lw_V q1252 q1254 qs75 q97 q1255) 0 hdX2_cornersWithEnds rfl rfl ⟨Nat.le_of_ble_eq_true rfl, Nat.le_of_ble_eq_true rfl⟩ (m_preV hK hH) rfl hl.1 rfl (Nat.le_of_ble_eq_true rfl) dX2_countOf_75 ⟨Nat.zero_le _, Nat.zero_le _⟩ (fun r5 e_r5 => ?_)
    refine g_sPi (As := [.int r5]) (rest := []) hF (kX2_ones l r5) (lw_S q1272 q1273 q97 q1274) 1 hdX2_ones.2 rfl rfl ⟨Nat.le_of_ble_eq_true rfl, Nat.le_of_ble_eq_true rfl⟩ g_pre0 rfl hl.1 rfl (Nat.le_of_ble_eq_true rfl) dX2_countOf_78 ⟨Nat.zero_le _, Nat.zero_le _⟩ (fun r6 e_r6 => ?_)
    exact hret _ _ _ dX2_countOf_81 (by subst e_r6; subst e_r5; unfold fX2_countOf; first | (rw [if_neg c2, if_neg c3, if_pos c4]; done) | (simp only [if_neg c2, if_neg c3, if_pos c4]))
  by_cases c7 : wh = nI 3
  · skip
    refine n_top (y := nI 3) c7 ?_
    refine lv_tableIn (off := 81) (tgt := 82) hF.1 hF.2.1 dX2_countOf_1 (by decide) (by decide) (by decide) (by decide) ?_
    refine lv_aload_n hF.1 hF.2.1 dX2_countOf_82 rfl (lv_at hl 0 rfl) ?_
    refine mg_5 hF hK hH q976 dX2_countOf_83 (v := g 5) rfl ?_
    exact hret _ _ _ dX2_countOf_86 (by unfold fX2_countOf; first | (rw [if_neg c2, if_neg c3, if_neg c4, if_pos c7]; done) | (simp only [if_neg c2, if_neg c3, if_neg c4, if_pos c7]))
  by_cases c8 : wh = nI 4
  · skip
    refine n_top (y := nI 4) c8 ?_
    refine lv_tableIn (off := 86) (tgt := 87) hF.1 hF.2.1 dX2_countOf_1 (by decide) (by decide) (by decide) (by decide) ?_
    refine lv_aload_n hF.1 hF.2.1 dX2_countOf_87 rfl (lv_at hl 0 rfl) ?_
    refine mg_10 hF hK hH q981 dX2_countOf_88 ?_
    refine lv_iconst (v := nI 2) hF.1 hF.2.1 dX2_countOf_91 (by decide) ?_
    refine m_ald hF hK hH 10 (n := 6) rfl rfl (by decide) rfl (f := a 10) rfl (i := 2) (by omega) (by decide) dX2_countOf_92 ?_
    refine lv_aload_n hF.1 hF.2.1 dX2_countOf_93 rfl (lv_at hl 0 rfl) ?_
    refine mg_10 hF hK hH q981 dX2_countOf_94 ?_
    refine lv_iconst (v := nI 5) hF.1 hF.2.1 dX2_countOf_97 (by decide) ?_
    refine m_ald hF hK hH 10 (n := 6) rfl rfl (by decide) rfl (f := a 10) rfl (i := 5) (by omega) (by decide) dX2_countOf_98 ?_
    refine lv_iadd hF.1 hF.2.1 dX2_countOf_99 ?_
    exact hret _ _ _ dX2_countOf_100 (by unfold fX2_countOf; first | (rw [if_neg c2, if_neg c3, if_neg c4, if_neg c7, if_pos c8]; done) | (simp only [if_neg c2, if_neg c3, if_neg c4, if_neg c7, if_pos c8]))
  by_cases c9 : wh = nI 5
  · skip
    refine n_top (y := nI 5) c9 ?_
    refine lv_tableIn (off := 100) (tgt := 101) hF.1 hF.2.1 dX2_countOf_1 (by decide) (by decide) (by decide) (by decide) ?_
    refine lv_aload_n hF.1 hF.2.1 dX2_countOf_101 rfl (lv_at hl 0 rfl) ?_
    refine g_vPi (As := []) (rest := []) hF (kX2_hurtAll l ω g y a z kt hs (by omega)) (lw_V q1356 q1358 qs85 q97 q1359) 0 hdX2_hurtAll rfl rfl ⟨Nat.le_of_ble_eq_true rfl, Nat.le_of_ble_eq_true rfl⟩ (m_preV hK hH) rfl hl.1 rfl (Nat.le_of_ble_eq_true rfl) dX2_countOf_102 ⟨Nat.zero_le _, Nat.zero_le _⟩ (fun r10 e_r10 => ?_)
    exact hret _ _ _ dX2_countOf_105 (by subst e_r10; unfold fX2_countOf; first | (rw [if_neg c2, if_neg c3, if_neg c4, if_neg c7, if_neg c8, if_pos c9]; done) | (simp only [if_neg c2, if_neg c3, if_neg c4, if_neg c7, if_neg c8, if_pos c9]))
  by_cases c11 : wh = nI 6
  · skip
    refine n_top (y := nI 6) c11 ?_
    refine lv_tableIn (off := 105) (tgt := 106) hF.1 hF.2.1 dX2_countOf_1 (by decide) (by decide) (by decide) (by decide) ?_
    refine lv_aload_n hF.1 hF.2.1 dX2_countOf_106 rfl (lv_at hl 0 rfl) ?_
    refine mg_10 hF hK hH q981 dX2_countOf_107 ?_
    refine lv_iconst (v := nI 1) hF.1 hF.2.1 dX2_countOf_110 (by decide) ?_
    refine m_ald hF hK hH 10 (n := 6) rfl rfl (by decide) rfl (f := a 10) rfl (i := 1) (by omega) (by decide) dX2_countOf_111 ?_
    refine lv_aload_n hF.1 hF.2.1 dX2_countOf_112 rfl (lv_at hl 0 rfl) ?_
    refine mg_10 hF hK hH q981 dX2_countOf_113 ?_
    refine lv_iconst (v := nI 4) hF.1 hF.2.1 dX2_countOf_116 (by decide) ?_
    refine m_ald hF hK hH 10 (n := 6) rfl rfl (by decide) rfl (f := a 10) rfl (i := 4) (by omega) (by decide) dX2_countOf_117 ?_
    refine lv_ior hF.1 hF.2.1 dX2_countOf_118 ?_
    refine g_sPi (As := [.int ((a 10 1) ||| (a 10 4))]) (rest := []) hF (kX2_ones l ((a 10 1) ||| (a 10 4))) (lw_S q1272 q1273 q97 q1274) 1 hdX2_ones.2 rfl rfl ⟨Nat.le_of_ble_eq_true rfl, Nat.le_of_ble_eq_true rfl⟩ g_pre0 rfl hl.1 rfl (Nat.le_of_ble_eq_true rfl) dX2_countOf_119 ⟨Nat.zero_le _, Nat.zero_le _⟩ (fun r12 e_r12 => ?_)
    exact hret _ _ _ dX2_countOf_122 (by subst e_r12; unfold fX2_countOf; first | (rw [if_neg c2, if_neg c3, if_neg c4, if_neg c7, if_neg c8, if_neg c9, if_pos c11]; done) | (simp only [if_neg c2, if_neg c3, if_neg c4, if_neg c7, if_neg c8, if_neg c9, if_pos c11]))
  by_cases c13 : wh = nI 7
  · skip
    refine n_top (y := nI 7) c13 ?_
    refine lv_tableIn (off := 122) (tgt := 123) hF.1 hF.2.1 dX2_countOf_1 (by decide) (by decide) (by decide) (by decide) ?_
    refine lv_aload_n hF.1 hF.2.1 dX2_countOf_123 rfl (lv_at hl 0 rfl) ?_
    refine g_vPi (As := []) (rest := []) hF (kX2_waiting l ω g y a z kt hs (by omega)) (lw_V q1360 q1362 qs86 q97 q1363) 0 hdX2_waiting rfl rfl ⟨Nat.le_of_ble_eq_true rfl, Nat.le_of_ble_eq_true rfl⟩ (m_preV hK hH) rfl hl.1 rfl (Nat.le_of_ble_eq_true rfl) dX2_countOf_124 ⟨Nat.zero_le _, Nat.zero_le _⟩ (fun r14 e_r14 => ?_)
    exact hret _ _ _ dX2_countOf_127 (by subst e_r14; unfold fX2_countOf; first | (rw [if_neg c2, if_neg c3, if_neg c4, if_neg c7, if_neg c8, if_neg c9, if_neg c11, if_pos c13]; done) | (simp only [if_neg c2, if_neg c3, if_neg c4, if_neg c7, if_neg c8, if_neg c9, if_neg c11, if_pos c13]))
  by_cases c15 : wh = nI 8
  · skip
    refine n_top (y := nI 8) c15 ?_
    refine lv_tableIn (off := 127) (tgt := 128) hF.1 hF.2.1 dX2_countOf_1 (by decide) (by decide) (by decide) (by decide) ?_
    refine lv_aload_n hF.1 hF.2.1 dX2_countOf_128 rfl (lv_at hl 0 rfl) ?_
    refine mg_15 hF hK hH q986 dX2_countOf_129 (v := g 15) rfl ?_
    exact hret _ _ _ dX2_countOf_132 (by unfold fX2_countOf; first | (rw [if_neg c2, if_neg c3, if_neg c4, if_neg c7, if_neg c8, if_neg c9, if_neg c11, if_neg c13, if_pos c15]; done) | (simp only [if_neg c2, if_neg c3, if_neg c4, if_neg c7, if_neg c8, if_neg c9, if_neg c11, if_neg c13, if_pos c15]))
  by_cases c16 : wh = nI 9
  · skip
    refine n_top (y := nI 9) c16 ?_
    refine lv_tableIn (off := 132) (tgt := 133) hF.1 hF.2.1 dX2_countOf_1 (by decide) (by decide) (by decide) (by decide) ?_
    refine lv_aload_n hF.1 hF.2.1 dX2_countOf_133 rfl (lv_at hl 0 rfl) ?_
    refine mg_1 hF hK hH q972 dX2_countOf_134 (v := g 1) rfl ?_
    exact hret _ _ _ dX2_countOf_137 (by unfold fX2_countOf; first | (rw [if_neg c2, if_neg c3, if_neg c4, if_neg c7, if_neg c8, if_neg c9, if_neg c11, if_neg c13, if_neg c15, if_pos c16]; done) | (simp only [if_neg c2, if_neg c3, if_neg c4, if_neg c7, if_neg c8, if_neg c9, if_neg c11, if_neg c13, if_neg c15, if_pos c16]))
  by_cases c17 : wh = nI 10
  · skip
    refine n_top (y := nI 10) c17 ?_
    refine lv_tableIn (off := 137) (tgt := 138) hF.1 hF.2.1 dX2_countOf_1 (by decide) (by decide) (by decide) (by decide) ?_
    refine lv_aload_n hF.1 hF.2.1 dX2_countOf_138 rfl (lv_at hl 0 rfl) ?_
    refine mg_6 hF hK hH q977 dX2_countOf_139 (v := g 6) rfl ?_
    exact hret _ _ _ dX2_countOf_142 (by unfold fX2_countOf; first | (rw [if_neg c2, if_neg c3, if_neg c4, if_neg c7, if_neg c8, if_neg c9, if_neg c11, if_neg c13, if_neg c15, if_neg c16, if_pos c17]; done) | (simp only [if_neg c2, if_neg c3, if_neg c4, if_neg c7, if_neg c8, if_neg c9, if_neg c11, if_neg c13, if_neg c15, if_neg c16, if_pos c17]))
  by_cases c18 : wh = nI 11
  · skip
    refine n_top (y := nI 11) c18 ?_
    refine lv_tableIn (off := 142) (tgt := 143) hF.1 hF.2.1 dX2_countOf_1 (by decide) (by decide) (by decide) (by decide) ?_
    refine lv_aload_n hF.1 hF.2.1 dX2_countOf_143 rfl (lv_at hl 0 rfl) ?_
    refine g_vPi (As := []) (rest := []) hF (kX2_lengthAll l ω g y a z kt hs (by omega)) (lw_V q1364 q1366 qs87 q97 q1367) 0 hdX2_lengthAll rfl rfl ⟨Nat.le_of_ble_eq_true rfl, Nat.le_of_ble_eq_true rfl⟩ (m_preV hK hH) rfl hl.1 rfl (Nat.le_of_ble_eq_true rfl) dX2_countOf_144 ⟨Nat.zero_le _, Nat.zero_le _⟩ (fun r19 e_r19 => ?_)
    exact hret _ _ _ dX2_countOf_147 (by subst e_r19; unfold fX2_countOf; first | (rw [if_neg c2, if_neg c3, if_neg c4, if_neg c7, if_neg c8, if_neg c9, if_neg c11, if_neg c13, if_neg c15, if_neg c16, if_neg c17, if_pos c18]; done) | (simp only [if_neg c2, if_neg c3, if_neg c4, if_neg c7, if_neg c8, if_neg c9, if_neg c11, if_neg c13, if_neg c15, if_neg c16, if_neg c17, if_pos c18]))
  have kd1 : W p l e rmX2_countOf s m args below meth c s.heap [] 0 0 QQ (F0 m 148 ls []) := by
    skip
    refine lv_bipush (v := (-102)) hF.1 hF.2.1 dX2_countOf_148 (by decide) ?_
    exact hret _ _ _ dX2_countOf_150 (by unfold fX2_countOf; first | (rw [if_neg c2, if_neg c3, if_neg c4, if_neg c7, if_neg c8, if_neg c9, if_neg c11, if_neg c13, if_neg c15, if_neg c16, if_neg c17, if_neg c18]; done) | (simp only [if_neg c2, if_neg c3, if_neg c4, if_neg c7, if_neg c8, if_neg c9, if_neg c11, if_neg c13, if_neg c15, if_neg c16, if_neg c17, if_neg c18]))
  by_cases hlo : wh.toInt < 0
  · exact lv_tableOut (tgt := 148) hF.1 hF.2.1 dX2_countOf_1 (Or.inl hlo) (by decide) kd1
  by_cases hhi : 11 < wh.toInt
  · exact lv_tableOut (tgt := 148) hF.1 hF.2.1 dX2_countOf_1 (Or.inr hhi) (by decide) kd1
  by_cases hv0 : wh.toInt = 0
  · exact absurd (Int32.toInt_inj.mp (hv0.trans (by decide)) : wh = nI 0) c2
  by_cases hv1 : wh.toInt = 1
  · exact absurd (Int32.toInt_inj.mp (hv1.trans (by decide)) : wh = nI 1) c3
  by_cases hv2 : wh.toInt = 2
  · exact absurd (Int32.toInt_inj.mp (hv2.trans (by decide)) : wh = nI 2) c4
  by_cases hv3 : wh.toInt = 3
  · exact absurd (Int32.toInt_inj.mp (hv3.trans (by decide)) : wh = nI 3) c7
  by_cases hv4 : wh.toInt = 4
  · exact absurd (Int32.toInt_inj.mp (hv4.trans (by decide)) : wh = nI 4) c8
  by_cases hv5 : wh.toInt = 5
  · exact absurd (Int32.toInt_inj.mp (hv5.trans (by decide)) : wh = nI 5) c9
  by_cases hv6 : wh.toInt = 6
  · exact absurd (Int32.toInt_inj.mp (hv6.trans (by decide)) : wh = nI 6) c11
  by_cases hv7 : wh.toInt = 7
  · exact absurd (Int32.toInt_inj.mp (hv7.trans (by decide)) : wh = nI 7) c13
  by_cases hv8 : wh.toInt = 8
  · exact absurd (Int32.toInt_inj.mp (hv8.trans (by decide)) : wh = nI 8) c15
  by_cases hv9 : wh.toInt = 9
  · exact absurd (Int32.toInt_inj.mp (hv9.trans (by decide)) : wh = nI 9) c16
  by_cases hv10 : wh.toInt = 10
  · exact absurd (Int32.toInt_inj.mp (hv10.trans (by decide)) : wh = nI 10) c17
  by_cases hv11 : wh.toInt = 11
  · exact absurd (Int32.toInt_inj.mp (hv11.trans (by decide)) : wh = nI 11) c18
  exfalso
  omega

def fX2_count (g : Nat → Nat) (a : Nat → Nat → Int32) (wh : Int32) : Int32 := (fX2_countOf g a wh)
def rmX2_count : Room := { frames := 3, cells := 0, slots := 0, locals := 67 }
theorem hdX2_count : yX2_count.cls = RX2 ∧ yX2_count.cls ≠ "java/lang/invoke/MethodHandle" ∧ yX2_count.cls ≠ "java/lang/invoke/VarHandle" ∧ (parseMethodDescriptor yX2_count.desc).map (fun d => d.parameters.length) = some 1 := by decide +kernel
set_option maxHeartbeats 4000000 in
theorem kX2_count (l : Launch) (ω : OM) (g : Nat → Nat) (y : Nat → Int32) (a z : Nat → Nat → Int32) (kt : Int32) (hs : Int64) (wh : Int32) (hp3 : g 3 ≤ 3) (hr : mRows (g 4) (a 7)) : Met l yX2_count (ws_ yX2_count cX2_count 2 (some .int)) rmX2_count (va_Pc [.ref (ω.2.1 0 99), .int wh] (fun U => mK ω U ∧ mH ω (g, y, a, z, kt, hs) U.heap)) (vp_Si (fun r => r = (fX2_count g a wh))) 0 0 (fun _ => False) := by
  refine g_entPi (C := RX2) rfl (by decide) (Nat.le_of_ble_eq_true rfl) ?_
  intro p e s m args below meth c QQ ls hF hKH hl hret
  have hl : lv_has ls 2 [(0, .ref (ω.2.1 0 99)), (1, .int wh)] := hl
  obtain ⟨hK, hH⟩ := hKH
  refine lv_aload_n hF.1 hF.2.1 dX2_count_0 rfl (lv_at hl 0 rfl) ?_
  refine lv_iload_n hF.1 hF.2.1 dX2_count_1 rfl (lv_at hl 1 rfl) ?_
  refine g_vPi (As := [.int wh]) (rest := []) hF (kX2_countOf l ω g y a z kt hs wh (by omega) hr) (lw_V q1352 q1354 qs84 q97 q1355) 1 hdX2_countOf rfl rfl ⟨Nat.le_of_ble_eq_true rfl, Nat.le_of_ble_eq_true rfl⟩ (m_preV hK hH) rfl hl.1 rfl (Nat.le_of_ble_eq_true rfl) dX2_count_2 ⟨Nat.zero_le _, Nat.zero_le _⟩ (fun r1 e_r1 => ?_)
  exact hret _ _ _ dX2_count_5 (by subst e_r1; rfl)

def fX2_say (hs : Int64) (v : Int64) : Int64 := (31 * hs) + v
def rmX2_say : Room := { frames := 1, cells := 0, slots := 0, locals := 24 }
theorem hdX2_say : yX2_say.cls = RX2 ∧ yX2_say.cls ≠ "java/lang/invoke/MethodHandle" ∧ yX2_say.cls ≠ "java/lang/invoke/VarHandle" ∧ (parseMethodDescriptor yX2_say.desc).map (fun d => d.parameters.length) = some 1 := by decide +kernel
set_option maxHeartbeats 4000000 in
theorem kX2_say (l : Launch) (ω : OM) (g : Nat → Nat) (y : Nat → Int32) (a z : Nat → Nat → Int32) (kt : Int32) (hs : Int64) (v : Int64) : Met l yX2_say (ws_ yX2_say cX2_say 3 none) rmX2_say (va_Pc [.ref (ω.2.1 0 99), .long v] (fun U => mK ω U ∧ mH ω (g, y, a, z, kt, hs) U.heap)) (va_Qv (fun (u : MS) => ∃ (o0 : Int64), o0 = (fX2_say hs v) ∧ u = (g, y, a, z, kt, o0)) (fun u t => mH ω u t.heap) ω.2.2.1) 0 0 ω.2.2.1 := by
  refine g_entWv (C := RX2) rfl (by decide) (Nat.le_of_ble_eq_true rfl) ?_
  intro p e s m args below meth c QQ ls H locs hF hK hH hS hl hret
  have hl : lv_has ls 3 [(0, .ref (ω.2.1 0 99)), (1, .long v)] := hl
  refine lv_aload_n hF.1 hF.2.1 dX2_say_0 rfl (lv_at hl 0 rfl) ?_
  refine lv_ldc2 (v := 31) hF.1 hF.2.1 hF.2.2.2.1 (hF.2.2.2.2 _ q1381) dX2_say_1 ?_
  refine lv_aload_n hF.1 hF.2.1 dX2_say_4 rfl (lv_at hl 0 rfl) ?_
  refine mg_27 hF hK hH q998 dX2_say_5 ?_
  refine lv_lmul hF.1 hF.2.1 dX2_say_8 ?_
  refine lv_lload_n hF.1 hF.2.1 dX2_say_9 rfl (lv_at hl 1 rfl) ?_
  refine lv_ladd hF.1 hF.2.1 dX2_say_10 ?_
  refine mp_27 hF hK hH hS q998 dX2_say_11 (hs' := (31 * hs) + v) (fun H locs hH hS => ?_)
  exact hret _ _ _ _ _ dX2_say_14 ⟨_, by rfl, rfl⟩ hH hS

def fX2_image (g : Nat → Nat) (a : Nat → Nat → Int32) (kt : Int32) : Int32 × (Nat → Int32) × (Nat → Int32) × (Nat → Int32) × (Nat → Int32) × Nat × Nat × Int32 := if (fX2_lacks g) = 0 then (nI (g 5), (fX2_copy_8_23 a), (fX2_copy_9_24 (va_up a 23 (fX2_copy_8_23 a))), (fX2_copy_10_25 (va_up (va_up a 23 (fX2_copy_8_23 a)) 24 (fX2_copy_9_24 (va_up a 23 (fX2_copy_8_23 a))))), (fX2_copy_16_26 (va_up (va_up (va_up a 23 (fX2_copy_8_23 a)) 24 (fX2_copy_9_24 (va_up a 23 (fX2_copy_8_23 a)))) 25 (fX2_copy_10_25 (va_up (va_up a 23 (fX2_copy_8_23 a)) 24 (fX2_copy_9_24 (va_up a 23 (fX2_copy_8_23 a))))))), g 5, g 15, nI (g 6)) else ((-103), a 23, a 24, a 25, a 26, g 21, g 22, kt)
def rmX2_image : Room := { frames := 2, cells := 0, slots := 0, locals := 46 }
theorem hdX2_image : yX2_image.cls = RX2 ∧ yX2_image.cls ≠ "java/lang/invoke/MethodHandle" ∧ yX2_image.cls ≠ "java/lang/invoke/VarHandle" ∧ (parseMethodDescriptor yX2_image.desc).map (fun d => d.parameters.length) = some 0 := by decide +kernel
set_option maxHeartbeats 4000000 in
theorem kX2_image (l : Launch) (ω : OM) (g : Nat → Nat) (y : Nat → Int32) (a z : Nat → Nat → Int32) (kt : Int32) (hs : Int64) (hn9 : g 4 ≤ 9) : Met l yX2_image (ws_ yX2_image cX2_image 1 (some .int)) rmX2_image (va_Pc [.ref (ω.2.1 0 99)] (fun U => mK ω U ∧ mH ω (g, y, a, z, kt, hs) U.heap)) (va_Qi (fun (r : Int32) (u : MS) => ∃ (o0 : Nat → Int32) (o1 : Nat → Int32) (o2 : Nat → Int32) (o3 : Nat → Int32) (o4 : Nat) (o5 : Nat) (o6 : Int32), (r, o0, o1, o2, o3, o4, o5, o6) = (fX2_image g a kt) ∧ u = (va_up (va_up g 21 o4) 22 o5, y, va_up (va_up (va_up (va_up a 23 o0) 24 o1) 25 o2) 26 o3, z, o6, hs)) (fun u t => mH ω u t.heap) ω.2.2.1) 0 0 ω.2.2.1 := by
  refine g_entWi (C := RX2) rfl (by decide) (Nat.le_of_ble_eq_true rfl) ?_
  intro p e s m args below meth c QQ ls H locs hF hK hH hS hl hret
  have hl : lv_has ls 1 [(0, .ref (ω.2.1 0 99))] := hl
  refine lv_aload_n hF.1 hF.2.1 dX2_image_0 rfl (lv_at hl 0 rfl) ?_
  refine g_vPi (As := []) (rest := []) hF (kX2_lacks l ω g y a z kt hs (by omega)) (lw_V q1232 q1234 qs71 q97 q1235) 0 hdX2_lacks rfl rfl ⟨Nat.le_of_ble_eq_true rfl, Nat.le_of_ble_eq_true rfl⟩ (m_preV hK hH) rfl hl.1 rfl (Nat.le_of_ble_eq_true rfl) dX2_image_1 ⟨Nat.zero_le _, Nat.zero_le _⟩ (fun r1 e_r1 => ?_)
  refine lv_if_eq (tgt := 10) hF.1 hF.2.1 dX2_image_4 (by decide) (fun c2 => ?_) (fun c2 => ?_)
  · skip
    refine lv_aload_n hF.1 hF.2.1 dX2_image_10 rfl (lv_at hl 0 rfl) ?_
    refine mg_8 hF hK hH q979 dX2_image_11 ?_
    refine lv_aload_n hF.1 hF.2.1 dX2_image_14 rfl (lv_at hl 0 rfl) ?_
    refine mg_23 hF hK hH q994 dX2_image_15 ?_
    refine g_sWv (As := [.ref (ω.2.1 0 8), .ref (ω.2.1 0 23)]) (rest := []) hF (kX2_copy_8_23 l ω g y a z kt hs) (lw_S q1329 q1330 q97 q1331) 2 hdX2_copy_8_23.2 rfl rfl ⟨Nat.le_of_ble_eq_true rfl, Nat.le_of_ble_eq_true rfl⟩ (m_pre hK hH) rfl hl.1 rfl (Nat.le_of_ble_eq_true rfl) dX2_image_18 ⟨Nat.le_of_ble_eq_true rfl, Nat.le_of_ble_eq_true rfl⟩ hS (fun ur3 H locs hqr3 hH hS => ?_)
    obtain ⟨r3o0, hr3, rfl⟩ := hqr3
    have e_r3o0 := hr3
    refine lv_aload_n hF.1 hF.2.1 dX2_image_21 rfl (lv_at hl 0 rfl) ?_
    refine mg_9 hF hK hH q980 dX2_image_22 ?_
    refine lv_aload_n hF.1 hF.2.1 dX2_image_25 rfl (lv_at hl 0 rfl) ?_
    refine mg_24 hF hK hH q995 dX2_image_26 ?_
    refine g_sWv (As := [.ref (ω.2.1 0 9), .ref (ω.2.1 0 24)]) (rest := []) hF (kX2_copy_9_24 l ω g y (va_up a 23 r3o0) z kt hs) (lw_S q1329 q1330 q97 q1331) 2 hdX2_copy_9_24.2 rfl rfl ⟨Nat.le_of_ble_eq_true rfl, Nat.le_of_ble_eq_true rfl⟩ (m_pre hK hH) rfl hl.1 rfl (Nat.le_of_ble_eq_true rfl) dX2_image_29 ⟨Nat.le_of_ble_eq_true rfl, Nat.le_of_ble_eq_true rfl⟩ hS (fun ur4 H locs hqr4 hH hS => ?_)
    obtain ⟨r4o0, hr4, rfl⟩ := hqr4
    have e_r4o0 := hr4
    have hH : mH ω (g, y, va_up (va_up a 23 r3o0) 24 r4o0, z, kt, hs) H := m_ext (fun _ => rfl) (fun _ => rfl) (by intro k; by_cases h0 : k = 24; (subst h0; simp [va_up]); simp only [va_up, if_neg h0]) (fun _ => rfl) hH
    refine lv_aload_n hF.1 hF.2.1 dX2_image_32 rfl (lv_at hl 0 rfl) ?_
    refine mg_10 hF hK hH q981 dX2_image_33 ?_
    refine lv_aload_n hF.1 hF.2.1 dX2_image_36 rfl (lv_at hl 0 rfl) ?_
    refine mg_25 hF hK hH q996 dX2_image_37 ?_
    refine g_sWv (As := [.ref (ω.2.1 0 10), .ref (ω.2.1 0 25)]) (rest := []) hF (kX2_copy_10_25 l ω g y (va_up (va_up a 23 r3o0) 24 r4o0) z kt hs) (lw_S q1329 q1330 q97 q1331) 2 hdX2_copy_10_25.2 rfl rfl ⟨Nat.le_of_ble_eq_true rfl, Nat.le_of_ble_eq_true rfl⟩ (m_pre hK hH) rfl hl.1 rfl (Nat.le_of_ble_eq_true rfl) dX2_image_40 ⟨Nat.le_of_ble_eq_true rfl, Nat.le_of_ble_eq_true rfl⟩ hS (fun ur5 H locs hqr5 hH hS => ?_)
    obtain ⟨r5o0, hr5, rfl⟩ := hqr5
    have e_r5o0 := hr5
    have hH : mH ω (g, y, va_up (va_up (va_up a 23 r3o0) 24 r4o0) 25 r5o0, z, kt, hs) H := m_ext (fun _ => rfl) (fun _ => rfl) (by intro k; by_cases h0 : k = 25; (subst h0; simp [va_up]); simp only [va_up, if_neg h0]) (fun _ => rfl) hH
    refine lv_aload_n hF.1 hF.2.1 dX2_image_43 rfl (lv_at hl 0 rfl) ?_
    refine mg_16 hF hK hH q987 dX2_image_44 ?_
    refine lv_aload_n hF.1 hF.2.1 dX2_image_47 rfl (lv_at hl 0 rfl) ?_
    refine mg_26 hF hK hH q997 dX2_image_48 ?_
    refine g_sWv (As := [.ref (ω.2.1 0 16), .ref (ω.2.1 0 26)]) (rest := []) hF (kX2_copy_16_26 l ω g y (va_up (va_up (va_up a 23 r3o0) 24 r4o0) 25 r5o0) z kt hs) (lw_S q1329 q1330 q97 q1331) 2 hdX2_copy_16_26.2 rfl rfl ⟨Nat.le_of_ble_eq_true rfl, Nat.le_of_ble_eq_true rfl⟩ (m_pre hK hH) rfl hl.1 rfl (Nat.le_of_ble_eq_true rfl) dX2_image_51 ⟨Nat.le_of_ble_eq_true rfl, Nat.le_of_ble_eq_true rfl⟩ hS (fun ur6 H locs hqr6 hH hS => ?_)
    obtain ⟨r6o0, hr6, rfl⟩ := hqr6
    have e_r6o0 := hr6
    have hH : mH ω (g, y, va_up (va_up (va_up (va_up a 23 r3o0) 24 r4o0) 25 r5o0) 26 r6o0, z, kt, hs) H := m_ext (fun _ => rfl) (fun _ => rfl) (by intro k; by_cases h0 : k = 26; (subst h0; simp [va_up]); simp only [va_up, if_neg h0]) (fun _ => rfl) hH
    refine lv_aload_n hF.1 hF.2.1 dX2_image_54 rfl (lv_at hl 0 rfl) ?_
    refine lv_aload_n hF.1 hF.2.1 dX2_image_55 rfl (lv_at hl 0 rfl) ?_
    refine mg_5 hF hK hH q976 dX2_image_56 (v := g 5) rfl ?_
    refine mp_21 hF hK hH hS q992 dX2_image_59 (g' := va_up g 21 (g 5)) rfl (by intro j hj; simp only [va_up, if_neg hj]) (fun H locs hH hS => ?_)
    refine lv_aload_n hF.1 hF.2.1 dX2_image_62 rfl (lv_at hl 0 rfl) ?_
    refine lv_aload_n hF.1 hF.2.1 dX2_image_63 rfl (lv_at hl 0 rfl) ?_
    refine mg_15 hF hK hH q986 dX2_image_64 (v := g 15) rfl ?_
    refine mp_22 hF hK hH hS q993 dX2_image_67 (g' := va_up (va_up g 21 (g 5)) 22 (g 15)) rfl (by intro j hj; simp only [va_up, if_neg hj]) (fun H locs hH hS => ?_)
    refine lv_aload_n hF.1 hF.2.1 dX2_image_70 rfl (lv_at hl 0 rfl) ?_
    refine lv_aload_n hF.1 hF.2.1 dX2_image_71 rfl (lv_at hl 0 rfl) ?_
    refine mg_6 hF hK hH q977 dX2_image_72 (v := g 6) rfl ?_
    refine mp_20 hF hK hH hS q991 dX2_image_75 (kt' := nI (g 6)) (fun H locs hH hS => ?_)
    refine lv_aload_n hF.1 hF.2.1 dX2_image_78 rfl (lv_at hl 0 rfl) ?_
    refine mg_5 hF hK hH q976 dX2_image_79 (v := g 5) rfl ?_
    exact hret _ _ _ _ _ _ dX2_image_82 ⟨_, _, _, _, _, _, _, by subst e_r6o0; subst e_r5o0; subst e_r4o0; subst e_r3o0; subst e_r1; unfold fX2_image; first | (rw [if_pos c2]; done) | (simp only [if_pos c2]), rfl⟩ hH hS
  · skip
    refine lv_bipush (v := (-103)) hF.1 hF.2.1 dX2_image_7 (by decide) ?_
    have hH : mH ω (va_up (va_up g 21 (g 21)) 22 (g 22), y, va_up (va_up (va_up (va_up a 23 (a 23)) 24 (a 24)) 25 (a 25)) 26 (a 26), z, kt, hs) H := m_ext (by intro k; by_cases h0 : k = 21; (subst h0; simp [va_up]); by_cases h1 : k = 22; (subst h1; simp [va_up]); simp only [va_up, if_neg h0, if_neg h1]) (fun _ => rfl) (by intro k; by_cases h0 : k = 23; (subst h0; simp [va_up]); by_cases h1 : k = 24; (subst h1; simp [va_up]); by_cases h2 : k = 25; (subst h2; simp [va_up]); by_cases h3 : k = 26; (subst h3; simp [va_up]); simp only [va_up, if_neg h0, if_neg h1, if_neg h2, if_neg h3]) (fun _ => rfl) hH
    exact hret _ _ _ _ _ _ dX2_image_9 ⟨_, _, _, _, _, _, _, by subst e_r1; unfold fX2_image; first | (rw [if_neg c2]; done) | (simp only [if_neg c2]), rfl⟩ hH hS

def fX2_restore (g : Nat → Nat) (a : Nat → Nat → Int32) (kt : Int32) : Int32 × (Nat → Int32) × (Nat → Int32) × (Nat → Int32) × (Nat → Int32) × Nat × Nat := if kt = (nI (g 6)) then (nI (g 21), (fX2_copy_25_10 (va_up (va_up a 8 (fX2_copy_23_8 a)) 9 (fX2_copy_24_9 (va_up a 8 (fX2_copy_23_8 a))))), (fX2_copy_26_16 (va_up (va_up (va_up a 8 (fX2_copy_23_8 a)) 9 (fX2_copy_24_9 (va_up a 8 (fX2_copy_23_8 a)))) 10 (fX2_copy_25_10 (va_up (va_up a 8 (fX2_copy_23_8 a)) 9 (fX2_copy_24_9 (va_up a 8 (fX2_copy_23_8 a))))))), (fX2_copy_23_8 a), (fX2_copy_24_9 (va_up a 8 (fX2_copy_23_8 a))), g 22, g 21) else ((-103), a 10, a 16, a 8, a 9, g 15, g 5)
def rmX2_restore : Room := { frames := 2, cells := 0, slots := 0, locals := 46 }
theorem hdX2_restore : yX2_restore.cls = RX2 ∧ yX2_restore.cls ≠ "java/lang/invoke/MethodHandle" ∧ yX2_restore.cls ≠ "java/lang/invoke/VarHandle" ∧ (parseMethodDescriptor yX2_restore.desc).map (fun d => d.parameters.length) = some 0 := by decide +kernel
set_option maxHeartbeats 4000000 in
theorem kX2_restore (l : Launch) (ω : OM) (g : Nat → Nat) (y : Nat → Int32) (a z : Nat → Nat → Int32) (kt : Int32) (hs : Int64) : Met l yX2_restore (ws_ yX2_restore cX2_restore 1 (some .int)) rmX2_restore (va_Pc [.ref (ω.2.1 0 99)] (fun U => mK ω U ∧ mH ω (g, y, a, z, kt, hs) U.heap)) (va_Qi (fun (r : Int32) (u : MS) => ∃ (o0 : Nat → Int32) (o1 : Nat → Int32) (o2 : Nat → Int32) (o3 : Nat → Int32) (o4 : Nat) (o5 : Nat), (r, o0, o1, o2, o3, o4, o5) = (fX2_restore g a kt) ∧ u = (va_up (va_up g 5 o5) 15 o4, y, va_up (va_up (va_up (va_up a 8 o2) 9 o3) 10 o0) 16 o1, z, kt, hs)) (fun u t => mH ω u t.heap) ω.2.2.1) 0 0 ω.2.2.1 := by
  refine g_entWi (C := RX2) rfl (by decide) (Nat.le_of_ble_eq_true rfl) ?_
  intro p e s m args below meth c QQ ls H locs hF hK hH hS hl hret
  have hl : lv_has ls 1 [(0, .ref (ω.2.1 0 99))] := hl
  refine lv_aload_n hF.1 hF.2.1 dX2_restore_0 rfl (lv_at hl 0 rfl) ?_
  refine mg_20 hF hK hH q991 dX2_restore_1 ?_
  refine lv_aload_n hF.1 hF.2.1 dX2_restore_4 rfl (lv_at hl 0 rfl) ?_
  refine mg_6 hF hK hH q977 dX2_restore_5 (v := g 6) rfl ?_
  refine lv_icmp_eq (tgt := 14) hF.1 hF.2.1 dX2_restore_8 (by decide) (fun c1 => ?_) (fun c1 => ?_)
  · skip
    refine lv_aload_n hF.1 hF.2.1 dX2_restore_14 rfl (lv_at hl 0 rfl) ?_
    refine mg_23 hF hK hH q994 dX2_restore_15 ?_
    refine lv_aload_n hF.1 hF.2.1 dX2_restore_18 rfl (lv_at hl 0 rfl) ?_
    refine mg_8 hF hK hH q979 dX2_restore_19 ?_
    refine g_sWv (As := [.ref (ω.2.1 0 23), .ref (ω.2.1 0 8)]) (rest := []) hF (kX2_copy_23_8 l ω g y a z kt hs) (lw_S q1329 q1330 q97 q1331) 2 hdX2_copy_23_8.2 rfl rfl ⟨Nat.le_of_ble_eq_true rfl, Nat.le_of_ble_eq_true rfl⟩ (m_pre hK hH) rfl hl.1 rfl (Nat.le_of_ble_eq_true rfl) dX2_restore_22 ⟨Nat.le_of_ble_eq_true rfl, Nat.le_of_ble_eq_true rfl⟩ hS (fun ur2 H locs hqr2 hH hS => ?_)
    obtain ⟨r2o0, hr2, rfl⟩ := hqr2
    have e_r2o0 := hr2
    refine lv_aload_n hF.1 hF.2.1 dX2_restore_25 rfl (lv_at hl 0 rfl) ?_
    refine mg_24 hF hK hH q995 dX2_restore_26 ?_
    refine lv_aload_n hF.1 hF.2.1 dX2_restore_29 rfl (lv_at hl 0 rfl) ?_
    refine mg_9 hF hK hH q980 dX2_restore_30 ?_
    refine g_sWv (As := [.ref (ω.2.1 0 24), .ref (ω.2.1 0 9)]) (rest := []) hF (kX2_copy_24_9 l ω g y (va_up a 8 r2o0) z kt hs) (lw_S q1329 q1330 q97 q1331) 2 hdX2_copy_24_9.2 rfl rfl ⟨Nat.le_of_ble_eq_true rfl, Nat.le_of_ble_eq_true rfl⟩ (m_pre hK hH) rfl hl.1 rfl (Nat.le_of_ble_eq_true rfl) dX2_restore_33 ⟨Nat.le_of_ble_eq_true rfl, Nat.le_of_ble_eq_true rfl⟩ hS (fun ur3 H locs hqr3 hH hS => ?_)
    obtain ⟨r3o0, hr3, rfl⟩ := hqr3
    have e_r3o0 := hr3
    have hH : mH ω (g, y, va_up (va_up a 8 r2o0) 9 r3o0, z, kt, hs) H := m_ext (fun _ => rfl) (fun _ => rfl) (by intro k; by_cases h0 : k = 9; (subst h0; simp [va_up]); simp only [va_up, if_neg h0]) (fun _ => rfl) hH
    refine lv_aload_n hF.1 hF.2.1 dX2_restore_36 rfl (lv_at hl 0 rfl) ?_
    refine mg_25 hF hK hH q996 dX2_restore_37 ?_
    refine lv_aload_n hF.1 hF.2.1 dX2_restore_40 rfl (lv_at hl 0 rfl) ?_
    refine mg_10 hF hK hH q981 dX2_restore_41 ?_
    refine g_sWv (As := [.ref (ω.2.1 0 25), .ref (ω.2.1 0 10)]) (rest := []) hF (kX2_copy_25_10 l ω g y (va_up (va_up a 8 r2o0) 9 r3o0) z kt hs) (lw_S q1329 q1330 q97 q1331) 2 hdX2_copy_25_10.2 rfl rfl ⟨Nat.le_of_ble_eq_true rfl, Nat.le_of_ble_eq_true rfl⟩ (m_pre hK hH) rfl hl.1 rfl (Nat.le_of_ble_eq_true rfl) dX2_restore_44 ⟨Nat.le_of_ble_eq_true rfl, Nat.le_of_ble_eq_true rfl⟩ hS (fun ur4 H locs hqr4 hH hS => ?_)
    obtain ⟨r4o0, hr4, rfl⟩ := hqr4
    have e_r4o0 := hr4
    have hH : mH ω (g, y, va_up (va_up (va_up a 8 r2o0) 9 r3o0) 10 r4o0, z, kt, hs) H := m_ext (fun _ => rfl) (fun _ => rfl) (by intro k; by_cases h0 : k = 10; (subst h0; simp [va_up]); simp only [va_up, if_neg h0]) (fun _ => rfl) hH
    refine lv_aload_n hF.1 hF.2.1 dX2_restore_47 rfl (lv_at hl 0 rfl) ?_
    refine mg_26 hF hK hH q997 dX2_restore_48 ?_
    refine lv_aload_n hF.1 hF.2.1 dX2_restore_51 rfl (lv_at hl 0 rfl) ?_
    refine mg_16 hF hK hH q987 dX2_restore_52 ?_
    refine g_sWv (As := [.ref (ω.2.1 0 26), .ref (ω.2.1 0 16)]) (rest := []) hF (kX2_copy_26_16 l ω g y (va_up (va_up (va_up a 8 r2o0) 9 r3o0) 10 r4o0) z kt hs) (lw_S q1329 q1330 q97 q1331) 2 hdX2_copy_26_16.2 rfl rfl ⟨Nat.le_of_ble_eq_true rfl, Nat.le_of_ble_eq_true rfl⟩ (m_pre hK hH) rfl hl.1 rfl (Nat.le_of_ble_eq_true rfl) dX2_restore_55 ⟨Nat.le_of_ble_eq_true rfl, Nat.le_of_ble_eq_true rfl⟩ hS (fun ur5 H locs hqr5 hH hS => ?_)
    obtain ⟨r5o0, hr5, rfl⟩ := hqr5
    have e_r5o0 := hr5
    have hH : mH ω (g, y, va_up (va_up (va_up (va_up a 8 r2o0) 9 r3o0) 10 r4o0) 16 r5o0, z, kt, hs) H := m_ext (fun _ => rfl) (fun _ => rfl) (by intro k; by_cases h0 : k = 16; (subst h0; simp [va_up]); simp only [va_up, if_neg h0]) (fun _ => rfl) hH
    refine lv_aload_n hF.1 hF.2.1 dX2_restore_58 rfl (lv_at hl 0 rfl) ?_
    refine lv_aload_n hF.1 hF.2.1 dX2_restore_59 rfl (lv_at hl 0 rfl) ?_
    refine mg_21 hF hK hH q992 dX2_restore_60 (v := g 21) rfl ?_
    refine mp_5 hF hK hH hS q976 dX2_restore_63 (g' := va_up g 5 (g 21)) rfl (by intro j hj; simp only [va_up, if_neg hj]) (fun H locs hH hS => ?_)
    refine lv_aload_n hF.1 hF.2.1 dX2_restore_66 rfl (lv_at hl 0 rfl) ?_
    refine lv_aload_n hF.1 hF.2.1 dX2_restore_67 rfl (lv_at hl 0 rfl) ?_
    refine mg_22 hF hK hH q993 dX2_restore_68 (v := g 22) rfl ?_
    refine mp_15 hF hK hH hS q986 dX2_restore_71 (g' := va_up (va_up g 5 (g 21)) 15 (g 22)) rfl (by intro j hj; simp only [va_up, if_neg hj]) (fun H locs hH hS => ?_)
    refine lv_aload_n hF.1 hF.2.1 dX2_restore_74 rfl (lv_at hl 0 rfl) ?_
    refine mg_5 hF hK hH q976 dX2_restore_75 (v := g 21) rfl ?_
    exact hret _ _ _ _ _ _ dX2_restore_78 ⟨_, _, _, _, _, _, by subst e_r5o0; subst e_r4o0; subst e_r3o0; subst e_r2o0; unfold fX2_restore; first | (rw [if_pos c1]; done) | (simp only [if_pos c1]), rfl⟩ hH hS
  · skip
    refine lv_bipush (v := (-103)) hF.1 hF.2.1 dX2_restore_11 (by decide) ?_
    have hH : mH ω (va_up (va_up g 5 (g 5)) 15 (g 15), y, va_up (va_up (va_up (va_up a 8 (a 8)) 9 (a 9)) 10 (a 10)) 16 (a 16), z, kt, hs) H := m_ext (by intro k; by_cases h0 : k = 15; (subst h0; simp [va_up]); by_cases h1 : k = 5; (subst h1; simp [va_up]); simp only [va_up, if_neg h0, if_neg h1]) (fun _ => rfl) (by intro k; by_cases h0 : k = 10; (subst h0; simp [va_up]); by_cases h1 : k = 16; (subst h1; simp [va_up]); by_cases h2 : k = 8; (subst h2; simp [va_up]); by_cases h3 : k = 9; (subst h3; simp [va_up]); simp only [va_up, if_neg h0, if_neg h1, if_neg h2, if_neg h3]) (fun _ => rfl) hH
    exact hret _ _ _ _ _ _ dX2_restore_13 ⟨_, _, _, _, _, _, by unfold fX2_restore; first | (rw [if_neg c1]; done) | (simp only [if_neg c1]), rfl⟩ hH hS

def fX2_layLittle_b68 (g : Nat → Nat) (a : Nat → Nat → Int32) (pn : Nat) (i32 : Nat) (i41 : Nat) (i68 : Nat) (S : ((Nat → Int32)) × Bool) : ((Nat → Int32)) × Bool := if S.2 = true then S else if ((nI (i32 + 1)) - (nI (toN (a 7 ((4 * i41) + 3))))) < 0 then (S.1, true) else if (S.1 ((8 * (i32 + 1)) + (toN (a 7 ((4 * i41) + (i68 + 1)))))) ≤ ((S.1 ((8 * ((i32 + 1) - (toN (a 7 ((4 * i41) + 3))))) + (toN (a 7 (((4 * i41) + 3) - (i68 + 1)))))) + (fX2_hurtsOf g a pn i41)) then (upd S.1 ((8 * (i32 + 1)) + (toN (a 7 ((4 * i41) + (i68 + 1))))) (S.1 ((8 * (i32 + 1)) + (toN (a 7 ((4 * i41) + (i68 + 1)))))), false) else (upd S.1 ((8 * (i32 + 1)) + (toN (a 7 ((4 * i41) + (i68 + 1))))) ((S.1 ((8 * ((i32 + 1) - (toN (a 7 ((4 * i41) + 3))))) + (toN (a 7 (((4 * i41) + 3) - (i68 + 1)))))) + (fX2_hurtsOf g a pn i41)), false)
theorem fX2_layLittle_b68_s (g : Nat → Nat) (a : Nat → Nat → Int32) (pn : Nat) (i32 : Nat) (i41 : Nat) : ∀ (i : Nat) (S : ((Nat → Int32)) × Bool), S.2 = true → fX2_layLittle_b68 g a pn i32 i41 i S = S := fun _ _ h => if_pos h
def fX2_layLittle_b41 (g : Nat → Nat) (a : Nat → Nat → Int32) (pn : Nat) (i32 : Nat) (i41 : Nat) (S : (Nat → Int32)) : (Nat → Int32) := ((it (fX2_layLittle_b68 g a pn i32 i41) 2 (S, false)).1)
def fX2_layLittle_b32 (g : Nat → Nat) (a : Nat → Nat → Int32) (pn : Nat) (i32 : Nat) (S : (Nat → Int32)) : (Nat → Int32) := (it (fX2_layLittle_b41 g a pn i32) (g 4) S)
def fX2_layLittle_b2 (i2 : Nat) (S : (Nat → Int32)) : (Nat → Int32) := upd S i2 (nI 1000000000)
def fX2_layLittle (g : Nat → Nat) (a : Nat → Nat → Int32) (z : Nat → Nat → Int32) (pn : Nat) (fr : Nat) : (Nat → Int32) := (it (fX2_layLittle_b32 g a pn) 81 (upd (it fX2_layLittle_b2 656 (z 13)) fr (nI 0)))
def rmX2_layLittle : Room := { frames := 3, cells := 0, slots := 0, locals := 70 }
theorem hdX2_layLittle : yX2_layLittle.cls = RX2 ∧ yX2_layLittle.cls ≠ "java/lang/invoke/MethodHandle" ∧ yX2_layLittle.cls ≠ "java/lang/invoke/VarHandle" ∧ (parseMethodDescriptor yX2_layLittle.desc).map (fun d => d.parameters.length) = some 2 := by decide +kernel
set_option maxHeartbeats 4000000 in
theorem kX2_layLittle (l : Launch) (ω : OM) (g : Nat → Nat) (y : Nat → Int32) (a z : Nat → Nat → Int32) (kt : Int32) (hs : Int64) (pn : Nat) (fr : Nat) (hpn : pn < 3) (hfr : fr < 8) (hr : mRows (g 4) (a 7)) : Met l yX2_layLittle (ws_ yX2_layLittle cX2_layLittle 9 none) rmX2_layLittle (va_Pc [.ref (ω.2.1 0 99), .int (nI pn), .int (nI fr)] (fun U => mK ω U ∧ mH ω (g, y, a, z, kt, hs) U.heap)) (va_Qv (fun (u : MS) => ∃ (o0 : Nat → Int32), o0 = (fX2_layLittle g a z pn fr) ∧ u = (g, y, a, va_up z 13 o0, kt, hs)) (fun u t => mH ω u t.heap) ω.2.2.1) 0 0 ω.2.2.1 := by
  refine g_entWv (C := RX2) rfl (by decide) (Nat.le_of_ble_eq_true rfl) ?_
  intro p e s m args below meth c QQ ls H locs hF hK hH hS hl hret
  have hl : lv_has ls 9 [(0, .ref (ω.2.1 0 99)), (1, .int (nI pn)), (2, .int (nI fr))] := hl
  have hn := hr.1
  refine lv_iconst (v := nI 0) hF.1 hF.2.1 dX2_layLittle_0 (by decide) ?_
  refine lv_istore_n (lv' := [(3, .int (nI 0)), (0, .ref (ω.2.1 0 99)), (1, .int (nI pn)), (2, .int (nI fr))]) hF.1 hF.2.1 dX2_layLittle_1 rfl hl (by decide) rfl (fun ls hl => ?_)
  have lp2_60 : ∀ (d2 i2 : Nat) (w2_z13 : Nat → Int32) (H : Heap) (locs : List Loc) (ls : Array Slot), i2 + d2 = 656 → w2_z13 = it fX2_layLittle_b2 i2 (z 13) → mH ω (g, y, a, va_up z 13 w2_z13, kt, hs) H → va_S ω.2.2.1 s.heap H locs → lv_has ls 9 [(3, .int (nI i2)), (0, .ref (ω.2.1 0 99)), (1, .int (nI pn)), (2, .int (nI fr))] → W p l e rmX2_layLittle s m args below meth c H locs 0 0 QQ (F0 m 2 ls []) := by
    intro d2
    induction d2 with
    | zero =>
      intro i2 w2_z13 H locs ls hi2 hS2 hH hS hl
      have hj2 : 656 = i2 := by omega
      subst hj2
      have e_w2_z13 := hS2
      refine lv_iload_n hF.1 hF.2.1 dX2_layLittle_2 rfl (lv_at hl 0 rfl) ?_
      refine lv_sipush (v := nI 656) hF.1 hF.2.1 dX2_layLittle_3 (by decide) ?_
      refine n_ge (tgt := 23) hF.1 hF.2.1 dX2_layLittle_6 (by decide) (by omega) (by omega) (fun c1 => ?_) (fun c1 => ?_)
      · skip
        refine lv_aload_n hF.1 hF.2.1 dX2_layLittle_23 rfl (lv_at hl 1 rfl) ?_
        refine mg_13 hF hK hH q984 dX2_layLittle_24 ?_
        refine lv_iload_n hF.1 hF.2.1 dX2_layLittle_27 rfl (lv_at hl 3 rfl) ?_
        refine lv_iconst (v := nI 0) hF.1 hF.2.1 dX2_layLittle_28 (by decide) ?_
        refine m_zst (z' := va_up z 13 (upd w2_z13 fr (nI 0))) hF hK hH hS 13 (n := 656) rfl rfl (by decide) rfl (f := w2_z13) rfl (i := fr) (by omega) (by decide) dX2_layLittle_29 rfl (by intro j hj; simp only [va_up, if_neg hj]) (fun H locs hH hS => ?_)
        refine lv_iconst (v := nI 1) hF.1 hF.2.1 dX2_layLittle_30 (by decide) ?_
        refine lv_istore_n (lv' := [(3, .int (nI 1)), (0, .ref (ω.2.1 0 99)), (1, .int (nI pn)), (2, .int (nI fr))]) hF.1 hF.2.1 dX2_layLittle_31 rfl hl (by decide) rfl (fun ls hl => ?_)
        have lp32_84 : ∀ (d32 i32 : Nat) (w32_z13 : Nat → Int32) (H : Heap) (locs : List Loc) (ls : Array Slot), i32 + d32 = 81 → w32_z13 = it (fX2_layLittle_b32 g a pn) i32 (upd w2_z13 fr (nI 0)) → mH ω (g, y, a, va_up z 13 w32_z13, kt, hs) H → va_S ω.2.2.1 s.heap H locs → lv_has ls 9 [(3, .int (nI (i32 + 1))), (0, .ref (ω.2.1 0 99)), (1, .int (nI pn))] → W p l e rmX2_layLittle s m args below meth c H locs 0 0 QQ (F0 m 32 ls []) := by
          intro d32
          induction d32 with
          | zero =>
            intro i32 w32_z13 H locs ls hi32 hS32 hH hS hl
            have hj32 : 81 = i32 := by omega
            subst hj32
            have e_w32_z13 := hS32
            refine lv_iload_n hF.1 hF.2.1 dX2_layLittle_32 rfl (lv_at hl 0 rfl) ?_
            refine lv_bipush (v := nI 82) hF.1 hF.2.1 dX2_layLittle_33 (by decide) ?_
            refine n_ge (tgt := 192) hF.1 hF.2.1 dX2_layLittle_35 (by decide) (by omega) (by omega) (fun c2 => ?_) (fun c2 => ?_)
            · skip
              exact hret _ _ _ _ _ dX2_layLittle_192 ⟨_, by subst e_w32_z13; subst e_w2_z13; rfl, rfl⟩ hH hS
            · exact absurd (by omega) c2
          | succ d32 ih =>
            intro i32 w32_z13 H locs ls hi32 hS32 hH hS hl
            refine lv_iload_n hF.1 hF.2.1 dX2_layLittle_32 rfl (lv_at hl 0 rfl) ?_
            refine lv_bipush (v := nI 82) hF.1 hF.2.1 dX2_layLittle_33 (by decide) ?_
            refine n_ge (tgt := 192) hF.1 hF.2.1 dX2_layLittle_35 (by decide) (by omega) (by omega) (fun c3 => ?_) (fun c3 => ?_)
            · exact absurd c3 (by omega)
            · skip
              refine lv_iconst (v := nI 0) hF.1 hF.2.1 dX2_layLittle_38 (by decide) ?_
              refine lv_istore (lv' := [(4, .int (nI 0)), (3, .int (nI (i32 + 1))), (0, .ref (ω.2.1 0 99)), (1, .int (nI pn))]) hF.1 hF.2.1 dX2_layLittle_39 hl (by decide) rfl (fun ls hl => ?_)
              have lp41_92 : ∀ (d41 i41 : Nat) (w41_z13 : Nat → Int32) (H : Heap) (locs : List Loc) (ls : Array Slot), i41 + d41 = g 4 → w41_z13 = it (fX2_layLittle_b41 g a pn i32) i41 w32_z13 → mH ω (g, y, a, va_up z 13 w41_z13, kt, hs) H → va_S ω.2.2.1 s.heap H locs → lv_has ls 9 [(4, .int (nI i41)), (3, .int (nI (i32 + 1))), (0, .ref (ω.2.1 0 99)), (1, .int (nI pn))] → W p l e rmX2_layLittle s m args below meth c H locs 0 0 QQ (F0 m 41 ls []) := by
                intro d41
                induction d41 with
                | zero =>
                  intro i41 w41_z13 H locs ls hi41 hS41 hH hS hl
                  have hj41 : g 4 = i41 := by omega
                  subst hj41
                  have e_w41_z13 := hS41
                  refine lv_iload hF.1 hF.2.1 dX2_layLittle_41 (lv_at hl 0 rfl) ?_
                  refine lv_aload_n hF.1 hF.2.1 dX2_layLittle_43 rfl (lv_at hl 2 rfl) ?_
                  refine mg_4 hF hK hH q975 dX2_layLittle_44 (v := g 4) rfl ?_
                  refine n_ge (tgt := 186) hF.1 hF.2.1 dX2_layLittle_47 (by decide) (by omega) (by omega) (fun c4 => ?_) (fun c4 => ?_)
                  · skip
                    refine n_iinc (lv' := [(3, .int (nI (i32 + 1 + 1))), (4, .int (nI (g 4))), (0, .ref (ω.2.1 0 99)), (1, .int (nI pn))]) hF.1 hF.2.1 dX2_layLittle_186 hl (k := 1) rfl (by decide) rfl (fun ls hl => ?_)
                    refine lv_goto (tgt := 32) hF.1 hF.2.1 dX2_layLittle_189 (by decide) ?_
                    exact ih (i32 + 1) _ _ _ _ (by omega) (by subst e_w41_z13; rw [it_succ (fX2_layLittle_b32 g a pn) i32 _, ← hS32]; try rfl) hH hS (lv_sub hl [0, 2, 3] rfl)
                  · exact absurd (by omega) c4
                | succ d41 ih =>
                  intro i41 w41_z13 H locs ls hi41 hS41 hH hS hl
                  refine lv_iload hF.1 hF.2.1 dX2_layLittle_41 (lv_at hl 0 rfl) ?_
                  refine lv_aload_n hF.1 hF.2.1 dX2_layLittle_43 rfl (lv_at hl 2 rfl) ?_
                  refine mg_4 hF hK hH q975 dX2_layLittle_44 (v := g 4) rfl ?_
                  refine n_ge (tgt := 186) hF.1 hF.2.1 dX2_layLittle_47 (by decide) (by omega) (by omega) (fun c5 => ?_) (fun c5 => ?_)
                  · exact absurd c5 (by omega)
                  · skip
                    refine lv_iload_n hF.1 hF.2.1 dX2_layLittle_50 rfl (lv_at hl 1 rfl) ?_
                    refine lv_aload_n hF.1 hF.2.1 dX2_layLittle_51 rfl (lv_at hl 2 rfl) ?_
                    refine mg_7 hF hK hH q978 dX2_layLittle_52 ?_
                    refine lv_iconst (v := nI 4) hF.1 hF.2.1 dX2_layLittle_55 (by decide) ?_
                    refine lv_iload hF.1 hF.2.1 dX2_layLittle_56 (lv_at hl 0 rfl) ?_
                    refine n_imul hF.1 hF.2.1 dX2_layLittle_58 ?_
                    refine lv_iconst (v := nI 3) hF.1 hF.2.1 dX2_layLittle_59 (by decide) ?_
                    refine n_iadd hF.1 hF.2.1 dX2_layLittle_60 ?_
                    refine m_ald hF hK hH 7 (n := 36) rfl rfl (by decide) rfl (f := a 7) rfl (i := (4 * i41) + 3) (by omega) (by decide) dX2_layLittle_61 ?_
                    obtain ⟨b6e, b6l⟩ := g_lift (r := a 7 ((4 * i41) + 3)) (n := 10) (hr.len (by omega)) (by omega)
                    refine n_top b6e ?_
                    refine lv_isub hF.1 hF.2.1 dX2_layLittle_62 ?_
                    refine lv_istore (lv' := [(5, .int ((nI (i32 + 1)) - (nI (toN (a 7 ((4 * i41) + 3)))))), (4, .int (nI i41)), (3, .int (nI (i32 + 1))), (0, .ref (ω.2.1 0 99)), (1, .int (nI pn))]) hF.1 hF.2.1 dX2_layLittle_63 hl (by decide) rfl (fun ls hl => ?_)
                    refine lv_iconst (v := nI 1) hF.1 hF.2.1 dX2_layLittle_65 (by decide) ?_
                    refine lv_istore (lv' := [(6, .int (nI 1)), (5, .int ((nI (i32 + 1)) - (nI (toN (a 7 ((4 * i41) + 3)))))), (4, .int (nI i41)), (3, .int (nI (i32 + 1))), (0, .ref (ω.2.1 0 99)), (1, .int (nI pn))]) hF.1 hF.2.1 dX2_layLittle_66 hl (by decide) rfl (fun ls hl => ?_)
                    have kx68_95 : ∀ (w68_z13 : Nat → Int32) (H : Heap) (locs : List Loc) (ls : Array Slot), w68_z13 = (it (fX2_layLittle_b68 g a pn i32 i41) 2 (w41_z13, false)).1 → mH ω (g, y, a, va_up z 13 w68_z13, kt, hs) H → va_S ω.2.2.1 s.heap H locs → lv_has ls 9 [(4, .int (nI i41)), (3, .int (nI (i32 + 1))), (0, .ref (ω.2.1 0 99)), (1, .int (nI pn))] → W p l e rmX2_layLittle s m args below meth c H locs 0 0 QQ (F0 m 180 ls []) := by
                      intro w68_z13 H locs ls hE68 hH hS hl
                      have e_w68_z13 := hE68
                      refine n_iinc (lv' := [(4, .int (nI (i41 + 1))), (3, .int (nI (i32 + 1))), (0, .ref (ω.2.1 0 99)), (1, .int (nI pn))]) hF.1 hF.2.1 dX2_layLittle_180 hl (k := 0) rfl (by decide) rfl (fun ls hl => ?_)
                      refine lv_goto (tgt := 41) hF.1 hF.2.1 dX2_layLittle_183 (by decide) ?_
                      exact ih (i41 + 1) _ _ _ _ (by omega) (by subst e_w68_z13; rw [it_succ (fX2_layLittle_b41 g a pn i32) i41 _, ← hS41]; try rfl) hH hS (lv_sub hl [0, 1, 2, 3] rfl)
                    have lp68_94 : ∀ (d68 i68 : Nat) (w68_z13 : Nat → Int32) (H : Heap) (locs : List Loc) (ls : Array Slot), i68 + d68 = 2 → (w68_z13, false) = it (fX2_layLittle_b68 g a pn i32 i41) i68 (w41_z13, false) → mH ω (g, y, a, va_up z 13 w68_z13, kt, hs) H → va_S ω.2.2.1 s.heap H locs → lv_has ls 9 [(6, .int (nI (i68 + 1))), (5, .int ((nI (i32 + 1)) - (nI (toN (a 7 ((4 * i41) + 3)))))), (4, .int (nI i41)), (3, .int (nI (i32 + 1))), (0, .ref (ω.2.1 0 99)), (1, .int (nI pn))] → W p l e rmX2_layLittle s m args below meth c H locs 0 0 QQ (F0 m 68 ls []) := by
                      intro d68
                      induction d68 with
                      | zero =>
                        intro i68 w68_z13 H locs ls hi68 hS68 hH hS hl
                        have hj68 : 2 = i68 := by omega
                        subst hj68
                        refine lv_iload hF.1 hF.2.1 dX2_layLittle_68 (lv_at hl 0 rfl) ?_
                        refine lv_iconst (v := nI 3) hF.1 hF.2.1 dX2_layLittle_70 (by decide) ?_
                        refine n_ge (tgt := 180) hF.1 hF.2.1 dX2_layLittle_71 (by decide) (by omega) (by omega) (fun c7 => ?_) (fun c7 => ?_)
                        · skip
                          exact kx68_95 _ _ _ _ (by rw [← hS68]) hH hS (lv_sub hl [2, 3, 4, 5] rfl)
                        · exact absurd (by omega) c7
                      | succ d68 ih =>
                        intro i68 w68_z13 H locs ls hi68 hS68 hH hS hl
                        refine lv_iload hF.1 hF.2.1 dX2_layLittle_68 (lv_at hl 0 rfl) ?_
                        refine lv_iconst (v := nI 3) hF.1 hF.2.1 dX2_layLittle_70 (by decide) ?_
                        refine n_ge (tgt := 180) hF.1 hF.2.1 dX2_layLittle_71 (by decide) (by omega) (by omega) (fun c8 => ?_) (fun c8 => ?_)
                        · exact absurd c8 (by omega)
                        · skip
                          refine lv_iload hF.1 hF.2.1 dX2_layLittle_74 (lv_at hl 1 rfl) ?_
                          refine lv_if_lt (tgt := 180) hF.1 hF.2.1 dX2_layLittle_76 (by decide) (fun c9 => ?_) (fun c9 => ?_)
                          · skip
                            exact kx68_95 _ _ _ _ (by rw [it_stop (fX2_layLittle_b68_s g a pn i32 i41) (i := i68 + 1) (a := w68_z13) (by rw [it_succ (fX2_layLittle_b68 g a pn i32 i41) i68 _, ← hS68]; unfold fX2_layLittle_b68; dsimp only; first | (rw [if_neg (show ¬ (false = true) from Bool.false_ne_true), if_pos c9]; done) | (simp only [if_neg (show ¬ (false = true) from Bool.false_ne_true), if_pos c9])) 2 (by omega)]) hH hS (lv_sub hl [2, 3, 4, 5] rfl)
                          · skip
                            have b79 := nsub_lift (by omega) (by omega) c9
                            have b10 : (nI (i32 + 1)) - (nI (toN (a 7 ((4 * i41) + 3)))) = nI ((i32 + 1) - (toN (a 7 ((4 * i41) + 3)))) := b79.2
                            refine lv_aload_n hF.1 hF.2.1 dX2_layLittle_79 rfl (lv_at hl 4 rfl) ?_
                            refine mg_7 hF hK hH q978 dX2_layLittle_80 ?_
                            refine lv_iconst (v := nI 4) hF.1 hF.2.1 dX2_layLittle_83 (by decide) ?_
                            refine lv_iload hF.1 hF.2.1 dX2_layLittle_84 (lv_at hl 2 rfl) ?_
                            refine n_imul hF.1 hF.2.1 dX2_layLittle_86 ?_
                            refine lv_iload hF.1 hF.2.1 dX2_layLittle_87 (lv_at hl 0 rfl) ?_
                            refine n_iadd hF.1 hF.2.1 dX2_layLittle_89 ?_
                            refine m_ald hF hK hH 7 (n := 36) rfl rfl (by decide) rfl (f := a 7) rfl (i := (4 * i41) + (i68 + 1)) (by omega) (by decide) dX2_layLittle_90 ?_
                            obtain ⟨b11e, b11l⟩ := g_lift (r := a 7 ((4 * i41) + (i68 + 1))) (n := 8) (hr.e1 (by omega) (by omega) (by omega)) (by omega)
                            refine n_top b11e ?_
                            refine lv_istore (lv' := [(7, .int (nI (toN (a 7 ((4 * i41) + (i68 + 1)))))), (6, .int (nI (i68 + 1))), (5, .int ((nI (i32 + 1)) - (nI (toN (a 7 ((4 * i41) + 3)))))), (4, .int (nI i41)), (3, .int (nI (i32 + 1))), (0, .ref (ω.2.1 0 99)), (1, .int (nI pn))]) hF.1 hF.2.1 dX2_layLittle_91 hl (by decide) rfl (fun ls hl => ?_)
                            refine lv_aload_n hF.1 hF.2.1 dX2_layLittle_93 rfl (lv_at hl 5 rfl) ?_
                            refine mg_13 hF hK hH q984 dX2_layLittle_94 ?_
                            refine lv_bipush (v := nI 8) hF.1 hF.2.1 dX2_layLittle_97 (by decide) ?_
                            refine lv_iload hF.1 hF.2.1 dX2_layLittle_99 (lv_at hl 2 rfl) ?_
                            refine n_top b10 ?_
                            refine n_imul hF.1 hF.2.1 dX2_layLittle_101 ?_
                            refine lv_aload_n hF.1 hF.2.1 dX2_layLittle_102 rfl (lv_at hl 5 rfl) ?_
                            refine mg_7 hF hK hH q978 dX2_layLittle_103 ?_
                            refine lv_iconst (v := nI 4) hF.1 hF.2.1 dX2_layLittle_106 (by decide) ?_
                            refine lv_iload hF.1 hF.2.1 dX2_layLittle_107 (lv_at hl 3 rfl) ?_
                            refine n_imul hF.1 hF.2.1 dX2_layLittle_109 ?_
                            refine lv_iconst (v := nI 3) hF.1 hF.2.1 dX2_layLittle_110 (by decide) ?_
                            refine n_iadd hF.1 hF.2.1 dX2_layLittle_111 ?_
                            refine lv_iload hF.1 hF.2.1 dX2_layLittle_112 (lv_at hl 1 rfl) ?_
                            refine n_isub hF.1 hF.2.1 dX2_layLittle_114 (by omega) ?_
                            refine m_ald hF hK hH 7 (n := 36) rfl rfl (by decide) rfl (f := a 7) rfl (i := ((4 * i41) + 3) - (i68 + 1)) (by omega) (by decide) dX2_layLittle_115 ?_
                            obtain ⟨b12e, b12l⟩ := g_lift (r := a 7 (((4 * i41) + 3) - (i68 + 1))) (n := 8) (hr.e2 (by omega) (by omega) (by omega)) (by omega)
                            refine n_top b12e ?_
                            refine n_iadd hF.1 hF.2.1 dX2_layLittle_116 ?_
                            refine m_zld hF hK hH 13 (n := 656) rfl rfl (by decide) rfl (f := w68_z13) rfl (i := (8 * ((i32 + 1) - (toN (a 7 ((4 * i41) + 3))))) + (toN (a 7 (((4 * i41) + 3) - (i68 + 1))))) (by omega) (by decide) dX2_layLittle_117 ?_
                            refine lv_aload_n hF.1 hF.2.1 dX2_layLittle_118 rfl (lv_at hl 5 rfl) ?_
                            refine lv_iload_n hF.1 hF.2.1 dX2_layLittle_119 rfl (lv_at hl 6 rfl) ?_
                            refine lv_iload hF.1 hF.2.1 dX2_layLittle_120 (lv_at hl 3 rfl) ?_
                            refine g_vPi (As := [.int (nI pn), .int (nI i41)]) (rest := [.int (w68_z13 ((8 * ((i32 + 1) - (toN (a 7 ((4 * i41) + 3))))) + (toN (a 7 (((4 * i41) + 3) - (i68 + 1))))))]) hF (kX2_hurtsOf l ω g y a (va_up z 13 w68_z13) kt hs pn i41 (by omega) (by omega)) (lw_V q1160 q1162 qs62 q97 q1163) 2 hdX2_hurtsOf rfl rfl ⟨Nat.le_of_ble_eq_true rfl, Nat.le_of_ble_eq_true rfl⟩ (m_preV hK hH) rfl hl.1 rfl (Nat.le_of_ble_eq_true rfl) dX2_layLittle_122 ⟨Nat.zero_le _, Nat.zero_le _⟩ (fun r13 e_r13 => ?_)
                            refine lv_iadd hF.1 hF.2.1 dX2_layLittle_125 ?_
                            refine lv_istore (lv' := [(8, .int ((w68_z13 ((8 * ((i32 + 1) - (toN (a 7 ((4 * i41) + 3))))) + (toN (a 7 (((4 * i41) + 3) - (i68 + 1)))))) + r13)), (7, .int (nI (toN (a 7 ((4 * i41) + (i68 + 1)))))), (6, .int (nI (i68 + 1))), (5, .int ((nI (i32 + 1)) - (nI (toN (a 7 ((4 * i41) + 3)))))), (4, .int (nI i41)), (3, .int (nI (i32 + 1))), (0, .ref (ω.2.1 0 99)), (1, .int (nI pn))]) hF.1 hF.2.1 dX2_layLittle_126 hl (by decide) rfl (fun ls hl => ?_)
                            refine lv_aload_n hF.1 hF.2.1 dX2_layLittle_128 rfl (lv_at hl 6 rfl) ?_
                            refine mg_13 hF hK hH q984 dX2_layLittle_129 ?_
                            refine lv_bipush (v := nI 8) hF.1 hF.2.1 dX2_layLittle_132 (by decide) ?_
                            refine lv_iload_n hF.1 hF.2.1 dX2_layLittle_134 rfl (lv_at hl 5 rfl) ?_
                            refine n_imul hF.1 hF.2.1 dX2_layLittle_135 ?_
                            refine lv_iload hF.1 hF.2.1 dX2_layLittle_136 (lv_at hl 1 rfl) ?_
                            refine n_iadd hF.1 hF.2.1 dX2_layLittle_138 ?_
                            refine lv_iload hF.1 hF.2.1 dX2_layLittle_139 (lv_at hl 0 rfl) ?_
                            refine lv_aload_n hF.1 hF.2.1 dX2_layLittle_141 rfl (lv_at hl 6 rfl) ?_
                            refine mg_13 hF hK hH q984 dX2_layLittle_142 ?_
                            refine lv_bipush (v := nI 8) hF.1 hF.2.1 dX2_layLittle_145 (by decide) ?_
                            refine lv_iload_n hF.1 hF.2.1 dX2_layLittle_147 rfl (lv_at hl 5 rfl) ?_
                            refine n_imul hF.1 hF.2.1 dX2_layLittle_148 ?_
                            refine lv_iload hF.1 hF.2.1 dX2_layLittle_149 (lv_at hl 1 rfl) ?_
                            refine n_iadd hF.1 hF.2.1 dX2_layLittle_151 ?_
                            refine m_zld hF hK hH 13 (n := 656) rfl rfl (by decide) rfl (f := w68_z13) rfl (i := (8 * (i32 + 1)) + (toN (a 7 ((4 * i41) + (i68 + 1))))) (by omega) (by decide) dX2_layLittle_152 ?_
                            refine lv_icmp_ge (tgt := 161) hF.1 hF.2.1 dX2_layLittle_153 (by decide) (fun c14 => ?_) (fun c14 => ?_)
                            · skip
                              refine lv_aload_n hF.1 hF.2.1 dX2_layLittle_161 rfl (lv_at hl 6 rfl) ?_
                              refine mg_13 hF hK hH q984 dX2_layLittle_162 ?_
                              refine lv_bipush (v := nI 8) hF.1 hF.2.1 dX2_layLittle_165 (by decide) ?_
                              refine lv_iload_n hF.1 hF.2.1 dX2_layLittle_167 rfl (lv_at hl 5 rfl) ?_
                              refine n_imul hF.1 hF.2.1 dX2_layLittle_168 ?_
                              refine lv_iload hF.1 hF.2.1 dX2_layLittle_169 (lv_at hl 1 rfl) ?_
                              refine n_iadd hF.1 hF.2.1 dX2_layLittle_171 ?_
                              refine m_zld hF hK hH 13 (n := 656) rfl rfl (by decide) rfl (f := w68_z13) rfl (i := (8 * (i32 + 1)) + (toN (a 7 ((4 * i41) + (i68 + 1))))) (by omega) (by decide) dX2_layLittle_172 ?_
                              refine m_zst (z' := va_up z 13 (upd w68_z13 ((8 * (i32 + 1)) + (toN (a 7 ((4 * i41) + (i68 + 1))))) (w68_z13 ((8 * (i32 + 1)) + (toN (a 7 ((4 * i41) + (i68 + 1)))))))) hF hK hH hS 13 (n := 656) rfl rfl (by decide) rfl (f := w68_z13) rfl (i := (8 * (i32 + 1)) + (toN (a 7 ((4 * i41) + (i68 + 1))))) (by omega) (by decide) dX2_layLittle_173 rfl (by intro j hj; simp only [va_up, if_neg hj]) (fun H locs hH hS => ?_)
                              refine n_iinc (lv' := [(6, .int (nI (i68 + 1 + 1))), (8, .int ((w68_z13 ((8 * ((i32 + 1) - (toN (a 7 ((4 * i41) + 3))))) + (toN (a 7 (((4 * i41) + 3) - (i68 + 1)))))) + r13)), (7, .int (nI (toN (a 7 ((4 * i41) + (i68 + 1)))))), (5, .int ((nI (i32 + 1)) - (nI (toN (a 7 ((4 * i41) + 3)))))), (4, .int (nI i41)), (3, .int (nI (i32 + 1))), (0, .ref (ω.2.1 0 99)), (1, .int (nI pn))]) hF.1 hF.2.1 dX2_layLittle_174 hl (k := 2) rfl (by decide) rfl (fun ls hl => ?_)
                              refine lv_goto (tgt := 68) hF.1 hF.2.1 dX2_layLittle_177 (by decide) ?_
                              exact ih (i68 + 1) _ _ _ _ (by omega) (by subst e_r13; rw [it_succ (fX2_layLittle_b68 g a pn i32 i41) i68 _, ← hS68]; unfold fX2_layLittle_b68; dsimp only; first | (rw [if_neg (show ¬ (false = true) from Bool.false_ne_true), if_neg c9, if_pos c14]; done) | (simp only [if_neg (show ¬ (false = true) from Bool.false_ne_true), if_neg c9, if_pos c14])) hH hS (lv_sub hl [0, 3, 4, 5, 6, 7] rfl)
                            · skip
                              refine lv_iload hF.1 hF.2.1 dX2_layLittle_156 (lv_at hl 0 rfl) ?_
                              refine lv_goto (tgt := 173) hF.1 hF.2.1 dX2_layLittle_158 (by decide) ?_
                              refine m_zst (z' := va_up z 13 (upd w68_z13 ((8 * (i32 + 1)) + (toN (a 7 ((4 * i41) + (i68 + 1))))) ((w68_z13 ((8 * ((i32 + 1) - (toN (a 7 ((4 * i41) + 3))))) + (toN (a 7 (((4 * i41) + 3) - (i68 + 1)))))) + r13))) hF hK hH hS 13 (n := 656) rfl rfl (by decide) rfl (f := w68_z13) rfl (i := (8 * (i32 + 1)) + (toN (a 7 ((4 * i41) + (i68 + 1))))) (by omega) (by decide) dX2_layLittle_173 rfl (by intro j hj; simp only [va_up, if_neg hj]) (fun H locs hH hS => ?_)
                              refine n_iinc (lv' := [(6, .int (nI (i68 + 1 + 1))), (8, .int ((w68_z13 ((8 * ((i32 + 1) - (toN (a 7 ((4 * i41) + 3))))) + (toN (a 7 (((4 * i41) + 3) - (i68 + 1)))))) + r13)), (7, .int (nI (toN (a 7 ((4 * i41) + (i68 + 1)))))), (5, .int ((nI (i32 + 1)) - (nI (toN (a 7 ((4 * i41) + 3)))))), (4, .int (nI i41)), (3, .int (nI (i32 + 1))), (0, .ref (ω.2.1 0 99)), (1, .int (nI pn))]) hF.1 hF.2.1 dX2_layLittle_174 hl (k := 2) rfl (by decide) rfl (fun ls hl => ?_)
                              refine lv_goto (tgt := 68) hF.1 hF.2.1 dX2_layLittle_177 (by decide) ?_
                              exact ih (i68 + 1) _ _ _ _ (by omega) (by subst e_r13; rw [it_succ (fX2_layLittle_b68 g a pn i32 i41) i68 _, ← hS68]; unfold fX2_layLittle_b68; dsimp only; first | (rw [if_neg (show ¬ (false = true) from Bool.false_ne_true), if_neg c9, if_neg c14]; done) | (simp only [if_neg (show ¬ (false = true) from Bool.false_ne_true), if_neg c9, if_neg c14])) hH hS (lv_sub hl [0, 3, 4, 5, 6, 7] rfl)
                    exact lp68_94 2 0 _ _ _ _ (by omega) rfl hH hS (lv_sub hl [0, 1, 2, 3, 4, 5] rfl)
              exact lp41_92 (g 4) 0 _ _ _ _ (by omega) rfl hH hS (lv_sub hl [0, 1, 2, 3] rfl)
        exact lp32_84 81 0 _ _ _ _ (by omega) rfl hH hS (lv_sub hl [0, 1, 2] rfl)
      · exact absurd (by omega) c1
    | succ d2 ih =>
      intro i2 w2_z13 H locs ls hi2 hS2 hH hS hl
      refine lv_iload_n hF.1 hF.2.1 dX2_layLittle_2 rfl (lv_at hl 0 rfl) ?_
      refine lv_sipush (v := nI 656) hF.1 hF.2.1 dX2_layLittle_3 (by decide) ?_
      refine n_ge (tgt := 23) hF.1 hF.2.1 dX2_layLittle_6 (by decide) (by omega) (by omega) (fun c15 => ?_) (fun c15 => ?_)
      · exact absurd c15 (by omega)
      · skip
        refine lv_aload_n hF.1 hF.2.1 dX2_layLittle_9 rfl (lv_at hl 1 rfl) ?_
        refine mg_13 hF hK hH q984 dX2_layLittle_10 ?_
        refine lv_iload_n hF.1 hF.2.1 dX2_layLittle_13 rfl (lv_at hl 0 rfl) ?_
        refine lv_ldc (v := nI 1000000000) hF.1 hF.2.1 hF.2.2.2.1 (hF.2.2.2.2 _ q1130) dX2_layLittle_14 ?_
        refine m_zst (z' := va_up z 13 (upd w2_z13 i2 (nI 1000000000))) hF hK hH hS 13 (n := 656) rfl rfl (by decide) rfl (f := w2_z13) rfl (i := i2) (by omega) (by decide) dX2_layLittle_16 rfl (by intro j hj; simp only [va_up, if_neg hj]) (fun H locs hH hS => ?_)
        refine n_iinc (lv' := [(3, .int (nI (i2 + 1))), (0, .ref (ω.2.1 0 99)), (1, .int (nI pn)), (2, .int (nI fr))]) hF.1 hF.2.1 dX2_layLittle_17 hl (k := 0) rfl (by decide) rfl (fun ls hl => ?_)
        refine lv_goto (tgt := 2) hF.1 hF.2.1 dX2_layLittle_20 (by decide) ?_
        exact ih (i2 + 1) _ _ _ _ (by omega) (by rw [it_succ fX2_layLittle_b2 i2 _, ← hS2]; try rfl) hH hS (lv_sub hl [0, 1, 2, 3] rfl)
  have hH : mH ω (g, y, a, va_up z 13 (z 13), kt, hs) H := m_ext (fun _ => rfl) (fun _ => rfl) (fun _ => rfl) (by intro k; by_cases h0 : k = 13; (subst h0; simp [va_up]); simp only [va_up, if_neg h0]) hH
  exact lp2_60 656 0 _ _ _ _ (by omega) rfl hH hS (lv_sub hl [0, 1, 2, 3] rfl)

def fX2_railOf_b60 (g : Nat → Nat) (a : Nat → Nat → Int32) (pn : Nat) (i48 : Nat) (i60 : Nat) (S : (Nat → Int32)) : (Nat → Int32) := if (S (toN (a 7 ((4 * i48) + (i60 + 1))))) ≤ (if (fX2_hurtsOf g a pn i48) ≤ (S (toN (a 7 (((4 * i48) + 3) - (i60 + 1))))) then S (toN (a 7 (((4 * i48) + 3) - (i60 + 1)))) else (fX2_hurtsOf g a pn i48)) then upd S (toN (a 7 ((4 * i48) + (i60 + 1)))) (S (toN (a 7 ((4 * i48) + (i60 + 1))))) else upd S (toN (a 7 ((4 * i48) + (i60 + 1)))) (if (fX2_hurtsOf g a pn i48) ≤ (S (toN (a 7 (((4 * i48) + 3) - (i60 + 1))))) then S (toN (a 7 (((4 * i48) + 3) - (i60 + 1)))) else (fX2_hurtsOf g a pn i48))
def fX2_railOf_b48 (g : Nat → Nat) (a : Nat → Nat → Int32) (pn : Nat) (i48 : Nat) (S : (Nat → Int32)) : (Nat → Int32) := (it (fX2_railOf_b60 g a pn i48) 2 S)
def fX2_railOf_b38 (g : Nat → Nat) (a : Nat → Nat → Int32) (pn : Nat) (i38 : Nat) (S : (Nat → Int32)) : (Nat → Int32) := (it (fX2_railOf_b48 g a pn) (g 4) S)
def fX2_railOf_b3 (fr : Nat) (i3 : Nat) (S : (Nat → Int32)) : (Nat → Int32) := if i3 = fr then upd S i3 (nI 0) else upd S i3 (nI 1000000000)
def fX2_railOf (g : Nat → Nat) (a : Nat → Nat → Int32) (z : Nat → Nat → Int32) (pn : Nat) (fr : Nat) (to : Nat) : Int32 × (Nat → Int32) := if ((it (fX2_railOf_b38 g a pn) 8 (it (fX2_railOf_b3 fr) 8 (z 14))) to) < (nI 1000000000) then ((it (fX2_railOf_b38 g a pn) 8 (it (fX2_railOf_b3 fr) 8 (z 14))) to, (it (fX2_railOf_b38 g a pn) 8 (it (fX2_railOf_b3 fr) 8 (z 14)))) else ((-1), (it (fX2_railOf_b38 g a pn) 8 (it (fX2_railOf_b3 fr) 8 (z 14))))
def rmX2_railOf : Room := { frames := 3, cells := 0, slots := 0, locals := 70 }
theorem hdX2_railOf : yX2_railOf.cls = RX2 ∧ yX2_railOf.cls ≠ "java/lang/invoke/MethodHandle" ∧ yX2_railOf.cls ≠ "java/lang/invoke/VarHandle" ∧ (parseMethodDescriptor yX2_railOf.desc).map (fun d => d.parameters.length) = some 3 := by decide +kernel
set_option maxHeartbeats 4000000 in
theorem kX2_railOf (l : Launch) (ω : OM) (g : Nat → Nat) (y : Nat → Int32) (a z : Nat → Nat → Int32) (kt : Int32) (hs : Int64) (pn : Nat) (fr : Nat) (to : Nat) (hpn : pn < 3) (hfr : fr < 8) (hto : to < 8) (hr : mRows (g 4) (a 7)) : Met l yX2_railOf (ws_ yX2_railOf cX2_railOf 10 (some .int)) rmX2_railOf (va_Pc [.ref (ω.2.1 0 99), .int (nI pn), .int (nI fr), .int (nI to)] (fun U => mK ω U ∧ mH ω (g, y, a, z, kt, hs) U.heap)) (va_Qi (fun (r : Int32) (u : MS) => ∃ (o0 : Nat → Int32), (r, o0) = (fX2_railOf g a z pn fr to) ∧ u = (g, y, a, va_up z 14 o0, kt, hs)) (fun u t => mH ω u t.heap) ω.2.2.1) 0 0 ω.2.2.1 := by
  refine g_entWi (C := RX2) rfl (by decide) (Nat.le_of_ble_eq_true rfl) ?_
  intro p e s m args below meth c QQ ls H locs hF hK hH hS hl hret
  have hl : lv_has ls 10 [(0, .ref (ω.2.1 0 99)), (1, .int (nI pn)), (2, .int (nI fr)), (3, .int (nI to))] := hl
  have hn := hr.1
  refine lv_iconst (v := nI 0) hF.1 hF.2.1 dX2_railOf_0 (by decide) ?_
  refine lv_istore (lv' := [(4, .int (nI 0)), (0, .ref (ω.2.1 0 99)), (1, .int (nI pn)), (2, .int (nI fr)), (3, .int (nI to))]) hF.1 hF.2.1 dX2_railOf_1 hl (by decide) rfl (fun ls hl => ?_)
  have lp3_97 : ∀ (d3 i3 : Nat) (w3_z14 : Nat → Int32) (H : Heap) (locs : List Loc) (ls : Array Slot), i3 + d3 = 8 → w3_z14 = it (fX2_railOf_b3 fr) i3 (z 14) → mH ω (g, y, a, va_up z 14 w3_z14, kt, hs) H → va_S ω.2.2.1 s.heap H locs → lv_has ls 10 [(4, .int (nI i3)), (0, .ref (ω.2.1 0 99)), (1, .int (nI pn)), (2, .int (nI fr)), (3, .int (nI to))] → W p l e rmX2_railOf s m args below meth c H locs 0 0 QQ (F0 m 3 ls []) := by
    intro d3
    induction d3 with
    | zero =>
      intro i3 w3_z14 H locs ls hi3 hS3 hH hS hl
      have hj3 : 8 = i3 := by omega
      subst hj3
      have e_w3_z14 := hS3
      refine lv_iload hF.1 hF.2.1 dX2_railOf_3 (lv_at hl 0 rfl) ?_
      refine lv_bipush (v := nI 8) hF.1 hF.2.1 dX2_railOf_5 (by decide) ?_
      refine n_ge (tgt := 35) hF.1 hF.2.1 dX2_railOf_7 (by decide) (by omega) (by omega) (fun c1 => ?_) (fun c1 => ?_)
      · skip
        refine lv_iconst (v := nI 0) hF.1 hF.2.1 dX2_railOf_35 (by decide) ?_
        refine lv_istore (lv' := [(4, .int (nI 0)), (0, .ref (ω.2.1 0 99)), (1, .int (nI pn)), (2, .int (nI fr)), (3, .int (nI to))]) hF.1 hF.2.1 dX2_railOf_36 hl (by decide) rfl (fun ls hl => ?_)
        have lp38_115 : ∀ (d38 i38 : Nat) (w38_z14 : Nat → Int32) (H : Heap) (locs : List Loc) (ls : Array Slot), i38 + d38 = 8 → w38_z14 = it (fX2_railOf_b38 g a pn) i38 w3_z14 → mH ω (g, y, a, va_up z 14 w38_z14, kt, hs) H → va_S ω.2.2.1 s.heap H locs → lv_has ls 10 [(4, .int (nI i38)), (0, .ref (ω.2.1 0 99)), (1, .int (nI pn)), (3, .int (nI to))] → W p l e rmX2_railOf s m args below meth c H locs 0 0 QQ (F0 m 38 ls []) := by
          intro d38
          induction d38 with
          | zero =>
            intro i38 w38_z14 H locs ls hi38 hS38 hH hS hl
            have hj38 : 8 = i38 := by omega
            subst hj38
            have e_w38_z14 := hS38
            refine lv_iload hF.1 hF.2.1 dX2_railOf_38 (lv_at hl 0 rfl) ?_
            refine lv_bipush (v := nI 8) hF.1 hF.2.1 dX2_railOf_40 (by decide) ?_
            refine n_ge (tgt := 176) hF.1 hF.2.1 dX2_railOf_42 (by decide) (by omega) (by omega) (fun c2 => ?_) (fun c2 => ?_)
            · skip
              refine lv_aload_n hF.1 hF.2.1 dX2_railOf_176 rfl (lv_at hl 1 rfl) ?_
              refine mg_14 hF hK hH q985 dX2_railOf_177 ?_
              refine lv_iload_n hF.1 hF.2.1 dX2_railOf_180 rfl (lv_at hl 3 rfl) ?_
              refine m_zld hF hK hH 14 (n := 8) rfl rfl (by decide) rfl (f := w38_z14) rfl (i := to) (by omega) (by decide) dX2_railOf_181 ?_
              refine lv_ldc (v := nI 1000000000) hF.1 hF.2.1 hF.2.2.2.1 (hF.2.2.2.2 _ q1130) dX2_railOf_182 ?_
              refine lv_icmp_lt (tgt := 191) hF.1 hF.2.1 dX2_railOf_184 (by decide) (fun c3 => ?_) (fun c3 => ?_)
              · skip
                refine lv_aload_n hF.1 hF.2.1 dX2_railOf_191 rfl (lv_at hl 1 rfl) ?_
                refine mg_14 hF hK hH q985 dX2_railOf_192 ?_
                refine lv_iload_n hF.1 hF.2.1 dX2_railOf_195 rfl (lv_at hl 3 rfl) ?_
                refine m_zld hF hK hH 14 (n := 8) rfl rfl (by decide) rfl (f := w38_z14) rfl (i := to) (by omega) (by decide) dX2_railOf_196 ?_
                exact hret _ _ _ _ _ _ dX2_railOf_197 ⟨_, by subst e_w38_z14; subst e_w3_z14; unfold fX2_railOf; first | (rw [if_pos c3]; done) | (simp only [if_pos c3]), rfl⟩ hH hS
              · skip
                refine lv_iconst (v := (-1)) hF.1 hF.2.1 dX2_railOf_187 (by decide) ?_
                refine lv_goto (tgt := 197) hF.1 hF.2.1 dX2_railOf_188 (by decide) ?_
                exact hret _ _ _ _ _ _ dX2_railOf_197 ⟨_, by subst e_w38_z14; subst e_w3_z14; unfold fX2_railOf; first | (rw [if_neg c3]; done) | (simp only [if_neg c3]), rfl⟩ hH hS
            · exact absurd (by omega) c2
          | succ d38 ih =>
            intro i38 w38_z14 H locs ls hi38 hS38 hH hS hl
            refine lv_iload hF.1 hF.2.1 dX2_railOf_38 (lv_at hl 0 rfl) ?_
            refine lv_bipush (v := nI 8) hF.1 hF.2.1 dX2_railOf_40 (by decide) ?_
            refine n_ge (tgt := 176) hF.1 hF.2.1 dX2_railOf_42 (by decide) (by omega) (by omega) (fun c4 => ?_) (fun c4 => ?_)
            · exact absurd c4 (by omega)
            · skip
              refine lv_iconst (v := nI 0) hF.1 hF.2.1 dX2_railOf_45 (by decide) ?_
              refine lv_istore (lv' := [(5, .int (nI 0)), (4, .int (nI i38)), (0, .ref (ω.2.1 0 99)), (1, .int (nI pn)), (3, .int (nI to))]) hF.1 hF.2.1 dX2_railOf_46 hl (by decide) rfl (fun ls hl => ?_)
              have lp48_121 : ∀ (d48 i48 : Nat) (w48_z14 : Nat → Int32) (H : Heap) (locs : List Loc) (ls : Array Slot), i48 + d48 = g 4 → w48_z14 = it (fX2_railOf_b48 g a pn) i48 w38_z14 → mH ω (g, y, a, va_up z 14 w48_z14, kt, hs) H → va_S ω.2.2.1 s.heap H locs → lv_has ls 10 [(5, .int (nI i48)), (4, .int (nI i38)), (0, .ref (ω.2.1 0 99)), (1, .int (nI pn)), (3, .int (nI to))] → W p l e rmX2_railOf s m args below meth c H locs 0 0 QQ (F0 m 48 ls []) := by
                intro d48
                induction d48 with
                | zero =>
                  intro i48 w48_z14 H locs ls hi48 hS48 hH hS hl
                  have hj48 : g 4 = i48 := by omega
                  subst hj48
                  have e_w48_z14 := hS48
                  refine lv_iload hF.1 hF.2.1 dX2_railOf_48 (lv_at hl 0 rfl) ?_
                  refine lv_aload_n hF.1 hF.2.1 dX2_railOf_50 rfl (lv_at hl 2 rfl) ?_
                  refine mg_4 hF hK hH q975 dX2_railOf_51 (v := g 4) rfl ?_
                  refine n_ge (tgt := 170) hF.1 hF.2.1 dX2_railOf_54 (by decide) (by omega) (by omega) (fun c5 => ?_) (fun c5 => ?_)
                  · skip
                    refine n_iinc (lv' := [(4, .int (nI (i38 + 1))), (5, .int (nI (g 4))), (0, .ref (ω.2.1 0 99)), (1, .int (nI pn)), (3, .int (nI to))]) hF.1 hF.2.1 dX2_railOf_170 hl (k := 1) rfl (by decide) rfl (fun ls hl => ?_)
                    refine lv_goto (tgt := 38) hF.1 hF.2.1 dX2_railOf_173 (by decide) ?_
                    exact ih (i38 + 1) _ _ _ _ (by omega) (by subst e_w48_z14; rw [it_succ (fX2_railOf_b38 g a pn) i38 _, ← hS38]; try rfl) hH hS (lv_sub hl [0, 2, 3, 4] rfl)
                  · exact absurd (by omega) c5
                | succ d48 ih =>
                  intro i48 w48_z14 H locs ls hi48 hS48 hH hS hl
                  refine lv_iload hF.1 hF.2.1 dX2_railOf_48 (lv_at hl 0 rfl) ?_
                  refine lv_aload_n hF.1 hF.2.1 dX2_railOf_50 rfl (lv_at hl 2 rfl) ?_
                  refine mg_4 hF hK hH q975 dX2_railOf_51 (v := g 4) rfl ?_
                  refine n_ge (tgt := 170) hF.1 hF.2.1 dX2_railOf_54 (by decide) (by omega) (by omega) (fun c6 => ?_) (fun c6 => ?_)
                  · exact absurd c6 (by omega)
                  · skip
                    refine lv_iconst (v := nI 1) hF.1 hF.2.1 dX2_railOf_57 (by decide) ?_
                    refine lv_istore (lv' := [(6, .int (nI 1)), (5, .int (nI i48)), (4, .int (nI i38)), (0, .ref (ω.2.1 0 99)), (1, .int (nI pn)), (3, .int (nI to))]) hF.1 hF.2.1 dX2_railOf_58 hl (by decide) rfl (fun ls hl => ?_)
                    have lp60_123 : ∀ (d60 i60 : Nat) (w60_z14 : Nat → Int32) (H : Heap) (locs : List Loc) (ls : Array Slot), i60 + d60 = 2 → w60_z14 = it (fX2_railOf_b60 g a pn i48) i60 w48_z14 → mH ω (g, y, a, va_up z 14 w60_z14, kt, hs) H → va_S ω.2.2.1 s.heap H locs → lv_has ls 10 [(6, .int (nI (i60 + 1))), (5, .int (nI i48)), (4, .int (nI i38)), (0, .ref (ω.2.1 0 99)), (1, .int (nI pn)), (3, .int (nI to))] → W p l e rmX2_railOf s m args below meth c H locs 0 0 QQ (F0 m 60 ls []) := by
                      intro d60
                      induction d60 with
                      | zero =>
                        intro i60 w60_z14 H locs ls hi60 hS60 hH hS hl
                        have hj60 : 2 = i60 := by omega
                        subst hj60
                        have e_w60_z14 := hS60
                        refine lv_iload hF.1 hF.2.1 dX2_railOf_60 (lv_at hl 0 rfl) ?_
                        refine lv_iconst (v := nI 3) hF.1 hF.2.1 dX2_railOf_62 (by decide) ?_
                        refine n_ge (tgt := 164) hF.1 hF.2.1 dX2_railOf_63 (by decide) (by omega) (by omega) (fun c7 => ?_) (fun c7 => ?_)
                        · skip
                          refine n_iinc (lv' := [(5, .int (nI (i48 + 1))), (6, .int (nI (2 + 1))), (4, .int (nI i38)), (0, .ref (ω.2.1 0 99)), (1, .int (nI pn)), (3, .int (nI to))]) hF.1 hF.2.1 dX2_railOf_164 hl (k := 1) rfl (by decide) rfl (fun ls hl => ?_)
                          refine lv_goto (tgt := 48) hF.1 hF.2.1 dX2_railOf_167 (by decide) ?_
                          exact ih (i48 + 1) _ _ _ _ (by omega) (by subst e_w60_z14; rw [it_succ (fX2_railOf_b48 g a pn) i48 _, ← hS48]; try rfl) hH hS (lv_sub hl [0, 2, 3, 4, 5] rfl)
                        · exact absurd (by omega) c7
                      | succ d60 ih =>
                        intro i60 w60_z14 H locs ls hi60 hS60 hH hS hl
                        refine lv_iload hF.1 hF.2.1 dX2_railOf_60 (lv_at hl 0 rfl) ?_
                        refine lv_iconst (v := nI 3) hF.1 hF.2.1 dX2_railOf_62 (by decide) ?_
                        refine n_ge (tgt := 164) hF.1 hF.2.1 dX2_railOf_63 (by decide) (by omega) (by omega) (fun c8 => ?_) (fun c8 => ?_)
                        · exact absurd c8 (by omega)
                        · skip
                          refine lv_aload_n hF.1 hF.2.1 dX2_railOf_66 rfl (lv_at hl 3 rfl) ?_
                          refine mg_14 hF hK hH q985 dX2_railOf_67 ?_
                          refine lv_aload_n hF.1 hF.2.1 dX2_railOf_70 rfl (lv_at hl 3 rfl) ?_
                          refine mg_7 hF hK hH q978 dX2_railOf_71 ?_
                          refine lv_iconst (v := nI 4) hF.1 hF.2.1 dX2_railOf_74 (by decide) ?_
                          refine lv_iload hF.1 hF.2.1 dX2_railOf_75 (lv_at hl 1 rfl) ?_
                          refine n_imul hF.1 hF.2.1 dX2_railOf_77 ?_
                          refine lv_iconst (v := nI 3) hF.1 hF.2.1 dX2_railOf_78 (by decide) ?_
                          refine n_iadd hF.1 hF.2.1 dX2_railOf_79 ?_
                          refine lv_iload hF.1 hF.2.1 dX2_railOf_80 (lv_at hl 0 rfl) ?_
                          refine n_isub hF.1 hF.2.1 dX2_railOf_82 (by omega) ?_
                          refine m_ald hF hK hH 7 (n := 36) rfl rfl (by decide) rfl (f := a 7) rfl (i := ((4 * i48) + 3) - (i60 + 1)) (by omega) (by decide) dX2_railOf_83 ?_
                          obtain ⟨b9e, b9l⟩ := g_lift (r := a 7 (((4 * i48) + 3) - (i60 + 1))) (n := 8) (hr.e2 (by omega) (by omega) (by omega)) (by omega)
                          refine n_top b9e ?_
                          refine m_zld hF hK hH 14 (n := 8) rfl rfl (by decide) rfl (f := w60_z14) rfl (i := toN (a 7 (((4 * i48) + 3) - (i60 + 1)))) (by omega) (by decide) dX2_railOf_84 ?_
                          refine lv_istore (lv' := [(7, .int (w60_z14 (toN (a 7 (((4 * i48) + 3) - (i60 + 1)))))), (6, .int (nI (i60 + 1))), (5, .int (nI i48)), (4, .int (nI i38)), (0, .ref (ω.2.1 0 99)), (1, .int (nI pn)), (3, .int (nI to))]) hF.1 hF.2.1 dX2_railOf_85 hl (by decide) rfl (fun ls hl => ?_)
                          refine lv_aload_n hF.1 hF.2.1 dX2_railOf_87 rfl (lv_at hl 4 rfl) ?_
                          refine lv_iload_n hF.1 hF.2.1 dX2_railOf_88 rfl (lv_at hl 5 rfl) ?_
                          refine lv_iload hF.1 hF.2.1 dX2_railOf_89 (lv_at hl 2 rfl) ?_
                          refine g_vPi (As := [.int (nI pn), .int (nI i48)]) (rest := []) hF (kX2_hurtsOf l ω g y a (va_up z 14 w60_z14) kt hs pn i48 (by omega) (by omega)) (lw_V q1160 q1162 qs62 q97 q1163) 2 hdX2_hurtsOf rfl rfl ⟨Nat.le_of_ble_eq_true rfl, Nat.le_of_ble_eq_true rfl⟩ (m_preV hK hH) rfl hl.1 rfl (Nat.le_of_ble_eq_true rfl) dX2_railOf_91 ⟨Nat.zero_le _, Nat.zero_le _⟩ (fun r10 e_r10 => ?_)
                          refine lv_iload hF.1 hF.2.1 dX2_railOf_94 (lv_at hl 0 rfl) ?_
                          have k111_14 : ∀ (v13 : Int32) (ls : Array Slot), v13 = (if r10 ≤ (w60_z14 (toN (a 7 (((4 * i48) + 3) - (i60 + 1))))) then w60_z14 (toN (a 7 (((4 * i48) + 3) - (i60 + 1)))) else (fX2_hurtsOf g a pn i48)) → lv_has ls 10 [(6, .int (nI (i60 + 1))), (5, .int (nI i48)), (4, .int (nI i38)), (0, .ref (ω.2.1 0 99)), (1, .int (nI pn)), (3, .int (nI to))] → W p l e rmX2_railOf s m args below meth c H locs 0 0 QQ (F0 m 111 ls [.int v13]) := by
                            intro v13 ls e_v13 hl
                            refine lv_istore (lv' := [(8, .int v13), (6, .int (nI (i60 + 1))), (5, .int (nI i48)), (4, .int (nI i38)), (0, .ref (ω.2.1 0 99)), (1, .int (nI pn)), (3, .int (nI to))]) hF.1 hF.2.1 dX2_railOf_111 hl (by decide) rfl (fun ls hl => ?_)
                            refine lv_aload_n hF.1 hF.2.1 dX2_railOf_113 rfl (lv_at hl 4 rfl) ?_
                            refine mg_7 hF hK hH q978 dX2_railOf_114 ?_
                            refine lv_iconst (v := nI 4) hF.1 hF.2.1 dX2_railOf_117 (by decide) ?_
                            refine lv_iload hF.1 hF.2.1 dX2_railOf_118 (lv_at hl 2 rfl) ?_
                            refine n_imul hF.1 hF.2.1 dX2_railOf_120 ?_
                            refine lv_iload hF.1 hF.2.1 dX2_railOf_121 (lv_at hl 1 rfl) ?_
                            refine n_iadd hF.1 hF.2.1 dX2_railOf_123 ?_
                            refine m_ald hF hK hH 7 (n := 36) rfl rfl (by decide) rfl (f := a 7) rfl (i := (4 * i48) + (i60 + 1)) (by omega) (by decide) dX2_railOf_124 ?_
                            obtain ⟨b15e, b15l⟩ := g_lift (r := a 7 ((4 * i48) + (i60 + 1))) (n := 8) (hr.e1 (by omega) (by omega) (by omega)) (by omega)
                            refine n_top b15e ?_
                            refine lv_istore (lv' := [(9, .int (nI (toN (a 7 ((4 * i48) + (i60 + 1)))))), (8, .int v13), (6, .int (nI (i60 + 1))), (5, .int (nI i48)), (4, .int (nI i38)), (0, .ref (ω.2.1 0 99)), (1, .int (nI pn)), (3, .int (nI to))]) hF.1 hF.2.1 dX2_railOf_125 hl (by decide) rfl (fun ls hl => ?_)
                            refine lv_aload_n hF.1 hF.2.1 dX2_railOf_127 rfl (lv_at hl 5 rfl) ?_
                            refine mg_14 hF hK hH q985 dX2_railOf_128 ?_
                            refine lv_iload hF.1 hF.2.1 dX2_railOf_131 (lv_at hl 0 rfl) ?_
                            refine lv_iload hF.1 hF.2.1 dX2_railOf_133 (lv_at hl 1 rfl) ?_
                            refine lv_aload_n hF.1 hF.2.1 dX2_railOf_135 rfl (lv_at hl 5 rfl) ?_
                            refine mg_14 hF hK hH q985 dX2_railOf_136 ?_
                            refine lv_iload hF.1 hF.2.1 dX2_railOf_139 (lv_at hl 0 rfl) ?_
                            refine m_zld hF hK hH 14 (n := 8) rfl rfl (by decide) rfl (f := w60_z14) rfl (i := toN (a 7 ((4 * i48) + (i60 + 1)))) (by omega) (by decide) dX2_railOf_141 ?_
                            refine lv_icmp_ge (tgt := 150) hF.1 hF.2.1 dX2_railOf_142 (by decide) (fun c16 => ?_) (fun c16 => ?_)
                            · skip
                              refine lv_aload_n hF.1 hF.2.1 dX2_railOf_150 rfl (lv_at hl 5 rfl) ?_
                              refine mg_14 hF hK hH q985 dX2_railOf_151 ?_
                              refine lv_iload hF.1 hF.2.1 dX2_railOf_154 (lv_at hl 0 rfl) ?_
                              refine m_zld hF hK hH 14 (n := 8) rfl rfl (by decide) rfl (f := w60_z14) rfl (i := toN (a 7 ((4 * i48) + (i60 + 1)))) (by omega) (by decide) dX2_railOf_156 ?_
                              refine m_zst (z' := va_up z 14 (upd w60_z14 (toN (a 7 ((4 * i48) + (i60 + 1)))) (w60_z14 (toN (a 7 ((4 * i48) + (i60 + 1))))))) hF hK hH hS 14 (n := 8) rfl rfl (by decide) rfl (f := w60_z14) rfl (i := toN (a 7 ((4 * i48) + (i60 + 1)))) (by omega) (by decide) dX2_railOf_157 rfl (by intro j hj; simp only [va_up, if_neg hj]) (fun H locs hH hS => ?_)
                              refine n_iinc (lv' := [(6, .int (nI (i60 + 1 + 1))), (9, .int (nI (toN (a 7 ((4 * i48) + (i60 + 1)))))), (8, .int v13), (5, .int (nI i48)), (4, .int (nI i38)), (0, .ref (ω.2.1 0 99)), (1, .int (nI pn)), (3, .int (nI to))]) hF.1 hF.2.1 dX2_railOf_158 hl (k := 2) rfl (by decide) rfl (fun ls hl => ?_)
                              refine lv_goto (tgt := 60) hF.1 hF.2.1 dX2_railOf_161 (by decide) ?_
                              exact ih (i60 + 1) _ _ _ _ (by omega) (by subst e_v13; subst e_r10; rw [it_succ (fX2_railOf_b60 g a pn i48) i60 _, ← hS60]; unfold fX2_railOf_b60; first | (rw [if_pos c16]; done) | (simp only [if_pos c16])) hH hS (lv_sub hl [0, 3, 4, 5, 6, 7] rfl)
                            · skip
                              refine lv_iload hF.1 hF.2.1 dX2_railOf_145 (lv_at hl 1 rfl) ?_
                              refine lv_goto (tgt := 157) hF.1 hF.2.1 dX2_railOf_147 (by decide) ?_
                              refine m_zst (z' := va_up z 14 (upd w60_z14 (toN (a 7 ((4 * i48) + (i60 + 1)))) v13)) hF hK hH hS 14 (n := 8) rfl rfl (by decide) rfl (f := w60_z14) rfl (i := toN (a 7 ((4 * i48) + (i60 + 1)))) (by omega) (by decide) dX2_railOf_157 rfl (by intro j hj; simp only [va_up, if_neg hj]) (fun H locs hH hS => ?_)
                              refine n_iinc (lv' := [(6, .int (nI (i60 + 1 + 1))), (9, .int (nI (toN (a 7 ((4 * i48) + (i60 + 1)))))), (8, .int v13), (5, .int (nI i48)), (4, .int (nI i38)), (0, .ref (ω.2.1 0 99)), (1, .int (nI pn)), (3, .int (nI to))]) hF.1 hF.2.1 dX2_railOf_158 hl (k := 2) rfl (by decide) rfl (fun ls hl => ?_)
                              refine lv_goto (tgt := 60) hF.1 hF.2.1 dX2_railOf_161 (by decide) ?_
                              exact ih (i60 + 1) _ _ _ _ (by omega) (by subst e_v13; subst e_r10; rw [it_succ (fX2_railOf_b60 g a pn i48) i60 _, ← hS60]; unfold fX2_railOf_b60; first | (rw [if_neg c16]; done) | (simp only [if_neg c16])) hH hS (lv_sub hl [0, 3, 4, 5, 6, 7] rfl)
                          refine lv_icmp_le (tgt := 109) hF.1 hF.2.1 dX2_railOf_96 (by decide) (fun c11 => ?_) (fun c11 => ?_)
                          · skip
                            refine lv_iload hF.1 hF.2.1 dX2_railOf_109 (lv_at hl 0 rfl) ?_
                            exact k111_14 _ _ (by first | (rw [if_pos c11]; done) | (simp only [if_pos c11])) (lv_sub hl [1, 2, 3, 4, 5, 6] rfl)
                          · skip
                            refine lv_aload_n hF.1 hF.2.1 dX2_railOf_99 rfl (lv_at hl 4 rfl) ?_
                            refine lv_iload_n hF.1 hF.2.1 dX2_railOf_100 rfl (lv_at hl 5 rfl) ?_
                            refine lv_iload hF.1 hF.2.1 dX2_railOf_101 (lv_at hl 2 rfl) ?_
                            refine g_vPi (As := [.int (nI pn), .int (nI i48)]) (rest := []) hF (kX2_hurtsOf l ω g y a (va_up z 14 w60_z14) kt hs pn i48 (by omega) (by omega)) (lw_V q1160 q1162 qs62 q97 q1163) 2 hdX2_hurtsOf rfl rfl ⟨Nat.le_of_ble_eq_true rfl, Nat.le_of_ble_eq_true rfl⟩ (m_preV hK hH) rfl hl.1 rfl (Nat.le_of_ble_eq_true rfl) dX2_railOf_103 ⟨Nat.zero_le _, Nat.zero_le _⟩ (fun r12 e_r12 => ?_)
                            refine lv_goto (tgt := 111) hF.1 hF.2.1 dX2_railOf_106 (by decide) ?_
                            exact k111_14 _ _ (by subst e_r12; first | (rw [if_neg c11]; done) | (simp only [if_neg c11])) (lv_sub hl [1, 2, 3, 4, 5, 6] rfl)
                    exact lp60_123 2 0 _ _ _ _ (by omega) rfl hH hS (lv_sub hl [0, 1, 2, 3, 4, 5] rfl)
              exact lp48_121 (g 4) 0 _ _ _ _ (by omega) rfl hH hS (lv_sub hl [0, 1, 2, 3, 4] rfl)
        exact lp38_115 8 0 _ _ _ _ (by omega) rfl hH hS (lv_sub hl [0, 1, 2, 4] rfl)
      · exact absurd (by omega) c1
    | succ d3 ih =>
      intro i3 w3_z14 H locs ls hi3 hS3 hH hS hl
      refine lv_iload hF.1 hF.2.1 dX2_railOf_3 (lv_at hl 0 rfl) ?_
      refine lv_bipush (v := nI 8) hF.1 hF.2.1 dX2_railOf_5 (by decide) ?_
      refine n_ge (tgt := 35) hF.1 hF.2.1 dX2_railOf_7 (by decide) (by omega) (by omega) (fun c17 => ?_) (fun c17 => ?_)
      · exact absurd c17 (by omega)
      · skip
        refine lv_aload_n hF.1 hF.2.1 dX2_railOf_10 rfl (lv_at hl 1 rfl) ?_
        refine mg_14 hF hK hH q985 dX2_railOf_11 ?_
        refine lv_iload hF.1 hF.2.1 dX2_railOf_14 (lv_at hl 0 rfl) ?_
        refine lv_iload hF.1 hF.2.1 dX2_railOf_16 (lv_at hl 0 rfl) ?_
        refine lv_iload_n hF.1 hF.2.1 dX2_railOf_18 rfl (lv_at hl 3 rfl) ?_
        refine n_ne (tgt := 26) hF.1 hF.2.1 dX2_railOf_19 (by decide) (by omega) (by omega) (fun c18 => ?_) (fun c18 => ?_)
        · skip
          refine lv_ldc (v := nI 1000000000) hF.1 hF.2.1 hF.2.2.2.1 (hF.2.2.2.2 _ q1130) dX2_railOf_26 ?_
          refine m_zst (z' := va_up z 14 (upd w3_z14 i3 (nI 1000000000))) hF hK hH hS 14 (n := 8) rfl rfl (by decide) rfl (f := w3_z14) rfl (i := i3) (by omega) (by decide) dX2_railOf_28 rfl (by intro j hj; simp only [va_up, if_neg hj]) (fun H locs hH hS => ?_)
          refine n_iinc (lv' := [(4, .int (nI (i3 + 1))), (0, .ref (ω.2.1 0 99)), (1, .int (nI pn)), (2, .int (nI fr)), (3, .int (nI to))]) hF.1 hF.2.1 dX2_railOf_29 hl (k := 0) rfl (by decide) rfl (fun ls hl => ?_)
          refine lv_goto (tgt := 3) hF.1 hF.2.1 dX2_railOf_32 (by decide) ?_
          exact ih (i3 + 1) _ _ _ _ (by omega) (by rw [it_succ (fX2_railOf_b3 fr) i3 _, ← hS3]; unfold fX2_railOf_b3; first | (rw [if_neg c18]; done) | (simp only [if_neg c18])) hH hS (lv_sub hl [0, 1, 2, 3, 4] rfl)
        · skip
          refine lv_iconst (v := nI 0) hF.1 hF.2.1 dX2_railOf_22 (by decide) ?_
          refine lv_goto (tgt := 28) hF.1 hF.2.1 dX2_railOf_23 (by decide) ?_
          refine m_zst (z' := va_up z 14 (upd w3_z14 i3 (nI 0))) hF hK hH hS 14 (n := 8) rfl rfl (by decide) rfl (f := w3_z14) rfl (i := i3) (by omega) (by decide) dX2_railOf_28 rfl (by intro j hj; simp only [va_up, if_neg hj]) (fun H locs hH hS => ?_)
          refine n_iinc (lv' := [(4, .int (nI (i3 + 1))), (0, .ref (ω.2.1 0 99)), (1, .int (nI pn)), (2, .int (nI fr)), (3, .int (nI to))]) hF.1 hF.2.1 dX2_railOf_29 hl (k := 0) rfl (by decide) rfl (fun ls hl => ?_)
          refine lv_goto (tgt := 3) hF.1 hF.2.1 dX2_railOf_32 (by decide) ?_
          exact ih (i3 + 1) _ _ _ _ (by omega) (by rw [it_succ (fX2_railOf_b3 fr) i3 _, ← hS3]; unfold fX2_railOf_b3; first | (rw [if_pos c18]; done) | (simp only [if_pos c18])) hH hS (lv_sub hl [0, 1, 2, 3, 4] rfl)
  have hH : mH ω (g, y, a, va_up z 14 (z 14), kt, hs) H := m_ext (fun _ => rfl) (fun _ => rfl) (fun _ => rfl) (by intro k; by_cases h0 : k = 14; (subst h0; simp [va_up]); simp only [va_up, if_neg h0]) hH
  exact lp3_97 8 0 _ _ _ _ (by omega) rfl hH hS (lv_sub hl [0, 1, 2, 3, 4] rfl)

