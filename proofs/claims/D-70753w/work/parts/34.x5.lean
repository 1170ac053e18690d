/-! CLASS: states -/
set_option maxRecDepth 100000
def fX1_hurts (g : Nat → Nat → Nat) (a : Nat → Nat → Nat → Int32) (t : TW) (j : Nat) (pn : Nat) (sn : Nat) : Int32 := fXS_hurts (tk t sn) (a (j + 6) 0 pn) (nI (g (j + 6) 9)) (a (j + 6) 1 ((9 * pn) + sn))
def rmX1_hurts : Room := { frames := 4, cells := 0, slots := 0, locals := 93 }
theorem hdX1_hurts : yX1_hurts.cls = RX1 ∧ yX1_hurts.cls ≠ "java/lang/invoke/MethodHandle" ∧ yX1_hurts.cls ≠ "java/lang/invoke/VarHandle" ∧ (parseMethodDescriptor yX1_hurts.desc).map (fun d => d.parameters.length) = some 2 := by decide +kernel
set_option maxHeartbeats 4000000 in
theorem kX1_hurts (l : Launch) (ω : OM) (g : Nat → Nat → Nat) (y : Nat → Nat → Int32) (a z : Nat → Nat → Nat → Int32) (dr : Int64) (pg : Nat → Int32) (t : TW) (j : Nat) (hj : j < 3) (pn : Nat) (sn : Nat) (hp3 : pn < 3) (hsn : sn < tn t) : Met l yX1_hurts (ws_ yX1_hurts cX1_hurts 3 (some .int)) rmX1_hurts (va_Pc [.ref (ω.2.1 (j + 6) 99), .int (nI pn), .int (nI sn)] (fun U => xK ω U ∧ xH ω (g, y, a, z, dr, pg, t) U.heap)) (vp_Si (fun r => r = (fX1_hurts g a t j pn sn))) 0 0 (fun _ => False) := by
  refine g_entPi (C := RX1) rfl (by decide) (Nat.le_of_ble_eq_true rfl) ?_
  intro p e s m args below meth c QQ ls hF hKH hl hret
  have hl : lv_has ls 3 [(0, .ref (ω.2.1 (j + 6) 99)), (1, .int (nI pn)), (2, .int (nI sn))] := hl
  obtain ⟨hK, hH⟩ := hKH
  have hn9 : tn t ≤ 9 := hH.2.2.1
  refine lv_aload_n hF.1 hF.2.1 dX1_hurts_0 rfl (lv_at hl 0 rfl) ?_
  refine xg1_15 (j := j) hj hF hK hH q182 dX1_hurts_1 ?_
  refine xgN_q217 hF hK hH dX1_hurts_4 ?_
  refine lv_iload_n hF.1 hF.2.1 dX1_hurts_7 rfl (lv_at hl 2 rfl) ?_
  refine g_vPr (As := [.int (nI sn)]) (rest := []) hF (kJ2_get l ω g y a z dr pg t sn (by omega)) (lw_V q623 q571 q572 q95 q573) 1 hdJ2_get rfl rfl ⟨Nat.le_of_ble_eq_true rfl, Nat.le_of_ble_eq_true rfl⟩ (x_preVL hK hH) rfl hl.1 rfl (Nat.le_of_ble_eq_true rfl) dX1_hurts_8 ⟨Nat.zero_le _, Nat.zero_le _⟩ ?_
  refine x_cast hF hK hH (i := sn) (by omega) q624 dX1_hurts_11 ?_
  refine lv_aload_n hF.1 hF.2.1 dX1_hurts_14 rfl (lv_at hl 0 rfl) ?_
  refine xg1_0 (j := j) hj hF hK hH q154 dX1_hurts_15 ?_
  refine lv_iload_n hF.1 hF.2.1 dX1_hurts_18 rfl (lv_at hl 1 rfl) ?_
  refine x1_ald (j := j) hj hF hK hH 0 (n := 3) rfl rfl (by decide) rfl (f := a (j + 6) 0) rfl (i := pn) (by omega) (by decide) dX1_hurts_19 ?_
  refine lv_aload_n hF.1 hF.2.1 dX1_hurts_20 rfl (lv_at hl 0 rfl) ?_
  refine xg1_9 (j := j) hj hF hK hH q171 dX1_hurts_21 (v := g (j + 6) 9) rfl ?_
  refine lv_aload_n hF.1 hF.2.1 dX1_hurts_24 rfl (lv_at hl 0 rfl) ?_
  refine xg1_1 (j := j) hj hF hK hH q156 dX1_hurts_25 ?_
  refine lv_bipush (v := nI 9) hF.1 hF.2.1 dX1_hurts_28 (by decide) ?_
  refine lv_iload_n hF.1 hF.2.1 dX1_hurts_30 rfl (lv_at hl 1 rfl) ?_
  refine n_imul hF.1 hF.2.1 dX1_hurts_31 ?_
  refine lv_iload_n hF.1 hF.2.1 dX1_hurts_32 rfl (lv_at hl 2 rfl) ?_
  refine n_iadd hF.1 hF.2.1 dX1_hurts_33 ?_
  refine x1_ald (j := j) hj hF hK hH 1 (n := 27) rfl rfl (by decide) rfl (f := a (j + 6) 1) rfl (i := (9 * pn) + sn) (by omega) (by decide) dX1_hurts_34 ?_
  refine x_vhurts (rest := []) hF hK hH sn (by omega) (a (j + 6) 0 pn) (nI (g (j + 6) 9)) (a (j + 6) 1 ((9 * pn) + sn)) q636 ⟨Nat.le_of_ble_eq_true rfl, Nat.le_of_ble_eq_true rfl⟩ hl.1 rfl (Nat.le_of_ble_eq_true rfl) dX1_hurts_35 ⟨Nat.zero_le _, Nat.zero_le _⟩ ?_
  exact hret _ _ _ dX1_hurts_38 (by rfl)

def fX1_cost (g : Nat → Nat → Nat) (a : Nat → Nat → Nat → Int32) (t : TW) (j : Nat) (pn : Nat) (sn : Nat) : Int32 := ((nI 1000) * (fX1_hurts g a t j pn sn)) + (nI (tl t sn))
def rmX1_cost : Room := { frames := 5, cells := 0, slots := 0, locals := 115 }
theorem hdX1_cost : yX1_cost.cls = RX1 ∧ yX1_cost.cls ≠ "java/lang/invoke/MethodHandle" ∧ yX1_cost.cls ≠ "java/lang/invoke/VarHandle" ∧ (parseMethodDescriptor yX1_cost.desc).map (fun d => d.parameters.length) = some 2 := by decide +kernel
set_option maxHeartbeats 4000000 in
theorem kX1_cost (l : Launch) (ω : OM) (g : Nat → Nat → Nat) (y : Nat → Nat → Int32) (a z : Nat → Nat → Nat → Int32) (dr : Int64) (pg : Nat → Int32) (t : TW) (j : Nat) (hj : j < 3) (pn : Nat) (sn : Nat) (hp3 : pn < 3) (hsn : sn < tn t) : Met l yX1_cost (ws_ yX1_cost cX1_cost 3 (some .int)) rmX1_cost (va_Pc [.ref (ω.2.1 (j + 6) 99), .int (nI pn), .int (nI sn)] (fun U => xK ω U ∧ xH ω (g, y, a, z, dr, pg, t) U.heap)) (vp_Si (fun r => r = (fX1_cost g a t j pn sn))) 0 0 (fun _ => False) := by
  refine g_entPi (C := RX1) rfl (by decide) (Nat.le_of_ble_eq_true rfl) ?_
  intro p e s m args below meth c QQ ls hF hKH hl hret
  have hl : lv_has ls 3 [(0, .ref (ω.2.1 (j + 6) 99)), (1, .int (nI pn)), (2, .int (nI sn))] := hl
  obtain ⟨hK, hH⟩ := hKH
  have hn9 : tn t ≤ 9 := hH.2.2.1
  refine lv_sipush (v := nI 1000) hF.1 hF.2.1 dX1_cost_0 (by decide) ?_
  refine lv_aload_n hF.1 hF.2.1 dX1_cost_3 rfl (lv_at hl 0 rfl) ?_
  refine lv_iload_n hF.1 hF.2.1 dX1_cost_4 rfl (lv_at hl 1 rfl) ?_
  refine lv_iload_n hF.1 hF.2.1 dX1_cost_5 rfl (lv_at hl 2 rfl) ?_
  refine g_vPi (As := [.int (nI pn), .int (nI sn)]) (rest := [.int (nI 1000)]) hF (kX1_hurts l ω g y a z dr pg t j hj pn sn (by omega) (by omega)) (lw_V q632 q633 q634 q96 q635) 2 hdX1_hurts rfl rfl ⟨Nat.le_of_ble_eq_true rfl, Nat.le_of_ble_eq_true rfl⟩ (x_preV1 hj hK hH) rfl hl.1 rfl (Nat.le_of_ble_eq_true rfl) dX1_cost_6 ⟨Nat.zero_le _, Nat.zero_le _⟩ (fun r1 e_r1 => ?_)
  refine lv_imul hF.1 hF.2.1 dX1_cost_9 ?_
  refine lv_aload_n hF.1 hF.2.1 dX1_cost_10 rfl (lv_at hl 0 rfl) ?_
  refine xg1_15 (j := j) hj hF hK hH q182 dX1_cost_11 ?_
  refine xgN_q217 hF hK hH dX1_cost_14 ?_
  refine lv_iload_n hF.1 hF.2.1 dX1_cost_17 rfl (lv_at hl 2 rfl) ?_
  refine g_vPr (As := [.int (nI sn)]) (rest := [.int ((nI 1000) * r1)]) hF (kJ2_get l ω g y a z dr pg t sn (by omega)) (lw_V q623 q571 q572 q95 q573) 1 hdJ2_get rfl rfl ⟨Nat.le_of_ble_eq_true rfl, Nat.le_of_ble_eq_true rfl⟩ (x_preVL hK hH) rfl hl.1 rfl (Nat.le_of_ble_eq_true rfl) dX1_cost_18 ⟨Nat.zero_le _, Nat.zero_le _⟩ ?_
  refine x_cast hF hK hH (i := sn) (by omega) q624 dX1_cost_21 ?_
  refine xs_g2 hF hK hH (i := sn) (by omega) q448 dX1_cost_24 ?_
  have hst24 := hH.2.2.2.2 sn (by first | exact hsn | (show _ < tn t; omega))
  change tk t sn < 5 ∧ ta t sn < 8 ∧ tb t sn < 8 ∧ ¬ ta t sn = tb t sn ∧ 1 ≤ tl t sn ∧ tl t sn ≤ 9 at hst24
  refine lv_iadd hF.1 hF.2.1 dX1_cost_27 ?_
  exact hret _ _ _ dX1_cost_28 (by subst e_r1; rfl)

def fX1_shortens (z : Nat → Nat → Nat → Int32) (j : Nat) (cn : Nat) (by_ : Int32) : Int32 × (Nat → Int32) := ((if (z (j + 6) 10 cn) ≤ by_ then nI 0 else nI 1), upd (z (j + 6) 10) cn (jmin (z (j + 6) 10 cn) by_))
def rmX1_shortens : Room := { frames := 1, cells := 0, slots := 0, locals := 24 }
theorem hdX1_shortens : yX1_shortens.cls = RX1 ∧ yX1_shortens.cls ≠ "java/lang/invoke/MethodHandle" ∧ yX1_shortens.cls ≠ "java/lang/invoke/VarHandle" ∧ (parseMethodDescriptor yX1_shortens.desc).map (fun d => d.parameters.length) = some 2 := by decide +kernel
set_option maxHeartbeats 4000000 in
theorem kX1_shortens (l : Launch) (ω : OM) (g : Nat → Nat → Nat) (y : Nat → Nat → Int32) (a z : Nat → Nat → Nat → Int32) (dr : Int64) (pg : Nat → Int32) (t : TW) (j : Nat) (hj : j < 3) (cn : Nat) (by_ : Int32) (hcn : cn < 8) : Met l yX1_shortens (ws_ yX1_shortens cX1_shortens 4 (some .boolean)) rmX1_shortens (va_Pc [.ref (ω.2.1 (j + 6) 99), .int (nI cn), .int by_] (fun U => xK ω U ∧ xH ω (g, y, a, z, dr, pg, t) U.heap)) (va_Qi (fun (r : Int32) (u : XS) => ∃ (o0 : Nat → Int32), (r, o0) = (fX1_shortens z j cn by_) ∧ u = (g, y, a, up2 z (j + 6) 10 o0, dr, pg, t)) (fun u t => xH ω u t.heap) ω.2.2.1) 0 0 ω.2.2.1 := by
  refine g_entWz (C := RX1) rfl (by decide) (Nat.le_of_ble_eq_true rfl) ?_
  intro p e s m args below meth c QQ ls H locs hF hK hH hS hl hret
  have hl : lv_has ls 4 [(0, .ref (ω.2.1 (j + 6) 99)), (1, .int (nI cn)), (2, .int by_)] := hl
  have hn9 : tn t ≤ 9 := hH.2.2.1
  refine lv_iload_n hF.1 hF.2.1 dX1_shortens_0 rfl (lv_at hl 2 rfl) ?_
  refine lv_aload_n hF.1 hF.2.1 dX1_shortens_1 rfl (lv_at hl 0 rfl) ?_
  refine xg1_10 (j := j) hj hF hK hH q173 dX1_shortens_2 ?_
  refine lv_iload_n hF.1 hF.2.1 dX1_shortens_5 rfl (lv_at hl 1 rfl) ?_
  refine x1_zld (j := j) hj hF hK hH 10 (n := 8) rfl rfl (by decide) rfl (f := z (j + 6) 10) rfl (i := cn) (by omega) (by decide) dX1_shortens_6 ?_
  have k15_3 : ∀ (v2 : Int32) (ls : Array Slot), v2 = (if (z (j + 6) 10 cn) ≤ by_ then nI 0 else nI 1) → lv_has ls 4 [(0, .ref (ω.2.1 (j + 6) 99)), (1, .int (nI cn)), (2, .int by_)] → W p l e rmX1_shortens s m args below meth c H locs 0 0 QQ (F0 m 15 ls [.int v2]) := by
    intro v2 ls e_v2 hl
    refine lv_istore_n (lv' := [(3, .int v2), (0, .ref (ω.2.1 (j + 6) 99)), (1, .int (nI cn)), (2, .int by_)]) hF.1 hF.2.1 dX1_shortens_15 rfl hl (by decide) rfl (fun ls hl => ?_)
    refine lv_aload_n hF.1 hF.2.1 dX1_shortens_16 rfl (lv_at hl 1 rfl) ?_
    refine xg1_10 (j := j) hj hF hK hH q173 dX1_shortens_17 ?_
    refine lv_iload_n hF.1 hF.2.1 dX1_shortens_20 rfl (lv_at hl 2 rfl) ?_
    refine lv_aload_n hF.1 hF.2.1 dX1_shortens_21 rfl (lv_at hl 1 rfl) ?_
    refine xg1_10 (j := j) hj hF hK hH q173 dX1_shortens_22 ?_
    refine lv_iload_n hF.1 hF.2.1 dX1_shortens_25 rfl (lv_at hl 2 rfl) ?_
    refine x1_zld (j := j) hj hF hK hH 10 (n := 8) rfl rfl (by decide) rfl (f := z (j + 6) 10) rfl (i := cn) (by omega) (by decide) dX1_shortens_26 ?_
    refine lv_iload_n hF.1 hF.2.1 dX1_shortens_27 rfl (lv_at hl 3 rfl) ?_
    refine va_mmin hF.1 hF.2.1 (hF.2.2.1.trans hl.1.symm) hF.2.2.2.1 (hF.2.2.2.2 _ q662) (hF.2.2.2.2 _ q546) (hF.2.2.2.2 _ q108) (hF.2.2.2.2 _ q547) (Nat.le_of_ble_eq_true rfl) (Nat.le_of_ble_eq_true rfl) (Nat.zero_le _) (Nat.zero_le _) dX1_shortens_28 ?_
    refine n_top (y := jmin (z (j + 6) 10 cn) by_) rfl ?_
    refine x1_zst (z' := up2 z (j + 6) 10 (upd (z (j + 6) 10) cn (jmin (z (j + 6) 10 cn) by_))) (j := j) hj hF hK hH hS 10 (n := 8) rfl rfl (by decide) rfl (f := z (j + 6) 10) rfl (i := cn) (by omega) (by decide) dX1_shortens_31 (by simp [up2]) (by intro i q hq; simp only [up2, if_neg hq]) (fun H locs hH hS => ?_)
    refine lv_iload_n hF.1 hF.2.1 dX1_shortens_32 rfl (lv_at hl 0 rfl) ?_
    exact hret _ _ _ _ _ _ dX1_shortens_33 ⟨_, by subst e_v2; rfl, rfl⟩ (by subst e_v2; exact (by (repeat' split) <;> first | exact Or.inl nI_0 | exact Or.inr rfl)) hH hS
  refine lv_icmp_ge (tgt := 14) hF.1 hF.2.1 dX1_shortens_7 (by decide) (fun c1 => ?_) (fun c1 => ?_)
  · skip
    refine lv_iconst (v := nI 0) hF.1 hF.2.1 dX1_shortens_14 (by decide) ?_
    exact k15_3 _ _ (by first | (rw [if_pos c1]; done) | (simp only [if_pos c1])) (lv_sub hl [0, 1, 2] rfl)
  · skip
    refine lv_iconst (v := nI 1) hF.1 hF.2.1 dX1_shortens_10 (by decide) ?_
    refine lv_goto (tgt := 15) hF.1 hF.2.1 dX1_shortens_11 (by decide) ?_
    exact k15_3 _ _ (by first | (rw [if_neg c1]; done) | (simp only [if_neg c1])) (lv_sub hl [0, 1, 2] rfl)

def fX1_begin_b64 (i64 : Nat) (S : (Nat → Int32) × (Nat → Int32) × (Nat → Int32)) : (Nat → Int32) × (Nat → Int32) × (Nat → Int32) := (upd S.1 i64 (nI 0), upd S.2.1 i64 (nI 0), upd S.2.2 i64 (nI 0))
def fX1_begin_b23 (i23 : Nat) (S : (Nat → Int32) × (Nat → Int32) × (Nat → Int32) × (Nat → Int32)) : (Nat → Int32) × (Nat → Int32) × (Nat → Int32) × (Nat → Int32) := (upd S.1 i23 (nI 0), upd S.2.1 i23 (nI 0), upd S.2.2.1 i23 (-1), upd S.2.2.2 i23 (-1))
def fX1_begin_b2 (i2 : Nat) (S : (Nat → Int32)) : (Nat → Int32) := upd S i2 (nI 0)
def fX1_begin (a : Nat → Nat → Nat → Int32) (j : Nat) : (Nat → Int32) × (Nat → Int32) × (Nat → Int32) × (Nat → Int32) × (Nat → Int32) × (Nat → Int32) × (Nat → Int32) × (Nat → Int32) × Nat := ((it fX1_begin_b2 27 (a (j + 6) 1)), ((it fX1_begin_b23 3 (a (j + 6) 2, a (j + 6) 3, a (j + 6) 4, a (j + 6) 5)).1), ((it fX1_begin_b23 3 (a (j + 6) 2, a (j + 6) 3, a (j + 6) 4, a (j + 6) 5)).2.1), ((it fX1_begin_b23 3 (a (j + 6) 2, a (j + 6) 3, a (j + 6) 4, a (j + 6) 5)).2.2.1), ((it fX1_begin_b23 3 (a (j + 6) 2, a (j + 6) 3, a (j + 6) 4, a (j + 6) 5)).2.2.2), ((it fX1_begin_b64 2 (a (j + 6) 6, a (j + 6) 7, a (j + 6) 8)).1), ((it fX1_begin_b64 2 (a (j + 6) 6, a (j + 6) 7, a (j + 6) 8)).2.1), ((it fX1_begin_b64 2 (a (j + 6) 6, a (j + 6) 7, a (j + 6) 8)).2.2), 0)
def rmX1_begin : Room := { frames := 1, cells := 0, slots := 0, locals := 24 }
theorem hdX1_begin : yX1_begin.cls = RX1 ∧ yX1_begin.cls ≠ "java/lang/invoke/MethodHandle" ∧ yX1_begin.cls ≠ "java/lang/invoke/VarHandle" ∧ (parseMethodDescriptor yX1_begin.desc).map (fun d => d.parameters.length) = some 0 := by decide +kernel
set_option maxHeartbeats 4000000 in
theorem kX1_begin (l : Launch) (ω : OM) (g : Nat → Nat → Nat) (y : Nat → Nat → Int32) (a z : Nat → Nat → Nat → Int32) (dr : Int64) (pg : Nat → Int32) (t : TW) (j : Nat) (hj : j < 3) : Met l yX1_begin (ws_ yX1_begin cX1_begin 2 none) rmX1_begin (va_Pc [.ref (ω.2.1 (j + 6) 99)] (fun U => xK ω U ∧ xH ω (g, y, a, z, dr, pg, t) U.heap)) (va_Qv (fun (u : XS) => ∃ (o0 : Nat → Int32) (o1 : Nat → Int32) (o2 : Nat → Int32) (o3 : Nat → Int32) (o4 : Nat → Int32) (o5 : Nat → Int32) (o6 : Nat → Int32) (o7 : Nat → Int32) (o8 : Nat), (o0, o1, o2, o3, o4, o5, o6, o7, o8) = (fX1_begin a j) ∧ u = (up2 g (j + 6) 9 o8, y, up2 (up2 (up2 (up2 (up2 (up2 (up2 (up2 a (j + 6) 1 o0) (j + 6) 2 o1) (j + 6) 3 o2) (j + 6) 4 o3) (j + 6) 5 o4) (j + 6) 6 o5) (j + 6) 7 o6) (j + 6) 8 o7, z, dr, pg, t)) (fun u t => xH ω u t.heap) ω.2.2.1) 0 0 ω.2.2.1 := by
  refine g_entWv (C := RX1) rfl (by decide) (Nat.le_of_ble_eq_true rfl) ?_
  intro p e s m args below meth c QQ ls H locs hF hK hH hS hl hret
  have hl : lv_has ls 2 [(0, .ref (ω.2.1 (j + 6) 99))] := hl
  have hn9 : tn t ≤ 9 := hH.2.2.1
  refine lv_iconst (v := nI 0) hF.1 hF.2.1 dX1_begin_0 (by decide) ?_
  refine lv_istore_n (lv' := [(1, .int (nI 0)), (0, .ref (ω.2.1 (j + 6) 99))]) hF.1 hF.2.1 dX1_begin_1 rfl hl (by decide) rfl (fun ls hl => ?_)
  have lp2_2 : ∀ (d2 i2 : Nat) (w2_a_j_6_1 : Nat → Int32) (H : Heap) (locs : List Loc) (ls : Array Slot), i2 + d2 = 27 → w2_a_j_6_1 = it fX1_begin_b2 i2 (a (j + 6) 1) → xH ω (g, y, up2 a (j + 6) 1 w2_a_j_6_1, z, dr, pg, t) H → va_S ω.2.2.1 s.heap H locs → lv_has ls 2 [(1, .int (nI i2)), (0, .ref (ω.2.1 (j + 6) 99))] → W p l e rmX1_begin s m args below meth c H locs 0 0 QQ (F0 m 2 ls []) := by
    intro d2
    induction d2 with
    | zero =>
      intro i2 w2_a_j_6_1 H locs ls hi2 hS2 hH hS hl
      have hj2 : 27 = i2 := by omega
      subst hj2
      have e_w2_a_j_6_1 := hS2
      refine lv_iload_n hF.1 hF.2.1 dX1_begin_2 rfl (lv_at hl 0 rfl) ?_
      refine lv_bipush (v := nI 27) hF.1 hF.2.1 dX1_begin_3 (by decide) ?_
      refine n_ge (tgt := 21) hF.1 hF.2.1 dX1_begin_5 (by decide) (by omega) (by omega) (fun c1 => ?_) (fun c1 => ?_)
      · skip
        refine lv_iconst (v := nI 0) hF.1 hF.2.1 dX1_begin_21 (by decide) ?_
        refine lv_istore_n (lv' := [(1, .int (nI 0)), (0, .ref (ω.2.1 (j + 6) 99))]) hF.1 hF.2.1 dX1_begin_22 rfl hl (by decide) rfl (fun ls hl => ?_)
        have lp23_4 : ∀ (d23 i23 : Nat) (w23_a_j_6_2 : Nat → Int32) (w23_a_j_6_3 : Nat → Int32) (w23_a_j_6_4 : Nat → Int32) (w23_a_j_6_5 : Nat → Int32) (H : Heap) (locs : List Loc) (ls : Array Slot), i23 + d23 = 3 → (w23_a_j_6_2, w23_a_j_6_3, w23_a_j_6_4, w23_a_j_6_5) = it fX1_begin_b23 i23 (a (j + 6) 2, a (j + 6) 3, a (j + 6) 4, a (j + 6) 5) → xH ω (g, y, up2 (up2 (up2 (up2 (up2 a (j + 6) 1 w2_a_j_6_1) (j + 6) 2 w23_a_j_6_2) (j + 6) 3 w23_a_j_6_3) (j + 6) 4 w23_a_j_6_4) (j + 6) 5 w23_a_j_6_5, z, dr, pg, t) H → va_S ω.2.2.1 s.heap H locs → lv_has ls 2 [(1, .int (nI i23)), (0, .ref (ω.2.1 (j + 6) 99))] → W p l e rmX1_begin s m args below meth c H locs 0 0 QQ (F0 m 23 ls []) := by
          intro d23
          induction d23 with
          | zero =>
            intro i23 w23_a_j_6_2 w23_a_j_6_3 w23_a_j_6_4 w23_a_j_6_5 H locs ls hi23 hS23 hH hS hl
            have hj23 : 3 = i23 := by omega
            subst hj23
            have e_w23_a_j_6_2 : w23_a_j_6_2 = (it fX1_begin_b23 3 (a (j + 6) 2, a (j + 6) 3, a (j + 6) 4, a (j + 6) 5)).1 := by rw [← hS23]
            have e_w23_a_j_6_3 : w23_a_j_6_3 = (it fX1_begin_b23 3 (a (j + 6) 2, a (j + 6) 3, a (j + 6) 4, a (j + 6) 5)).2.1 := by rw [← hS23]
            have e_w23_a_j_6_4 : w23_a_j_6_4 = (it fX1_begin_b23 3 (a (j + 6) 2, a (j + 6) 3, a (j + 6) 4, a (j + 6) 5)).2.2.1 := by rw [← hS23]
            have e_w23_a_j_6_5 : w23_a_j_6_5 = (it fX1_begin_b23 3 (a (j + 6) 2, a (j + 6) 3, a (j + 6) 4, a (j + 6) 5)).2.2.2 := by rw [← hS23]
            refine lv_iload_n hF.1 hF.2.1 dX1_begin_23 rfl (lv_at hl 0 rfl) ?_
            refine lv_iconst (v := nI 3) hF.1 hF.2.1 dX1_begin_24 (by decide) ?_
            refine n_ge (tgt := 62) hF.1 hF.2.1 dX1_begin_25 (by decide) (by omega) (by omega) (fun c2 => ?_) (fun c2 => ?_)
            · skip
              refine lv_iconst (v := nI 0) hF.1 hF.2.1 dX1_begin_62 (by decide) ?_
              refine lv_istore_n (lv' := [(1, .int (nI 0)), (0, .ref (ω.2.1 (j + 6) 99))]) hF.1 hF.2.1 dX1_begin_63 rfl hl (by decide) rfl (fun ls hl => ?_)
              have lp64_6 : ∀ (d64 i64 : Nat) (w64_a_j_6_6 : Nat → Int32) (w64_a_j_6_7 : Nat → Int32) (w64_a_j_6_8 : Nat → Int32) (H : Heap) (locs : List Loc) (ls : Array Slot), i64 + d64 = 2 → (w64_a_j_6_6, w64_a_j_6_7, w64_a_j_6_8) = it fX1_begin_b64 i64 (a (j + 6) 6, a (j + 6) 7, a (j + 6) 8) → xH ω (g, y, up2 (up2 (up2 (up2 (up2 (up2 (up2 (up2 a (j + 6) 1 w2_a_j_6_1) (j + 6) 2 w23_a_j_6_2) (j + 6) 3 w23_a_j_6_3) (j + 6) 4 w23_a_j_6_4) (j + 6) 5 w23_a_j_6_5) (j + 6) 6 w64_a_j_6_6) (j + 6) 7 w64_a_j_6_7) (j + 6) 8 w64_a_j_6_8, z, dr, pg, t) H → va_S ω.2.2.1 s.heap H locs → lv_has ls 2 [(1, .int (nI i64)), (0, .ref (ω.2.1 (j + 6) 99))] → W p l e rmX1_begin s m args below meth c H locs 0 0 QQ (F0 m 64 ls []) := by
                intro d64
                induction d64 with
                | zero =>
                  intro i64 w64_a_j_6_6 w64_a_j_6_7 w64_a_j_6_8 H locs ls hi64 hS64 hH hS hl
                  have hj64 : 2 = i64 := by omega
                  subst hj64
                  have e_w64_a_j_6_6 : w64_a_j_6_6 = (it fX1_begin_b64 2 (a (j + 6) 6, a (j + 6) 7, a (j + 6) 8)).1 := by rw [← hS64]
                  have e_w64_a_j_6_7 : w64_a_j_6_7 = (it fX1_begin_b64 2 (a (j + 6) 6, a (j + 6) 7, a (j + 6) 8)).2.1 := by rw [← hS64]
                  have e_w64_a_j_6_8 : w64_a_j_6_8 = (it fX1_begin_b64 2 (a (j + 6) 6, a (j + 6) 7, a (j + 6) 8)).2.2 := by rw [← hS64]
                  refine lv_iload_n hF.1 hF.2.1 dX1_begin_64 rfl (lv_at hl 0 rfl) ?_
                  refine lv_iconst (v := nI 2) hF.1 hF.2.1 dX1_begin_65 (by decide) ?_
                  refine n_ge (tgt := 96) hF.1 hF.2.1 dX1_begin_66 (by decide) (by omega) (by omega) (fun c3 => ?_) (fun c3 => ?_)
                  · skip
                    refine lv_aload_n hF.1 hF.2.1 dX1_begin_96 rfl (lv_at hl 1 rfl) ?_
                    refine lv_iconst (v := nI 0) hF.1 hF.2.1 dX1_begin_97 (by decide) ?_
                    refine xp1_9 (j := j) hj hF hK hH hS q171 dX1_begin_98 (g' := up2 g (j + 6) 9 0) (by simp [up2]) (by intro i q hq; simp only [up2, if_neg hq]) (fun H locs hH hS => ?_)
                    exact hret _ _ _ _ _ dX1_begin_101 ⟨_, _, _, _, _, _, _, _, _, by subst e_w64_a_j_6_8; subst e_w64_a_j_6_7; subst e_w64_a_j_6_6; subst e_w23_a_j_6_5; subst e_w23_a_j_6_4; subst e_w23_a_j_6_3; subst e_w23_a_j_6_2; subst e_w2_a_j_6_1; rfl, rfl⟩ hH hS
                  · exact absurd (by omega) c3
                | succ d64 ih =>
                  intro i64 w64_a_j_6_6 w64_a_j_6_7 w64_a_j_6_8 H locs ls hi64 hS64 hH hS hl
                  refine lv_iload_n hF.1 hF.2.1 dX1_begin_64 rfl (lv_at hl 0 rfl) ?_
                  refine lv_iconst (v := nI 2) hF.1 hF.2.1 dX1_begin_65 (by decide) ?_
                  refine n_ge (tgt := 96) hF.1 hF.2.1 dX1_begin_66 (by decide) (by omega) (by omega) (fun c4 => ?_) (fun c4 => ?_)
                  · exact absurd c4 (by omega)
                  · skip
                    refine lv_aload_n hF.1 hF.2.1 dX1_begin_69 rfl (lv_at hl 1 rfl) ?_
                    refine xg1_6 (j := j) hj hF hK hH q165 dX1_begin_70 ?_
                    refine lv_iload_n hF.1 hF.2.1 dX1_begin_73 rfl (lv_at hl 0 rfl) ?_
                    refine lv_iconst (v := nI 0) hF.1 hF.2.1 dX1_begin_74 (by decide) ?_
                    refine x1_ast (a' := up2 (up2 (up2 (up2 (up2 (up2 (up2 (up2 a (j + 6) 1 w2_a_j_6_1) (j + 6) 2 w23_a_j_6_2) (j + 6) 3 w23_a_j_6_3) (j + 6) 4 w23_a_j_6_4) (j + 6) 5 w23_a_j_6_5) (j + 6) 6 (upd w64_a_j_6_6 i64 (nI 0))) (j + 6) 7 w64_a_j_6_7) (j + 6) 8 w64_a_j_6_8) (j := j) hj hF hK hH hS 6 (n := 2) rfl rfl (by decide) rfl (f := w64_a_j_6_6) (by simp [up2]) (i := i64) (by omega) (by decide) dX1_begin_75 (by simp [up2]) (by intro i q hq; simp only [up2, if_neg hq]) (fun H locs hH hS => ?_)
                    refine lv_aload_n hF.1 hF.2.1 dX1_begin_76 rfl (lv_at hl 1 rfl) ?_
                    refine xg1_7 (j := j) hj hF hK hH q167 dX1_begin_77 ?_
                    refine lv_iload_n hF.1 hF.2.1 dX1_begin_80 rfl (lv_at hl 0 rfl) ?_
                    refine lv_iconst (v := nI 0) hF.1 hF.2.1 dX1_begin_81 (by decide) ?_
                    refine x1_ast (a' := up2 (up2 (up2 (up2 (up2 (up2 (up2 (up2 a (j + 6) 1 w2_a_j_6_1) (j + 6) 2 w23_a_j_6_2) (j + 6) 3 w23_a_j_6_3) (j + 6) 4 w23_a_j_6_4) (j + 6) 5 w23_a_j_6_5) (j + 6) 6 (upd w64_a_j_6_6 i64 (nI 0))) (j + 6) 7 (upd w64_a_j_6_7 i64 (nI 0))) (j + 6) 8 w64_a_j_6_8) (j := j) hj hF hK hH hS 7 (n := 2) rfl rfl (by decide) rfl (f := w64_a_j_6_7) (by simp [up2]) (i := i64) (by omega) (by decide) dX1_begin_82 (by simp [up2]) (by intro i q hq; simp only [up2, if_neg hq]) (fun H locs hH hS => ?_)
                    refine lv_aload_n hF.1 hF.2.1 dX1_begin_83 rfl (lv_at hl 1 rfl) ?_
                    refine xg1_8 (j := j) hj hF hK hH q169 dX1_begin_84 ?_
                    refine lv_iload_n hF.1 hF.2.1 dX1_begin_87 rfl (lv_at hl 0 rfl) ?_
                    refine lv_iconst (v := nI 0) hF.1 hF.2.1 dX1_begin_88 (by decide) ?_
                    refine x1_ast (a' := up2 (up2 (up2 (up2 (up2 (up2 (up2 (up2 a (j + 6) 1 w2_a_j_6_1) (j + 6) 2 w23_a_j_6_2) (j + 6) 3 w23_a_j_6_3) (j + 6) 4 w23_a_j_6_4) (j + 6) 5 w23_a_j_6_5) (j + 6) 6 (upd w64_a_j_6_6 i64 (nI 0))) (j + 6) 7 (upd w64_a_j_6_7 i64 (nI 0))) (j + 6) 8 (upd w64_a_j_6_8 i64 (nI 0))) (j := j) hj hF hK hH hS 8 (n := 2) rfl rfl (by decide) rfl (f := w64_a_j_6_8) (by simp [up2]) (i := i64) (by omega) (by decide) dX1_begin_89 (by simp [up2]) (by intro i q hq; simp only [up2, if_neg hq]) (fun H locs hH hS => ?_)
                    refine n_iinc (lv' := [(1, .int (nI (i64 + 1))), (0, .ref (ω.2.1 (j + 6) 99))]) hF.1 hF.2.1 dX1_begin_90 hl (k := 0) rfl (by decide) rfl (fun ls hl => ?_)
                    refine lv_goto (tgt := 64) hF.1 hF.2.1 dX1_begin_93 (by decide) ?_
                    exact ih (i64 + 1) _ _ _ _ _ _ (by omega) (by rw [it_succ fX1_begin_b64 i64 _, ← hS64]; try rfl) hH hS (lv_sub hl [0, 1] rfl)
              have hH : xH ω (g, y, up2 (up2 (up2 (up2 (up2 (up2 (up2 (up2 a (j + 6) 1 w2_a_j_6_1) (j + 6) 2 w23_a_j_6_2) (j + 6) 3 w23_a_j_6_3) (j + 6) 4 w23_a_j_6_4) (j + 6) 5 w23_a_j_6_5) (j + 6) 6 (a (j + 6) 6)) (j + 6) 7 (a (j + 6) 7)) (j + 6) 8 (a (j + 6) 8), z, dr, pg, t) H := x_ext (fun _ _ => rfl) (fun _ _ => rfl) (by intro o k; by_cases h0 : o = (j + 6) ∧ k = 6; (obtain ⟨rfl, rfl⟩ := h0; simp [up2]); by_cases h1 : o = (j + 6) ∧ k = 7; (obtain ⟨rfl, rfl⟩ := h1; simp [up2]); by_cases h2 : o = (j + 6) ∧ k = 8; (obtain ⟨rfl, rfl⟩ := h2; simp [up2]); simp only [up2, if_neg h0, if_neg h1, if_neg h2]) (fun _ _ => rfl) hH
              exact lp64_6 2 0 _ _ _ _ _ _ (by omega) rfl hH hS (lv_sub hl [0, 1] rfl)
            · exact absurd (by omega) c2
          | succ d23 ih =>
            intro i23 w23_a_j_6_2 w23_a_j_6_3 w23_a_j_6_4 w23_a_j_6_5 H locs ls hi23 hS23 hH hS hl
            refine lv_iload_n hF.1 hF.2.1 dX1_begin_23 rfl (lv_at hl 0 rfl) ?_
            refine lv_iconst (v := nI 3) hF.1 hF.2.1 dX1_begin_24 (by decide) ?_
            refine n_ge (tgt := 62) hF.1 hF.2.1 dX1_begin_25 (by decide) (by omega) (by omega) (fun c5 => ?_) (fun c5 => ?_)
            · exact absurd c5 (by omega)
            · skip
              refine lv_aload_n hF.1 hF.2.1 dX1_begin_28 rfl (lv_at hl 1 rfl) ?_
              refine xg1_2 (j := j) hj hF hK hH q157 dX1_begin_29 ?_
              refine lv_iload_n hF.1 hF.2.1 dX1_begin_32 rfl (lv_at hl 0 rfl) ?_
              refine lv_iconst (v := nI 0) hF.1 hF.2.1 dX1_begin_33 (by decide) ?_
              refine x1_ast (a' := up2 (up2 (up2 (up2 (up2 a (j + 6) 1 w2_a_j_6_1) (j + 6) 2 (upd w23_a_j_6_2 i23 (nI 0))) (j + 6) 3 w23_a_j_6_3) (j + 6) 4 w23_a_j_6_4) (j + 6) 5 w23_a_j_6_5) (j := j) hj hF hK hH hS 2 (n := 3) rfl rfl (by decide) rfl (f := w23_a_j_6_2) (by simp [up2]) (i := i23) (by omega) (by decide) dX1_begin_34 (by simp [up2]) (by intro i q hq; simp only [up2, if_neg hq]) (fun H locs hH hS => ?_)
              refine lv_aload_n hF.1 hF.2.1 dX1_begin_35 rfl (lv_at hl 1 rfl) ?_
              refine xg1_3 (j := j) hj hF hK hH q159 dX1_begin_36 ?_
              refine lv_iload_n hF.1 hF.2.1 dX1_begin_39 rfl (lv_at hl 0 rfl) ?_
              refine lv_iconst (v := nI 0) hF.1 hF.2.1 dX1_begin_40 (by decide) ?_
              refine x1_ast (a' := up2 (up2 (up2 (up2 (up2 a (j + 6) 1 w2_a_j_6_1) (j + 6) 2 (upd w23_a_j_6_2 i23 (nI 0))) (j + 6) 3 (upd w23_a_j_6_3 i23 (nI 0))) (j + 6) 4 w23_a_j_6_4) (j + 6) 5 w23_a_j_6_5) (j := j) hj hF hK hH hS 3 (n := 3) rfl rfl (by decide) rfl (f := w23_a_j_6_3) (by simp [up2]) (i := i23) (by omega) (by decide) dX1_begin_41 (by simp [up2]) (by intro i q hq; simp only [up2, if_neg hq]) (fun H locs hH hS => ?_)
              refine lv_aload_n hF.1 hF.2.1 dX1_begin_42 rfl (lv_at hl 1 rfl) ?_
              refine xg1_4 (j := j) hj hF hK hH q161 dX1_begin_43 ?_
              refine lv_iload_n hF.1 hF.2.1 dX1_begin_46 rfl (lv_at hl 0 rfl) ?_
              refine lv_iconst (v := (-1)) hF.1 hF.2.1 dX1_begin_47 (by decide) ?_
              refine x1_ast (a' := up2 (up2 (up2 (up2 (up2 a (j + 6) 1 w2_a_j_6_1) (j + 6) 2 (upd w23_a_j_6_2 i23 (nI 0))) (j + 6) 3 (upd w23_a_j_6_3 i23 (nI 0))) (j + 6) 4 (upd w23_a_j_6_4 i23 (-1))) (j + 6) 5 w23_a_j_6_5) (j := j) hj hF hK hH hS 4 (n := 3) rfl rfl (by decide) rfl (f := w23_a_j_6_4) (by simp [up2]) (i := i23) (by omega) (by decide) dX1_begin_48 (by simp [up2]) (by intro i q hq; simp only [up2, if_neg hq]) (fun H locs hH hS => ?_)
              refine lv_aload_n hF.1 hF.2.1 dX1_begin_49 rfl (lv_at hl 1 rfl) ?_
              refine xg1_5 (j := j) hj hF hK hH q163 dX1_begin_50 ?_
              refine lv_iload_n hF.1 hF.2.1 dX1_begin_53 rfl (lv_at hl 0 rfl) ?_
              refine lv_iconst (v := (-1)) hF.1 hF.2.1 dX1_begin_54 (by decide) ?_
              refine x1_ast (a' := up2 (up2 (up2 (up2 (up2 a (j + 6) 1 w2_a_j_6_1) (j + 6) 2 (upd w23_a_j_6_2 i23 (nI 0))) (j + 6) 3 (upd w23_a_j_6_3 i23 (nI 0))) (j + 6) 4 (upd w23_a_j_6_4 i23 (-1))) (j + 6) 5 (upd w23_a_j_6_5 i23 (-1))) (j := j) hj hF hK hH hS 5 (n := 3) rfl rfl (by decide) rfl (f := w23_a_j_6_5) (by simp [up2]) (i := i23) (by omega) (by decide) dX1_begin_55 (by simp [up2]) (by intro i q hq; simp only [up2, if_neg hq]) (fun H locs hH hS => ?_)
              refine n_iinc (lv' := [(1, .int (nI (i23 + 1))), (0, .ref (ω.2.1 (j + 6) 99))]) hF.1 hF.2.1 dX1_begin_56 hl (k := 0) rfl (by decide) rfl (fun ls hl => ?_)
              refine lv_goto (tgt := 23) hF.1 hF.2.1 dX1_begin_59 (by decide) ?_
              exact ih (i23 + 1) _ _ _ _ _ _ _ (by omega) (by rw [it_succ fX1_begin_b23 i23 _, ← hS23]; try rfl) hH hS (lv_sub hl [0, 1] rfl)
        have hH : xH ω (g, y, up2 (up2 (up2 (up2 (up2 a (j + 6) 1 w2_a_j_6_1) (j + 6) 2 (a (j + 6) 2)) (j + 6) 3 (a (j + 6) 3)) (j + 6) 4 (a (j + 6) 4)) (j + 6) 5 (a (j + 6) 5), z, dr, pg, t) H := x_ext (fun _ _ => rfl) (fun _ _ => rfl) (by intro o k; by_cases h0 : o = (j + 6) ∧ k = 2; (obtain ⟨rfl, rfl⟩ := h0; simp [up2]); by_cases h1 : o = (j + 6) ∧ k = 3; (obtain ⟨rfl, rfl⟩ := h1; simp [up2]); by_cases h2 : o = (j + 6) ∧ k = 4; (obtain ⟨rfl, rfl⟩ := h2; simp [up2]); by_cases h3 : o = (j + 6) ∧ k = 5; (obtain ⟨rfl, rfl⟩ := h3; simp [up2]); simp only [up2, if_neg h0, if_neg h1, if_neg h2, if_neg h3]) (fun _ _ => rfl) hH
        exact lp23_4 3 0 _ _ _ _ _ _ _ (by omega) rfl hH hS (lv_sub hl [0, 1] rfl)
      · exact absurd (by omega) c1
    | succ d2 ih =>
      intro i2 w2_a_j_6_1 H locs ls hi2 hS2 hH hS hl
      refine lv_iload_n hF.1 hF.2.1 dX1_begin_2 rfl (lv_at hl 0 rfl) ?_
      refine lv_bipush (v := nI 27) hF.1 hF.2.1 dX1_begin_3 (by decide) ?_
      refine n_ge (tgt := 21) hF.1 hF.2.1 dX1_begin_5 (by decide) (by omega) (by omega) (fun c6 => ?_) (fun c6 => ?_)
      · exact absurd c6 (by omega)
      · skip
        refine lv_aload_n hF.1 hF.2.1 dX1_begin_8 rfl (lv_at hl 1 rfl) ?_
        refine xg1_1 (j := j) hj hF hK hH q156 dX1_begin_9 ?_
        refine lv_iload_n hF.1 hF.2.1 dX1_begin_12 rfl (lv_at hl 0 rfl) ?_
        refine lv_iconst (v := nI 0) hF.1 hF.2.1 dX1_begin_13 (by decide) ?_
        refine x1_ast (a' := up2 a (j + 6) 1 (upd w2_a_j_6_1 i2 (nI 0))) (j := j) hj hF hK hH hS 1 (n := 27) rfl rfl (by decide) rfl (f := w2_a_j_6_1) (by simp [up2]) (i := i2) (by omega) (by decide) dX1_begin_14 (by simp [up2]) (by intro i q hq; simp only [up2, if_neg hq]) (fun H locs hH hS => ?_)
        refine n_iinc (lv' := [(1, .int (nI (i2 + 1))), (0, .ref (ω.2.1 (j + 6) 99))]) hF.1 hF.2.1 dX1_begin_15 hl (k := 0) rfl (by decide) rfl (fun ls hl => ?_)
        refine lv_goto (tgt := 2) hF.1 hF.2.1 dX1_begin_18 (by decide) ?_
        exact ih (i2 + 1) _ _ _ _ (by omega) (by rw [it_succ fX1_begin_b2 i2 _, ← hS2]; try rfl) hH hS (lv_sub hl [0, 1] rfl)
  have hH : xH ω (g, y, up2 a (j + 6) 1 (a (j + 6) 1), z, dr, pg, t) H := x_ext (fun _ _ => rfl) (fun _ _ => rfl) (by intro o k; by_cases h0 : o = (j + 6) ∧ k = 1; (obtain ⟨rfl, rfl⟩ := h0; simp [up2]); simp only [up2, if_neg h0]) (fun _ _ => rfl) hH
  exact lp2_2 27 0 _ _ _ _ (by omega) rfl hH hS (lv_sub hl [0, 1] rfl)

def fX1_reach_b17 (t : TW) (set : Int32) (i17 : Nat) (S : Int32) : Int32 := if (if (fX0_isIn set (nI i17)) = 0 then nI 0 else if (fX0_isIn S (nI (ta t i17))) = 0 then if (fX0_isIn S (nI (tb t i17))) = 0 then nI 0 else nI 1 else nI 1) = 0 then S ||| (nI 0) else S ||| (((nI 1) <<< ((nI (ta t i17)) &&& 31)) ||| ((nI 1) <<< ((nI (tb t i17)) &&& 31)))
def fX1_reach_b7 (t : TW) (set : Int32) (i7 : Nat) (S : Int32) : Int32 := (it (fX1_reach_b17 t set) (tn t) S)
def fX1_reach (t : TW) (fr : Int32) (set : Int32) : Int32 := (it (fX1_reach_b7 t set) 8 ((nI 1) <<< (fr &&& 31)))
def rmX1_reach : Room := { frames := 4, cells := 0, slots := 0, locals := 88 }
theorem hdX1_reach : yX1_reach.cls = RX1 ∧ yX1_reach.cls ≠ "java/lang/invoke/MethodHandle" ∧ yX1_reach.cls ≠ "java/lang/invoke/VarHandle" ∧ (parseMethodDescriptor yX1_reach.desc).map (fun d => d.parameters.length) = some 2 := by decide +kernel
set_option maxHeartbeats 4000000 in
theorem kX1_reach (l : Launch) (ω : OM) (g : Nat → Nat → Nat) (y : Nat → Nat → Int32) (a z : Nat → Nat → Nat → Int32) (dr : Int64) (pg : Nat → Int32) (t : TW) (j : Nat) (hj : j < 3) (fr : Int32) (set : Int32) : Met l yX1_reach (ws_ yX1_reach cX1_reach 8 (some .int)) rmX1_reach (va_Pc [.ref (ω.2.1 (j + 6) 99), .int fr, .int set] (fun U => xK ω U ∧ xH ω (g, y, a, z, dr, pg, t) U.heap)) (vp_Si (fun r => r = (fX1_reach t fr set))) 0 0 (fun _ => False) := by
  refine g_entPi (C := RX1) rfl (by decide) (Nat.le_of_ble_eq_true rfl) ?_
  intro p e s m args below meth c QQ ls hF hKH hl hret
  have hl : lv_has ls 8 [(0, .ref (ω.2.1 (j + 6) 99)), (1, .int fr), (2, .int set)] := hl
  obtain ⟨hK, hH⟩ := hKH
  have hn9 : tn t ≤ 9 := hH.2.2.1
  refine lv_iconst (v := nI 1) hF.1 hF.2.1 dX1_reach_0 (by decide) ?_
  refine lv_iload_n hF.1 hF.2.1 dX1_reach_1 rfl (lv_at hl 1 rfl) ?_
  refine lv_ishl hF.1 hF.2.1 dX1_reach_2 ?_
  refine lv_istore_n (lv' := [(3, .int ((nI 1) <<< (fr &&& 31))), (0, .ref (ω.2.1 (j + 6) 99)), (1, .int fr), (2, .int set)]) hF.1 hF.2.1 dX1_reach_3 rfl hl (by decide) rfl (fun ls hl => ?_)
  refine lv_iconst (v := nI 0) hF.1 hF.2.1 dX1_reach_4 (by decide) ?_
  refine lv_istore (lv' := [(4, .int (nI 0)), (3, .int ((nI 1) <<< (fr &&& 31))), (0, .ref (ω.2.1 (j + 6) 99)), (1, .int fr), (2, .int set)]) hF.1 hF.2.1 dX1_reach_5 hl (by decide) rfl (fun ls hl => ?_)
  have lp7_10 : ∀ (d7 i7 : Nat) (x7_3 : Int32) (ls : Array Slot), i7 + d7 = 8 → x7_3 = it (fX1_reach_b7 t set) i7 ((nI 1) <<< (fr &&& 31)) → lv_has ls 8 [(4, .int (nI i7)), (3, .int x7_3), (0, .ref (ω.2.1 (j + 6) 99)), (2, .int set)] → W p l e rmX1_reach s m args below meth c s.heap [] 0 0 QQ (F0 m 7 ls []) := by
    intro d7
    induction d7 with
    | zero =>
      intro i7 x7_3 ls hi7 hS7 hl
      have hj7 : 8 = i7 := by omega
      subst hj7
      have e_x7_3 := hS7
      refine lv_iload hF.1 hF.2.1 dX1_reach_7 (lv_at hl 0 rfl) ?_
      refine lv_bipush (v := nI 8) hF.1 hF.2.1 dX1_reach_9 (by decide) ?_
      refine n_ge (tgt := 128) hF.1 hF.2.1 dX1_reach_11 (by decide) (by omega) (by omega) (fun c1 => ?_) (fun c1 => ?_)
      · skip
        refine lv_iload_n hF.1 hF.2.1 dX1_reach_128 rfl (lv_at hl 1 rfl) ?_
        exact hret _ _ _ dX1_reach_129 (by subst e_x7_3; rfl)
      · exact absurd (by omega) c1
    | succ d7 ih =>
      intro i7 x7_3 ls hi7 hS7 hl
      refine lv_iload hF.1 hF.2.1 dX1_reach_7 (lv_at hl 0 rfl) ?_
      refine lv_bipush (v := nI 8) hF.1 hF.2.1 dX1_reach_9 (by decide) ?_
      refine n_ge (tgt := 128) hF.1 hF.2.1 dX1_reach_11 (by decide) (by omega) (by omega) (fun c2 => ?_) (fun c2 => ?_)
      · exact absurd c2 (by omega)
      · skip
        refine lv_iconst (v := nI 0) hF.1 hF.2.1 dX1_reach_14 (by decide) ?_
        refine lv_istore (lv' := [(5, .int (nI 0)), (4, .int (nI i7)), (3, .int x7_3), (0, .ref (ω.2.1 (j + 6) 99)), (2, .int set)]) hF.1 hF.2.1 dX1_reach_15 hl (by decide) rfl (fun ls hl => ?_)
        have lp17_12 : ∀ (d17 i17 : Nat) (x17_3 : Int32) (ls : Array Slot), i17 + d17 = tn t → x17_3 = it (fX1_reach_b17 t set) i17 x7_3 → lv_has ls 8 [(5, .int (nI i17)), (4, .int (nI i7)), (3, .int x17_3), (0, .ref (ω.2.1 (j + 6) 99)), (2, .int set)] → W p l e rmX1_reach s m args below meth c s.heap [] 0 0 QQ (F0 m 17 ls []) := by
          intro d17
          induction d17 with
          | zero =>
            intro i17 x17_3 ls hi17 hS17 hl
            have hj17 : tn t = i17 := by omega
            subst hj17
            have e_x17_3 := hS17
            refine lv_iload hF.1 hF.2.1 dX1_reach_17 (lv_at hl 0 rfl) ?_
            refine lv_aload_n hF.1 hF.2.1 dX1_reach_19 rfl (lv_at hl 3 rfl) ?_
            refine xg1_15 (j := j) hj hF hK hH q182 dX1_reach_20 ?_
            refine xgN_q217 hF hK hH dX1_reach_23 ?_
            refine g_vPi (As := []) (rest := [.int (nI (tn t))]) hF (kJ2_size l ω g y a z dr pg t) (lw_V q622 q554 q555 q95 q556) 0 hdJ2_size rfl rfl ⟨Nat.le_of_ble_eq_true rfl, Nat.le_of_ble_eq_true rfl⟩ (x_preVL hK hH) rfl hl.1 rfl (Nat.le_of_ble_eq_true rfl) dX1_reach_26 ⟨Nat.zero_le _, Nat.zero_le _⟩ (fun r3 e_r3 => ?_)
            subst e_r3
            refine n_top (y := nI (tn t)) rfl ?_
            refine n_ge (tgt := 122) hF.1 hF.2.1 dX1_reach_29 (by decide) (by omega) (by omega) (fun c4 => ?_) (fun c4 => ?_)
            · skip
              refine n_iinc (lv' := [(4, .int (nI (i7 + 1))), (5, .int (nI (tn t))), (3, .int x17_3), (0, .ref (ω.2.1 (j + 6) 99)), (2, .int set)]) hF.1 hF.2.1 dX1_reach_122 hl (k := 1) rfl (by decide) rfl (fun ls hl => ?_)
              refine lv_goto (tgt := 7) hF.1 hF.2.1 dX1_reach_125 (by decide) ?_
              exact ih (i7 + 1) _ _ (by omega) (by subst e_x17_3; rw [it_succ (fX1_reach_b7 t set) i7 _, ← hS7]; try rfl) (lv_sub hl [0, 2, 3, 4] rfl)
            · exact absurd (by omega) c4
          | succ d17 ih =>
            intro i17 x17_3 ls hi17 hS17 hl
            refine lv_iload hF.1 hF.2.1 dX1_reach_17 (lv_at hl 0 rfl) ?_
            refine lv_aload_n hF.1 hF.2.1 dX1_reach_19 rfl (lv_at hl 3 rfl) ?_
            refine xg1_15 (j := j) hj hF hK hH q182 dX1_reach_20 ?_
            refine xgN_q217 hF hK hH dX1_reach_23 ?_
            refine g_vPi (As := []) (rest := [.int (nI i17)]) hF (kJ2_size l ω g y a z dr pg t) (lw_V q622 q554 q555 q95 q556) 0 hdJ2_size rfl rfl ⟨Nat.le_of_ble_eq_true rfl, Nat.le_of_ble_eq_true rfl⟩ (x_preVL hK hH) rfl hl.1 rfl (Nat.le_of_ble_eq_true rfl) dX1_reach_26 ⟨Nat.zero_le _, Nat.zero_le _⟩ (fun r5 e_r5 => ?_)
            subst e_r5
            refine n_top (y := nI (tn t)) rfl ?_
            refine n_ge (tgt := 122) hF.1 hF.2.1 dX1_reach_29 (by decide) (by omega) (by omega) (fun c6 => ?_) (fun c6 => ?_)
            · exact absurd c6 (by omega)
            · skip
              refine lv_aload_n hF.1 hF.2.1 dX1_reach_32 rfl (lv_at hl 3 rfl) ?_
              refine xg1_15 (j := j) hj hF hK hH q182 dX1_reach_33 ?_
              refine xgN_q217 hF hK hH dX1_reach_36 ?_
              refine lv_iload hF.1 hF.2.1 dX1_reach_39 (lv_at hl 0 rfl) ?_
              refine g_vPr (As := [.int (nI i17)]) (rest := []) hF (kJ2_get l ω g y a z dr pg t i17 (by omega)) (lw_V q623 q571 q572 q95 q573) 1 hdJ2_get rfl rfl ⟨Nat.le_of_ble_eq_true rfl, Nat.le_of_ble_eq_true rfl⟩ (x_preVL hK hH) rfl hl.1 rfl (Nat.le_of_ble_eq_true rfl) dX1_reach_41 ⟨Nat.zero_le _, Nat.zero_le _⟩ ?_
              refine x_cast hF hK hH (i := i17) (by omega) q624 dX1_reach_44 ?_
              refine lv_astore (lv' := [(6, .ref (tsa t i17)), (5, .int (nI i17)), (4, .int (nI i7)), (3, .int x17_3), (0, .ref (ω.2.1 (j + 6) 99)), (2, .int set)]) hF.1 hF.2.1 dX1_reach_47 hl (by decide) rfl (fun ls hl => ?_)
              refine lv_iload_n hF.1 hF.2.1 dX1_reach_49 rfl (lv_at hl 5 rfl) ?_
              refine lv_iload hF.1 hF.2.1 dX1_reach_50 (lv_at hl 1 rfl) ?_
              refine g_sNPi (As := [.int set, .int (nI i17)]) (rest := []) hF (kX0_isIn l set (nI i17)) (lw_meth q627) (xn_q625 hK.2) q92 q626 2 hdX0_isIn.2 rfl rfl ⟨Nat.le_of_ble_eq_true rfl, Nat.le_of_ble_eq_true rfl⟩ g_pre0 rfl hl.1 rfl (Nat.le_of_ble_eq_true rfl) dX1_reach_52 ⟨Nat.zero_le _, Nat.zero_le _⟩ (fun r7 e_r7 => ?_)
              have k87_14 : ∀ (v13 : Int32) (ls : Array Slot), v13 = (if r7 = 0 then nI 0 else if (fX0_isIn x17_3 (nI (ta t i17))) = 0 then if (fX0_isIn x17_3 (nI (tb t i17))) = 0 then nI 0 else nI 1 else nI 1) → lv_has ls 8 [(6, .ref (tsa t i17)), (5, .int (nI i17)), (4, .int (nI i7)), (3, .int x17_3), (0, .ref (ω.2.1 (j + 6) 99)), (2, .int set)] → W p l e rmX1_reach s m args below meth c s.heap [] 0 0 QQ (F0 m 87 ls [.int v13]) := by
                intro v13 ls e_v13 hl
                refine lv_istore (lv' := [(7, .int v13), (6, .ref (tsa t i17)), (5, .int (nI i17)), (4, .int (nI i7)), (3, .int x17_3), (0, .ref (ω.2.1 (j + 6) 99)), (2, .int set)]) hF.1 hF.2.1 dX1_reach_87 hl (by decide) rfl (fun ls hl => ?_)
                refine lv_iload_n hF.1 hF.2.1 dX1_reach_89 rfl (lv_at hl 4 rfl) ?_
                refine lv_iload hF.1 hF.2.1 dX1_reach_90 (lv_at hl 0 rfl) ?_
                refine lv_if_eq (tgt := 113) hF.1 hF.2.1 dX1_reach_92 (by decide) (fun c15 => ?_) (fun c15 => ?_)
                · skip
                  refine lv_iconst (v := nI 0) hF.1 hF.2.1 dX1_reach_113 (by decide) ?_
                  refine lv_ior hF.1 hF.2.1 dX1_reach_114 ?_
                  refine lv_istore_n (lv' := [(3, .int (x17_3 ||| (nI 0))), (7, .int v13), (6, .ref (tsa t i17)), (5, .int (nI i17)), (4, .int (nI i7)), (0, .ref (ω.2.1 (j + 6) 99)), (2, .int set)]) hF.1 hF.2.1 dX1_reach_115 rfl hl (by decide) rfl (fun ls hl => ?_)
                  refine n_iinc (lv' := [(5, .int (nI (i17 + 1))), (3, .int (x17_3 ||| (nI 0))), (7, .int v13), (6, .ref (tsa t i17)), (4, .int (nI i7)), (0, .ref (ω.2.1 (j + 6) 99)), (2, .int set)]) hF.1 hF.2.1 dX1_reach_116 hl (k := 3) rfl (by decide) rfl (fun ls hl => ?_)
                  refine lv_goto (tgt := 17) hF.1 hF.2.1 dX1_reach_119 (by decide) ?_
                  exact ih (i17 + 1) _ _ (by omega) (by subst e_v13; subst e_r7; rw [it_succ (fX1_reach_b17 t set) i17 _, ← hS17]; unfold fX1_reach_b17; first | (rw [if_pos c15]; done) | (simp only [if_pos c15])) (lv_sub hl [0, 4, 1, 5, 6] rfl)
                · skip
                  refine lv_iconst (v := nI 1) hF.1 hF.2.1 dX1_reach_95 (by decide) ?_
                  refine lv_aload hF.1 hF.2.1 dX1_reach_96 (lv_at hl 1 rfl) ?_
                  refine xs_g0 hF hK hH (i := i17) (by omega) q442 dX1_reach_98 ?_
                  have hst98 := hH.2.2.2.2 i17 (by first | exact hsn | (show _ < tn t; omega))
                  change tk t i17 < 5 ∧ ta t i17 < 8 ∧ tb t i17 < 8 ∧ ¬ ta t i17 = tb t i17 ∧ 1 ≤ tl t i17 ∧ tl t i17 ≤ 9 at hst98
                  refine lv_ishl hF.1 hF.2.1 dX1_reach_101 ?_
                  refine lv_iconst (v := nI 1) hF.1 hF.2.1 dX1_reach_102 (by decide) ?_
                  refine lv_aload hF.1 hF.2.1 dX1_reach_103 (lv_at hl 1 rfl) ?_
                  refine xs_g1 hF hK hH (i := i17) (by omega) q446 dX1_reach_105 ?_
                  have hst105 := hH.2.2.2.2 i17 (by first | exact hsn | (show _ < tn t; omega))
                  change tk t i17 < 5 ∧ ta t i17 < 8 ∧ tb t i17 < 8 ∧ ¬ ta t i17 = tb t i17 ∧ 1 ≤ tl t i17 ∧ tl t i17 ≤ 9 at hst105
                  refine lv_ishl hF.1 hF.2.1 dX1_reach_108 ?_
                  refine lv_ior hF.1 hF.2.1 dX1_reach_109 ?_
                  refine lv_goto (tgt := 114) hF.1 hF.2.1 dX1_reach_110 (by decide) ?_
                  refine lv_ior hF.1 hF.2.1 dX1_reach_114 ?_
                  refine lv_istore_n (lv' := [(3, .int (x17_3 ||| (((nI 1) <<< ((nI (ta t i17)) &&& 31)) ||| ((nI 1) <<< ((nI (tb t i17)) &&& 31))))), (7, .int v13), (6, .ref (tsa t i17)), (5, .int (nI i17)), (4, .int (nI i7)), (0, .ref (ω.2.1 (j + 6) 99)), (2, .int set)]) hF.1 hF.2.1 dX1_reach_115 rfl hl (by decide) rfl (fun ls hl => ?_)
                  refine n_iinc (lv' := [(5, .int (nI (i17 + 1))), (3, .int (x17_3 ||| (((nI 1) <<< ((nI (ta t i17)) &&& 31)) ||| ((nI 1) <<< ((nI (tb t i17)) &&& 31))))), (7, .int v13), (6, .ref (tsa t i17)), (4, .int (nI i7)), (0, .ref (ω.2.1 (j + 6) 99)), (2, .int set)]) hF.1 hF.2.1 dX1_reach_116 hl (k := 3) rfl (by decide) rfl (fun ls hl => ?_)
                  refine lv_goto (tgt := 17) hF.1 hF.2.1 dX1_reach_119 (by decide) ?_
                  exact ih (i17 + 1) _ _ (by omega) (by subst e_v13; subst e_r7; rw [it_succ (fX1_reach_b17 t set) i17 _, ← hS17]; unfold fX1_reach_b17; first | (rw [if_neg c15]; done) | (simp only [if_neg c15])) (lv_sub hl [0, 4, 1, 5, 6] rfl)
              refine lv_if_eq (tgt := 86) hF.1 hF.2.1 dX1_reach_55 (by decide) (fun c8 => ?_) (fun c8 => ?_)
              · skip
                refine lv_iconst (v := nI 0) hF.1 hF.2.1 dX1_reach_86 (by decide) ?_
                exact k87_14 _ _ (by first | (rw [if_pos c8]; done) | (simp only [if_pos c8])) (lv_sub hl [0, 1, 2, 3, 4, 5] rfl)
              · skip
                refine lv_iload_n hF.1 hF.2.1 dX1_reach_58 rfl (lv_at hl 3 rfl) ?_
                refine lv_aload hF.1 hF.2.1 dX1_reach_59 (lv_at hl 0 rfl) ?_
                refine xs_g0 hF hK hH (i := i17) (by omega) q442 dX1_reach_61 ?_
                have hst61 := hH.2.2.2.2 i17 (by first | exact hsn | (show _ < tn t; omega))
                change tk t i17 < 5 ∧ ta t i17 < 8 ∧ tb t i17 < 8 ∧ ¬ ta t i17 = tb t i17 ∧ 1 ≤ tl t i17 ∧ tl t i17 ≤ 9 at hst61
                refine g_sNPi (As := [.int x17_3, .int (nI (ta t i17))]) (rest := []) hF (kX0_isIn l x17_3 (nI (ta t i17))) (lw_meth q627) (xn_q625 hK.2) q92 q626 2 hdX0_isIn.2 rfl rfl ⟨Nat.le_of_ble_eq_true rfl, Nat.le_of_ble_eq_true rfl⟩ g_pre0 rfl hl.1 rfl (Nat.le_of_ble_eq_true rfl) dX1_reach_64 ⟨Nat.zero_le _, Nat.zero_le _⟩ (fun r9 e_r9 => ?_)
                refine lv_if_ne (tgt := 82) hF.1 hF.2.1 dX1_reach_67 (by decide) (fun c10 => ?_) (fun c10 => ?_)
                · skip
                  refine lv_iconst (v := nI 1) hF.1 hF.2.1 dX1_reach_82 (by decide) ?_
                  refine lv_goto (tgt := 87) hF.1 hF.2.1 dX1_reach_83 (by decide) ?_
                  exact k87_14 _ _ (by subst e_r9; first | (rw [if_neg c8, if_neg c10]; done) | (simp only [if_neg c8, if_neg c10])) (lv_sub hl [0, 1, 2, 3, 4, 5] rfl)
                · skip
                  refine lv_iload_n hF.1 hF.2.1 dX1_reach_70 rfl (lv_at hl 3 rfl) ?_
                  refine lv_aload hF.1 hF.2.1 dX1_reach_71 (lv_at hl 0 rfl) ?_
                  refine xs_g1 hF hK hH (i := i17) (by omega) q446 dX1_reach_73 ?_
                  have hst73 := hH.2.2.2.2 i17 (by first | exact hsn | (show _ < tn t; omega))
                  change tk t i17 < 5 ∧ ta t i17 < 8 ∧ tb t i17 < 8 ∧ ¬ ta t i17 = tb t i17 ∧ 1 ≤ tl t i17 ∧ tl t i17 ≤ 9 at hst73
                  refine g_sNPi (As := [.int x17_3, .int (nI (tb t i17))]) (rest := []) hF (kX0_isIn l x17_3 (nI (tb t i17))) (lw_meth q627) (xn_q625 hK.2) q92 q626 2 hdX0_isIn.2 rfl rfl ⟨Nat.le_of_ble_eq_true rfl, Nat.le_of_ble_eq_true rfl⟩ g_pre0 rfl hl.1 rfl (Nat.le_of_ble_eq_true rfl) dX1_reach_76 ⟨Nat.zero_le _, Nat.zero_le _⟩ (fun r11 e_r11 => ?_)
                  refine lv_if_eq (tgt := 86) hF.1 hF.2.1 dX1_reach_79 (by decide) (fun c12 => ?_) (fun c12 => ?_)
                  · skip
                    refine lv_iconst (v := nI 0) hF.1 hF.2.1 dX1_reach_86 (by decide) ?_
                    exact k87_14 _ _ (by subst e_r11; subst e_r9; first | (rw [if_neg c8, if_pos c10, if_pos c12]; done) | (simp only [if_neg c8, if_pos c10, if_pos c12])) (lv_sub hl [0, 1, 2, 3, 4, 5] rfl)
                  · skip
                    refine lv_iconst (v := nI 1) hF.1 hF.2.1 dX1_reach_82 (by decide) ?_
                    refine lv_goto (tgt := 87) hF.1 hF.2.1 dX1_reach_83 (by decide) ?_
                    exact k87_14 _ _ (by subst e_r11; subst e_r9; first | (rw [if_neg c8, if_pos c10, if_neg c12]; done) | (simp only [if_neg c8, if_pos c10, if_neg c12])) (lv_sub hl [0, 1, 2, 3, 4, 5] rfl)
        exact lp17_12 (tn t) 0 _ _ (by omega) rfl (lv_sub hl [0, 1, 2, 3, 4] rfl)
  exact lp7_10 8 0 _ _ (by omega) rfl (lv_sub hl [0, 1, 2, 4] rfl)

def fX1_take_b2 (z : Nat → Nat → Nat → Int32) (j : Nat) (pn : Nat) (i2 : Nat) (S : (Nat → Int32)) : (Nat → Int32) := upd S ((9 * pn) + (toN (z (j + 6) 11 i2))) ((S ((9 * pn) + (toN (z (j + 6) 11 i2)))) + (nI 1))
def fX1_take (y : Nat → Nat → Int32) (a : Nat → Nat → Nat → Int32) (z : Nat → Nat → Nat → Int32) (j : Nat) (pn : Nat) : (Nat → Int32) := (it (fX1_take_b2 z j pn) (toN (y (j + 6) 12)) (a (j + 6) 1))
def rmX1_take : Room := { frames := 1, cells := 0, slots := 0, locals := 24 }
theorem hdX1_take : yX1_take.cls = RX1 ∧ yX1_take.cls ≠ "java/lang/invoke/MethodHandle" ∧ yX1_take.cls ≠ "java/lang/invoke/VarHandle" ∧ (parseMethodDescriptor yX1_take.desc).map (fun d => d.parameters.length) = some 1 := by decide +kernel
set_option maxHeartbeats 4000000 in
theorem kX1_take (l : Launch) (ω : OM) (g : Nat → Nat → Nat) (y : Nat → Nat → Int32) (a z : Nat → Nat → Nat → Int32) (dr : Int64) (pg : Nat → Int32) (t : TW) (j : Nat) (hj : j < 3) (pn : Nat) (hp3 : pn < 3) (hrm : ∃ m, m < 9 ∧ y (j + 6) 12 = nI m) (hrow : ∀ k, k < toN (y (j + 6) 12) → ∃ q, q < 9 ∧ z (j + 6) 11 k = nI q) : Met l yX1_take (ws_ yX1_take cX1_take 3 none) rmX1_take (va_Pc [.ref (ω.2.1 (j + 6) 99), .int (nI pn)] (fun U => xK ω U ∧ xH ω (g, y, a, z, dr, pg, t) U.heap)) (va_Qv (fun (u : XS) => ∃ (o0 : Nat → Int32), o0 = (fX1_take y a z j pn) ∧ u = (g, y, up2 a (j + 6) 1 o0, z, dr, pg, t)) (fun u t => xH ω u t.heap) ω.2.2.1) 0 0 ω.2.2.1 := by
  refine g_entWv (C := RX1) rfl (by decide) (Nat.le_of_ble_eq_true rfl) ?_
  intro p e s m args below meth c QQ ls H locs hF hK hH hS hl hret
  have hl : lv_has ls 3 [(0, .ref (ω.2.1 (j + 6) 99)), (1, .int (nI pn))] := hl
  have hn9 : tn t ≤ 9 := hH.2.2.1
  refine lv_iconst (v := nI 0) hF.1 hF.2.1 dX1_take_0 (by decide) ?_
  refine lv_istore_n (lv' := [(2, .int (nI 0)), (0, .ref (ω.2.1 (j + 6) 99)), (1, .int (nI pn))]) hF.1 hF.2.1 dX1_take_1 rfl hl (by decide) rfl (fun ls hl => ?_)
  have lp2_14 : ∀ (d2 i2 : Nat) (w2_a_j_6_1 : Nat → Int32) (H : Heap) (locs : List Loc) (ls : Array Slot), i2 + d2 = toN (y (j + 6) 12) → w2_a_j_6_1 = it (fX1_take_b2 z j pn) i2 (a (j + 6) 1) → xH ω (g, y, up2 a (j + 6) 1 w2_a_j_6_1, z, dr, pg, t) H → va_S ω.2.2.1 s.heap H locs → lv_has ls 3 [(2, .int (nI i2)), (0, .ref (ω.2.1 (j + 6) 99)), (1, .int (nI pn))] → W p l e rmX1_take s m args below meth c H locs 0 0 QQ (F0 m 2 ls []) := by
    intro d2
    induction d2 with
    | zero =>
      intro i2 w2_a_j_6_1 H locs ls hi2 hS2 hH hS hl
      have hj2 : toN (y (j + 6) 12) = i2 := by omega
      subst hj2
      have e_w2_a_j_6_1 := hS2
      refine lv_iload_n hF.1 hF.2.1 dX1_take_2 rfl (lv_at hl 0 rfl) ?_
      refine lv_aload_n hF.1 hF.2.1 dX1_take_3 rfl (lv_at hl 1 rfl) ?_
      refine xg1_12 (j := j) hj hF hK hH q176 dX1_take_4 (v := y (j + 6) 12) rfl ?_
      obtain ⟨b1e, b1l⟩ := g_lift (r := y (j + 6) 12) (n := 9) (hrm) (by omega)
      refine n_top b1e ?_
      refine n_ge (tgt := 36) hF.1 hF.2.1 dX1_take_7 (by decide) (by omega) (by omega) (fun c2 => ?_) (fun c2 => ?_)
      · skip
        exact hret _ _ _ _ _ dX1_take_36 ⟨_, by subst e_w2_a_j_6_1; rfl, rfl⟩ hH hS
      · exact absurd (by omega) c2
    | succ d2 ih =>
      intro i2 w2_a_j_6_1 H locs ls hi2 hS2 hH hS hl
      refine lv_iload_n hF.1 hF.2.1 dX1_take_2 rfl (lv_at hl 0 rfl) ?_
      refine lv_aload_n hF.1 hF.2.1 dX1_take_3 rfl (lv_at hl 1 rfl) ?_
      refine xg1_12 (j := j) hj hF hK hH q176 dX1_take_4 (v := y (j + 6) 12) rfl ?_
      obtain ⟨b3e, b3l⟩ := g_lift (r := y (j + 6) 12) (n := 9) (hrm) (by omega)
      refine n_top b3e ?_
      refine n_ge (tgt := 36) hF.1 hF.2.1 dX1_take_7 (by decide) (by omega) (by omega) (fun c4 => ?_) (fun c4 => ?_)
      · exact absurd c4 (by omega)
      · skip
        refine lv_aload_n hF.1 hF.2.1 dX1_take_10 rfl (lv_at hl 1 rfl) ?_
        refine xg1_1 (j := j) hj hF hK hH q156 dX1_take_11 ?_
        refine lv_bipush (v := nI 9) hF.1 hF.2.1 dX1_take_14 (by decide) ?_
        refine lv_iload_n hF.1 hF.2.1 dX1_take_16 rfl (lv_at hl 2 rfl) ?_
        refine n_imul hF.1 hF.2.1 dX1_take_17 ?_
        refine lv_aload_n hF.1 hF.2.1 dX1_take_18 rfl (lv_at hl 1 rfl) ?_
        refine xg1_11 (j := j) hj hF hK hH q174 dX1_take_19 ?_
        refine lv_iload_n hF.1 hF.2.1 dX1_take_22 rfl (lv_at hl 0 rfl) ?_
        refine x1_zld (j := j) hj hF hK hH 11 (n := 8) rfl rfl (by decide) rfl (f := z (j + 6) 11) rfl (i := i2) (by omega) (by decide) dX1_take_23 ?_
        obtain ⟨b5e, b5l⟩ := g_lift (r := z (j + 6) 11 i2) (n := 9) (hrow _ (by omega)) (by omega)
        refine n_top b5e ?_
        refine n_iadd hF.1 hF.2.1 dX1_take_24 ?_
        refine lv_dup2_11 hF.1 hF.2.1 dX1_take_25 rfl rfl ?_
        refine x1_ald (j := j) hj hF hK hH 1 (n := 27) rfl rfl (by decide) rfl (f := w2_a_j_6_1) (by simp [up2]) (i := (9 * pn) + (toN (z (j + 6) 11 i2))) (by omega) (by decide) dX1_take_26 ?_
        refine lv_iconst (v := nI 1) hF.1 hF.2.1 dX1_take_27 (by decide) ?_
        refine lv_iadd hF.1 hF.2.1 dX1_take_28 ?_
        refine x1_ast (a' := up2 a (j + 6) 1 (upd w2_a_j_6_1 ((9 * pn) + (toN (z (j + 6) 11 i2))) ((w2_a_j_6_1 ((9 * pn) + (toN (z (j + 6) 11 i2)))) + (nI 1)))) (j := j) hj hF hK hH hS 1 (n := 27) rfl rfl (by decide) rfl (f := w2_a_j_6_1) (by simp [up2]) (i := (9 * pn) + (toN (z (j + 6) 11 i2))) (by omega) (by decide) dX1_take_29 (by simp [up2]) (by intro i q hq; simp only [up2, if_neg hq]) (fun H locs hH hS => ?_)
        refine n_iinc (lv' := [(2, .int (nI (i2 + 1))), (0, .ref (ω.2.1 (j + 6) 99)), (1, .int (nI pn))]) hF.1 hF.2.1 dX1_take_30 hl (k := 0) rfl (by decide) rfl (fun ls hl => ?_)
        refine lv_goto (tgt := 2) hF.1 hF.2.1 dX1_take_33 (by decide) ?_
        exact ih (i2 + 1) _ _ _ _ (by omega) (by rw [it_succ (fX1_take_b2 z j pn) i2 _, ← hS2]; try rfl) hH hS (lv_sub hl [0, 1, 2] rfl)
  have hH : xH ω (g, y, up2 a (j + 6) 1 (a (j + 6) 1), z, dr, pg, t) H := x_ext (fun _ _ => rfl) (fun _ _ => rfl) (by intro o k; by_cases h0 : o = (j + 6) ∧ k = 1; (obtain ⟨rfl, rfl⟩ := h0; simp [up2]); simp only [up2, if_neg h0]) (fun _ _ => rfl) hH
  exact lp2_14 (toN (y (j + 6) 12)) 0 _ _ _ _ (by omega) rfl hH hS (lv_sub hl [0, 1, 2] rfl)

