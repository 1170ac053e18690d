/-! CLASS: what is told and set -/
set_option maxRecDepth 100000
def fX0_letter (g : Nat → Nat → Nat) (pg : Nat → Int32) (code : Int32) : Int32 × Nat × (Nat → Int32) := if (fX0_in code (nI 1) (nI 126)) = 0 then ((-102), g 0 7, pg) else if (g 0 7) = 50 then ((-104), g 0 7, pg) else (nI ((g 0 7) + 1), (g 0 7) + 1, upd pg (g 0 7) (vp_nar .byte code.toInt8.toInt32))
def rmX0_letter : Room := { frames := 2, cells := 0, slots := 0, locals := 46 }
theorem hdX0_letter : yX0_letter.cls = RX0 ∧ yX0_letter.cls ≠ "java/lang/invoke/MethodHandle" ∧ yX0_letter.cls ≠ "java/lang/invoke/VarHandle" ∧ (parseMethodDescriptor yX0_letter.desc).map (fun d => d.parameters.length) = some 1 := by decide +kernel
set_option maxHeartbeats 4000000 in
theorem kX0_letter (l : Launch) (ω : OM) (g : Nat → Nat → Nat) (y : Nat → Nat → Int32) (a z : Nat → Nat → Nat → Int32) (dr : Int64) (pg : Nat → Int32) (t : TW) (code : Int32) (hp : g 0 7 ≤ 50) : Met l yX0_letter (ws_ yX0_letter cX0_letter 2 (some .int)) rmX0_letter (va_Pc [.ref (ω.2.1 0 99), .int code] (fun U => xK ω U ∧ xH ω (g, y, a, z, dr, pg, t) U.heap)) (va_Qi (fun (r : Int32) (u : XS) => ∃ (o0 : Nat) (o1 : Nat → Int32), (r, o0, o1) = (fX0_letter g pg code) ∧ u = (up2 g 0 7 o0, y, a, z, dr, o1, t)) (fun u t => xH ω u t.heap) ω.2.2.1) 0 0 ω.2.2.1 := by
  refine g_entWi (C := RX0) rfl (by decide) (Nat.le_of_ble_eq_true rfl) ?_
  intro p e s m args below meth c QQ ls H locs hF hK hH hS hl hret
  have hl : lv_has ls 2 [(0, .ref (ω.2.1 0 99)), (1, .int code)] := hl
  have hn9 : tn t ≤ 9 := hH.2.2.1
  refine lv_iload_n hF.1 hF.2.1 dX0_letter_0 rfl (lv_at hl 1 rfl) ?_
  refine lv_iconst (v := nI 1) hF.1 hF.2.1 dX0_letter_1 (by decide) ?_
  refine lv_bipush (v := nI 126) hF.1 hF.2.1 dX0_letter_2 (by decide) ?_
  refine g_sPi (As := [.int code, .int (nI 1), .int (nI 126)]) (rest := []) hF (kX0_in l code (nI 1) (nI 126)) (lw_S q301 q302 q92 q303) 3 hdX0_in.2 rfl rfl ⟨Nat.le_of_ble_eq_true rfl, Nat.le_of_ble_eq_true rfl⟩ g_pre0 rfl hl.1 rfl (Nat.le_of_ble_eq_true rfl) dX0_letter_4 ⟨Nat.zero_le _, Nat.zero_le _⟩ (fun r1 e_r1 => ?_)
  refine lv_if_ne (tgt := 13) hF.1 hF.2.1 dX0_letter_7 (by decide) (fun c2 => ?_) (fun c2 => ?_)
  · skip
    refine lv_aload_n hF.1 hF.2.1 dX0_letter_13 rfl (lv_at hl 0 rfl) ?_
    refine xg0_7 hF hK hH q227 dX0_letter_14 (v := g 0 7) rfl ?_
    refine lv_bipush (v := nI 50) hF.1 hF.2.1 dX0_letter_17 (by decide) ?_
    refine n_ne (tgt := 25) hF.1 hF.2.1 dX0_letter_19 (by decide) (by omega) (by omega) (fun c3 => ?_) (fun c3 => ?_)
    · skip
      refine lv_aload_n hF.1 hF.2.1 dX0_letter_25 rfl (lv_at hl 0 rfl) ?_
      refine xg0_6 hF hK hH q225 dX0_letter_26 ?_
      refine lv_aload_n hF.1 hF.2.1 dX0_letter_29 rfl (lv_at hl 0 rfl) ?_
      refine xg0_7 hF hK hH q227 dX0_letter_30 (v := g 0 7) rfl ?_
      refine lv_iload_n hF.1 hF.2.1 dX0_letter_33 rfl (lv_at hl 1 rfl) ?_
      refine lv_i2b (v := code.toInt8.toInt32) hF.1 hF.2.1 dX0_letter_34 rfl ?_
      refine x_bst hF hK hH hS (i := g 0 7) (by omega) dX0_letter_35 rfl (fun H locs hH hS => ?_)
      refine lv_aload_n hF.1 hF.2.1 dX0_letter_36 rfl (lv_at hl 0 rfl) ?_
      refine lv_dup hF.1 hF.2.1 dX0_letter_37 rfl ?_
      refine xg0_7 hF hK hH q227 dX0_letter_38 (v := g 0 7) rfl ?_
      refine lv_iconst (v := nI 1) hF.1 hF.2.1 dX0_letter_41 (by decide) ?_
      refine n_iadd hF.1 hF.2.1 dX0_letter_42 ?_
      refine xp0_7 hF hK hH hS q227 dX0_letter_43 (g' := up2 g 0 7 ((g 0 7) + 1)) (by simp [up2]) (by intro i q hq; simp only [up2, if_neg hq]) (fun H locs hH hS => ?_)
      refine lv_aload_n hF.1 hF.2.1 dX0_letter_46 rfl (lv_at hl 0 rfl) ?_
      refine xg0_7 hF hK hH q227 dX0_letter_47 (v := (g 0 7) + 1) (by simp [up2]) ?_
      exact hret _ _ _ _ _ _ dX0_letter_50 ⟨_, _, by subst e_r1; unfold fX0_letter; first | (rw [if_neg c2, if_neg c3]; done) | (simp only [if_neg c2, if_neg c3]), rfl⟩ hH hS
    · skip
      refine lv_bipush (v := (-104)) hF.1 hF.2.1 dX0_letter_22 (by decide) ?_
      have hH : xH ω (up2 g 0 7 (g 0 7), y, a, z, dr, pg, t) H := x_ext (by intro o k; by_cases h0 : o = 0 ∧ k = 7; (obtain ⟨rfl, rfl⟩ := h0; simp [up2]); simp only [up2, if_neg h0]) (fun _ _ => rfl) (fun _ _ => rfl) (fun _ _ => rfl) hH
      exact hret _ _ _ _ _ _ dX0_letter_24 ⟨_, _, by subst e_r1; unfold fX0_letter; first | (rw [if_neg c2, if_pos c3]; done) | (simp only [if_neg c2, if_pos c3]), rfl⟩ hH hS
  · skip
    refine lv_bipush (v := (-102)) hF.1 hF.2.1 dX0_letter_10 (by decide) ?_
    have hH : xH ω (up2 g 0 7 (g 0 7), y, a, z, dr, pg, t) H := x_ext (by intro o k; by_cases h0 : o = 0 ∧ k = 7; (obtain ⟨rfl, rfl⟩ := h0; simp [up2]); simp only [up2, if_neg h0]) (fun _ _ => rfl) (fun _ _ => rfl) (fun _ _ => rfl) hH
    exact hret _ _ _ _ _ _ dX0_letter_12 ⟨_, _, by subst e_r1; unfold fX0_letter; first | (rw [if_pos c2]; done) | (simp only [if_pos c2]), rfl⟩ hH hS

def fX0_blank (g : Nat → Nat → Nat) : Int32 × Nat := (nI (g 0 7), 0)
def rmX0_blank : Room := { frames := 1, cells := 0, slots := 0, locals := 24 }
theorem hdX0_blank : yX0_blank.cls = RX0 ∧ yX0_blank.cls ≠ "java/lang/invoke/MethodHandle" ∧ yX0_blank.cls ≠ "java/lang/invoke/VarHandle" ∧ (parseMethodDescriptor yX0_blank.desc).map (fun d => d.parameters.length) = some 0 := by decide +kernel
set_option maxHeartbeats 4000000 in
theorem kX0_blank (l : Launch) (ω : OM) (g : Nat → Nat → Nat) (y : Nat → Nat → Int32) (a z : Nat → Nat → Nat → Int32) (dr : Int64) (pg : Nat → Int32) (t : TW) : Met l yX0_blank (ws_ yX0_blank cX0_blank 2 (some .int)) rmX0_blank (va_Pc [.ref (ω.2.1 0 99)] (fun U => xK ω U ∧ xH ω (g, y, a, z, dr, pg, t) U.heap)) (va_Qi (fun (r : Int32) (u : XS) => ∃ (o0 : Nat), (r, o0) = (fX0_blank g) ∧ u = (up2 g 0 7 o0, y, a, z, dr, pg, t)) (fun u t => xH ω u t.heap) ω.2.2.1) 0 0 ω.2.2.1 := by
  refine g_entWi (C := RX0) rfl (by decide) (Nat.le_of_ble_eq_true rfl) ?_
  intro p e s m args below meth c QQ ls H locs hF hK hH hS hl hret
  have hl : lv_has ls 2 [(0, .ref (ω.2.1 0 99))] := hl
  have hn9 : tn t ≤ 9 := hH.2.2.1
  refine lv_aload_n hF.1 hF.2.1 dX0_blank_0 rfl (lv_at hl 0 rfl) ?_
  refine xg0_7 hF hK hH q227 dX0_blank_1 (v := g 0 7) rfl ?_
  refine lv_istore_n (lv' := [(1, .int (nI (g 0 7))), (0, .ref (ω.2.1 0 99))]) hF.1 hF.2.1 dX0_blank_4 rfl hl (by decide) rfl (fun ls hl => ?_)
  refine lv_aload_n hF.1 hF.2.1 dX0_blank_5 rfl (lv_at hl 1 rfl) ?_
  refine lv_iconst (v := nI 0) hF.1 hF.2.1 dX0_blank_6 (by decide) ?_
  refine xp0_7 hF hK hH hS q227 dX0_blank_7 (g' := up2 g 0 7 0) (by simp [up2]) (by intro i q hq; simp only [up2, if_neg hq]) (fun H locs hH hS => ?_)
  refine lv_iload_n hF.1 hF.2.1 dX0_blank_10 rfl (lv_at hl 0 rfl) ?_
  exact hret _ _ _ _ _ _ dX0_blank_11 ⟨_, by rfl, rfl⟩ hH hS

def fX0_knownBy_b4 (a : Nat → Nat → Nat → Int32) (sn : Int32) (i4 : Nat) (S : Int32) : Int32 := if (fX0_isIn (a (0 + 6) 7 i4) sn) = 0 then S ||| (nI 0) else S ||| ((nI 1) <<< ((nI i4) &&& 31))
def fX0_knownBy (a : Nat → Nat → Nat → Int32) (sn : Int32) : Int32 := (it (fX0_knownBy_b4 a sn) 2 (nI 0))
def rmX0_knownBy : Room := { frames := 2, cells := 0, slots := 0, locals := 45 }
theorem hdX0_knownBy : yX0_knownBy.cls = RX0 ∧ yX0_knownBy.cls ≠ "java/lang/invoke/MethodHandle" ∧ yX0_knownBy.cls ≠ "java/lang/invoke/VarHandle" ∧ (parseMethodDescriptor yX0_knownBy.desc).map (fun d => d.parameters.length) = some 1 := by decide +kernel
set_option maxHeartbeats 4000000 in
theorem kX0_knownBy (l : Launch) (ω : OM) (g : Nat → Nat → Nat) (y : Nat → Nat → Int32) (a z : Nat → Nat → Nat → Int32) (dr : Int64) (pg : Nat → Int32) (t : TW) (sn : Int32) : Met l yX0_knownBy (ws_ yX0_knownBy cX0_knownBy 4 (some .int)) rmX0_knownBy (va_Pc [.ref (ω.2.1 0 99), .int sn] (fun U => xK ω U ∧ xH ω (g, y, a, z, dr, pg, t) U.heap)) (vp_Si (fun r => r = (fX0_knownBy a sn))) 0 0 (fun _ => False) := by
  refine g_entPi (C := RX0) rfl (by decide) (Nat.le_of_ble_eq_true rfl) ?_
  intro p e s m args below meth c QQ ls hF hKH hl hret
  have hl : lv_has ls 4 [(0, .ref (ω.2.1 0 99)), (1, .int sn)] := hl
  obtain ⟨hK, hH⟩ := hKH
  have hn9 : tn t ≤ 9 := hH.2.2.1
  refine lv_iconst (v := nI 0) hF.1 hF.2.1 dX0_knownBy_0 (by decide) ?_
  refine lv_istore_n (lv' := [(2, .int (nI 0)), (0, .ref (ω.2.1 0 99)), (1, .int sn)]) hF.1 hF.2.1 dX0_knownBy_1 rfl hl (by decide) rfl (fun ls hl => ?_)
  refine lv_iconst (v := nI 0) hF.1 hF.2.1 dX0_knownBy_2 (by decide) ?_
  refine lv_istore_n (lv' := [(3, .int (nI 0)), (2, .int (nI 0)), (0, .ref (ω.2.1 0 99)), (1, .int sn)]) hF.1 hF.2.1 dX0_knownBy_3 rfl hl (by decide) rfl (fun ls hl => ?_)
  have lp4_51 : ∀ (d4 i4 : Nat) (x4_2 : Int32) (ls : Array Slot), i4 + d4 = 2 → x4_2 = it (fX0_knownBy_b4 a sn) i4 (nI 0) → lv_has ls 4 [(3, .int (nI i4)), (2, .int x4_2), (0, .ref (ω.2.1 0 99)), (1, .int sn)] → W p l e rmX0_knownBy s m args below meth c s.heap [] 0 0 QQ (F0 m 4 ls []) := by
    intro d4
    induction d4 with
    | zero =>
      intro i4 x4_2 ls hi4 hS4 hl
      have hj4 : 2 = i4 := by omega
      subst hj4
      have e_x4_2 := hS4
      refine lv_iload_n hF.1 hF.2.1 dX0_knownBy_4 rfl (lv_at hl 0 rfl) ?_
      refine lv_iconst (v := nI 2) hF.1 hF.2.1 dX0_knownBy_5 (by decide) ?_
      refine n_ge (tgt := 41) hF.1 hF.2.1 dX0_knownBy_6 (by decide) (by omega) (by omega) (fun c1 => ?_) (fun c1 => ?_)
      · skip
        refine lv_iload_n hF.1 hF.2.1 dX0_knownBy_41 rfl (lv_at hl 1 rfl) ?_
        exact hret _ _ _ dX0_knownBy_42 (by subst e_x4_2; rfl)
      · exact absurd (by omega) c1
    | succ d4 ih =>
      intro i4 x4_2 ls hi4 hS4 hl
      refine lv_iload_n hF.1 hF.2.1 dX0_knownBy_4 rfl (lv_at hl 0 rfl) ?_
      refine lv_iconst (v := nI 2) hF.1 hF.2.1 dX0_knownBy_5 (by decide) ?_
      refine n_ge (tgt := 41) hF.1 hF.2.1 dX0_knownBy_6 (by decide) (by omega) (by omega) (fun c2 => ?_) (fun c2 => ?_)
      · exact absurd c2 (by omega)
      · skip
        refine lv_iload_n hF.1 hF.2.1 dX0_knownBy_9 rfl (lv_at hl 1 rfl) ?_
        refine lv_aload_n hF.1 hF.2.1 dX0_knownBy_10 rfl (lv_at hl 2 rfl) ?_
        refine xg0_3 hF hK hH q221 dX0_knownBy_11 ?_
        refine xgN_q168 (j := 0) (by decide) hF hK hH dX0_knownBy_14 ?_
        refine lv_iload_n hF.1 hF.2.1 dX0_knownBy_17 rfl (lv_at hl 0 rfl) ?_
        refine x1_ald (j := 0) (by decide) hF hK hH 7 (n := 2) rfl rfl (by decide) rfl (f := a (0 + 6) 7) rfl (i := i4) (by omega) (by decide) dX0_knownBy_18 ?_
        refine lv_iload_n hF.1 hF.2.1 dX0_knownBy_19 rfl (lv_at hl 3 rfl) ?_
        refine g_sPi (As := [.int (a (0 + 6) 7 i4), .int sn]) (rest := [.int x4_2]) hF (kX0_isIn l (a (0 + 6) 7 i4) sn) (lw_S q718 q626 q92 q627) 2 hdX0_isIn.2 rfl rfl ⟨Nat.le_of_ble_eq_true rfl, Nat.le_of_ble_eq_true rfl⟩ g_pre0 rfl hl.1 rfl (Nat.le_of_ble_eq_true rfl) dX0_knownBy_20 ⟨Nat.zero_le _, Nat.zero_le _⟩ (fun r3 e_r3 => ?_)
        refine lv_if_eq (tgt := 32) hF.1 hF.2.1 dX0_knownBy_23 (by decide) (fun c4 => ?_) (fun c4 => ?_)
        · skip
          refine lv_iconst (v := nI 0) hF.1 hF.2.1 dX0_knownBy_32 (by decide) ?_
          refine lv_ior hF.1 hF.2.1 dX0_knownBy_33 ?_
          refine lv_istore_n (lv' := [(2, .int (x4_2 ||| (nI 0))), (3, .int (nI i4)), (0, .ref (ω.2.1 0 99)), (1, .int sn)]) hF.1 hF.2.1 dX0_knownBy_34 rfl hl (by decide) rfl (fun ls hl => ?_)
          refine n_iinc (lv' := [(3, .int (nI (i4 + 1))), (2, .int (x4_2 ||| (nI 0))), (0, .ref (ω.2.1 0 99)), (1, .int sn)]) hF.1 hF.2.1 dX0_knownBy_35 hl (k := 1) rfl (by decide) rfl (fun ls hl => ?_)
          refine lv_goto (tgt := 4) hF.1 hF.2.1 dX0_knownBy_38 (by decide) ?_
          exact ih (i4 + 1) _ _ (by omega) (by subst e_r3; rw [it_succ (fX0_knownBy_b4 a sn) i4 _, ← hS4]; unfold fX0_knownBy_b4; first | (rw [if_pos c4]; done) | (simp only [if_pos c4])) (lv_sub hl [0, 1, 2, 3] rfl)
        · skip
          refine lv_iconst (v := nI 1) hF.1 hF.2.1 dX0_knownBy_26 (by decide) ?_
          refine lv_iload_n hF.1 hF.2.1 dX0_knownBy_27 rfl (lv_at hl 0 rfl) ?_
          refine lv_ishl hF.1 hF.2.1 dX0_knownBy_28 ?_
          refine lv_goto (tgt := 33) hF.1 hF.2.1 dX0_knownBy_29 (by decide) ?_
          refine lv_ior hF.1 hF.2.1 dX0_knownBy_33 ?_
          refine lv_istore_n (lv' := [(2, .int (x4_2 ||| ((nI 1) <<< ((nI i4) &&& 31)))), (3, .int (nI i4)), (0, .ref (ω.2.1 0 99)), (1, .int sn)]) hF.1 hF.2.1 dX0_knownBy_34 rfl hl (by decide) rfl (fun ls hl => ?_)
          refine n_iinc (lv' := [(3, .int (nI (i4 + 1))), (2, .int (x4_2 ||| ((nI 1) <<< ((nI i4) &&& 31)))), (0, .ref (ω.2.1 0 99)), (1, .int sn)]) hF.1 hF.2.1 dX0_knownBy_35 hl (k := 1) rfl (by decide) rfl (fun ls hl => ?_)
          refine lv_goto (tgt := 4) hF.1 hF.2.1 dX0_knownBy_38 (by decide) ?_
          exact ih (i4 + 1) _ _ (by omega) (by subst e_r3; rw [it_succ (fX0_knownBy_b4 a sn) i4 _, ← hS4]; unfold fX0_knownBy_b4; first | (rw [if_neg c4]; done) | (simp only [if_neg c4])) (lv_sub hl [0, 1, 2, 3] rfl)
  exact lp4_51 2 0 _ _ (by omega) rfl (lv_sub hl [0, 1, 2, 3] rfl)

def fX0_streetTold (a : Nat → Nat → Nat → Int32) (t : TW) (sn : Nat) (wh : Int32) : Int32 := if wh = nI 0 then nI (tk t sn) else if wh = nI 1 then nI (ta t sn) else if wh = nI 2 then nI (tb t sn) else if wh = nI 3 then nI (tl t sn) else (fX0_knownBy a (nI sn))
def rmX0_streetTold : Room := { frames := 4, cells := 0, slots := 0, locals := 88 }
theorem hdX0_streetTold : yX0_streetTold.cls = RX0 ∧ yX0_streetTold.cls ≠ "java/lang/invoke/MethodHandle" ∧ yX0_streetTold.cls ≠ "java/lang/invoke/VarHandle" ∧ (parseMethodDescriptor yX0_streetTold.desc).map (fun d => d.parameters.length) = some 2 := by decide +kernel
set_option maxHeartbeats 4000000 in
theorem kX0_streetTold (l : Launch) (ω : OM) (g : Nat → Nat → Nat) (y : Nat → Nat → Int32) (a z : Nat → Nat → Nat → Int32) (dr : Int64) (pg : Nat → Int32) (t : TW) (sn : Nat) (wh : Int32) (hsn : sn < tn t) : Met l yX0_streetTold (ws_ yX0_streetTold cX0_streetTold 3 (some .int)) rmX0_streetTold (va_Pc [.ref (ω.2.1 0 99), .int (nI sn), .int wh] (fun U => xK ω U ∧ xH ω (g, y, a, z, dr, pg, t) U.heap)) (vp_Si (fun r => r = (fX0_streetTold a t sn wh))) 0 0 (fun _ => False) := by
  refine g_entPi (C := RX0) rfl (by decide) (Nat.le_of_ble_eq_true rfl) ?_
  intro p e s m args below meth c QQ ls hF hKH hl hret
  have hl : lv_has ls 3 [(0, .ref (ω.2.1 0 99)), (1, .int (nI sn)), (2, .int wh)] := hl
  obtain ⟨hK, hH⟩ := hKH
  have hn9 : tn t ≤ 9 := hH.2.2.1
  refine lv_iload_n hF.1 hF.2.1 dX0_streetTold_0 rfl (lv_at hl 2 rfl) ?_
  by_cases c2 : wh = nI 0
  · skip
    refine n_top (y := nI 0) c2 ?_
    refine lv_tableIn (off := 31) (tgt := 32) hF.1 hF.2.1 dX0_streetTold_1 (by decide) (by decide) (by decide) (by decide) ?_
    refine lv_aload_n hF.1 hF.2.1 dX0_streetTold_32 rfl (lv_at hl 0 rfl) ?_
    refine xg0_0 hF hK hH q218 dX0_streetTold_33 ?_
    refine lv_iload_n hF.1 hF.2.1 dX0_streetTold_36 rfl (lv_at hl 1 rfl) ?_
    refine g_vPr (As := [.int (nI sn)]) (rest := []) hF (kJ2_get l ω g y a z dr pg t sn (by omega)) (lw_V q570 q571 q572 q95 q573) 1 hdJ2_get rfl rfl ⟨Nat.le_of_ble_eq_true rfl, Nat.le_of_ble_eq_true rfl⟩ (x_preVL hK hH) rfl hl.1 rfl (Nat.le_of_ble_eq_true rfl) dX0_streetTold_37 ⟨Nat.zero_le _, Nat.zero_le _⟩ ?_
    refine x_cast hF hK hH (i := sn) (by omega) q488 dX0_streetTold_40 ?_
    refine x_vkind (rest := []) hF hK hH sn (by omega)  q697 ⟨Nat.le_of_ble_eq_true rfl, Nat.le_of_ble_eq_true rfl⟩ hl.1 rfl (Nat.le_of_ble_eq_true rfl) dX0_streetTold_43 ⟨Nat.zero_le _, Nat.zero_le _⟩ ?_
    exact hret _ _ _ dX0_streetTold_46 (by unfold fX0_streetTold; first | (rw [if_pos c2]; done) | (simp only [if_pos c2]))
  by_cases c3 : wh = nI 1
  · skip
    refine n_top (y := nI 1) c3 ?_
    refine lv_tableIn (off := 46) (tgt := 47) hF.1 hF.2.1 dX0_streetTold_1 (by decide) (by decide) (by decide) (by decide) ?_
    refine lv_aload_n hF.1 hF.2.1 dX0_streetTold_47 rfl (lv_at hl 0 rfl) ?_
    refine xg0_0 hF hK hH q218 dX0_streetTold_48 ?_
    refine lv_iload_n hF.1 hF.2.1 dX0_streetTold_51 rfl (lv_at hl 1 rfl) ?_
    refine g_vPr (As := [.int (nI sn)]) (rest := []) hF (kJ2_get l ω g y a z dr pg t sn (by omega)) (lw_V q570 q571 q572 q95 q573) 1 hdJ2_get rfl rfl ⟨Nat.le_of_ble_eq_true rfl, Nat.le_of_ble_eq_true rfl⟩ (x_preVL hK hH) rfl hl.1 rfl (Nat.le_of_ble_eq_true rfl) dX0_streetTold_52 ⟨Nat.zero_le _, Nat.zero_le _⟩ ?_
    refine x_cast hF hK hH (i := sn) (by omega) q488 dX0_streetTold_55 ?_
    refine xs_g0 hF hK hH (i := sn) (by omega) q443 dX0_streetTold_58 ?_
    have hst58 := hH.2.2.2.2 sn (by first | exact hsn | (show _ < tn t; omega))
    change tk t sn < 5 ∧ ta t sn < 8 ∧ tb t sn < 8 ∧ ¬ ta t sn = tb t sn ∧ 1 ≤ tl t sn ∧ tl t sn ≤ 9 at hst58
    exact hret _ _ _ dX0_streetTold_61 (by unfold fX0_streetTold; first | (rw [if_neg c2, if_pos c3]; done) | (simp only [if_neg c2, if_pos c3]))
  by_cases c4 : wh = nI 2
  · skip
    refine n_top (y := nI 2) c4 ?_
    refine lv_tableIn (off := 61) (tgt := 62) hF.1 hF.2.1 dX0_streetTold_1 (by decide) (by decide) (by decide) (by decide) ?_
    refine lv_aload_n hF.1 hF.2.1 dX0_streetTold_62 rfl (lv_at hl 0 rfl) ?_
    refine xg0_0 hF hK hH q218 dX0_streetTold_63 ?_
    refine lv_iload_n hF.1 hF.2.1 dX0_streetTold_66 rfl (lv_at hl 1 rfl) ?_
    refine g_vPr (As := [.int (nI sn)]) (rest := []) hF (kJ2_get l ω g y a z dr pg t sn (by omega)) (lw_V q570 q571 q572 q95 q573) 1 hdJ2_get rfl rfl ⟨Nat.le_of_ble_eq_true rfl, Nat.le_of_ble_eq_true rfl⟩ (x_preVL hK hH) rfl hl.1 rfl (Nat.le_of_ble_eq_true rfl) dX0_streetTold_67 ⟨Nat.zero_le _, Nat.zero_le _⟩ ?_
    refine x_cast hF hK hH (i := sn) (by omega) q488 dX0_streetTold_70 ?_
    refine xs_g1 hF hK hH (i := sn) (by omega) q447 dX0_streetTold_73 ?_
    have hst73 := hH.2.2.2.2 sn (by first | exact hsn | (show _ < tn t; omega))
    change tk t sn < 5 ∧ ta t sn < 8 ∧ tb t sn < 8 ∧ ¬ ta t sn = tb t sn ∧ 1 ≤ tl t sn ∧ tl t sn ≤ 9 at hst73
    exact hret _ _ _ dX0_streetTold_76 (by unfold fX0_streetTold; first | (rw [if_neg c2, if_neg c3, if_pos c4]; done) | (simp only [if_neg c2, if_neg c3, if_pos c4]))
  by_cases c5 : wh = nI 3
  · skip
    refine n_top (y := nI 3) c5 ?_
    refine lv_tableIn (off := 76) (tgt := 77) hF.1 hF.2.1 dX0_streetTold_1 (by decide) (by decide) (by decide) (by decide) ?_
    refine lv_aload_n hF.1 hF.2.1 dX0_streetTold_77 rfl (lv_at hl 0 rfl) ?_
    refine xg0_0 hF hK hH q218 dX0_streetTold_78 ?_
    refine lv_iload_n hF.1 hF.2.1 dX0_streetTold_81 rfl (lv_at hl 1 rfl) ?_
    refine g_vPr (As := [.int (nI sn)]) (rest := []) hF (kJ2_get l ω g y a z dr pg t sn (by omega)) (lw_V q570 q571 q572 q95 q573) 1 hdJ2_get rfl rfl ⟨Nat.le_of_ble_eq_true rfl, Nat.le_of_ble_eq_true rfl⟩ (x_preVL hK hH) rfl hl.1 rfl (Nat.le_of_ble_eq_true rfl) dX0_streetTold_82 ⟨Nat.zero_le _, Nat.zero_le _⟩ ?_
    refine x_cast hF hK hH (i := sn) (by omega) q488 dX0_streetTold_85 ?_
    refine xs_g2 hF hK hH (i := sn) (by omega) q450 dX0_streetTold_88 ?_
    have hst88 := hH.2.2.2.2 sn (by first | exact hsn | (show _ < tn t; omega))
    change tk t sn < 5 ∧ ta t sn < 8 ∧ tb t sn < 8 ∧ ¬ ta t sn = tb t sn ∧ 1 ≤ tl t sn ∧ tl t sn ≤ 9 at hst88
    exact hret _ _ _ dX0_streetTold_91 (by unfold fX0_streetTold; first | (rw [if_neg c2, if_neg c3, if_neg c4, if_pos c5]; done) | (simp only [if_neg c2, if_neg c3, if_neg c4, if_pos c5]))
  have kd1 : W p l e rmX0_streetTold s m args below meth c s.heap [] 0 0 QQ (F0 m 92 ls []) := by
    skip
    refine lv_aload_n hF.1 hF.2.1 dX0_streetTold_92 rfl (lv_at hl 0 rfl) ?_
    refine lv_iload_n hF.1 hF.2.1 dX0_streetTold_93 rfl (lv_at hl 1 rfl) ?_
    refine g_vPi (As := [.int (nI sn)]) (rest := []) hF (kX0_knownBy l ω g y a z dr pg t (nI sn)) (lw_V q714 q716 qs20 q92 q717) 1 hdX0_knownBy rfl rfl ⟨Nat.le_of_ble_eq_true rfl, Nat.le_of_ble_eq_true rfl⟩ (x_preV0 hK hH) rfl hl.1 rfl (Nat.le_of_ble_eq_true rfl) dX0_streetTold_94 ⟨Nat.zero_le _, Nat.zero_le _⟩ (fun r6 e_r6 => ?_)
    exact hret _ _ _ dX0_streetTold_97 (by subst e_r6; unfold fX0_streetTold; first | (rw [if_neg c2, if_neg c3, if_neg c4, if_neg c5]; done) | (simp only [if_neg c2, if_neg c3, if_neg c4, if_neg c5]))
  by_cases hlo : wh.toInt < 0
  · exact lv_tableOut (tgt := 92) hF.1 hF.2.1 dX0_streetTold_1 (Or.inl hlo) (by decide) kd1
  by_cases hhi : 3 < wh.toInt
  · exact lv_tableOut (tgt := 92) hF.1 hF.2.1 dX0_streetTold_1 (Or.inr hhi) (by decide) kd1
  by_cases hv0 : wh.toInt = 0
  · exact absurd (Int32.toInt_inj.mp (hv0.trans (by decide)) : wh = nI 0) c2
  by_cases hv1 : wh.toInt = 1
  · exact absurd (Int32.toInt_inj.mp (hv1.trans (by decide)) : wh = nI 1) c3
  by_cases hv2 : wh.toInt = 2
  · exact absurd (Int32.toInt_inj.mp (hv2.trans (by decide)) : wh = nI 2) c4
  by_cases hv3 : wh.toInt = 3
  · exact absurd (Int32.toInt_inj.mp (hv3.trans (by decide)) : wh = nI 3) c5
  exfalso
  omega

def fX0_street (a : Nat → Nat → Nat → Int32) (t : TW) (sn : Int32) (wh : Int32) : Int32 := if (fX0_isStreet t sn) = 0 then (-101) else if (fX0_in wh (nI 0) (nI 4)) = 0 then (-102) else (fX0_streetTold a t (toN sn) wh)
def rmX0_street : Room := { frames := 5, cells := 0, slots := 0, locals := 110 }
theorem hdX0_street : yX0_street.cls = RX0 ∧ yX0_street.cls ≠ "java/lang/invoke/MethodHandle" ∧ yX0_street.cls ≠ "java/lang/invoke/VarHandle" ∧ (parseMethodDescriptor yX0_street.desc).map (fun d => d.parameters.length) = some 2 := by decide +kernel
set_option maxHeartbeats 4000000 in
theorem kX0_street (l : Launch) (ω : OM) (g : Nat → Nat → Nat) (y : Nat → Nat → Int32) (a z : Nat → Nat → Nat → Int32) (dr : Int64) (pg : Nat → Int32) (t : TW) (sn : Int32) (wh : Int32) : Met l yX0_street (ws_ yX0_street cX0_street 3 (some .int)) rmX0_street (va_Pc [.ref (ω.2.1 0 99), .int sn, .int wh] (fun U => xK ω U ∧ xH ω (g, y, a, z, dr, pg, t) U.heap)) (vp_Si (fun r => r = (fX0_street a t sn wh))) 0 0 (fun _ => False) := by
  refine g_entPi (C := RX0) rfl (by decide) (Nat.le_of_ble_eq_true rfl) ?_
  intro p e s m args below meth c QQ ls hF hKH hl hret
  have hl : lv_has ls 3 [(0, .ref (ω.2.1 0 99)), (1, .int sn), (2, .int wh)] := hl
  obtain ⟨hK, hH⟩ := hKH
  have hn9 : tn t ≤ 9 := hH.2.2.1
  refine lv_aload_n hF.1 hF.2.1 dX0_street_0 rfl (lv_at hl 0 rfl) ?_
  refine lv_iload_n hF.1 hF.2.1 dX0_street_1 rfl (lv_at hl 1 rfl) ?_
  refine g_vPi (As := [.int sn]) (rest := []) hF (kX0_isStreet l ω g y a z dr pg t sn) (lw_V q689 q691 qs18 q92 q692) 1 hdX0_isStreet rfl rfl ⟨Nat.le_of_ble_eq_true rfl, Nat.le_of_ble_eq_true rfl⟩ (x_preV0 hK hH) rfl hl.1 rfl (Nat.le_of_ble_eq_true rfl) dX0_street_2 ⟨Nat.zero_le _, Nat.zero_le _⟩ (fun r1 e_r1 => ?_)
  refine lv_if_ne (tgt := 13) hF.1 hF.2.1 dX0_street_5 (by decide) (fun c2 => ?_) (fun c2 => ?_)
  · skip
    refine lv_iload_n hF.1 hF.2.1 dX0_street_13 rfl (lv_at hl 2 rfl) ?_
    refine lv_iconst (v := nI 0) hF.1 hF.2.1 dX0_street_14 (by decide) ?_
    refine lv_iconst (v := nI 4) hF.1 hF.2.1 dX0_street_15 (by decide) ?_
    refine g_sPi (As := [.int wh, .int (nI 0), .int (nI 4)]) (rest := []) hF (kX0_in l wh (nI 0) (nI 4)) (lw_S q301 q302 q92 q303) 3 hdX0_in.2 rfl rfl ⟨Nat.le_of_ble_eq_true rfl, Nat.le_of_ble_eq_true rfl⟩ g_pre0 rfl hl.1 rfl (Nat.le_of_ble_eq_true rfl) dX0_street_16 ⟨Nat.zero_le _, Nat.zero_le _⟩ (fun r3 e_r3 => ?_)
    refine lv_if_eq (tgt := 31) hF.1 hF.2.1 dX0_street_19 (by decide) (fun c4 => ?_) (fun c4 => ?_)
    · skip
      refine lv_bipush (v := (-102)) hF.1 hF.2.1 dX0_street_31 (by decide) ?_
      exact hret _ _ _ dX0_street_33 (by subst e_r3; subst e_r1; unfold fX0_street; first | (rw [if_neg c2, if_pos c4]; done) | (simp only [if_neg c2, if_pos c4]))
    · skip
      obtain ⟨b5e, b5l⟩ := g_lift (r := sn) (n := tn t) (xStreet_lift hn9 (by rw [← e_r1]; exact c2)) (by omega)
      refine lv_aload_n hF.1 hF.2.1 dX0_street_22 rfl (lv_at hl 0 rfl) ?_
      refine lv_iload_n hF.1 hF.2.1 dX0_street_23 rfl (lv_at hl 1 rfl) ?_
      refine n_top b5e ?_
      refine lv_iload_n hF.1 hF.2.1 dX0_street_24 rfl (lv_at hl 2 rfl) ?_
      refine g_vPi (As := [.int (nI (toN sn)), .int wh]) (rest := []) hF (kX0_streetTold l ω g y a z dr pg t (toN sn) wh (by omega)) (lw_V q693 q695 qs19 q92 q696) 2 hdX0_streetTold rfl rfl ⟨Nat.le_of_ble_eq_true rfl, Nat.le_of_ble_eq_true rfl⟩ (x_preV0 hK hH) rfl hl.1 rfl (Nat.le_of_ble_eq_true rfl) dX0_street_25 ⟨Nat.zero_le _, Nat.zero_le _⟩ (fun r6 e_r6 => ?_)
      refine lv_goto (tgt := 33) hF.1 hF.2.1 dX0_street_28 (by decide) ?_
      exact hret _ _ _ dX0_street_33 (by subst e_r6; subst e_r3; subst e_r1; unfold fX0_street; first | (rw [if_neg c2, if_neg c4]; done) | (simp only [if_neg c2, if_neg c4]))
  · skip
    refine lv_bipush (v := (-101)) hF.1 hF.2.1 dX0_street_8 (by decide) ?_
    refine lv_goto (tgt := 33) hF.1 hF.2.1 dX0_street_10 (by decide) ?_
    exact hret _ _ _ dX0_street_33 (by subst e_r1; unfold fX0_street; first | (rw [if_pos c2]; done) | (simp only [if_pos c2]))

def fX0_as (t : TW) (sn : Int32) (kd : Int32) : Int32 := if (fX0_isStreet t sn) = 0 then (-101) else if (fX0_in kd (nI 0) (nI 4)) = 0 then (-102) else if (fXS_isOf t (toN sn) kd) = 0 then (-1) else nI (toN sn)
def rmX0_as : Room := { frames := 5, cells := 0, slots := 0, locals := 107 }
theorem hdX0_as : yX0_as.cls = RX0 ∧ yX0_as.cls ≠ "java/lang/invoke/MethodHandle" ∧ yX0_as.cls ≠ "java/lang/invoke/VarHandle" ∧ (parseMethodDescriptor yX0_as.desc).map (fun d => d.parameters.length) = some 2 := by decide +kernel
set_option maxHeartbeats 4000000 in
theorem kX0_as (l : Launch) (ω : OM) (g : Nat → Nat → Nat) (y : Nat → Nat → Int32) (a z : Nat → Nat → Nat → Int32) (dr : Int64) (pg : Nat → Int32) (t : TW) (sn : Int32) (kd : Int32) : Met l yX0_as (ws_ yX0_as cX0_as 3 (some .int)) rmX0_as (va_Pc [.ref (ω.2.1 0 99), .int sn, .int kd] (fun U => xK ω U ∧ xH ω (g, y, a, z, dr, pg, t) U.heap)) (vp_Si (fun r => r = (fX0_as t sn kd))) 0 0 (fun _ => False) := by
  refine g_entPi (C := RX0) rfl (by decide) (Nat.le_of_ble_eq_true rfl) ?_
  intro p e s m args below meth c QQ ls hF hKH hl hret
  have hl : lv_has ls 3 [(0, .ref (ω.2.1 0 99)), (1, .int sn), (2, .int kd)] := hl
  obtain ⟨hK, hH⟩ := hKH
  have hn9 : tn t ≤ 9 := hH.2.2.1
  refine lv_aload_n hF.1 hF.2.1 dX0_as_0 rfl (lv_at hl 0 rfl) ?_
  refine lv_iload_n hF.1 hF.2.1 dX0_as_1 rfl (lv_at hl 1 rfl) ?_
  refine g_vPi (As := [.int sn]) (rest := []) hF (kX0_isStreet l ω g y a z dr pg t sn) (lw_V q689 q691 qs18 q92 q692) 1 hdX0_isStreet rfl rfl ⟨Nat.le_of_ble_eq_true rfl, Nat.le_of_ble_eq_true rfl⟩ (x_preV0 hK hH) rfl hl.1 rfl (Nat.le_of_ble_eq_true rfl) dX0_as_2 ⟨Nat.zero_le _, Nat.zero_le _⟩ (fun r1 e_r1 => ?_)
  refine lv_if_ne (tgt := 11) hF.1 hF.2.1 dX0_as_5 (by decide) (fun c2 => ?_) (fun c2 => ?_)
  · skip
    refine lv_iload_n hF.1 hF.2.1 dX0_as_11 rfl (lv_at hl 2 rfl) ?_
    refine lv_iconst (v := nI 0) hF.1 hF.2.1 dX0_as_12 (by decide) ?_
    refine lv_iconst (v := nI 4) hF.1 hF.2.1 dX0_as_13 (by decide) ?_
    refine g_sPi (As := [.int kd, .int (nI 0), .int (nI 4)]) (rest := []) hF (kX0_in l kd (nI 0) (nI 4)) (lw_S q301 q302 q92 q303) 3 hdX0_in.2 rfl rfl ⟨Nat.le_of_ble_eq_true rfl, Nat.le_of_ble_eq_true rfl⟩ g_pre0 rfl hl.1 rfl (Nat.le_of_ble_eq_true rfl) dX0_as_14 ⟨Nat.zero_le _, Nat.zero_le _⟩ (fun r3 e_r3 => ?_)
    refine lv_if_ne (tgt := 25) hF.1 hF.2.1 dX0_as_17 (by decide) (fun c4 => ?_) (fun c4 => ?_)
    · skip
      obtain ⟨b5e, b5l⟩ := g_lift (r := sn) (n := tn t) (xStreet_lift hn9 (by rw [← e_r1]; exact c2)) (by omega)
      refine lv_aload_n hF.1 hF.2.1 dX0_as_25 rfl (lv_at hl 0 rfl) ?_
      refine xg0_0 hF hK hH q218 dX0_as_26 ?_
      refine lv_iload_n hF.1 hF.2.1 dX0_as_29 rfl (lv_at hl 1 rfl) ?_
      refine n_top b5e ?_
      refine g_vPr (As := [.int (nI (toN sn))]) (rest := []) hF (kJ2_get l ω g y a z dr pg t (toN sn) (by omega)) (lw_V q570 q571 q572 q95 q573) 1 hdJ2_get rfl rfl ⟨Nat.le_of_ble_eq_true rfl, Nat.le_of_ble_eq_true rfl⟩ (x_preVL hK hH) rfl hl.1 rfl (Nat.le_of_ble_eq_true rfl) dX0_as_30 ⟨Nat.zero_le _, Nat.zero_le _⟩ ?_
      refine x_cast hF hK hH (i := toN sn) (by omega) q488 dX0_as_33 ?_
      refine lv_iload_n hF.1 hF.2.1 dX0_as_36 rfl (lv_at hl 2 rfl) ?_
      refine x_visOf (rest := []) hF hK hH (toN sn) (by omega) kd q723 ⟨Nat.le_of_ble_eq_true rfl, Nat.le_of_ble_eq_true rfl⟩ hl.1 rfl (Nat.le_of_ble_eq_true rfl) dX0_as_37 ⟨Nat.zero_le _, Nat.zero_le _⟩ ?_
      refine lv_if_eq (tgt := 47) hF.1 hF.2.1 dX0_as_40 (by decide) (fun c6 => ?_) (fun c6 => ?_)
      · skip
        refine lv_iconst (v := (-1)) hF.1 hF.2.1 dX0_as_47 (by decide) ?_
        exact hret _ _ _ dX0_as_48 (by subst e_r3; subst e_r1; unfold fX0_as; first | (rw [if_neg c2, if_neg c4, if_pos c6]; done) | (simp only [if_neg c2, if_neg c4, if_pos c6]))
      · skip
        refine lv_iload_n hF.1 hF.2.1 dX0_as_43 rfl (lv_at hl 1 rfl) ?_
        refine n_top b5e ?_
        refine lv_goto (tgt := 48) hF.1 hF.2.1 dX0_as_44 (by decide) ?_
        exact hret _ _ _ dX0_as_48 (by subst e_r3; subst e_r1; unfold fX0_as; first | (rw [if_neg c2, if_neg c4, if_neg c6]; done) | (simp only [if_neg c2, if_neg c4, if_neg c6]))
    · skip
      refine lv_bipush (v := (-102)) hF.1 hF.2.1 dX0_as_20 (by decide) ?_
      refine lv_goto (tgt := 48) hF.1 hF.2.1 dX0_as_22 (by decide) ?_
      exact hret _ _ _ dX0_as_48 (by subst e_r3; subst e_r1; unfold fX0_as; first | (rw [if_neg c2, if_pos c4]; done) | (simp only [if_neg c2, if_pos c4]))
  · skip
    refine lv_bipush (v := (-101)) hF.1 hF.2.1 dX0_as_8 (by decide) ?_
    exact hret _ _ _ dX0_as_10 (by subst e_r1; unfold fX0_as; first | (rw [if_pos c2]; done) | (simp only [if_pos c2]))

def fX0_hurts (g : Nat → Nat → Nat) (a : Nat → Nat → Nat → Int32) (t : TW) (pn : Int32) (sn : Int32) : Int32 := if (fX0_isPerson g pn) = 0 then (-101) else if (fX0_isStreet t sn) = 0 then (-101) else (fX1_hurts g a t 0 (toN pn) (toN sn))
def rmX0_hurts : Room := { frames := 5, cells := 0, slots := 0, locals := 115 }
theorem hdX0_hurts : yX0_hurts.cls = RX0 ∧ yX0_hurts.cls ≠ "java/lang/invoke/MethodHandle" ∧ yX0_hurts.cls ≠ "java/lang/invoke/VarHandle" ∧ (parseMethodDescriptor yX0_hurts.desc).map (fun d => d.parameters.length) = some 2 := by decide +kernel
set_option maxHeartbeats 4000000 in
theorem kX0_hurts (l : Launch) (ω : OM) (g : Nat → Nat → Nat) (y : Nat → Nat → Int32) (a z : Nat → Nat → Nat → Int32) (dr : Int64) (pg : Nat → Int32) (t : TW) (pn : Int32) (sn : Int32) (hp3 : g 0 1 ≤ 3) : Met l yX0_hurts (ws_ yX0_hurts cX0_hurts 3 (some .int)) rmX0_hurts (va_Pc [.ref (ω.2.1 0 99), .int pn, .int sn] (fun U => xK ω U ∧ xH ω (g, y, a, z, dr, pg, t) U.heap)) (vp_Si (fun r => r = (fX0_hurts g a t pn sn))) 0 0 (fun _ => False) := by
  refine g_entPi (C := RX0) rfl (by decide) (Nat.le_of_ble_eq_true rfl) ?_
  intro p e s m args below meth c QQ ls hF hKH hl hret
  have hl : lv_has ls 3 [(0, .ref (ω.2.1 0 99)), (1, .int pn), (2, .int sn)] := hl
  obtain ⟨hK, hH⟩ := hKH
  have hn9 : tn t ≤ 9 := hH.2.2.1
  refine lv_aload_n hF.1 hF.2.1 dX0_hurts_0 rfl (lv_at hl 0 rfl) ?_
  refine lv_iload_n hF.1 hF.2.1 dX0_hurts_1 rfl (lv_at hl 1 rfl) ?_
  refine g_vPi (As := [.int pn]) (rest := []) hF (kX0_isPerson l ω g y a z dr pg t pn) (lw_V q593 q595 qs10 q92 q596) 1 hdX0_isPerson rfl rfl ⟨Nat.le_of_ble_eq_true rfl, Nat.le_of_ble_eq_true rfl⟩ (x_preV0 hK hH) rfl hl.1 rfl (Nat.le_of_ble_eq_true rfl) dX0_hurts_2 ⟨Nat.zero_le _, Nat.zero_le _⟩ (fun r1 e_r1 => ?_)
  refine lv_if_eq (tgt := 28) hF.1 hF.2.1 dX0_hurts_5 (by decide) (fun c2 => ?_) (fun c2 => ?_)
  · skip
    refine lv_bipush (v := (-101)) hF.1 hF.2.1 dX0_hurts_28 (by decide) ?_
    exact hret _ _ _ dX0_hurts_30 (by subst e_r1; unfold fX0_hurts; first | (rw [if_pos c2]; done) | (simp only [if_pos c2]))
  · skip
    refine lv_aload_n hF.1 hF.2.1 dX0_hurts_8 rfl (lv_at hl 0 rfl) ?_
    refine lv_iload_n hF.1 hF.2.1 dX0_hurts_9 rfl (lv_at hl 2 rfl) ?_
    refine g_vPi (As := [.int sn]) (rest := []) hF (kX0_isStreet l ω g y a z dr pg t sn) (lw_V q689 q691 qs18 q92 q692) 1 hdX0_isStreet rfl rfl ⟨Nat.le_of_ble_eq_true rfl, Nat.le_of_ble_eq_true rfl⟩ (x_preV0 hK hH) rfl hl.1 rfl (Nat.le_of_ble_eq_true rfl) dX0_hurts_10 ⟨Nat.zero_le _, Nat.zero_le _⟩ (fun r3 e_r3 => ?_)
    refine lv_if_eq (tgt := 28) hF.1 hF.2.1 dX0_hurts_13 (by decide) (fun c4 => ?_) (fun c4 => ?_)
    · skip
      refine lv_bipush (v := (-101)) hF.1 hF.2.1 dX0_hurts_28 (by decide) ?_
      exact hret _ _ _ dX0_hurts_30 (by subst e_r3; subst e_r1; unfold fX0_hurts; first | (rw [if_neg c2, if_pos c4]; done) | (simp only [if_neg c2, if_pos c4]))
    · skip
      obtain ⟨b5e, b5l⟩ := g_lift (r := pn) (n := 3) (xPerson_lift3 hp3 (by rw [← e_r1]; exact c2)) (by omega)
      obtain ⟨b6e, b6l⟩ := g_lift (r := sn) (n := tn t) (xStreet_lift hn9 (by rw [← e_r3]; exact c4)) (by omega)
      refine lv_aload_n hF.1 hF.2.1 dX0_hurts_16 rfl (lv_at hl 0 rfl) ?_
      refine xg0_3 hF hK hH q221 dX0_hurts_17 ?_
      refine lv_iload_n hF.1 hF.2.1 dX0_hurts_20 rfl (lv_at hl 1 rfl) ?_
      refine n_top b5e ?_
      refine lv_iload_n hF.1 hF.2.1 dX0_hurts_21 rfl (lv_at hl 2 rfl) ?_
      refine n_top b6e ?_
      refine g_vPi (As := [.int (nI (toN pn)), .int (nI (toN sn))]) (rest := []) hF (kX1_hurts l ω g y a z dr pg t 0 (by decide) (toN pn) (toN sn) (by omega) (by omega)) (lw_V q743 q633 q634 q96 q635) 2 hdX1_hurts rfl rfl ⟨Nat.le_of_ble_eq_true rfl, Nat.le_of_ble_eq_true rfl⟩ (x_preV1 (by decide) hK hH) rfl hl.1 rfl (Nat.le_of_ble_eq_true rfl) dX0_hurts_22 ⟨Nat.zero_le _, Nat.zero_le _⟩ (fun r7 e_r7 => ?_)
      refine lv_goto (tgt := 30) hF.1 hF.2.1 dX0_hurts_25 (by decide) ?_
      exact hret _ _ _ dX0_hurts_30 (by subst e_r7; subst e_r3; subst e_r1; unfold fX0_hurts; first | (rw [if_neg c2, if_neg c4]; done) | (simp only [if_neg c2, if_neg c4]))

def fX0_tender (g : Nat → Nat → Nat) (a : Nat → Nat → Nat → Int32) (pn : Int32) (td : Int32) : Int32 × (Nat → Int32) := if (fX0_isPerson g pn) = 0 then ((-101), a (0 + 6) 0) else if (fX0_in td (nI 0) (nI 9)) = 0 then ((-102), a (0 + 6) 0) else (a (0 + 6) 0 (toN pn), upd (a (0 + 6) 0) (toN pn) td)
def rmX0_tender : Room := { frames := 3, cells := 0, slots := 0, locals := 67 }
theorem hdX0_tender : yX0_tender.cls = RX0 ∧ yX0_tender.cls ≠ "java/lang/invoke/MethodHandle" ∧ yX0_tender.cls ≠ "java/lang/invoke/VarHandle" ∧ (parseMethodDescriptor yX0_tender.desc).map (fun d => d.parameters.length) = some 2 := by decide +kernel
set_option maxHeartbeats 4000000 in
theorem kX0_tender (l : Launch) (ω : OM) (g : Nat → Nat → Nat) (y : Nat → Nat → Int32) (a z : Nat → Nat → Nat → Int32) (dr : Int64) (pg : Nat → Int32) (t : TW) (pn : Int32) (td : Int32) (hp3 : g 0 1 ≤ 3) : Met l yX0_tender (ws_ yX0_tender cX0_tender 4 (some .int)) rmX0_tender (va_Pc [.ref (ω.2.1 0 99), .int pn, .int td] (fun U => xK ω U ∧ xH ω (g, y, a, z, dr, pg, t) U.heap)) (va_Qi (fun (r : Int32) (u : XS) => ∃ (o0 : Nat → Int32), (r, o0) = (fX0_tender g a pn td) ∧ u = (g, y, up2 a (0 + 6) 0 o0, z, dr, pg, t)) (fun u t => xH ω u t.heap) ω.2.2.1) 0 0 ω.2.2.1 := by
  refine g_entWi (C := RX0) rfl (by decide) (Nat.le_of_ble_eq_true rfl) ?_
  intro p e s m args below meth c QQ ls H locs hF hK hH hS hl hret
  have hl : lv_has ls 4 [(0, .ref (ω.2.1 0 99)), (1, .int pn), (2, .int td)] := hl
  have hn9 : tn t ≤ 9 := hH.2.2.1
  refine lv_aload_n hF.1 hF.2.1 dX0_tender_0 rfl (lv_at hl 0 rfl) ?_
  refine lv_iload_n hF.1 hF.2.1 dX0_tender_1 rfl (lv_at hl 1 rfl) ?_
  refine g_vPi (As := [.int pn]) (rest := []) hF (kX0_isPerson l ω g y a z dr pg t pn) (lw_V q593 q595 qs10 q92 q596) 1 hdX0_isPerson rfl rfl ⟨Nat.le_of_ble_eq_true rfl, Nat.le_of_ble_eq_true rfl⟩ (x_preV0 hK hH) rfl hl.1 rfl (Nat.le_of_ble_eq_true rfl) dX0_tender_2 ⟨Nat.zero_le _, Nat.zero_le _⟩ (fun r1 e_r1 => ?_)
  refine lv_if_ne (tgt := 11) hF.1 hF.2.1 dX0_tender_5 (by decide) (fun c2 => ?_) (fun c2 => ?_)
  · skip
    refine lv_iload_n hF.1 hF.2.1 dX0_tender_11 rfl (lv_at hl 2 rfl) ?_
    refine lv_iconst (v := nI 0) hF.1 hF.2.1 dX0_tender_12 (by decide) ?_
    refine lv_bipush (v := nI 9) hF.1 hF.2.1 dX0_tender_13 (by decide) ?_
    refine g_sPi (As := [.int td, .int (nI 0), .int (nI 9)]) (rest := []) hF (kX0_in l td (nI 0) (nI 9)) (lw_S q301 q302 q92 q303) 3 hdX0_in.2 rfl rfl ⟨Nat.le_of_ble_eq_true rfl, Nat.le_of_ble_eq_true rfl⟩ g_pre0 rfl hl.1 rfl (Nat.le_of_ble_eq_true rfl) dX0_tender_15 ⟨Nat.zero_le _, Nat.zero_le _⟩ (fun r3 e_r3 => ?_)
    refine lv_if_ne (tgt := 24) hF.1 hF.2.1 dX0_tender_18 (by decide) (fun c4 => ?_) (fun c4 => ?_)
    · skip
      obtain ⟨b5e, b5l⟩ := g_lift (r := pn) (n := 3) (xPerson_lift3 hp3 (by rw [← e_r1]; exact c2)) (by omega)
      refine lv_aload_n hF.1 hF.2.1 dX0_tender_24 rfl (lv_at hl 0 rfl) ?_
      refine xg0_3 hF hK hH q221 dX0_tender_25 ?_
      refine xgN_q155 (j := 0) (by decide) hF hK hH dX0_tender_28 ?_
      refine lv_iload_n hF.1 hF.2.1 dX0_tender_31 rfl (lv_at hl 1 rfl) ?_
      refine n_top b5e ?_
      refine x1_ald (j := 0) (by decide) hF hK hH 0 (n := 3) rfl rfl (by decide) rfl (f := a (0 + 6) 0) rfl (i := toN pn) (by omega) (by decide) dX0_tender_32 ?_
      refine lv_istore_n (lv' := [(3, .int (a (0 + 6) 0 (toN pn))), (0, .ref (ω.2.1 0 99)), (1, .int pn), (2, .int td)]) hF.1 hF.2.1 dX0_tender_33 rfl hl (by decide) rfl (fun ls hl => ?_)
      refine lv_aload_n hF.1 hF.2.1 dX0_tender_34 rfl (lv_at hl 1 rfl) ?_
      refine xg0_3 hF hK hH q221 dX0_tender_35 ?_
      refine xgN_q155 (j := 0) (by decide) hF hK hH dX0_tender_38 ?_
      refine lv_iload_n hF.1 hF.2.1 dX0_tender_41 rfl (lv_at hl 2 rfl) ?_
      refine n_top b5e ?_
      refine lv_iload_n hF.1 hF.2.1 dX0_tender_42 rfl (lv_at hl 3 rfl) ?_
      refine x1_ast (a' := up2 a (0 + 6) 0 (upd (a (0 + 6) 0) (toN pn) td)) (j := 0) (by decide) hF hK hH hS 0 (n := 3) rfl rfl (by decide) rfl (f := a (0 + 6) 0) rfl (i := toN pn) (by omega) (by decide) dX0_tender_43 (by simp [up2]) (by intro i q hq; simp only [up2, if_neg hq]) (fun H locs hH hS => ?_)
      refine lv_iload_n hF.1 hF.2.1 dX0_tender_44 rfl (lv_at hl 0 rfl) ?_
      exact hret _ _ _ _ _ _ dX0_tender_45 ⟨_, by subst e_r3; subst e_r1; unfold fX0_tender; first | (rw [if_neg c2, if_neg c4]; done) | (simp only [if_neg c2, if_neg c4]), rfl⟩ hH hS
    · skip
      refine lv_bipush (v := (-102)) hF.1 hF.2.1 dX0_tender_21 (by decide) ?_
      have hH : xH ω (g, y, up2 a (0 + 6) 0 (a (0 + 6) 0), z, dr, pg, t) H := x_ext (fun _ _ => rfl) (fun _ _ => rfl) (by intro o k; by_cases h0 : o = (0 + 6) ∧ k = 0; (obtain ⟨rfl, rfl⟩ := h0; simp [up2]); simp only [up2, if_neg h0]) (fun _ _ => rfl) hH
      exact hret _ _ _ _ _ _ dX0_tender_23 ⟨_, by subst e_r3; subst e_r1; unfold fX0_tender; first | (rw [if_neg c2, if_pos c4]; done) | (simp only [if_neg c2, if_pos c4]), rfl⟩ hH hS
  · skip
    refine lv_bipush (v := (-101)) hF.1 hF.2.1 dX0_tender_8 (by decide) ?_
    have hH : xH ω (g, y, up2 a (0 + 6) 0 (a (0 + 6) 0), z, dr, pg, t) H := x_ext (fun _ _ => rfl) (fun _ _ => rfl) (by intro o k; by_cases h0 : o = (0 + 6) ∧ k = 0; (obtain ⟨rfl, rfl⟩ := h0; simp [up2]); simp only [up2, if_neg h0]) (fun _ _ => rfl) hH
    exact hret _ _ _ _ _ _ dX0_tender_10 ⟨_, by subst e_r1; unfold fX0_tender; first | (rw [if_pos c2]; done) | (simp only [if_pos c2]), rfl⟩ hH hS

def fX0_day (g : Nat → Nat → Nat) : Int32 × Nat := if (fX0_isTown g) = 0 then ((-103), g (0 + 6) 9) else if (g (0 + 6) 9) = 99 then ((-104), g (0 + 6) 9) else (nI ((g (0 + 6) 9) + 1), (g (0 + 6) 9) + 1)
def rmX0_day : Room := { frames := 2, cells := 0, slots := 0, locals := 44 }
theorem hdX0_day : yX0_day.cls = RX0 ∧ yX0_day.cls ≠ "java/lang/invoke/MethodHandle" ∧ yX0_day.cls ≠ "java/lang/invoke/VarHandle" ∧ (parseMethodDescriptor yX0_day.desc).map (fun d => d.parameters.length) = some 0 := by decide +kernel
set_option maxHeartbeats 4000000 in
theorem kX0_day (l : Launch) (ω : OM) (g : Nat → Nat → Nat) (y : Nat → Nat → Int32) (a z : Nat → Nat → Nat → Int32) (dr : Int64) (pg : Nat → Int32) (t : TW) (hp3 : g 0 1 ≤ 3) (hd : g (0 + 6) 9 ≤ 99) : Met l yX0_day (ws_ yX0_day cX0_day 1 (some .int)) rmX0_day (va_Pc [.ref (ω.2.1 0 99)] (fun U => xK ω U ∧ xH ω (g, y, a, z, dr, pg, t) U.heap)) (va_Qi (fun (r : Int32) (u : XS) => ∃ (o0 : Nat), (r, o0) = (fX0_day g) ∧ u = (up2 g (0 + 6) 9 o0, y, a, z, dr, pg, t)) (fun u t => xH ω u t.heap) ω.2.2.1) 0 0 ω.2.2.1 := by
  refine g_entWi (C := RX0) rfl (by decide) (Nat.le_of_ble_eq_true rfl) ?_
  intro p e s m args below meth c QQ ls H locs hF hK hH hS hl hret
  have hl : lv_has ls 1 [(0, .ref (ω.2.1 0 99))] := hl
  have hn9 : tn t ≤ 9 := hH.2.2.1
  refine lv_aload_n hF.1 hF.2.1 dX0_day_0 rfl (lv_at hl 0 rfl) ?_
  refine g_vPi (As := []) (rest := []) hF (kX0_isTown l ω g y a z dr pg t (by omega)) (lw_V q752 q754 qs21 q92 q755) 0 hdX0_isTown rfl rfl ⟨Nat.le_of_ble_eq_true rfl, Nat.le_of_ble_eq_true rfl⟩ (x_preV0 hK hH) rfl hl.1 rfl (Nat.le_of_ble_eq_true rfl) dX0_day_1 ⟨Nat.zero_le _, Nat.zero_le _⟩ (fun r1 e_r1 => ?_)
  refine lv_if_ne (tgt := 10) hF.1 hF.2.1 dX0_day_4 (by decide) (fun c2 => ?_) (fun c2 => ?_)
  · skip
    refine lv_aload_n hF.1 hF.2.1 dX0_day_10 rfl (lv_at hl 0 rfl) ?_
    refine xg0_3 hF hK hH q221 dX0_day_11 ?_
    refine xgN_q172 (j := 0) (by decide) hF hK hH dX0_day_14 (v := g (0 + 6) 9) rfl ?_
    refine lv_bipush (v := nI 99) hF.1 hF.2.1 dX0_day_17 (by decide) ?_
    refine n_ne (tgt := 25) hF.1 hF.2.1 dX0_day_19 (by decide) (by omega) (by omega) (fun c3 => ?_) (fun c3 => ?_)
    · skip
      refine lv_aload_n hF.1 hF.2.1 dX0_day_25 rfl (lv_at hl 0 rfl) ?_
      refine xg0_3 hF hK hH q221 dX0_day_26 ?_
      refine lv_dup hF.1 hF.2.1 dX0_day_29 rfl ?_
      refine xgN_q172 (j := 0) (by decide) hF hK hH dX0_day_30 (v := g (0 + 6) 9) rfl ?_
      refine lv_iconst (v := nI 1) hF.1 hF.2.1 dX0_day_33 (by decide) ?_
      refine n_iadd hF.1 hF.2.1 dX0_day_34 ?_
      refine xpN_9 (j := 0) (by decide) hF hK hH hS dX0_day_35 (g' := up2 g (0 + 6) 9 ((g (0 + 6) 9) + 1)) (by simp [up2]) (by intro i q hq; simp only [up2, if_neg hq]) (fun H locs hH hS => ?_)
      refine lv_aload_n hF.1 hF.2.1 dX0_day_38 rfl (lv_at hl 0 rfl) ?_
      refine xg0_3 hF hK hH q221 dX0_day_39 ?_
      refine xgN_q172 (j := 0) (by decide) hF hK hH dX0_day_42 (v := (g (0 + 6) 9) + 1) (by simp [up2]) ?_
      exact hret _ _ _ _ _ _ dX0_day_45 ⟨_, by subst e_r1; unfold fX0_day; first | (rw [if_neg c2, if_neg c3]; done) | (simp only [if_neg c2, if_neg c3]), rfl⟩ hH hS
    · skip
      refine lv_bipush (v := (-104)) hF.1 hF.2.1 dX0_day_22 (by decide) ?_
      have hH : xH ω (up2 g (0 + 6) 9 (g (0 + 6) 9), y, a, z, dr, pg, t) H := x_ext (by intro o k; by_cases h0 : o = (0 + 6) ∧ k = 9; (obtain ⟨rfl, rfl⟩ := h0; simp [up2]); simp only [up2, if_neg h0]) (fun _ _ => rfl) (fun _ _ => rfl) (fun _ _ => rfl) hH
      exact hret _ _ _ _ _ _ dX0_day_24 ⟨_, by subst e_r1; unfold fX0_day; first | (rw [if_neg c2, if_pos c3]; done) | (simp only [if_neg c2, if_pos c3]), rfl⟩ hH hS
  · skip
    refine lv_bipush (v := (-103)) hF.1 hF.2.1 dX0_day_7 (by decide) ?_
    have hH : xH ω (up2 g (0 + 6) 9 (g (0 + 6) 9), y, a, z, dr, pg, t) H := x_ext (by intro o k; by_cases h0 : o = (0 + 6) ∧ k = 9; (obtain ⟨rfl, rfl⟩ := h0; simp [up2]); simp only [up2, if_neg h0]) (fun _ _ => rfl) (fun _ _ => rfl) (fun _ _ => rfl) hH
    exact hret _ _ _ _ _ _ dX0_day_9 ⟨_, by subst e_r1; unfold fX0_day; first | (rw [if_pos c2]; done) | (simp only [if_pos c2]), rfl⟩ hH hS

def fX0_better (z : Nat → Nat → Nat → Int32) (len : Nat) (cn : Nat) (by_ : Int32) : (Nat → Int32) := upd (z 0 8) ((8 * len) + cn) (jmin (z 0 8 ((8 * len) + cn)) by_)
def rmX0_better : Room := { frames := 1, cells := 0, slots := 0, locals := 24 }
theorem hdX0_better : yX0_better.cls = RX0 ∧ yX0_better.cls ≠ "java/lang/invoke/MethodHandle" ∧ yX0_better.cls ≠ "java/lang/invoke/VarHandle" ∧ (parseMethodDescriptor yX0_better.desc).map (fun d => d.parameters.length) = some 3 := by decide +kernel
set_option maxHeartbeats 4000000 in
theorem kX0_better (l : Launch) (ω : OM) (g : Nat → Nat → Nat) (y : Nat → Nat → Int32) (a z : Nat → Nat → Nat → Int32) (dr : Int64) (pg : Nat → Int32) (t : TW) (len : Nat) (cn : Nat) (by_ : Int32) (hlen : len < 82) (hcn : cn < 8) : Met l yX0_better (ws_ yX0_better cX0_better 4 none) rmX0_better (va_Pc [.ref (ω.2.1 0 99), .int (nI len), .int (nI cn), .int by_] (fun U => xK ω U ∧ xH ω (g, y, a, z, dr, pg, t) U.heap)) (va_Qv (fun (u : XS) => ∃ (o0 : Nat → Int32), o0 = (fX0_better z len cn by_) ∧ u = (g, y, a, up2 z 0 8 o0, dr, pg, t)) (fun u t => xH ω u t.heap) ω.2.2.1) 0 0 ω.2.2.1 := by
  refine g_entWv (C := RX0) rfl (by decide) (Nat.le_of_ble_eq_true rfl) ?_
  intro p e s m args below meth c QQ ls H locs hF hK hH hS hl hret
  have hl : lv_has ls 4 [(0, .ref (ω.2.1 0 99)), (1, .int (nI len)), (2, .int (nI cn)), (3, .int by_)] := hl
  have hn9 : tn t ≤ 9 := hH.2.2.1
  refine lv_aload_n hF.1 hF.2.1 dX0_better_0 rfl (lv_at hl 0 rfl) ?_
  refine xg0_8 hF hK hH q228 dX0_better_1 ?_
  refine lv_bipush (v := nI 8) hF.1 hF.2.1 dX0_better_4 (by decide) ?_
  refine lv_iload_n hF.1 hF.2.1 dX0_better_6 rfl (lv_at hl 1 rfl) ?_
  refine n_imul hF.1 hF.2.1 dX0_better_7 ?_
  refine lv_iload_n hF.1 hF.2.1 dX0_better_8 rfl (lv_at hl 2 rfl) ?_
  refine n_iadd hF.1 hF.2.1 dX0_better_9 ?_
  refine lv_aload_n hF.1 hF.2.1 dX0_better_10 rfl (lv_at hl 0 rfl) ?_
  refine xg0_8 hF hK hH q228 dX0_better_11 ?_
  refine lv_bipush (v := nI 8) hF.1 hF.2.1 dX0_better_14 (by decide) ?_
  refine lv_iload_n hF.1 hF.2.1 dX0_better_16 rfl (lv_at hl 1 rfl) ?_
  refine n_imul hF.1 hF.2.1 dX0_better_17 ?_
  refine lv_iload_n hF.1 hF.2.1 dX0_better_18 rfl (lv_at hl 2 rfl) ?_
  refine n_iadd hF.1 hF.2.1 dX0_better_19 ?_
  refine x0_zld hF hK hH 8 (n := 656) rfl rfl (by decide) (by decide) rfl (f := z 0 8) rfl (i := (8 * len) + cn) (by omega) (by decide) dX0_better_20 ?_
  refine lv_iload_n hF.1 hF.2.1 dX0_better_21 rfl (lv_at hl 3 rfl) ?_
  refine va_mmin hF.1 hF.2.1 (hF.2.2.1.trans hl.1.symm) hF.2.2.2.1 (hF.2.2.2.2 _ q788) (hF.2.2.2.2 _ q546) (hF.2.2.2.2 _ q108) (hF.2.2.2.2 _ q547) (Nat.le_of_ble_eq_true rfl) (Nat.le_of_ble_eq_true rfl) (Nat.zero_le _) (Nat.zero_le _) dX0_better_22 ?_
  refine n_top (y := jmin (z 0 8 ((8 * len) + cn)) by_) rfl ?_
  refine x0_zst (z' := up2 z 0 8 (upd (z 0 8) ((8 * len) + cn) (jmin (z 0 8 ((8 * len) + cn)) by_))) hF hK hH hS 8 (n := 656) rfl rfl (by decide) (by decide) rfl (f := z 0 8) rfl (i := (8 * len) + cn) (by omega) (by decide) dX0_better_25 (by simp [up2]) (by intro i q hq; simp only [up2, if_neg hq]) (fun H locs hH hS => ?_)
  exact hret _ _ _ _ _ dX0_better_26 ⟨_, by rfl, rfl⟩ hH hS

def fX0_cornersUsed_b4 (t : TW) (i4 : Nat) (S : Int32) : Int32 := S ||| (((nI 1) <<< ((nI (ta t i4)) &&& 31)) ||| ((nI 1) <<< ((nI (tb t i4)) &&& 31)))
def fX0_cornersUsed (t : TW) : Int32 := (it (fX0_cornersUsed_b4 t) (tn t) (nI 0))
def rmX0_cornersUsed : Room := { frames := 4, cells := 0, slots := 0, locals := 88 }
theorem hdX0_cornersUsed : yX0_cornersUsed.cls = RX0 ∧ yX0_cornersUsed.cls ≠ "java/lang/invoke/MethodHandle" ∧ yX0_cornersUsed.cls ≠ "java/lang/invoke/VarHandle" ∧ (parseMethodDescriptor yX0_cornersUsed.desc).map (fun d => d.parameters.length) = some 0 := by decide +kernel
set_option maxHeartbeats 4000000 in
theorem kX0_cornersUsed (l : Launch) (ω : OM) (g : Nat → Nat → Nat) (y : Nat → Nat → Int32) (a z : Nat → Nat → Nat → Int32) (dr : Int64) (pg : Nat → Int32) (t : TW) : Met l yX0_cornersUsed (ws_ yX0_cornersUsed cX0_cornersUsed 3 (some .int)) rmX0_cornersUsed (va_Pc [.ref (ω.2.1 0 99)] (fun U => xK ω U ∧ xH ω (g, y, a, z, dr, pg, t) U.heap)) (vp_Si (fun r => r = (fX0_cornersUsed t))) 0 0 (fun _ => False) := by
  refine g_entPi (C := RX0) rfl (by decide) (Nat.le_of_ble_eq_true rfl) ?_
  intro p e s m args below meth c QQ ls hF hKH hl hret
  have hl : lv_has ls 3 [(0, .ref (ω.2.1 0 99))] := hl
  obtain ⟨hK, hH⟩ := hKH
  have hn9 : tn t ≤ 9 := hH.2.2.1
  refine lv_iconst (v := nI 0) hF.1 hF.2.1 dX0_cornersUsed_0 (by decide) ?_
  refine lv_istore_n (lv' := [(1, .int (nI 0)), (0, .ref (ω.2.1 0 99))]) hF.1 hF.2.1 dX0_cornersUsed_1 rfl hl (by decide) rfl (fun ls hl => ?_)
  refine lv_iconst (v := nI 0) hF.1 hF.2.1 dX0_cornersUsed_2 (by decide) ?_
  refine lv_istore_n (lv' := [(2, .int (nI 0)), (1, .int (nI 0)), (0, .ref (ω.2.1 0 99))]) hF.1 hF.2.1 dX0_cornersUsed_3 rfl hl (by decide) rfl (fun ls hl => ?_)
  have lp4_53 : ∀ (d4 i4 : Nat) (x4_1 : Int32) (ls : Array Slot), i4 + d4 = tn t → x4_1 = it (fX0_cornersUsed_b4 t) i4 (nI 0) → lv_has ls 3 [(2, .int (nI i4)), (1, .int x4_1), (0, .ref (ω.2.1 0 99))] → W p l e rmX0_cornersUsed s m args below meth c s.heap [] 0 0 QQ (F0 m 4 ls []) := by
    intro d4
    induction d4 with
    | zero =>
      intro i4 x4_1 ls hi4 hS4 hl
      have hj4 : tn t = i4 := by omega
      subst hj4
      have e_x4_1 := hS4
      refine lv_iload_n hF.1 hF.2.1 dX0_cornersUsed_4 rfl (lv_at hl 0 rfl) ?_
      refine lv_aload_n hF.1 hF.2.1 dX0_cornersUsed_5 rfl (lv_at hl 2 rfl) ?_
      refine xg0_0 hF hK hH q218 dX0_cornersUsed_6 ?_
      refine g_vPi (As := []) (rest := [.int (nI (tn t))]) hF (kJ2_size l ω g y a z dr pg t) (lw_V q569 q554 q555 q95 q556) 0 hdJ2_size rfl rfl ⟨Nat.le_of_ble_eq_true rfl, Nat.le_of_ble_eq_true rfl⟩ (x_preVL hK hH) rfl hl.1 rfl (Nat.le_of_ble_eq_true rfl) dX0_cornersUsed_9 ⟨Nat.zero_le _, Nat.zero_le _⟩ (fun r1 e_r1 => ?_)
      subst e_r1
      refine n_top (y := nI (tn t)) rfl ?_
      refine n_ge (tgt := 57) hF.1 hF.2.1 dX0_cornersUsed_12 (by decide) (by omega) (by omega) (fun c2 => ?_) (fun c2 => ?_)
      · skip
        refine lv_iload_n hF.1 hF.2.1 dX0_cornersUsed_57 rfl (lv_at hl 1 rfl) ?_
        exact hret _ _ _ dX0_cornersUsed_58 (by subst e_x4_1; rfl)
      · exact absurd (by omega) c2
    | succ d4 ih =>
      intro i4 x4_1 ls hi4 hS4 hl
      refine lv_iload_n hF.1 hF.2.1 dX0_cornersUsed_4 rfl (lv_at hl 0 rfl) ?_
      refine lv_aload_n hF.1 hF.2.1 dX0_cornersUsed_5 rfl (lv_at hl 2 rfl) ?_
      refine xg0_0 hF hK hH q218 dX0_cornersUsed_6 ?_
      refine g_vPi (As := []) (rest := [.int (nI i4)]) hF (kJ2_size l ω g y a z dr pg t) (lw_V q569 q554 q555 q95 q556) 0 hdJ2_size rfl rfl ⟨Nat.le_of_ble_eq_true rfl, Nat.le_of_ble_eq_true rfl⟩ (x_preVL hK hH) rfl hl.1 rfl (Nat.le_of_ble_eq_true rfl) dX0_cornersUsed_9 ⟨Nat.zero_le _, Nat.zero_le _⟩ (fun r3 e_r3 => ?_)
      subst e_r3
      refine n_top (y := nI (tn t)) rfl ?_
      refine n_ge (tgt := 57) hF.1 hF.2.1 dX0_cornersUsed_12 (by decide) (by omega) (by omega) (fun c4 => ?_) (fun c4 => ?_)
      · exact absurd c4 (by omega)
      · skip
        refine lv_iload_n hF.1 hF.2.1 dX0_cornersUsed_15 rfl (lv_at hl 1 rfl) ?_
        refine lv_iconst (v := nI 1) hF.1 hF.2.1 dX0_cornersUsed_16 (by decide) ?_
        refine lv_aload_n hF.1 hF.2.1 dX0_cornersUsed_17 rfl (lv_at hl 2 rfl) ?_
        refine xg0_0 hF hK hH q218 dX0_cornersUsed_18 ?_
        refine lv_iload_n hF.1 hF.2.1 dX0_cornersUsed_21 rfl (lv_at hl 0 rfl) ?_
        refine g_vPr (As := [.int (nI i4)]) (rest := [.int (nI 1), .int x4_1]) hF (kJ2_get l ω g y a z dr pg t i4 (by omega)) (lw_V q570 q571 q572 q95 q573) 1 hdJ2_get rfl rfl ⟨Nat.le_of_ble_eq_true rfl, Nat.le_of_ble_eq_true rfl⟩ (x_preVL hK hH) rfl hl.1 rfl (Nat.le_of_ble_eq_true rfl) dX0_cornersUsed_22 ⟨Nat.zero_le _, Nat.zero_le _⟩ ?_
        refine x_cast hF hK hH (i := i4) (by omega) q488 dX0_cornersUsed_25 ?_
        refine xs_g0 hF hK hH (i := i4) (by omega) q443 dX0_cornersUsed_28 ?_
        have hst28 := hH.2.2.2.2 i4 (by first | exact hsn | (show _ < tn t; omega))
        change tk t i4 < 5 ∧ ta t i4 < 8 ∧ tb t i4 < 8 ∧ ¬ ta t i4 = tb t i4 ∧ 1 ≤ tl t i4 ∧ tl t i4 ≤ 9 at hst28
        refine lv_ishl hF.1 hF.2.1 dX0_cornersUsed_31 ?_
        refine lv_iconst (v := nI 1) hF.1 hF.2.1 dX0_cornersUsed_32 (by decide) ?_
        refine lv_aload_n hF.1 hF.2.1 dX0_cornersUsed_33 rfl (lv_at hl 2 rfl) ?_
        refine xg0_0 hF hK hH q218 dX0_cornersUsed_34 ?_
        refine lv_iload_n hF.1 hF.2.1 dX0_cornersUsed_37 rfl (lv_at hl 0 rfl) ?_
        refine g_vPr (As := [.int (nI i4)]) (rest := [.int (nI 1), .int ((nI 1) <<< ((nI (ta t i4)) &&& 31)), .int x4_1]) hF (kJ2_get l ω g y a z dr pg t i4 (by omega)) (lw_V q570 q571 q572 q95 q573) 1 hdJ2_get rfl rfl ⟨Nat.le_of_ble_eq_true rfl, Nat.le_of_ble_eq_true rfl⟩ (x_preVL hK hH) rfl hl.1 rfl (Nat.le_of_ble_eq_true rfl) dX0_cornersUsed_38 ⟨Nat.zero_le _, Nat.zero_le _⟩ ?_
        refine x_cast hF hK hH (i := i4) (by omega) q488 dX0_cornersUsed_41 ?_
        refine xs_g1 hF hK hH (i := i4) (by omega) q447 dX0_cornersUsed_44 ?_
        have hst44 := hH.2.2.2.2 i4 (by first | exact hsn | (show _ < tn t; omega))
        change tk t i4 < 5 ∧ ta t i4 < 8 ∧ tb t i4 < 8 ∧ ¬ ta t i4 = tb t i4 ∧ 1 ≤ tl t i4 ∧ tl t i4 ≤ 9 at hst44
        refine lv_ishl hF.1 hF.2.1 dX0_cornersUsed_47 ?_
        refine lv_ior hF.1 hF.2.1 dX0_cornersUsed_48 ?_
        refine lv_ior hF.1 hF.2.1 dX0_cornersUsed_49 ?_
        refine lv_istore_n (lv' := [(1, .int (x4_1 ||| (((nI 1) <<< ((nI (ta t i4)) &&& 31)) ||| ((nI 1) <<< ((nI (tb t i4)) &&& 31))))), (2, .int (nI i4)), (0, .ref (ω.2.1 0 99))]) hF.1 hF.2.1 dX0_cornersUsed_50 rfl hl (by decide) rfl (fun ls hl => ?_)
        refine n_iinc (lv' := [(2, .int (nI (i4 + 1))), (1, .int (x4_1 ||| (((nI 1) <<< ((nI (ta t i4)) &&& 31)) ||| ((nI 1) <<< ((nI (tb t i4)) &&& 31))))), (0, .ref (ω.2.1 0 99))]) hF.1 hF.2.1 dX0_cornersUsed_51 hl (k := 1) rfl (by decide) rfl (fun ls hl => ?_)
        refine lv_goto (tgt := 4) hF.1 hF.2.1 dX0_cornersUsed_54 (by decide) ?_
        exact ih (i4 + 1) _ _ (by omega) (by rw [it_succ (fX0_cornersUsed_b4 t) i4 _, ← hS4]; try rfl) (lv_sub hl [0, 1, 2] rfl)
  exact lp4_53 (tn t) 0 _ _ (by omega) rfl (lv_sub hl [0, 1, 2] rfl)

def fX0_gapsBy_b10 (t : TW) (set : Int32) (r1 : Int32) (i10 : Nat) (S : Int32) : Int32 := S + (fJ10_bitCount (if (fX0_isIn r1 (nI i10)) = 0 then nI 0 else r1 &&& ((fX1_reach t (nI i10) set) ^^^ (-1))))
def fX0_gapsBy (t : TW) (set : Int32) : Int32 := (it (fX0_gapsBy_b10 t set (fX0_cornersUsed t)) 8 (nI 0)) / (nI 2)
def rmX0_gapsBy : Room := { frames := 5, cells := 0, slots := 0, locals := 115 }
theorem hdX0_gapsBy : yX0_gapsBy.cls = RX0 ∧ yX0_gapsBy.cls ≠ "java/lang/invoke/MethodHandle" ∧ yX0_gapsBy.cls ≠ "java/lang/invoke/VarHandle" ∧ (parseMethodDescriptor yX0_gapsBy.desc).map (fun d => d.parameters.length) = some 1 := by decide +kernel
set_option maxHeartbeats 4000000 in
theorem kX0_gapsBy (l : Launch) (ω : OM) (g : Nat → Nat → Nat) (y : Nat → Nat → Int32) (a z : Nat → Nat → Nat → Int32) (dr : Int64) (pg : Nat → Int32) (t : TW) (set : Int32) : Met l yX0_gapsBy (ws_ yX0_gapsBy cX0_gapsBy 6 (some .int)) rmX0_gapsBy (va_Pc [.ref (ω.2.1 0 99), .int set] (fun U => xK ω U ∧ xH ω (g, y, a, z, dr, pg, t) U.heap)) (vp_Si (fun r => r = (fX0_gapsBy t set))) 0 0 (fun _ => False) := by
  refine g_entPi (C := RX0) rfl (by decide) (Nat.le_of_ble_eq_true rfl) ?_
  intro p e s m args below meth c QQ ls hF hKH hl hret
  have hl : lv_has ls 6 [(0, .ref (ω.2.1 0 99)), (1, .int set)] := hl
  obtain ⟨hK, hH⟩ := hKH
  have hn9 : tn t ≤ 9 := hH.2.2.1
  refine lv_aload_n hF.1 hF.2.1 dX0_gapsBy_0 rfl (lv_at hl 0 rfl) ?_
  refine g_vPi (As := []) (rest := []) hF (kX0_cornersUsed l ω g y a z dr pg t) (lw_V q829 q831 qs33 q92 q832) 0 hdX0_cornersUsed rfl rfl ⟨Nat.le_of_ble_eq_true rfl, Nat.le_of_ble_eq_true rfl⟩ (x_preV0 hK hH) rfl hl.1 rfl (Nat.le_of_ble_eq_true rfl) dX0_gapsBy_1 ⟨Nat.zero_le _, Nat.zero_le _⟩ (fun r1 e_r1 => ?_)
  refine lv_istore_n (lv' := [(2, .int r1), (0, .ref (ω.2.1 0 99)), (1, .int set)]) hF.1 hF.2.1 dX0_gapsBy_4 rfl hl (by decide) rfl (fun ls hl => ?_)
  refine lv_iconst (v := nI 0) hF.1 hF.2.1 dX0_gapsBy_5 (by decide) ?_
  refine lv_istore_n (lv' := [(3, .int (nI 0)), (2, .int r1), (0, .ref (ω.2.1 0 99)), (1, .int set)]) hF.1 hF.2.1 dX0_gapsBy_6 rfl hl (by decide) rfl (fun ls hl => ?_)
  refine lv_iconst (v := nI 0) hF.1 hF.2.1 dX0_gapsBy_7 (by decide) ?_
  refine lv_istore (lv' := [(4, .int (nI 0)), (3, .int (nI 0)), (2, .int r1), (0, .ref (ω.2.1 0 99)), (1, .int set)]) hF.1 hF.2.1 dX0_gapsBy_8 hl (by decide) rfl (fun ls hl => ?_)
  have lp10_55 : ∀ (d10 i10 : Nat) (x10_3 : Int32) (ls : Array Slot), i10 + d10 = 8 → x10_3 = it (fX0_gapsBy_b10 t set r1) i10 (nI 0) → lv_has ls 6 [(4, .int (nI i10)), (3, .int x10_3), (2, .int r1), (0, .ref (ω.2.1 0 99)), (1, .int set)] → W p l e rmX0_gapsBy s m args below meth c s.heap [] 0 0 QQ (F0 m 10 ls []) := by
    intro d10
    induction d10 with
    | zero =>
      intro i10 x10_3 ls hi10 hS10 hl
      have hj10 : 8 = i10 := by omega
      subst hj10
      have e_x10_3 := hS10
      refine lv_iload hF.1 hF.2.1 dX0_gapsBy_10 (lv_at hl 0 rfl) ?_
      refine lv_bipush (v := nI 8) hF.1 hF.2.1 dX0_gapsBy_12 (by decide) ?_
      refine n_ge (tgt := 60) hF.1 hF.2.1 dX0_gapsBy_14 (by decide) (by omega) (by omega) (fun c2 => ?_) (fun c2 => ?_)
      · skip
        refine lv_iload_n hF.1 hF.2.1 dX0_gapsBy_60 rfl (lv_at hl 1 rfl) ?_
        refine lv_iconst (v := nI 2) hF.1 hF.2.1 dX0_gapsBy_61 (by decide) ?_
        refine lv_idiv hF.1 hF.2.1 dX0_gapsBy_62 (by decide) ?_
        exact hret _ _ _ dX0_gapsBy_63 (by subst e_x10_3; subst e_r1; rfl)
      · exact absurd (by omega) c2
    | succ d10 ih =>
      intro i10 x10_3 ls hi10 hS10 hl
      refine lv_iload hF.1 hF.2.1 dX0_gapsBy_10 (lv_at hl 0 rfl) ?_
      refine lv_bipush (v := nI 8) hF.1 hF.2.1 dX0_gapsBy_12 (by decide) ?_
      refine n_ge (tgt := 60) hF.1 hF.2.1 dX0_gapsBy_14 (by decide) (by omega) (by omega) (fun c3 => ?_) (fun c3 => ?_)
      · exact absurd c3 (by omega)
      · skip
        refine lv_iload_n hF.1 hF.2.1 dX0_gapsBy_17 rfl (lv_at hl 2 rfl) ?_
        refine lv_iload hF.1 hF.2.1 dX0_gapsBy_18 (lv_at hl 0 rfl) ?_
        refine g_sPi (As := [.int r1, .int (nI i10)]) (rest := []) hF (kX0_isIn l r1 (nI i10)) (lw_S q718 q626 q92 q627) 2 hdX0_isIn.2 rfl rfl ⟨Nat.le_of_ble_eq_true rfl, Nat.le_of_ble_eq_true rfl⟩ g_pre0 rfl hl.1 rfl (Nat.le_of_ble_eq_true rfl) dX0_gapsBy_20 ⟨Nat.zero_le _, Nat.zero_le _⟩ (fun r4 e_r4 => ?_)
        have k44_8 : ∀ (v7 : Int32) (ls : Array Slot), v7 = (if r4 = 0 then nI 0 else r1 &&& ((fX1_reach t (nI i10) set) ^^^ (-1))) → lv_has ls 6 [(4, .int (nI i10)), (3, .int x10_3), (2, .int r1), (0, .ref (ω.2.1 0 99)), (1, .int set)] → W p l e rmX0_gapsBy s m args below meth c s.heap [] 0 0 QQ (F0 m 44 ls [.int v7]) := by
          intro v7 ls e_v7 hl
          refine lv_istore (lv' := [(5, .int v7), (4, .int (nI i10)), (3, .int x10_3), (2, .int r1), (0, .ref (ω.2.1 0 99)), (1, .int set)]) hF.1 hF.2.1 dX0_gapsBy_44 hl (by decide) rfl (fun ls hl => ?_)
          refine lv_iload_n hF.1 hF.2.1 dX0_gapsBy_46 rfl (lv_at hl 2 rfl) ?_
          refine lv_iload hF.1 hF.2.1 dX0_gapsBy_47 (lv_at hl 0 rfl) ?_
          refine g_sPi (As := [.int v7]) (rest := [.int x10_3]) hF (kJ10_bitCount l v7) (lw_S q833 q834 q113 q835) 1 hdJ10_bitCount.2 rfl rfl ⟨Nat.le_of_ble_eq_true rfl, Nat.le_of_ble_eq_true rfl⟩ g_pre0 rfl hl.1 rfl (Nat.le_of_ble_eq_true rfl) dX0_gapsBy_49 ⟨Nat.zero_le _, Nat.zero_le _⟩ (fun r9 e_r9 => ?_)
          refine lv_iadd hF.1 hF.2.1 dX0_gapsBy_52 ?_
          refine lv_istore_n (lv' := [(3, .int (x10_3 + r9)), (5, .int v7), (4, .int (nI i10)), (2, .int r1), (0, .ref (ω.2.1 0 99)), (1, .int set)]) hF.1 hF.2.1 dX0_gapsBy_53 rfl hl (by decide) rfl (fun ls hl => ?_)
          refine n_iinc (lv' := [(4, .int (nI (i10 + 1))), (3, .int (x10_3 + r9)), (5, .int v7), (2, .int r1), (0, .ref (ω.2.1 0 99)), (1, .int set)]) hF.1 hF.2.1 dX0_gapsBy_54 hl (k := 2) rfl (by decide) rfl (fun ls hl => ?_)
          refine lv_goto (tgt := 10) hF.1 hF.2.1 dX0_gapsBy_57 (by decide) ?_
          exact ih (i10 + 1) _ _ (by omega) (by subst e_r9; subst e_v7; subst e_r4; rw [it_succ (fX0_gapsBy_b10 t set r1) i10 _, ← hS10]; try rfl) (lv_sub hl [0, 1, 3, 4, 5] rfl)
        refine lv_if_eq (tgt := 43) hF.1 hF.2.1 dX0_gapsBy_23 (by decide) (fun c5 => ?_) (fun c5 => ?_)
        · skip
          refine lv_iconst (v := nI 0) hF.1 hF.2.1 dX0_gapsBy_43 (by decide) ?_
          exact k44_8 _ _ (by first | (rw [if_pos c5]; done) | (simp only [if_pos c5])) (lv_sub hl [0, 1, 2, 3, 4] rfl)
        · skip
          refine lv_iload_n hF.1 hF.2.1 dX0_gapsBy_26 rfl (lv_at hl 2 rfl) ?_
          refine lv_aload_n hF.1 hF.2.1 dX0_gapsBy_27 rfl (lv_at hl 3 rfl) ?_
          refine xg0_3 hF hK hH q221 dX0_gapsBy_28 ?_
          refine lv_iload hF.1 hF.2.1 dX0_gapsBy_31 (lv_at hl 0 rfl) ?_
          refine lv_iload_n hF.1 hF.2.1 dX0_gapsBy_33 rfl (lv_at hl 4 rfl) ?_
          refine g_vPi (As := [.int (nI i10), .int set]) (rest := [.int r1]) hF (kX1_reach l ω g y a z dr pg t 0 (by decide) (nI i10) set) (lw_V q809 q810 q811 q96 q812) 2 hdX1_reach rfl rfl ⟨Nat.le_of_ble_eq_true rfl, Nat.le_of_ble_eq_true rfl⟩ (x_preV1 (by decide) hK hH) rfl hl.1 rfl (Nat.le_of_ble_eq_true rfl) dX0_gapsBy_34 ⟨Nat.zero_le _, Nat.zero_le _⟩ (fun r6 e_r6 => ?_)
          refine lv_iconst (v := (-1)) hF.1 hF.2.1 dX0_gapsBy_37 (by decide) ?_
          refine lv_ixor hF.1 hF.2.1 dX0_gapsBy_38 ?_
          refine lv_iand hF.1 hF.2.1 dX0_gapsBy_39 ?_
          refine lv_goto (tgt := 44) hF.1 hF.2.1 dX0_gapsBy_40 (by decide) ?_
          exact k44_8 _ _ (by subst e_r6; first | (rw [if_neg c5]; done) | (simp only [if_neg c5])) (lv_sub hl [0, 1, 2, 3, 4] rfl)
  exact lp10_55 8 0 _ _ (by omega) rfl (lv_sub hl [0, 1, 2, 3, 4] rfl)

def fX0_learnNext_b19 (a : Nat → Nat → Nat → Int32) (t : TW) (dn : Nat) (i19 : Nat) (S : Int32 × Int32) : Int32 × Int32 := if S.1 ≤ (fX0_gapsBy t ((a (0 + 6) 7 dn) ||| ((nI 1) <<< ((nI i19) &&& 31)))) then (jmin S.1 (fX0_gapsBy t ((a (0 + 6) 7 dn) ||| ((nI 1) <<< ((nI i19) &&& 31)))), S.2) else (jmin S.1 (fX0_gapsBy t ((a (0 + 6) 7 dn) ||| ((nI 1) <<< ((nI i19) &&& 31)))), nI i19)
def fX0_learnNext (a : Nat → Nat → Nat → Int32) (t : TW) (dn : Nat) : Int32 := ((it (fX0_learnNext_b19 a t dn) (tn t) ((fX0_gapsBy t (a (0 + 6) 7 dn)), (-1))).2)
def rmX0_learnNext : Room := { frames := 6, cells := 0, slots := 0, locals := 140 }
theorem hdX0_learnNext : yX0_learnNext.cls = RX0 ∧ yX0_learnNext.cls ≠ "java/lang/invoke/MethodHandle" ∧ yX0_learnNext.cls ≠ "java/lang/invoke/VarHandle" ∧ (parseMethodDescriptor yX0_learnNext.desc).map (fun d => d.parameters.length) = some 1 := by decide +kernel
set_option maxHeartbeats 4000000 in
theorem kX0_learnNext (l : Launch) (ω : OM) (g : Nat → Nat → Nat) (y : Nat → Nat → Int32) (a z : Nat → Nat → Nat → Int32) (dr : Int64) (pg : Nat → Int32) (t : TW) (dn : Nat) (hdn : dn < 2) : Met l yX0_learnNext (ws_ yX0_learnNext cX0_learnNext 6 (some .int)) rmX0_learnNext (va_Pc [.ref (ω.2.1 0 99), .int (nI dn)] (fun U => xK ω U ∧ xH ω (g, y, a, z, dr, pg, t) U.heap)) (vp_Si (fun r => r = (fX0_learnNext a t dn))) 0 0 (fun _ => False) := by
  refine g_entPi (C := RX0) rfl (by decide) (Nat.le_of_ble_eq_true rfl) ?_
  intro p e s m args below meth c QQ ls hF hKH hl hret
  have hl : lv_has ls 6 [(0, .ref (ω.2.1 0 99)), (1, .int (nI dn))] := hl
  obtain ⟨hK, hH⟩ := hKH
  have hn9 : tn t ≤ 9 := hH.2.2.1
  refine lv_iconst (v := (-1)) hF.1 hF.2.1 dX0_learnNext_0 (by decide) ?_
  refine lv_istore_n (lv' := [(2, .int (-1)), (0, .ref (ω.2.1 0 99)), (1, .int (nI dn))]) hF.1 hF.2.1 dX0_learnNext_1 rfl hl (by decide) rfl (fun ls hl => ?_)
  refine lv_aload_n hF.1 hF.2.1 dX0_learnNext_2 rfl (lv_at hl 1 rfl) ?_
  refine lv_aload_n hF.1 hF.2.1 dX0_learnNext_3 rfl (lv_at hl 1 rfl) ?_
  refine xg0_3 hF hK hH q221 dX0_learnNext_4 ?_
  refine xgN_q168 (j := 0) (by decide) hF hK hH dX0_learnNext_7 ?_
  refine lv_iload_n hF.1 hF.2.1 dX0_learnNext_10 rfl (lv_at hl 2 rfl) ?_
  refine x1_ald (j := 0) (by decide) hF hK hH 7 (n := 2) rfl rfl (by decide) rfl (f := a (0 + 6) 7) rfl (i := dn) (by omega) (by decide) dX0_learnNext_11 ?_
  refine g_vPi (As := [.int (a (0 + 6) 7 dn)]) (rest := []) hF (kX0_gapsBy l ω g y a z dr pg t (a (0 + 6) 7 dn)) (lw_V q825 q827 qs32 q92 q828) 1 hdX0_gapsBy rfl rfl ⟨Nat.le_of_ble_eq_true rfl, Nat.le_of_ble_eq_true rfl⟩ (x_preV0 hK hH) rfl hl.1 rfl (Nat.le_of_ble_eq_true rfl) dX0_learnNext_12 ⟨Nat.zero_le _, Nat.zero_le _⟩ (fun r1 e_r1 => ?_)
  refine lv_istore_n (lv' := [(3, .int r1), (2, .int (-1)), (0, .ref (ω.2.1 0 99)), (1, .int (nI dn))]) hF.1 hF.2.1 dX0_learnNext_15 rfl hl (by decide) rfl (fun ls hl => ?_)
  refine lv_iconst (v := nI 0) hF.1 hF.2.1 dX0_learnNext_16 (by decide) ?_
  refine lv_istore (lv' := [(4, .int (nI 0)), (3, .int r1), (2, .int (-1)), (0, .ref (ω.2.1 0 99)), (1, .int (nI dn))]) hF.1 hF.2.1 dX0_learnNext_17 hl (by decide) rfl (fun ls hl => ?_)
  have lp19_57 : ∀ (d19 i19 : Nat) (x19_3 : Int32) (x19_2 : Int32) (ls : Array Slot), i19 + d19 = tn t → (x19_3, x19_2) = it (fX0_learnNext_b19 a t dn) i19 (r1, (-1)) → lv_has ls 6 [(4, .int (nI i19)), (3, .int x19_3), (2, .int x19_2), (0, .ref (ω.2.1 0 99)), (1, .int (nI dn))] → W p l e rmX0_learnNext s m args below meth c s.heap [] 0 0 QQ (F0 m 19 ls []) := by
    intro d19
    induction d19 with
    | zero =>
      intro i19 x19_3 x19_2 ls hi19 hS19 hl
      have hj19 : tn t = i19 := by omega
      subst hj19
      have e_x19_3 : x19_3 = (it (fX0_learnNext_b19 a t dn) (tn t) (r1, (-1))).1 := by rw [← hS19]
      have e_x19_2 : x19_2 = (it (fX0_learnNext_b19 a t dn) (tn t) (r1, (-1))).2 := by rw [← hS19]
      refine lv_iload hF.1 hF.2.1 dX0_learnNext_19 (lv_at hl 0 rfl) ?_
      refine lv_aload_n hF.1 hF.2.1 dX0_learnNext_21 rfl (lv_at hl 3 rfl) ?_
      refine xg0_0 hF hK hH q218 dX0_learnNext_22 ?_
      refine g_vPi (As := []) (rest := [.int (nI (tn t))]) hF (kJ2_size l ω g y a z dr pg t) (lw_V q569 q554 q555 q95 q556) 0 hdJ2_size rfl rfl ⟨Nat.le_of_ble_eq_true rfl, Nat.le_of_ble_eq_true rfl⟩ (x_preVL hK hH) rfl hl.1 rfl (Nat.le_of_ble_eq_true rfl) dX0_learnNext_25 ⟨Nat.zero_le _, Nat.zero_le _⟩ (fun r2 e_r2 => ?_)
      subst e_r2
      refine n_top (y := nI (tn t)) rfl ?_
      refine n_ge (tgt := 77) hF.1 hF.2.1 dX0_learnNext_28 (by decide) (by omega) (by omega) (fun c3 => ?_) (fun c3 => ?_)
      · skip
        refine lv_iload_n hF.1 hF.2.1 dX0_learnNext_77 rfl (lv_at hl 2 rfl) ?_
        exact hret _ _ _ dX0_learnNext_78 (by subst e_x19_2; subst e_x19_3; subst e_r1; rfl)
      · exact absurd (by omega) c3
    | succ d19 ih =>
      intro i19 x19_3 x19_2 ls hi19 hS19 hl
      refine lv_iload hF.1 hF.2.1 dX0_learnNext_19 (lv_at hl 0 rfl) ?_
      refine lv_aload_n hF.1 hF.2.1 dX0_learnNext_21 rfl (lv_at hl 3 rfl) ?_
      refine xg0_0 hF hK hH q218 dX0_learnNext_22 ?_
      refine g_vPi (As := []) (rest := [.int (nI i19)]) hF (kJ2_size l ω g y a z dr pg t) (lw_V q569 q554 q555 q95 q556) 0 hdJ2_size rfl rfl ⟨Nat.le_of_ble_eq_true rfl, Nat.le_of_ble_eq_true rfl⟩ (x_preVL hK hH) rfl hl.1 rfl (Nat.le_of_ble_eq_true rfl) dX0_learnNext_25 ⟨Nat.zero_le _, Nat.zero_le _⟩ (fun r4 e_r4 => ?_)
      subst e_r4
      refine n_top (y := nI (tn t)) rfl ?_
      refine n_ge (tgt := 77) hF.1 hF.2.1 dX0_learnNext_28 (by decide) (by omega) (by omega) (fun c5 => ?_) (fun c5 => ?_)
      · exact absurd c5 (by omega)
      · skip
        refine lv_aload_n hF.1 hF.2.1 dX0_learnNext_31 rfl (lv_at hl 3 rfl) ?_
        refine lv_aload_n hF.1 hF.2.1 dX0_learnNext_32 rfl (lv_at hl 3 rfl) ?_
        refine xg0_3 hF hK hH q221 dX0_learnNext_33 ?_
        refine xgN_q168 (j := 0) (by decide) hF hK hH dX0_learnNext_36 ?_
        refine lv_iload_n hF.1 hF.2.1 dX0_learnNext_39 rfl (lv_at hl 4 rfl) ?_
        refine x1_ald (j := 0) (by decide) hF hK hH 7 (n := 2) rfl rfl (by decide) rfl (f := a (0 + 6) 7) rfl (i := dn) (by omega) (by decide) dX0_learnNext_40 ?_
        refine lv_iconst (v := nI 1) hF.1 hF.2.1 dX0_learnNext_41 (by decide) ?_
        refine lv_iload hF.1 hF.2.1 dX0_learnNext_42 (lv_at hl 0 rfl) ?_
        refine lv_ishl hF.1 hF.2.1 dX0_learnNext_44 ?_
        refine lv_ior hF.1 hF.2.1 dX0_learnNext_45 ?_
        refine g_vPi (As := [.int ((a (0 + 6) 7 dn) ||| ((nI 1) <<< ((nI i19) &&& 31)))]) (rest := []) hF (kX0_gapsBy l ω g y a z dr pg t ((a (0 + 6) 7 dn) ||| ((nI 1) <<< ((nI i19) &&& 31)))) (lw_V q825 q827 qs32 q92 q828) 1 hdX0_gapsBy rfl rfl ⟨Nat.le_of_ble_eq_true rfl, Nat.le_of_ble_eq_true rfl⟩ (x_preV0 hK hH) rfl hl.1 rfl (Nat.le_of_ble_eq_true rfl) dX0_learnNext_46 ⟨Nat.zero_le _, Nat.zero_le _⟩ (fun r6 e_r6 => ?_)
        refine lv_istore (lv' := [(5, .int r6), (4, .int (nI i19)), (3, .int x19_3), (2, .int x19_2), (0, .ref (ω.2.1 0 99)), (1, .int (nI dn))]) hF.1 hF.2.1 dX0_learnNext_49 hl (by decide) rfl (fun ls hl => ?_)
        refine lv_iload hF.1 hF.2.1 dX0_learnNext_51 (lv_at hl 0 rfl) ?_
        refine lv_iload_n hF.1 hF.2.1 dX0_learnNext_53 rfl (lv_at hl 2 rfl) ?_
        refine lv_icmp_ge (tgt := 62) hF.1 hF.2.1 dX0_learnNext_54 (by decide) (fun c7 => ?_) (fun c7 => ?_)
        · skip
          refine lv_iload_n hF.1 hF.2.1 dX0_learnNext_62 rfl (lv_at hl 3 rfl) ?_
          refine lv_istore_n (lv' := [(2, .int x19_2), (5, .int r6), (4, .int (nI i19)), (3, .int x19_3), (0, .ref (ω.2.1 0 99)), (1, .int (nI dn))]) hF.1 hF.2.1 dX0_learnNext_63 rfl hl (by decide) rfl (fun ls hl => ?_)
          refine lv_iload_n hF.1 hF.2.1 dX0_learnNext_64 rfl (lv_at hl 3 rfl) ?_
          refine lv_iload hF.1 hF.2.1 dX0_learnNext_65 (lv_at hl 1 rfl) ?_
          refine va_mmin hF.1 hF.2.1 (hF.2.2.1.trans hl.1.symm) hF.2.2.2.1 (hF.2.2.2.2 _ q788) (hF.2.2.2.2 _ q546) (hF.2.2.2.2 _ q108) (hF.2.2.2.2 _ q547) (Nat.le_of_ble_eq_true rfl) (Nat.le_of_ble_eq_true rfl) (Nat.zero_le _) (Nat.zero_le _) dX0_learnNext_67 ?_
          refine n_top (y := jmin x19_3 r6) rfl ?_
          refine lv_istore_n (lv' := [(3, .int (jmin x19_3 r6)), (2, .int x19_2), (5, .int r6), (4, .int (nI i19)), (0, .ref (ω.2.1 0 99)), (1, .int (nI dn))]) hF.1 hF.2.1 dX0_learnNext_70 rfl hl (by decide) rfl (fun ls hl => ?_)
          refine n_iinc (lv' := [(4, .int (nI (i19 + 1))), (3, .int (jmin x19_3 r6)), (2, .int x19_2), (5, .int r6), (0, .ref (ω.2.1 0 99)), (1, .int (nI dn))]) hF.1 hF.2.1 dX0_learnNext_71 hl (k := 3) rfl (by decide) rfl (fun ls hl => ?_)
          refine lv_goto (tgt := 19) hF.1 hF.2.1 dX0_learnNext_74 (by decide) ?_
          exact ih (i19 + 1) _ _ _ (by omega) (by subst e_r6; rw [it_succ (fX0_learnNext_b19 a t dn) i19 _, ← hS19]; unfold fX0_learnNext_b19; dsimp only; first | (rw [if_pos c7]; done) | (simp only [if_pos c7])) (lv_sub hl [0, 1, 2, 4, 5] rfl)
        · skip
          refine lv_iload hF.1 hF.2.1 dX0_learnNext_57 (lv_at hl 1 rfl) ?_
          refine lv_goto (tgt := 63) hF.1 hF.2.1 dX0_learnNext_59 (by decide) ?_
          refine lv_istore_n (lv' := [(2, .int (nI i19)), (5, .int r6), (4, .int (nI i19)), (3, .int x19_3), (0, .ref (ω.2.1 0 99)), (1, .int (nI dn))]) hF.1 hF.2.1 dX0_learnNext_63 rfl hl (by decide) rfl (fun ls hl => ?_)
          refine lv_iload_n hF.1 hF.2.1 dX0_learnNext_64 rfl (lv_at hl 3 rfl) ?_
          refine lv_iload hF.1 hF.2.1 dX0_learnNext_65 (lv_at hl 1 rfl) ?_
          refine va_mmin hF.1 hF.2.1 (hF.2.2.1.trans hl.1.symm) hF.2.2.2.1 (hF.2.2.2.2 _ q788) (hF.2.2.2.2 _ q546) (hF.2.2.2.2 _ q108) (hF.2.2.2.2 _ q547) (Nat.le_of_ble_eq_true rfl) (Nat.le_of_ble_eq_true rfl) (Nat.zero_le _) (Nat.zero_le _) dX0_learnNext_67 ?_
          refine n_top (y := jmin x19_3 r6) rfl ?_
          refine lv_istore_n (lv' := [(3, .int (jmin x19_3 r6)), (2, .int (nI i19)), (5, .int r6), (4, .int (nI i19)), (0, .ref (ω.2.1 0 99)), (1, .int (nI dn))]) hF.1 hF.2.1 dX0_learnNext_70 rfl hl (by decide) rfl (fun ls hl => ?_)
          refine n_iinc (lv' := [(4, .int (nI (i19 + 1))), (3, .int (jmin x19_3 r6)), (2, .int (nI i19)), (5, .int r6), (0, .ref (ω.2.1 0 99)), (1, .int (nI dn))]) hF.1 hF.2.1 dX0_learnNext_71 hl (k := 3) rfl (by decide) rfl (fun ls hl => ?_)
          refine lv_goto (tgt := 19) hF.1 hF.2.1 dX0_learnNext_74 (by decide) ?_
          exact ih (i19 + 1) _ _ _ (by omega) (by subst e_r6; rw [it_succ (fX0_learnNext_b19 a t dn) i19 _, ← hS19]; unfold fX0_learnNext_b19; dsimp only; first | (rw [if_neg c7]; done) | (simp only [if_neg c7])) (lv_sub hl [0, 1, 2, 4, 5] rfl)
  exact lp19_57 (tn t) 0 _ _ _ (by omega) rfl (lv_sub hl [0, 1, 2, 3, 4] rfl)

def fX0_driverTold (a : Nat → Nat → Nat → Int32) (t : TW) (dn : Nat) (wh : Int32) : Int32 := if wh = nI 0 then a (0 + 6) 6 dn else if wh = nI 1 then a (0 + 6) 7 dn else if wh = nI 2 then (fX0_gapsBy t (a (0 + 6) 7 dn)) else if wh = nI 3 then (fX0_learnNext a t dn) else if wh = nI 4 then a (0 + 6) 8 dn else (fX1_reach t (a (0 + 6) 6 dn) (a (0 + 6) 7 dn))
def rmX0_driverTold : Room := { frames := 7, cells := 0, slots := 0, locals := 165 }
theorem hdX0_driverTold : yX0_driverTold.cls = RX0 ∧ yX0_driverTold.cls ≠ "java/lang/invoke/MethodHandle" ∧ yX0_driverTold.cls ≠ "java/lang/invoke/VarHandle" ∧ (parseMethodDescriptor yX0_driverTold.desc).map (fun d => d.parameters.length) = some 2 := by decide +kernel
set_option maxHeartbeats 4000000 in
theorem kX0_driverTold (l : Launch) (ω : OM) (g : Nat → Nat → Nat) (y : Nat → Nat → Int32) (a z : Nat → Nat → Nat → Int32) (dr : Int64) (pg : Nat → Int32) (t : TW) (dn : Nat) (wh : Int32) (hdn : dn < 2) : Met l yX0_driverTold (ws_ yX0_driverTold cX0_driverTold 3 (some .int)) rmX0_driverTold (va_Pc [.ref (ω.2.1 0 99), .int (nI dn), .int wh] (fun U => xK ω U ∧ xH ω (g, y, a, z, dr, pg, t) U.heap)) (vp_Si (fun r => r = (fX0_driverTold a t dn wh))) 0 0 (fun _ => False) := by
  refine g_entPi (C := RX0) rfl (by decide) (Nat.le_of_ble_eq_true rfl) ?_
  intro p e s m args below meth c QQ ls hF hKH hl hret
  have hl : lv_has ls 3 [(0, .ref (ω.2.1 0 99)), (1, .int (nI dn)), (2, .int wh)] := hl
  obtain ⟨hK, hH⟩ := hKH
  have hn9 : tn t ≤ 9 := hH.2.2.1
  refine lv_iload_n hF.1 hF.2.1 dX0_driverTold_0 rfl (lv_at hl 2 rfl) ?_
  by_cases c2 : wh = nI 0
  · skip
    refine n_top (y := nI 0) c2 ?_
    refine lv_tableIn (off := 35) (tgt := 36) hF.1 hF.2.1 dX0_driverTold_1 (by decide) (by decide) (by decide) (by decide) ?_
    refine lv_aload_n hF.1 hF.2.1 dX0_driverTold_36 rfl (lv_at hl 0 rfl) ?_
    refine xg0_3 hF hK hH q221 dX0_driverTold_37 ?_
    refine xgN_q166 (j := 0) (by decide) hF hK hH dX0_driverTold_40 ?_
    refine lv_iload_n hF.1 hF.2.1 dX0_driverTold_43 rfl (lv_at hl 1 rfl) ?_
    refine x1_ald (j := 0) (by decide) hF hK hH 6 (n := 2) rfl rfl (by decide) rfl (f := a (0 + 6) 6) rfl (i := dn) (by omega) (by decide) dX0_driverTold_44 ?_
    exact hret _ _ _ dX0_driverTold_45 (by unfold fX0_driverTold; first | (rw [if_pos c2]; done) | (simp only [if_pos c2]))
  by_cases c3 : wh = nI 1
  · skip
    refine n_top (y := nI 1) c3 ?_
    refine lv_tableIn (off := 45) (tgt := 46) hF.1 hF.2.1 dX0_driverTold_1 (by decide) (by decide) (by decide) (by decide) ?_
    refine lv_aload_n hF.1 hF.2.1 dX0_driverTold_46 rfl (lv_at hl 0 rfl) ?_
    refine xg0_3 hF hK hH q221 dX0_driverTold_47 ?_
    refine xgN_q168 (j := 0) (by decide) hF hK hH dX0_driverTold_50 ?_
    refine lv_iload_n hF.1 hF.2.1 dX0_driverTold_53 rfl (lv_at hl 1 rfl) ?_
    refine x1_ald (j := 0) (by decide) hF hK hH 7 (n := 2) rfl rfl (by decide) rfl (f := a (0 + 6) 7) rfl (i := dn) (by omega) (by decide) dX0_driverTold_54 ?_
    exact hret _ _ _ dX0_driverTold_55 (by unfold fX0_driverTold; first | (rw [if_neg c2, if_pos c3]; done) | (simp only [if_neg c2, if_pos c3]))
  by_cases c4 : wh = nI 2
  · skip
    refine n_top (y := nI 2) c4 ?_
    refine lv_tableIn (off := 55) (tgt := 56) hF.1 hF.2.1 dX0_driverTold_1 (by decide) (by decide) (by decide) (by decide) ?_
    refine lv_aload_n hF.1 hF.2.1 dX0_driverTold_56 rfl (lv_at hl 0 rfl) ?_
    refine lv_aload_n hF.1 hF.2.1 dX0_driverTold_57 rfl (lv_at hl 0 rfl) ?_
    refine xg0_3 hF hK hH q221 dX0_driverTold_58 ?_
    refine xgN_q168 (j := 0) (by decide) hF hK hH dX0_driverTold_61 ?_
    refine lv_iload_n hF.1 hF.2.1 dX0_driverTold_64 rfl (lv_at hl 1 rfl) ?_
    refine x1_ald (j := 0) (by decide) hF hK hH 7 (n := 2) rfl rfl (by decide) rfl (f := a (0 + 6) 7) rfl (i := dn) (by omega) (by decide) dX0_driverTold_65 ?_
    refine g_vPi (As := [.int (a (0 + 6) 7 dn)]) (rest := []) hF (kX0_gapsBy l ω g y a z dr pg t (a (0 + 6) 7 dn)) (lw_V q825 q827 qs32 q92 q828) 1 hdX0_gapsBy rfl rfl ⟨Nat.le_of_ble_eq_true rfl, Nat.le_of_ble_eq_true rfl⟩ (x_preV0 hK hH) rfl hl.1 rfl (Nat.le_of_ble_eq_true rfl) dX0_driverTold_66 ⟨Nat.zero_le _, Nat.zero_le _⟩ (fun r5 e_r5 => ?_)
    exact hret _ _ _ dX0_driverTold_69 (by subst e_r5; unfold fX0_driverTold; first | (rw [if_neg c2, if_neg c3, if_pos c4]; done) | (simp only [if_neg c2, if_neg c3, if_pos c4]))
  by_cases c6 : wh = nI 3
  · skip
    refine n_top (y := nI 3) c6 ?_
    refine lv_tableIn (off := 69) (tgt := 70) hF.1 hF.2.1 dX0_driverTold_1 (by decide) (by decide) (by decide) (by decide) ?_
    refine lv_aload_n hF.1 hF.2.1 dX0_driverTold_70 rfl (lv_at hl 0 rfl) ?_
    refine lv_iload_n hF.1 hF.2.1 dX0_driverTold_71 rfl (lv_at hl 1 rfl) ?_
    refine g_vPi (As := [.int (nI dn)]) (rest := []) hF (kX0_learnNext l ω g y a z dr pg t dn (by omega)) (lw_V q839 q841 qs34 q92 q842) 1 hdX0_learnNext rfl rfl ⟨Nat.le_of_ble_eq_true rfl, Nat.le_of_ble_eq_true rfl⟩ (x_preV0 hK hH) rfl hl.1 rfl (Nat.le_of_ble_eq_true rfl) dX0_driverTold_72 ⟨Nat.zero_le _, Nat.zero_le _⟩ (fun r7 e_r7 => ?_)
    exact hret _ _ _ dX0_driverTold_75 (by subst e_r7; unfold fX0_driverTold; first | (rw [if_neg c2, if_neg c3, if_neg c4, if_pos c6]; done) | (simp only [if_neg c2, if_neg c3, if_neg c4, if_pos c6]))
  by_cases c8 : wh = nI 4
  · skip
    refine n_top (y := nI 4) c8 ?_
    refine lv_tableIn (off := 75) (tgt := 76) hF.1 hF.2.1 dX0_driverTold_1 (by decide) (by decide) (by decide) (by decide) ?_
    refine lv_aload_n hF.1 hF.2.1 dX0_driverTold_76 rfl (lv_at hl 0 rfl) ?_
    refine xg0_3 hF hK hH q221 dX0_driverTold_77 ?_
    refine xgN_q170 (j := 0) (by decide) hF hK hH dX0_driverTold_80 ?_
    refine lv_iload_n hF.1 hF.2.1 dX0_driverTold_83 rfl (lv_at hl 1 rfl) ?_
    refine x1_ald (j := 0) (by decide) hF hK hH 8 (n := 2) rfl rfl (by decide) rfl (f := a (0 + 6) 8) rfl (i := dn) (by omega) (by decide) dX0_driverTold_84 ?_
    exact hret _ _ _ dX0_driverTold_85 (by unfold fX0_driverTold; first | (rw [if_neg c2, if_neg c3, if_neg c4, if_neg c6, if_pos c8]; done) | (simp only [if_neg c2, if_neg c3, if_neg c4, if_neg c6, if_pos c8]))
  have kd1 : W p l e rmX0_driverTold s m args below meth c s.heap [] 0 0 QQ (F0 m 86 ls []) := by
    skip
    refine lv_aload_n hF.1 hF.2.1 dX0_driverTold_86 rfl (lv_at hl 0 rfl) ?_
    refine xg0_3 hF hK hH q221 dX0_driverTold_87 ?_
    refine lv_aload_n hF.1 hF.2.1 dX0_driverTold_90 rfl (lv_at hl 0 rfl) ?_
    refine xg0_3 hF hK hH q221 dX0_driverTold_91 ?_
    refine xgN_q166 (j := 0) (by decide) hF hK hH dX0_driverTold_94 ?_
    refine lv_iload_n hF.1 hF.2.1 dX0_driverTold_97 rfl (lv_at hl 1 rfl) ?_
    refine x1_ald (j := 0) (by decide) hF hK hH 6 (n := 2) rfl rfl (by decide) rfl (f := a (0 + 6) 6) rfl (i := dn) (by omega) (by decide) dX0_driverTold_98 ?_
    refine lv_aload_n hF.1 hF.2.1 dX0_driverTold_99 rfl (lv_at hl 0 rfl) ?_
    refine xg0_3 hF hK hH q221 dX0_driverTold_100 ?_
    refine xgN_q168 (j := 0) (by decide) hF hK hH dX0_driverTold_103 ?_
    refine lv_iload_n hF.1 hF.2.1 dX0_driverTold_106 rfl (lv_at hl 1 rfl) ?_
    refine x1_ald (j := 0) (by decide) hF hK hH 7 (n := 2) rfl rfl (by decide) rfl (f := a (0 + 6) 7) rfl (i := dn) (by omega) (by decide) dX0_driverTold_107 ?_
    refine g_vPi (As := [.int (a (0 + 6) 6 dn), .int (a (0 + 6) 7 dn)]) (rest := []) hF (kX1_reach l ω g y a z dr pg t 0 (by decide) (a (0 + 6) 6 dn) (a (0 + 6) 7 dn)) (lw_V q809 q810 q811 q96 q812) 2 hdX1_reach rfl rfl ⟨Nat.le_of_ble_eq_true rfl, Nat.le_of_ble_eq_true rfl⟩ (x_preV1 (by decide) hK hH) rfl hl.1 rfl (Nat.le_of_ble_eq_true rfl) dX0_driverTold_108 ⟨Nat.zero_le _, Nat.zero_le _⟩ (fun r9 e_r9 => ?_)
    exact hret _ _ _ dX0_driverTold_111 (by subst e_r9; unfold fX0_driverTold; first | (rw [if_neg c2, if_neg c3, if_neg c4, if_neg c6, if_neg c8]; done) | (simp only [if_neg c2, if_neg c3, if_neg c4, if_neg c6, if_neg c8]))
  by_cases hlo : wh.toInt < 0
  · exact lv_tableOut (tgt := 86) hF.1 hF.2.1 dX0_driverTold_1 (Or.inl hlo) (by decide) kd1
  by_cases hhi : 4 < wh.toInt
  · exact lv_tableOut (tgt := 86) hF.1 hF.2.1 dX0_driverTold_1 (Or.inr hhi) (by decide) kd1
  by_cases hv0 : wh.toInt = 0
  · exact absurd (Int32.toInt_inj.mp (hv0.trans (by decide)) : wh = nI 0) c2
  by_cases hv1 : wh.toInt = 1
  · exact absurd (Int32.toInt_inj.mp (hv1.trans (by decide)) : wh = nI 1) c3
  by_cases hv2 : wh.toInt = 2
  · exact absurd (Int32.toInt_inj.mp (hv2.trans (by decide)) : wh = nI 2) c4
  by_cases hv3 : wh.toInt = 3
  · exact absurd (Int32.toInt_inj.mp (hv3.trans (by decide)) : wh = nI 3) c6
  by_cases hv4 : wh.toInt = 4
  · exact absurd (Int32.toInt_inj.mp (hv4.trans (by decide)) : wh = nI 4) c8
  exfalso
  omega

def fX0_driver (g : Nat → Nat → Nat) (a : Nat → Nat → Nat → Int32) (t : TW) (dn : Int32) (wh : Int32) : Int32 := if (fX0_isDriver g dn) = 0 then (-101) else if (fX0_in wh (nI 0) (nI 5)) = 0 then (-102) else (fX0_driverTold a t (toN dn) wh)
def rmX0_driver : Room := { frames := 8, cells := 0, slots := 0, locals := 187 }
theorem hdX0_driver : yX0_driver.cls = RX0 ∧ yX0_driver.cls ≠ "java/lang/invoke/MethodHandle" ∧ yX0_driver.cls ≠ "java/lang/invoke/VarHandle" ∧ (parseMethodDescriptor yX0_driver.desc).map (fun d => d.parameters.length) = some 2 := by decide +kernel
set_option maxHeartbeats 4000000 in
theorem kX0_driver (l : Launch) (ω : OM) (g : Nat → Nat → Nat) (y : Nat → Nat → Int32) (a z : Nat → Nat → Nat → Int32) (dr : Int64) (pg : Nat → Int32) (t : TW) (dn : Int32) (wh : Int32) (hp3 : g 0 1 ≤ 3) : Met l yX0_driver (ws_ yX0_driver cX0_driver 3 (some .int)) rmX0_driver (va_Pc [.ref (ω.2.1 0 99), .int dn, .int wh] (fun U => xK ω U ∧ xH ω (g, y, a, z, dr, pg, t) U.heap)) (vp_Si (fun r => r = (fX0_driver g a t dn wh))) 0 0 (fun _ => False) := by
  refine g_entPi (C := RX0) rfl (by decide) (Nat.le_of_ble_eq_true rfl) ?_
  intro p e s m args below meth c QQ ls hF hKH hl hret
  have hl : lv_has ls 3 [(0, .ref (ω.2.1 0 99)), (1, .int dn), (2, .int wh)] := hl
  obtain ⟨hK, hH⟩ := hKH
  have hn9 : tn t ≤ 9 := hH.2.2.1
  refine lv_aload_n hF.1 hF.2.1 dX0_driver_0 rfl (lv_at hl 0 rfl) ?_
  refine lv_iload_n hF.1 hF.2.1 dX0_driver_1 rfl (lv_at hl 1 rfl) ?_
  refine g_vPi (As := [.int dn]) (rest := []) hF (kX0_isDriver l ω g y a z dr pg t dn (by omega)) (lw_V q817 q819 qs30 q92 q820) 1 hdX0_isDriver rfl rfl ⟨Nat.le_of_ble_eq_true rfl, Nat.le_of_ble_eq_true rfl⟩ (x_preV0 hK hH) rfl hl.1 rfl (Nat.le_of_ble_eq_true rfl) dX0_driver_2 ⟨Nat.zero_le _, Nat.zero_le _⟩ (fun r1 e_r1 => ?_)
  refine lv_if_ne (tgt := 13) hF.1 hF.2.1 dX0_driver_5 (by decide) (fun c2 => ?_) (fun c2 => ?_)
  · skip
    refine lv_iload_n hF.1 hF.2.1 dX0_driver_13 rfl (lv_at hl 2 rfl) ?_
    refine lv_iconst (v := nI 0) hF.1 hF.2.1 dX0_driver_14 (by decide) ?_
    refine lv_iconst (v := nI 5) hF.1 hF.2.1 dX0_driver_15 (by decide) ?_
    refine g_sPi (As := [.int wh, .int (nI 0), .int (nI 5)]) (rest := []) hF (kX0_in l wh (nI 0) (nI 5)) (lw_S q301 q302 q92 q303) 3 hdX0_in.2 rfl rfl ⟨Nat.le_of_ble_eq_true rfl, Nat.le_of_ble_eq_true rfl⟩ g_pre0 rfl hl.1 rfl (Nat.le_of_ble_eq_true rfl) dX0_driver_16 ⟨Nat.zero_le _, Nat.zero_le _⟩ (fun r3 e_r3 => ?_)
    refine lv_if_eq (tgt := 31) hF.1 hF.2.1 dX0_driver_19 (by decide) (fun c4 => ?_) (fun c4 => ?_)
    · skip
      refine lv_bipush (v := (-102)) hF.1 hF.2.1 dX0_driver_31 (by decide) ?_
      exact hret _ _ _ dX0_driver_33 (by subst e_r3; subst e_r1; unfold fX0_driver; first | (rw [if_neg c2, if_pos c4]; done) | (simp only [if_neg c2, if_pos c4]))
    · skip
      obtain ⟨b5e, b5l⟩ := g_lift (r := dn) (n := 2) (xDriver_lift (by rw [← e_r1]; exact c2)) (by omega)
      refine lv_aload_n hF.1 hF.2.1 dX0_driver_22 rfl (lv_at hl 0 rfl) ?_
      refine lv_iload_n hF.1 hF.2.1 dX0_driver_23 rfl (lv_at hl 1 rfl) ?_
      refine n_top b5e ?_
      refine lv_iload_n hF.1 hF.2.1 dX0_driver_24 rfl (lv_at hl 2 rfl) ?_
      refine g_vPi (As := [.int (nI (toN dn)), .int wh]) (rest := []) hF (kX0_driverTold l ω g y a z dr pg t (toN dn) wh (by omega)) (lw_V q821 q823 qs31 q92 q824) 2 hdX0_driverTold rfl rfl ⟨Nat.le_of_ble_eq_true rfl, Nat.le_of_ble_eq_true rfl⟩ (x_preV0 hK hH) rfl hl.1 rfl (Nat.le_of_ble_eq_true rfl) dX0_driver_25 ⟨Nat.zero_le _, Nat.zero_le _⟩ (fun r6 e_r6 => ?_)
      refine lv_goto (tgt := 33) hF.1 hF.2.1 dX0_driver_28 (by decide) ?_
      exact hret _ _ _ dX0_driver_33 (by subst e_r6; subst e_r3; subst e_r1; unfold fX0_driver; first | (rw [if_neg c2, if_neg c4]; done) | (simp only [if_neg c2, if_neg c4]))
  · skip
    refine lv_bipush (v := (-101)) hF.1 hF.2.1 dX0_driver_8 (by decide) ?_
    refine lv_goto (tgt := 33) hF.1 hF.2.1 dX0_driver_10 (by decide) ?_
    exact hret _ _ _ dX0_driver_33 (by subst e_r1; unfold fX0_driver; first | (rw [if_pos c2]; done) | (simp only [if_pos c2]))

def fX0_learn (g : Nat → Nat → Nat) (a : Nat → Nat → Nat → Int32) (t : TW) (dn : Int32) (sn : Int32) : Int32 × (Nat → Int32) := if (fX0_isDriver g dn) = 0 then ((-101), a (0 + 6) 7) else if (fX0_isStreet t sn) = 0 then ((-101), a (0 + 6) 7) else if (fX0_isIn (a (0 + 6) 7 (toN dn)) sn) = 0 then ((fJ10_bitCount ((upd (a (0 + 6) 7) (toN dn) ((a (0 + 6) 7 (toN dn)) ||| ((nI 1) <<< (sn &&& 31)))) (toN dn))), upd (a (0 + 6) 7) (toN dn) ((a (0 + 6) 7 (toN dn)) ||| ((nI 1) <<< (sn &&& 31)))) else ((-103), a (0 + 6) 7)
def rmX0_learn : Room := { frames := 3, cells := 0, slots := 0, locals := 67 }
theorem hdX0_learn : yX0_learn.cls = RX0 ∧ yX0_learn.cls ≠ "java/lang/invoke/MethodHandle" ∧ yX0_learn.cls ≠ "java/lang/invoke/VarHandle" ∧ (parseMethodDescriptor yX0_learn.desc).map (fun d => d.parameters.length) = some 2 := by decide +kernel
set_option maxHeartbeats 4000000 in
theorem kX0_learn (l : Launch) (ω : OM) (g : Nat → Nat → Nat) (y : Nat → Nat → Int32) (a z : Nat → Nat → Nat → Int32) (dr : Int64) (pg : Nat → Int32) (t : TW) (dn : Int32) (sn : Int32) (hp3 : g 0 1 ≤ 3) : Met l yX0_learn (ws_ yX0_learn cX0_learn 3 (some .int)) rmX0_learn (va_Pc [.ref (ω.2.1 0 99), .int dn, .int sn] (fun U => xK ω U ∧ xH ω (g, y, a, z, dr, pg, t) U.heap)) (va_Qi (fun (r : Int32) (u : XS) => ∃ (o0 : Nat → Int32), (r, o0) = (fX0_learn g a t dn sn) ∧ u = (g, y, up2 a (0 + 6) 7 o0, z, dr, pg, t)) (fun u t => xH ω u t.heap) ω.2.2.1) 0 0 ω.2.2.1 := by
  refine g_entWi (C := RX0) rfl (by decide) (Nat.le_of_ble_eq_true rfl) ?_
  intro p e s m args below meth c QQ ls H locs hF hK hH hS hl hret
  have hl : lv_has ls 3 [(0, .ref (ω.2.1 0 99)), (1, .int dn), (2, .int sn)] := hl
  have hn9 : tn t ≤ 9 := hH.2.2.1
  refine lv_aload_n hF.1 hF.2.1 dX0_learn_0 rfl (lv_at hl 0 rfl) ?_
  refine lv_iload_n hF.1 hF.2.1 dX0_learn_1 rfl (lv_at hl 1 rfl) ?_
  refine g_vPi (As := [.int dn]) (rest := []) hF (kX0_isDriver l ω g y a z dr pg t dn (by omega)) (lw_V q817 q819 qs30 q92 q820) 1 hdX0_isDriver rfl rfl ⟨Nat.le_of_ble_eq_true rfl, Nat.le_of_ble_eq_true rfl⟩ (x_preV0 hK hH) rfl hl.1 rfl (Nat.le_of_ble_eq_true rfl) dX0_learn_2 ⟨Nat.zero_le _, Nat.zero_le _⟩ (fun r1 e_r1 => ?_)
  refine lv_if_eq (tgt := 16) hF.1 hF.2.1 dX0_learn_5 (by decide) (fun c2 => ?_) (fun c2 => ?_)
  · skip
    refine lv_bipush (v := (-101)) hF.1 hF.2.1 dX0_learn_16 (by decide) ?_
    have hH : xH ω (g, y, up2 a (0 + 6) 7 (a (0 + 6) 7), z, dr, pg, t) H := x_ext (fun _ _ => rfl) (fun _ _ => rfl) (by intro o k; by_cases h0 : o = (0 + 6) ∧ k = 7; (obtain ⟨rfl, rfl⟩ := h0; simp [up2]); simp only [up2, if_neg h0]) (fun _ _ => rfl) hH
    exact hret _ _ _ _ _ _ dX0_learn_18 ⟨_, by subst e_r1; unfold fX0_learn; first | (rw [if_pos c2]; done) | (simp only [if_pos c2]), rfl⟩ hH hS
  · skip
    refine lv_aload_n hF.1 hF.2.1 dX0_learn_8 rfl (lv_at hl 0 rfl) ?_
    refine lv_iload_n hF.1 hF.2.1 dX0_learn_9 rfl (lv_at hl 2 rfl) ?_
    refine g_vPi (As := [.int sn]) (rest := []) hF (kX0_isStreet l ω g y a z dr pg t sn) (lw_V q689 q691 qs18 q92 q692) 1 hdX0_isStreet rfl rfl ⟨Nat.le_of_ble_eq_true rfl, Nat.le_of_ble_eq_true rfl⟩ (x_preV0 hK hH) rfl hl.1 rfl (Nat.le_of_ble_eq_true rfl) dX0_learn_10 ⟨Nat.zero_le _, Nat.zero_le _⟩ (fun r3 e_r3 => ?_)
    refine lv_if_ne (tgt := 19) hF.1 hF.2.1 dX0_learn_13 (by decide) (fun c4 => ?_) (fun c4 => ?_)
    · skip
      obtain ⟨b5e, b5l⟩ := g_lift (r := dn) (n := 2) (xDriver_lift (by rw [← e_r1]; exact c2)) (by omega)
      refine lv_aload_n hF.1 hF.2.1 dX0_learn_19 rfl (lv_at hl 0 rfl) ?_
      refine xg0_3 hF hK hH q221 dX0_learn_20 ?_
      refine xgN_q168 (j := 0) (by decide) hF hK hH dX0_learn_23 ?_
      refine lv_iload_n hF.1 hF.2.1 dX0_learn_26 rfl (lv_at hl 1 rfl) ?_
      refine n_top b5e ?_
      refine x1_ald (j := 0) (by decide) hF hK hH 7 (n := 2) rfl rfl (by decide) rfl (f := a (0 + 6) 7) rfl (i := toN dn) (by omega) (by decide) dX0_learn_27 ?_
      refine lv_iload_n hF.1 hF.2.1 dX0_learn_28 rfl (lv_at hl 2 rfl) ?_
      refine g_sPi (As := [.int (a (0 + 6) 7 (toN dn)), .int sn]) (rest := []) hF (kX0_isIn l (a (0 + 6) 7 (toN dn)) sn) (lw_S q718 q626 q92 q627) 2 hdX0_isIn.2 rfl rfl ⟨Nat.le_of_ble_eq_true rfl, Nat.le_of_ble_eq_true rfl⟩ g_pre0 rfl hl.1 rfl (Nat.le_of_ble_eq_true rfl) dX0_learn_29 ⟨Nat.zero_le _, Nat.zero_le _⟩ (fun r6 e_r6 => ?_)
      refine lv_if_eq (tgt := 38) hF.1 hF.2.1 dX0_learn_32 (by decide) (fun c7 => ?_) (fun c7 => ?_)
      · skip
        refine lv_aload_n hF.1 hF.2.1 dX0_learn_38 rfl (lv_at hl 0 rfl) ?_
        refine xg0_3 hF hK hH q221 dX0_learn_39 ?_
        refine xgN_q168 (j := 0) (by decide) hF hK hH dX0_learn_42 ?_
        refine lv_iload_n hF.1 hF.2.1 dX0_learn_45 rfl (lv_at hl 1 rfl) ?_
        refine n_top b5e ?_
        refine lv_dup2_11 hF.1 hF.2.1 dX0_learn_46 rfl rfl ?_
        refine x1_ald (j := 0) (by decide) hF hK hH 7 (n := 2) rfl rfl (by decide) rfl (f := a (0 + 6) 7) rfl (i := toN dn) (by omega) (by decide) dX0_learn_47 ?_
        refine lv_iconst (v := nI 1) hF.1 hF.2.1 dX0_learn_48 (by decide) ?_
        refine lv_iload_n hF.1 hF.2.1 dX0_learn_49 rfl (lv_at hl 2 rfl) ?_
        refine lv_ishl hF.1 hF.2.1 dX0_learn_50 ?_
        refine lv_ior hF.1 hF.2.1 dX0_learn_51 ?_
        refine x1_ast (a' := up2 a (0 + 6) 7 (upd (a (0 + 6) 7) (toN dn) ((a (0 + 6) 7 (toN dn)) ||| ((nI 1) <<< (sn &&& 31))))) (j := 0) (by decide) hF hK hH hS 7 (n := 2) rfl rfl (by decide) rfl (f := a (0 + 6) 7) rfl (i := toN dn) (by omega) (by decide) dX0_learn_52 (by simp [up2]) (by intro i q hq; simp only [up2, if_neg hq]) (fun H locs hH hS => ?_)
        refine lv_aload_n hF.1 hF.2.1 dX0_learn_53 rfl (lv_at hl 0 rfl) ?_
        refine xg0_3 hF hK hH q221 dX0_learn_54 ?_
        refine xgN_q168 (j := 0) (by decide) hF hK hH dX0_learn_57 ?_
        refine lv_iload_n hF.1 hF.2.1 dX0_learn_60 rfl (lv_at hl 1 rfl) ?_
        refine n_top b5e ?_
        refine x1_ald (j := 0) (by decide) hF hK hH 7 (n := 2) rfl rfl (by decide) rfl (f := upd (a (0 + 6) 7) (toN dn) ((a (0 + 6) 7 (toN dn)) ||| ((nI 1) <<< (sn &&& 31)))) (by simp [up2]) (i := toN dn) (by omega) (by decide) dX0_learn_61 ?_
        refine g_sPi (As := [.int ((upd (a (0 + 6) 7) (toN dn) ((a (0 + 6) 7 (toN dn)) ||| ((nI 1) <<< (sn &&& 31)))) (toN dn))]) (rest := []) hF (kJ10_bitCount l ((upd (a (0 + 6) 7) (toN dn) ((a (0 + 6) 7 (toN dn)) ||| ((nI 1) <<< (sn &&& 31)))) (toN dn))) (lw_S q833 q834 q113 q835) 1 hdJ10_bitCount.2 rfl rfl ⟨Nat.le_of_ble_eq_true rfl, Nat.le_of_ble_eq_true rfl⟩ g_pre0 rfl hl.1 rfl (Nat.le_of_ble_eq_true rfl) dX0_learn_62 ⟨Nat.zero_le _, Nat.zero_le _⟩ (fun r8 e_r8 => ?_)
        exact hret _ _ _ _ _ _ dX0_learn_65 ⟨_, by subst e_r8; subst e_r6; subst e_r3; subst e_r1; unfold fX0_learn; first | (rw [if_neg c2, if_neg c4, if_pos c7]; done) | (simp only [if_neg c2, if_neg c4, if_pos c7]), rfl⟩ hH hS
      · skip
        refine lv_bipush (v := (-103)) hF.1 hF.2.1 dX0_learn_35 (by decide) ?_
        have hH : xH ω (g, y, up2 a (0 + 6) 7 (a (0 + 6) 7), z, dr, pg, t) H := x_ext (fun _ _ => rfl) (fun _ _ => rfl) (by intro o k; by_cases h0 : o = (0 + 6) ∧ k = 7; (obtain ⟨rfl, rfl⟩ := h0; simp [up2]); simp only [up2, if_neg h0]) (fun _ _ => rfl) hH
        exact hret _ _ _ _ _ _ dX0_learn_37 ⟨_, by subst e_r6; subst e_r3; subst e_r1; unfold fX0_learn; first | (rw [if_neg c2, if_neg c4, if_neg c7]; done) | (simp only [if_neg c2, if_neg c4, if_neg c7]), rfl⟩ hH hS
    · skip
      refine lv_bipush (v := (-101)) hF.1 hF.2.1 dX0_learn_16 (by decide) ?_
      have hH : xH ω (g, y, up2 a (0 + 6) 7 (a (0 + 6) 7), z, dr, pg, t) H := x_ext (fun _ _ => rfl) (fun _ _ => rfl) (by intro o k; by_cases h0 : o = (0 + 6) ∧ k = 7; (obtain ⟨rfl, rfl⟩ := h0; simp [up2]); simp only [up2, if_neg h0]) (fun _ _ => rfl) hH
      exact hret _ _ _ _ _ _ dX0_learn_18 ⟨_, by subst e_r3; subst e_r1; unfold fX0_learn; first | (rw [if_neg c2, if_pos c4]; done) | (simp only [if_neg c2, if_pos c4]), rfl⟩ hH hS

def fX0_lose (g : Nat → Nat → Nat) (a : Nat → Nat → Nat → Int32) (t : TW) (dn : Int32) (sn : Int32) : Int32 × (Nat → Int32) := if (fX0_isDriver g dn) = 0 then ((-101), a (0 + 6) 7) else if (fX0_isStreet t sn) = 0 then ((-101), a (0 + 6) 7) else if (fX0_isIn (a (0 + 6) 7 (toN dn)) sn) = 0 then ((-103), a (0 + 6) 7) else ((fJ10_bitCount ((upd (a (0 + 6) 7) (toN dn) ((a (0 + 6) 7 (toN dn)) &&& (((nI 1) <<< (sn &&& 31)) ^^^ (-1)))) (toN dn))), upd (a (0 + 6) 7) (toN dn) ((a (0 + 6) 7 (toN dn)) &&& (((nI 1) <<< (sn &&& 31)) ^^^ (-1))))
def rmX0_lose : Room := { frames := 3, cells := 0, slots := 0, locals := 67 }
theorem hdX0_lose : yX0_lose.cls = RX0 ∧ yX0_lose.cls ≠ "java/lang/invoke/MethodHandle" ∧ yX0_lose.cls ≠ "java/lang/invoke/VarHandle" ∧ (parseMethodDescriptor yX0_lose.desc).map (fun d => d.parameters.length) = some 2 := by decide +kernel
set_option maxHeartbeats 4000000 in
theorem kX0_lose (l : Launch) (ω : OM) (g : Nat → Nat → Nat) (y : Nat → Nat → Int32) (a z : Nat → Nat → Nat → Int32) (dr : Int64) (pg : Nat → Int32) (t : TW) (dn : Int32) (sn : Int32) (hp3 : g 0 1 ≤ 3) : Met l yX0_lose (ws_ yX0_lose cX0_lose 3 (some .int)) rmX0_lose (va_Pc [.ref (ω.2.1 0 99), .int dn, .int sn] (fun U => xK ω U ∧ xH ω (g, y, a, z, dr, pg, t) U.heap)) (va_Qi (fun (r : Int32) (u : XS) => ∃ (o0 : Nat → Int32), (r, o0) = (fX0_lose g a t dn sn) ∧ u = (g, y, up2 a (0 + 6) 7 o0, z, dr, pg, t)) (fun u t => xH ω u t.heap) ω.2.2.1) 0 0 ω.2.2.1 := by
  refine g_entWi (C := RX0) rfl (by decide) (Nat.le_of_ble_eq_true rfl) ?_
  intro p e s m args below meth c QQ ls H locs hF hK hH hS hl hret
  have hl : lv_has ls 3 [(0, .ref (ω.2.1 0 99)), (1, .int dn), (2, .int sn)] := hl
  have hn9 : tn t ≤ 9 := hH.2.2.1
  refine lv_aload_n hF.1 hF.2.1 dX0_lose_0 rfl (lv_at hl 0 rfl) ?_
  refine lv_iload_n hF.1 hF.2.1 dX0_lose_1 rfl (lv_at hl 1 rfl) ?_
  refine g_vPi (As := [.int dn]) (rest := []) hF (kX0_isDriver l ω g y a z dr pg t dn (by omega)) (lw_V q817 q819 qs30 q92 q820) 1 hdX0_isDriver rfl rfl ⟨Nat.le_of_ble_eq_true rfl, Nat.le_of_ble_eq_true rfl⟩ (x_preV0 hK hH) rfl hl.1 rfl (Nat.le_of_ble_eq_true rfl) dX0_lose_2 ⟨Nat.zero_le _, Nat.zero_le _⟩ (fun r1 e_r1 => ?_)
  refine lv_if_eq (tgt := 16) hF.1 hF.2.1 dX0_lose_5 (by decide) (fun c2 => ?_) (fun c2 => ?_)
  · skip
    refine lv_bipush (v := (-101)) hF.1 hF.2.1 dX0_lose_16 (by decide) ?_
    have hH : xH ω (g, y, up2 a (0 + 6) 7 (a (0 + 6) 7), z, dr, pg, t) H := x_ext (fun _ _ => rfl) (fun _ _ => rfl) (by intro o k; by_cases h0 : o = (0 + 6) ∧ k = 7; (obtain ⟨rfl, rfl⟩ := h0; simp [up2]); simp only [up2, if_neg h0]) (fun _ _ => rfl) hH
    exact hret _ _ _ _ _ _ dX0_lose_18 ⟨_, by subst e_r1; unfold fX0_lose; first | (rw [if_pos c2]; done) | (simp only [if_pos c2]), rfl⟩ hH hS
  · skip
    refine lv_aload_n hF.1 hF.2.1 dX0_lose_8 rfl (lv_at hl 0 rfl) ?_
    refine lv_iload_n hF.1 hF.2.1 dX0_lose_9 rfl (lv_at hl 2 rfl) ?_
    refine g_vPi (As := [.int sn]) (rest := []) hF (kX0_isStreet l ω g y a z dr pg t sn) (lw_V q689 q691 qs18 q92 q692) 1 hdX0_isStreet rfl rfl ⟨Nat.le_of_ble_eq_true rfl, Nat.le_of_ble_eq_true rfl⟩ (x_preV0 hK hH) rfl hl.1 rfl (Nat.le_of_ble_eq_true rfl) dX0_lose_10 ⟨Nat.zero_le _, Nat.zero_le _⟩ (fun r3 e_r3 => ?_)
    refine lv_if_ne (tgt := 19) hF.1 hF.2.1 dX0_lose_13 (by decide) (fun c4 => ?_) (fun c4 => ?_)
    · skip
      obtain ⟨b5e, b5l⟩ := g_lift (r := dn) (n := 2) (xDriver_lift (by rw [← e_r1]; exact c2)) (by omega)
      refine lv_aload_n hF.1 hF.2.1 dX0_lose_19 rfl (lv_at hl 0 rfl) ?_
      refine xg0_3 hF hK hH q221 dX0_lose_20 ?_
      refine xgN_q168 (j := 0) (by decide) hF hK hH dX0_lose_23 ?_
      refine lv_iload_n hF.1 hF.2.1 dX0_lose_26 rfl (lv_at hl 1 rfl) ?_
      refine n_top b5e ?_
      refine x1_ald (j := 0) (by decide) hF hK hH 7 (n := 2) rfl rfl (by decide) rfl (f := a (0 + 6) 7) rfl (i := toN dn) (by omega) (by decide) dX0_lose_27 ?_
      refine lv_iload_n hF.1 hF.2.1 dX0_lose_28 rfl (lv_at hl 2 rfl) ?_
      refine g_sPi (As := [.int (a (0 + 6) 7 (toN dn)), .int sn]) (rest := []) hF (kX0_isIn l (a (0 + 6) 7 (toN dn)) sn) (lw_S q718 q626 q92 q627) 2 hdX0_isIn.2 rfl rfl ⟨Nat.le_of_ble_eq_true rfl, Nat.le_of_ble_eq_true rfl⟩ g_pre0 rfl hl.1 rfl (Nat.le_of_ble_eq_true rfl) dX0_lose_29 ⟨Nat.zero_le _, Nat.zero_le _⟩ (fun r6 e_r6 => ?_)
      refine lv_if_ne (tgt := 38) hF.1 hF.2.1 dX0_lose_32 (by decide) (fun c7 => ?_) (fun c7 => ?_)
      · skip
        refine lv_aload_n hF.1 hF.2.1 dX0_lose_38 rfl (lv_at hl 0 rfl) ?_
        refine xg0_3 hF hK hH q221 dX0_lose_39 ?_
        refine xgN_q168 (j := 0) (by decide) hF hK hH dX0_lose_42 ?_
        refine lv_iload_n hF.1 hF.2.1 dX0_lose_45 rfl (lv_at hl 1 rfl) ?_
        refine n_top b5e ?_
        refine lv_dup2_11 hF.1 hF.2.1 dX0_lose_46 rfl rfl ?_
        refine x1_ald (j := 0) (by decide) hF hK hH 7 (n := 2) rfl rfl (by decide) rfl (f := a (0 + 6) 7) rfl (i := toN dn) (by omega) (by decide) dX0_lose_47 ?_
        refine lv_iconst (v := nI 1) hF.1 hF.2.1 dX0_lose_48 (by decide) ?_
        refine lv_iload_n hF.1 hF.2.1 dX0_lose_49 rfl (lv_at hl 2 rfl) ?_
        refine lv_ishl hF.1 hF.2.1 dX0_lose_50 ?_
        refine lv_iconst (v := (-1)) hF.1 hF.2.1 dX0_lose_51 (by decide) ?_
        refine lv_ixor hF.1 hF.2.1 dX0_lose_52 ?_
        refine lv_iand hF.1 hF.2.1 dX0_lose_53 ?_
        refine x1_ast (a' := up2 a (0 + 6) 7 (upd (a (0 + 6) 7) (toN dn) ((a (0 + 6) 7 (toN dn)) &&& (((nI 1) <<< (sn &&& 31)) ^^^ (-1))))) (j := 0) (by decide) hF hK hH hS 7 (n := 2) rfl rfl (by decide) rfl (f := a (0 + 6) 7) rfl (i := toN dn) (by omega) (by decide) dX0_lose_54 (by simp [up2]) (by intro i q hq; simp only [up2, if_neg hq]) (fun H locs hH hS => ?_)
        refine lv_aload_n hF.1 hF.2.1 dX0_lose_55 rfl (lv_at hl 0 rfl) ?_
        refine xg0_3 hF hK hH q221 dX0_lose_56 ?_
        refine xgN_q168 (j := 0) (by decide) hF hK hH dX0_lose_59 ?_
        refine lv_iload_n hF.1 hF.2.1 dX0_lose_62 rfl (lv_at hl 1 rfl) ?_
        refine n_top b5e ?_
        refine x1_ald (j := 0) (by decide) hF hK hH 7 (n := 2) rfl rfl (by decide) rfl (f := upd (a (0 + 6) 7) (toN dn) ((a (0 + 6) 7 (toN dn)) &&& (((nI 1) <<< (sn &&& 31)) ^^^ (-1)))) (by simp [up2]) (i := toN dn) (by omega) (by decide) dX0_lose_63 ?_
        refine g_sPi (As := [.int ((upd (a (0 + 6) 7) (toN dn) ((a (0 + 6) 7 (toN dn)) &&& (((nI 1) <<< (sn &&& 31)) ^^^ (-1)))) (toN dn))]) (rest := []) hF (kJ10_bitCount l ((upd (a (0 + 6) 7) (toN dn) ((a (0 + 6) 7 (toN dn)) &&& (((nI 1) <<< (sn &&& 31)) ^^^ (-1)))) (toN dn))) (lw_S q833 q834 q113 q835) 1 hdJ10_bitCount.2 rfl rfl ⟨Nat.le_of_ble_eq_true rfl, Nat.le_of_ble_eq_true rfl⟩ g_pre0 rfl hl.1 rfl (Nat.le_of_ble_eq_true rfl) dX0_lose_64 ⟨Nat.zero_le _, Nat.zero_le _⟩ (fun r8 e_r8 => ?_)
        exact hret _ _ _ _ _ _ dX0_lose_67 ⟨_, by subst e_r8; subst e_r6; subst e_r3; subst e_r1; unfold fX0_lose; first | (rw [if_neg c2, if_neg c4, if_neg c7]; done) | (simp only [if_neg c2, if_neg c4, if_neg c7]), rfl⟩ hH hS
      · skip
        refine lv_bipush (v := (-103)) hF.1 hF.2.1 dX0_lose_35 (by decide) ?_
        have hH : xH ω (g, y, up2 a (0 + 6) 7 (a (0 + 6) 7), z, dr, pg, t) H := x_ext (fun _ _ => rfl) (fun _ _ => rfl) (by intro o k; by_cases h0 : o = (0 + 6) ∧ k = 7; (obtain ⟨rfl, rfl⟩ := h0; simp [up2]); simp only [up2, if_neg h0]) (fun _ _ => rfl) hH
        exact hret _ _ _ _ _ _ dX0_lose_37 ⟨_, by subst e_r6; subst e_r3; subst e_r1; unfold fX0_lose; first | (rw [if_neg c2, if_neg c4, if_pos c7]; done) | (simp only [if_neg c2, if_neg c4, if_pos c7]), rfl⟩ hH hS
    · skip
      refine lv_bipush (v := (-101)) hF.1 hF.2.1 dX0_lose_16 (by decide) ?_
      have hH : xH ω (g, y, up2 a (0 + 6) 7 (a (0 + 6) 7), z, dr, pg, t) H := x_ext (fun _ _ => rfl) (fun _ _ => rfl) (by intro o k; by_cases h0 : o = (0 + 6) ∧ k = 7; (obtain ⟨rfl, rfl⟩ := h0; simp [up2]); simp only [up2, if_neg h0]) (fun _ _ => rfl) hH
      exact hret _ _ _ _ _ _ dX0_lose_18 ⟨_, by subst e_r3; subst e_r1; unfold fX0_lose; first | (rw [if_neg c2, if_pos c4]; done) | (simp only [if_neg c2, if_pos c4]), rfl⟩ hH hS

def fX0_stand (g : Nat → Nat → Nat) (a : Nat → Nat → Nat → Int32) (dn : Int32) (cn : Int32) : Int32 × (Nat → Int32) := if (fX0_isDriver g dn) = 0 then ((-101), a (0 + 6) 6) else if (fX0_isCorner cn) = 0 then ((-101), a (0 + 6) 6) else (a (0 + 6) 6 (toN dn), upd (a (0 + 6) 6) (toN dn) cn)
def rmX0_stand : Room := { frames := 3, cells := 0, slots := 0, locals := 67 }
theorem hdX0_stand : yX0_stand.cls = RX0 ∧ yX0_stand.cls ≠ "java/lang/invoke/MethodHandle" ∧ yX0_stand.cls ≠ "java/lang/invoke/VarHandle" ∧ (parseMethodDescriptor yX0_stand.desc).map (fun d => d.parameters.length) = some 2 := by decide +kernel
set_option maxHeartbeats 4000000 in
theorem kX0_stand (l : Launch) (ω : OM) (g : Nat → Nat → Nat) (y : Nat → Nat → Int32) (a z : Nat → Nat → Nat → Int32) (dr : Int64) (pg : Nat → Int32) (t : TW) (dn : Int32) (cn : Int32) (hp3 : g 0 1 ≤ 3) : Met l yX0_stand (ws_ yX0_stand cX0_stand 4 (some .int)) rmX0_stand (va_Pc [.ref (ω.2.1 0 99), .int dn, .int cn] (fun U => xK ω U ∧ xH ω (g, y, a, z, dr, pg, t) U.heap)) (va_Qi (fun (r : Int32) (u : XS) => ∃ (o0 : Nat → Int32), (r, o0) = (fX0_stand g a dn cn) ∧ u = (g, y, up2 a (0 + 6) 6 o0, z, dr, pg, t)) (fun u t => xH ω u t.heap) ω.2.2.1) 0 0 ω.2.2.1 := by
  refine g_entWi (C := RX0) rfl (by decide) (Nat.le_of_ble_eq_true rfl) ?_
  intro p e s m args below meth c QQ ls H locs hF hK hH hS hl hret
  have hl : lv_has ls 4 [(0, .ref (ω.2.1 0 99)), (1, .int dn), (2, .int cn)] := hl
  have hn9 : tn t ≤ 9 := hH.2.2.1
  refine lv_aload_n hF.1 hF.2.1 dX0_stand_0 rfl (lv_at hl 0 rfl) ?_
  refine lv_iload_n hF.1 hF.2.1 dX0_stand_1 rfl (lv_at hl 1 rfl) ?_
  refine g_vPi (As := [.int dn]) (rest := []) hF (kX0_isDriver l ω g y a z dr pg t dn (by omega)) (lw_V q817 q819 qs30 q92 q820) 1 hdX0_isDriver rfl rfl ⟨Nat.le_of_ble_eq_true rfl, Nat.le_of_ble_eq_true rfl⟩ (x_preV0 hK hH) rfl hl.1 rfl (Nat.le_of_ble_eq_true rfl) dX0_stand_2 ⟨Nat.zero_le _, Nat.zero_le _⟩ (fun r1 e_r1 => ?_)
  refine lv_if_eq (tgt := 15) hF.1 hF.2.1 dX0_stand_5 (by decide) (fun c2 => ?_) (fun c2 => ?_)
  · skip
    refine lv_bipush (v := (-101)) hF.1 hF.2.1 dX0_stand_15 (by decide) ?_
    have hH : xH ω (g, y, up2 a (0 + 6) 6 (a (0 + 6) 6), z, dr, pg, t) H := x_ext (fun _ _ => rfl) (fun _ _ => rfl) (by intro o k; by_cases h0 : o = (0 + 6) ∧ k = 6; (obtain ⟨rfl, rfl⟩ := h0; simp [up2]); simp only [up2, if_neg h0]) (fun _ _ => rfl) hH
    exact hret _ _ _ _ _ _ dX0_stand_17 ⟨_, by subst e_r1; unfold fX0_stand; first | (rw [if_pos c2]; done) | (simp only [if_pos c2]), rfl⟩ hH hS
  · skip
    refine lv_iload_n hF.1 hF.2.1 dX0_stand_8 rfl (lv_at hl 2 rfl) ?_
    refine g_sPi (As := [.int cn]) (rest := []) hF (kX0_isCorner l cn) (lw_S q764 q765 q92 q766) 1 hdX0_isCorner.2 rfl rfl ⟨Nat.le_of_ble_eq_true rfl, Nat.le_of_ble_eq_true rfl⟩ g_pre0 rfl hl.1 rfl (Nat.le_of_ble_eq_true rfl) dX0_stand_9 ⟨Nat.zero_le _, Nat.zero_le _⟩ (fun r3 e_r3 => ?_)
    refine lv_if_ne (tgt := 18) hF.1 hF.2.1 dX0_stand_12 (by decide) (fun c4 => ?_) (fun c4 => ?_)
    · skip
      obtain ⟨b5e, b5l⟩ := g_lift (r := dn) (n := 2) (xDriver_lift (by rw [← e_r1]; exact c2)) (by omega)
      refine lv_aload_n hF.1 hF.2.1 dX0_stand_18 rfl (lv_at hl 0 rfl) ?_
      refine xg0_3 hF hK hH q221 dX0_stand_19 ?_
      refine xgN_q166 (j := 0) (by decide) hF hK hH dX0_stand_22 ?_
      refine lv_iload_n hF.1 hF.2.1 dX0_stand_25 rfl (lv_at hl 1 rfl) ?_
      refine n_top b5e ?_
      refine x1_ald (j := 0) (by decide) hF hK hH 6 (n := 2) rfl rfl (by decide) rfl (f := a (0 + 6) 6) rfl (i := toN dn) (by omega) (by decide) dX0_stand_26 ?_
      refine lv_istore_n (lv' := [(3, .int (a (0 + 6) 6 (toN dn))), (0, .ref (ω.2.1 0 99)), (1, .int dn), (2, .int cn)]) hF.1 hF.2.1 dX0_stand_27 rfl hl (by decide) rfl (fun ls hl => ?_)
      refine lv_aload_n hF.1 hF.2.1 dX0_stand_28 rfl (lv_at hl 1 rfl) ?_
      refine xg0_3 hF hK hH q221 dX0_stand_29 ?_
      refine xgN_q166 (j := 0) (by decide) hF hK hH dX0_stand_32 ?_
      refine lv_iload_n hF.1 hF.2.1 dX0_stand_35 rfl (lv_at hl 2 rfl) ?_
      refine n_top b5e ?_
      refine lv_iload_n hF.1 hF.2.1 dX0_stand_36 rfl (lv_at hl 3 rfl) ?_
      refine x1_ast (a' := up2 a (0 + 6) 6 (upd (a (0 + 6) 6) (toN dn) cn)) (j := 0) (by decide) hF hK hH hS 6 (n := 2) rfl rfl (by decide) rfl (f := a (0 + 6) 6) rfl (i := toN dn) (by omega) (by decide) dX0_stand_37 (by simp [up2]) (by intro i q hq; simp only [up2, if_neg hq]) (fun H locs hH hS => ?_)
      refine lv_iload_n hF.1 hF.2.1 dX0_stand_38 rfl (lv_at hl 0 rfl) ?_
      exact hret _ _ _ _ _ _ dX0_stand_39 ⟨_, by subst e_r3; subst e_r1; unfold fX0_stand; first | (rw [if_neg c2, if_neg c4]; done) | (simp only [if_neg c2, if_neg c4]), rfl⟩ hH hS
    · skip
      refine lv_bipush (v := (-101)) hF.1 hF.2.1 dX0_stand_15 (by decide) ?_
      have hH : xH ω (g, y, up2 a (0 + 6) 6 (a (0 + 6) 6), z, dr, pg, t) H := x_ext (fun _ _ => rfl) (fun _ _ => rfl) (by intro o k; by_cases h0 : o = (0 + 6) ∧ k = 6; (obtain ⟨rfl, rfl⟩ := h0; simp [up2]); simp only [up2, if_neg h0]) (fun _ _ => rfl) hH
      exact hret _ _ _ _ _ _ dX0_stand_17 ⟨_, by subst e_r3; subst e_r1; unfold fX0_stand; first | (rw [if_neg c2, if_pos c4]; done) | (simp only [if_neg c2, if_pos c4]), rfl⟩ hH hS

def fX0_waits (g : Nat → Nat → Nat) (a : Nat → Nat → Nat → Int32) (pn : Int32) (fr : Int32) (to : Int32) : Int32 × (Nat → Int32) × (Nat → Int32) := if (fX0_isPerson g pn) = 0 then ((-101), a (0 + 6) 4, a (0 + 6) 5) else if fr = (-1) then if fr = (-1) then if fr = (-1) then (a (0 + 6) 4 (toN pn), upd (a (0 + 6) 4) (toN pn) fr, upd (a (0 + 6) 5) (toN pn) (-1)) else (a (0 + 6) 4 (toN pn), upd (a (0 + 6) 4) (toN pn) fr, upd (a (0 + 6) 5) (toN pn) to) else if fr = to then ((-103), a (0 + 6) 4, a (0 + 6) 5) else if fr = (-1) then (a (0 + 6) 4 (toN pn), upd (a (0 + 6) 4) (toN pn) fr, upd (a (0 + 6) 5) (toN pn) (-1)) else (a (0 + 6) 4 (toN pn), upd (a (0 + 6) 4) (toN pn) fr, upd (a (0 + 6) 5) (toN pn) to) else if (fX0_isCorner fr) = 0 then ((-101), a (0 + 6) 4, a (0 + 6) 5) else if (fX0_isCorner to) = 0 then ((-101), a (0 + 6) 4, a (0 + 6) 5) else if fr = (-1) then if fr = (-1) then (a (0 + 6) 4 (toN pn), upd (a (0 + 6) 4) (toN pn) fr, upd (a (0 + 6) 5) (toN pn) (-1)) else (a (0 + 6) 4 (toN pn), upd (a (0 + 6) 4) (toN pn) fr, upd (a (0 + 6) 5) (toN pn) to) else if fr = to then ((-103), a (0 + 6) 4, a (0 + 6) 5) else if fr = (-1) then (a (0 + 6) 4 (toN pn), upd (a (0 + 6) 4) (toN pn) fr, upd (a (0 + 6) 5) (toN pn) (-1)) else (a (0 + 6) 4 (toN pn), upd (a (0 + 6) 4) (toN pn) fr, upd (a (0 + 6) 5) (toN pn) to)
def rmX0_waits : Room := { frames := 3, cells := 0, slots := 0, locals := 67 }
theorem hdX0_waits : yX0_waits.cls = RX0 ∧ yX0_waits.cls ≠ "java/lang/invoke/MethodHandle" ∧ yX0_waits.cls ≠ "java/lang/invoke/VarHandle" ∧ (parseMethodDescriptor yX0_waits.desc).map (fun d => d.parameters.length) = some 3 := by decide +kernel
set_option maxHeartbeats 4000000 in
theorem kX0_waits (l : Launch) (ω : OM) (g : Nat → Nat → Nat) (y : Nat → Nat → Int32) (a z : Nat → Nat → Nat → Int32) (dr : Int64) (pg : Nat → Int32) (t : TW) (pn : Int32) (fr : Int32) (to : Int32) (hp3 : g 0 1 ≤ 3) : Met l yX0_waits (ws_ yX0_waits cX0_waits 5 (some .int)) rmX0_waits (va_Pc [.ref (ω.2.1 0 99), .int pn, .int fr, .int to] (fun U => xK ω U ∧ xH ω (g, y, a, z, dr, pg, t) U.heap)) (va_Qi (fun (r : Int32) (u : XS) => ∃ (o0 : Nat → Int32) (o1 : Nat → Int32), (r, o0, o1) = (fX0_waits g a pn fr to) ∧ u = (g, y, up2 (up2 a (0 + 6) 4 o0) (0 + 6) 5 o1, z, dr, pg, t)) (fun u t => xH ω u t.heap) ω.2.2.1) 0 0 ω.2.2.1 := by
  refine g_entWi (C := RX0) rfl (by decide) (Nat.le_of_ble_eq_true rfl) ?_
  intro p e s m args below meth c QQ ls H locs hF hK hH hS hl hret
  have hl : lv_has ls 5 [(0, .ref (ω.2.1 0 99)), (1, .int pn), (2, .int fr), (3, .int to)] := hl
  have hn9 : tn t ≤ 9 := hH.2.2.1
  refine lv_aload_n hF.1 hF.2.1 dX0_waits_0 rfl (lv_at hl 0 rfl) ?_
  refine lv_iload_n hF.1 hF.2.1 dX0_waits_1 rfl (lv_at hl 1 rfl) ?_
  refine g_vPi (As := [.int pn]) (rest := []) hF (kX0_isPerson l ω g y a z dr pg t pn) (lw_V q593 q595 qs10 q92 q596) 1 hdX0_isPerson rfl rfl ⟨Nat.le_of_ble_eq_true rfl, Nat.le_of_ble_eq_true rfl⟩ (x_preV0 hK hH) rfl hl.1 rfl (Nat.le_of_ble_eq_true rfl) dX0_waits_2 ⟨Nat.zero_le _, Nat.zero_le _⟩ (fun r1 e_r1 => ?_)
  refine lv_if_eq (tgt := 27) hF.1 hF.2.1 dX0_waits_5 (by decide) (fun c2 => ?_) (fun c2 => ?_)
  · skip
    refine lv_bipush (v := (-101)) hF.1 hF.2.1 dX0_waits_27 (by decide) ?_
    have hH : xH ω (g, y, up2 (up2 a (0 + 6) 4 (a (0 + 6) 4)) (0 + 6) 5 (a (0 + 6) 5), z, dr, pg, t) H := x_ext (fun _ _ => rfl) (fun _ _ => rfl) (by intro o k; by_cases h0 : o = (0 + 6) ∧ k = 4; (obtain ⟨rfl, rfl⟩ := h0; simp [up2]); by_cases h1 : o = (0 + 6) ∧ k = 5; (obtain ⟨rfl, rfl⟩ := h1; simp [up2]); simp only [up2, if_neg h0, if_neg h1]) (fun _ _ => rfl) hH
    exact hret _ _ _ _ _ _ dX0_waits_29 ⟨_, _, by subst e_r1; unfold fX0_waits; first | (rw [if_pos c2]; done) | (simp only [if_pos c2]), rfl⟩ hH hS
  · skip
    refine lv_iload_n hF.1 hF.2.1 dX0_waits_8 rfl (lv_at hl 2 rfl) ?_
    refine lv_iconst (v := (-1)) hF.1 hF.2.1 dX0_waits_9 (by decide) ?_
    refine lv_icmp_eq (tgt := 30) hF.1 hF.2.1 dX0_waits_10 (by decide) (fun c3 => ?_) (fun c3 => ?_)
    · skip
      refine lv_iload_n hF.1 hF.2.1 dX0_waits_30 rfl (lv_at hl 2 rfl) ?_
      refine lv_iconst (v := (-1)) hF.1 hF.2.1 dX0_waits_31 (by decide) ?_
      refine lv_icmp_eq (tgt := 43) hF.1 hF.2.1 dX0_waits_32 (by decide) (fun c4 => ?_) (fun c4 => ?_)
      · skip
        obtain ⟨b5e, b5l⟩ := g_lift (r := pn) (n := 3) (xPerson_lift3 hp3 (by rw [← e_r1]; exact c2)) (by omega)
        refine lv_aload_n hF.1 hF.2.1 dX0_waits_43 rfl (lv_at hl 0 rfl) ?_
        refine xg0_3 hF hK hH q221 dX0_waits_44 ?_
        refine xgN_q162 (j := 0) (by decide) hF hK hH dX0_waits_47 ?_
        refine lv_iload_n hF.1 hF.2.1 dX0_waits_50 rfl (lv_at hl 1 rfl) ?_
        refine n_top b5e ?_
        refine x1_ald (j := 0) (by decide) hF hK hH 4 (n := 3) rfl rfl (by decide) rfl (f := a (0 + 6) 4) rfl (i := toN pn) (by omega) (by decide) dX0_waits_51 ?_
        refine lv_istore (lv' := [(4, .int (a (0 + 6) 4 (toN pn))), (0, .ref (ω.2.1 0 99)), (1, .int pn), (2, .int fr), (3, .int to)]) hF.1 hF.2.1 dX0_waits_52 hl (by decide) rfl (fun ls hl => ?_)
        refine lv_aload_n hF.1 hF.2.1 dX0_waits_54 rfl (lv_at hl 1 rfl) ?_
        refine xg0_3 hF hK hH q221 dX0_waits_55 ?_
        refine xgN_q162 (j := 0) (by decide) hF hK hH dX0_waits_58 ?_
        refine lv_iload_n hF.1 hF.2.1 dX0_waits_61 rfl (lv_at hl 2 rfl) ?_
        refine n_top b5e ?_
        refine lv_iload_n hF.1 hF.2.1 dX0_waits_62 rfl (lv_at hl 3 rfl) ?_
        refine x1_ast (a' := up2 a (0 + 6) 4 (upd (a (0 + 6) 4) (toN pn) fr)) (j := 0) (by decide) hF hK hH hS 4 (n := 3) rfl rfl (by decide) rfl (f := a (0 + 6) 4) rfl (i := toN pn) (by omega) (by decide) dX0_waits_63 (by simp [up2]) (by intro i q hq; simp only [up2, if_neg hq]) (fun H locs hH hS => ?_)
        refine lv_aload_n hF.1 hF.2.1 dX0_waits_64 rfl (lv_at hl 1 rfl) ?_
        refine xg0_3 hF hK hH q221 dX0_waits_65 ?_
        refine xgN_q164 (j := 0) (by decide) hF hK hH dX0_waits_68 ?_
        refine lv_iload_n hF.1 hF.2.1 dX0_waits_71 rfl (lv_at hl 2 rfl) ?_
        refine n_top b5e ?_
        refine lv_iload_n hF.1 hF.2.1 dX0_waits_72 rfl (lv_at hl 3 rfl) ?_
        refine lv_iconst (v := (-1)) hF.1 hF.2.1 dX0_waits_73 (by decide) ?_
        refine lv_icmp_ne (tgt := 81) hF.1 hF.2.1 dX0_waits_74 (by decide) (fun c6 => ?_) (fun c6 => ?_)
        · skip
          refine lv_iload_n hF.1 hF.2.1 dX0_waits_81 rfl (lv_at hl 4 rfl) ?_
          refine x1_ast (a' := up2 (up2 a (0 + 6) 4 (upd (a (0 + 6) 4) (toN pn) fr)) (0 + 6) 5 (upd (a (0 + 6) 5) (toN pn) to)) (j := 0) (by decide) hF hK hH hS 5 (n := 3) rfl rfl (by decide) rfl (f := a (0 + 6) 5) (by simp [up2]) (i := toN pn) (by omega) (by decide) dX0_waits_82 (by simp [up2]) (by intro i q hq; simp only [up2, if_neg hq]) (fun H locs hH hS => ?_)
          refine lv_iload hF.1 hF.2.1 dX0_waits_83 (lv_at hl 0 rfl) ?_
          exact hret _ _ _ _ _ _ dX0_waits_85 ⟨_, _, by subst e_r1; unfold fX0_waits; first | (rw [if_neg c2, if_pos c3, if_pos c4, if_neg c6]; done) | (simp only [if_neg c2, if_pos c3, if_pos c4, if_neg c6]), rfl⟩ hH hS
        · skip
          refine lv_iconst (v := (-1)) hF.1 hF.2.1 dX0_waits_77 (by decide) ?_
          refine lv_goto (tgt := 82) hF.1 hF.2.1 dX0_waits_78 (by decide) ?_
          refine x1_ast (a' := up2 (up2 a (0 + 6) 4 (upd (a (0 + 6) 4) (toN pn) fr)) (0 + 6) 5 (upd (a (0 + 6) 5) (toN pn) (-1))) (j := 0) (by decide) hF hK hH hS 5 (n := 3) rfl rfl (by decide) rfl (f := a (0 + 6) 5) (by simp [up2]) (i := toN pn) (by omega) (by decide) dX0_waits_82 (by simp [up2]) (by intro i q hq; simp only [up2, if_neg hq]) (fun H locs hH hS => ?_)
          refine lv_iload hF.1 hF.2.1 dX0_waits_83 (lv_at hl 0 rfl) ?_
          exact hret _ _ _ _ _ _ dX0_waits_85 ⟨_, _, by subst e_r1; unfold fX0_waits; first | (rw [if_neg c2, if_pos c3, if_pos c4, if_pos c6]; done) | (simp only [if_neg c2, if_pos c3, if_pos c4, if_pos c6]), rfl⟩ hH hS
      · skip
        refine lv_iload_n hF.1 hF.2.1 dX0_waits_35 rfl (lv_at hl 2 rfl) ?_
        refine lv_iload_n hF.1 hF.2.1 dX0_waits_36 rfl (lv_at hl 3 rfl) ?_
        refine lv_icmp_ne (tgt := 43) hF.1 hF.2.1 dX0_waits_37 (by decide) (fun c7 => ?_) (fun c7 => ?_)
        · skip
          obtain ⟨b8e, b8l⟩ := g_lift (r := pn) (n := 3) (xPerson_lift3 hp3 (by rw [← e_r1]; exact c2)) (by omega)
          refine lv_aload_n hF.1 hF.2.1 dX0_waits_43 rfl (lv_at hl 0 rfl) ?_
          refine xg0_3 hF hK hH q221 dX0_waits_44 ?_
          refine xgN_q162 (j := 0) (by decide) hF hK hH dX0_waits_47 ?_
          refine lv_iload_n hF.1 hF.2.1 dX0_waits_50 rfl (lv_at hl 1 rfl) ?_
          refine n_top b8e ?_
          refine x1_ald (j := 0) (by decide) hF hK hH 4 (n := 3) rfl rfl (by decide) rfl (f := a (0 + 6) 4) rfl (i := toN pn) (by omega) (by decide) dX0_waits_51 ?_
          refine lv_istore (lv' := [(4, .int (a (0 + 6) 4 (toN pn))), (0, .ref (ω.2.1 0 99)), (1, .int pn), (2, .int fr), (3, .int to)]) hF.1 hF.2.1 dX0_waits_52 hl (by decide) rfl (fun ls hl => ?_)
          refine lv_aload_n hF.1 hF.2.1 dX0_waits_54 rfl (lv_at hl 1 rfl) ?_
          refine xg0_3 hF hK hH q221 dX0_waits_55 ?_
          refine xgN_q162 (j := 0) (by decide) hF hK hH dX0_waits_58 ?_
          refine lv_iload_n hF.1 hF.2.1 dX0_waits_61 rfl (lv_at hl 2 rfl) ?_
          refine n_top b8e ?_
          refine lv_iload_n hF.1 hF.2.1 dX0_waits_62 rfl (lv_at hl 3 rfl) ?_
          refine x1_ast (a' := up2 a (0 + 6) 4 (upd (a (0 + 6) 4) (toN pn) fr)) (j := 0) (by decide) hF hK hH hS 4 (n := 3) rfl rfl (by decide) rfl (f := a (0 + 6) 4) rfl (i := toN pn) (by omega) (by decide) dX0_waits_63 (by simp [up2]) (by intro i q hq; simp only [up2, if_neg hq]) (fun H locs hH hS => ?_)
          refine lv_aload_n hF.1 hF.2.1 dX0_waits_64 rfl (lv_at hl 1 rfl) ?_
          refine xg0_3 hF hK hH q221 dX0_waits_65 ?_
          refine xgN_q164 (j := 0) (by decide) hF hK hH dX0_waits_68 ?_
          refine lv_iload_n hF.1 hF.2.1 dX0_waits_71 rfl (lv_at hl 2 rfl) ?_
          refine n_top b8e ?_
          refine lv_iload_n hF.1 hF.2.1 dX0_waits_72 rfl (lv_at hl 3 rfl) ?_
          refine lv_iconst (v := (-1)) hF.1 hF.2.1 dX0_waits_73 (by decide) ?_
          refine lv_icmp_ne (tgt := 81) hF.1 hF.2.1 dX0_waits_74 (by decide) (fun c9 => ?_) (fun c9 => ?_)
          · skip
            refine lv_iload_n hF.1 hF.2.1 dX0_waits_81 rfl (lv_at hl 4 rfl) ?_
            refine x1_ast (a' := up2 (up2 a (0 + 6) 4 (upd (a (0 + 6) 4) (toN pn) fr)) (0 + 6) 5 (upd (a (0 + 6) 5) (toN pn) to)) (j := 0) (by decide) hF hK hH hS 5 (n := 3) rfl rfl (by decide) rfl (f := a (0 + 6) 5) (by simp [up2]) (i := toN pn) (by omega) (by decide) dX0_waits_82 (by simp [up2]) (by intro i q hq; simp only [up2, if_neg hq]) (fun H locs hH hS => ?_)
            refine lv_iload hF.1 hF.2.1 dX0_waits_83 (lv_at hl 0 rfl) ?_
            exact hret _ _ _ _ _ _ dX0_waits_85 ⟨_, _, by subst e_r1; unfold fX0_waits; first | (rw [if_neg c2, if_pos c3, if_neg c4, if_neg c7, if_neg c9]; done) | (simp only [if_neg c2, if_pos c3, if_neg c4, if_neg c7, if_neg c9]), rfl⟩ hH hS
          · skip
            refine lv_iconst (v := (-1)) hF.1 hF.2.1 dX0_waits_77 (by decide) ?_
            refine lv_goto (tgt := 82) hF.1 hF.2.1 dX0_waits_78 (by decide) ?_
            refine x1_ast (a' := up2 (up2 a (0 + 6) 4 (upd (a (0 + 6) 4) (toN pn) fr)) (0 + 6) 5 (upd (a (0 + 6) 5) (toN pn) (-1))) (j := 0) (by decide) hF hK hH hS 5 (n := 3) rfl rfl (by decide) rfl (f := a (0 + 6) 5) (by simp [up2]) (i := toN pn) (by omega) (by decide) dX0_waits_82 (by simp [up2]) (by intro i q hq; simp only [up2, if_neg hq]) (fun H locs hH hS => ?_)
            refine lv_iload hF.1 hF.2.1 dX0_waits_83 (lv_at hl 0 rfl) ?_
            exact hret _ _ _ _ _ _ dX0_waits_85 ⟨_, _, by subst e_r1; unfold fX0_waits; first | (rw [if_neg c2, if_pos c3, if_neg c4, if_neg c7, if_pos c9]; done) | (simp only [if_neg c2, if_pos c3, if_neg c4, if_neg c7, if_pos c9]), rfl⟩ hH hS
        · skip
          refine lv_bipush (v := (-103)) hF.1 hF.2.1 dX0_waits_40 (by decide) ?_
          have hH : xH ω (g, y, up2 (up2 a (0 + 6) 4 (a (0 + 6) 4)) (0 + 6) 5 (a (0 + 6) 5), z, dr, pg, t) H := x_ext (fun _ _ => rfl) (fun _ _ => rfl) (by intro o k; by_cases h0 : o = (0 + 6) ∧ k = 4; (obtain ⟨rfl, rfl⟩ := h0; simp [up2]); by_cases h1 : o = (0 + 6) ∧ k = 5; (obtain ⟨rfl, rfl⟩ := h1; simp [up2]); simp only [up2, if_neg h0, if_neg h1]) (fun _ _ => rfl) hH
          exact hret _ _ _ _ _ _ dX0_waits_42 ⟨_, _, by subst e_r1; unfold fX0_waits; first | (rw [if_neg c2, if_pos c3, if_neg c4, if_pos c7]; done) | (simp only [if_neg c2, if_pos c3, if_neg c4, if_pos c7]), rfl⟩ hH hS
    · skip
      refine lv_iload_n hF.1 hF.2.1 dX0_waits_13 rfl (lv_at hl 2 rfl) ?_
      refine g_sPi (As := [.int fr]) (rest := []) hF (kX0_isCorner l fr) (lw_S q764 q765 q92 q766) 1 hdX0_isCorner.2 rfl rfl ⟨Nat.le_of_ble_eq_true rfl, Nat.le_of_ble_eq_true rfl⟩ g_pre0 rfl hl.1 rfl (Nat.le_of_ble_eq_true rfl) dX0_waits_14 ⟨Nat.zero_le _, Nat.zero_le _⟩ (fun r10 e_r10 => ?_)
      refine lv_if_eq (tgt := 27) hF.1 hF.2.1 dX0_waits_17 (by decide) (fun c11 => ?_) (fun c11 => ?_)
      · skip
        refine lv_bipush (v := (-101)) hF.1 hF.2.1 dX0_waits_27 (by decide) ?_
        have hH : xH ω (g, y, up2 (up2 a (0 + 6) 4 (a (0 + 6) 4)) (0 + 6) 5 (a (0 + 6) 5), z, dr, pg, t) H := x_ext (fun _ _ => rfl) (fun _ _ => rfl) (by intro o k; by_cases h0 : o = (0 + 6) ∧ k = 4; (obtain ⟨rfl, rfl⟩ := h0; simp [up2]); by_cases h1 : o = (0 + 6) ∧ k = 5; (obtain ⟨rfl, rfl⟩ := h1; simp [up2]); simp only [up2, if_neg h0, if_neg h1]) (fun _ _ => rfl) hH
        exact hret _ _ _ _ _ _ dX0_waits_29 ⟨_, _, by subst e_r10; subst e_r1; unfold fX0_waits; first | (rw [if_neg c2, if_neg c3, if_pos c11]; done) | (simp only [if_neg c2, if_neg c3, if_pos c11]), rfl⟩ hH hS
      · skip
        refine lv_iload_n hF.1 hF.2.1 dX0_waits_20 rfl (lv_at hl 3 rfl) ?_
        refine g_sPi (As := [.int to]) (rest := []) hF (kX0_isCorner l to) (lw_S q764 q765 q92 q766) 1 hdX0_isCorner.2 rfl rfl ⟨Nat.le_of_ble_eq_true rfl, Nat.le_of_ble_eq_true rfl⟩ g_pre0 rfl hl.1 rfl (Nat.le_of_ble_eq_true rfl) dX0_waits_21 ⟨Nat.zero_le _, Nat.zero_le _⟩ (fun r12 e_r12 => ?_)
        refine lv_if_ne (tgt := 30) hF.1 hF.2.1 dX0_waits_24 (by decide) (fun c13 => ?_) (fun c13 => ?_)
        · skip
          refine lv_iload_n hF.1 hF.2.1 dX0_waits_30 rfl (lv_at hl 2 rfl) ?_
          refine lv_iconst (v := (-1)) hF.1 hF.2.1 dX0_waits_31 (by decide) ?_
          refine lv_icmp_eq (tgt := 43) hF.1 hF.2.1 dX0_waits_32 (by decide) (fun c14 => ?_) (fun c14 => ?_)
          · skip
            obtain ⟨b15e, b15l⟩ := g_lift (r := pn) (n := 3) (xPerson_lift3 hp3 (by rw [← e_r1]; exact c2)) (by omega)
            refine lv_aload_n hF.1 hF.2.1 dX0_waits_43 rfl (lv_at hl 0 rfl) ?_
            refine xg0_3 hF hK hH q221 dX0_waits_44 ?_
            refine xgN_q162 (j := 0) (by decide) hF hK hH dX0_waits_47 ?_
            refine lv_iload_n hF.1 hF.2.1 dX0_waits_50 rfl (lv_at hl 1 rfl) ?_
            refine n_top b15e ?_
            refine x1_ald (j := 0) (by decide) hF hK hH 4 (n := 3) rfl rfl (by decide) rfl (f := a (0 + 6) 4) rfl (i := toN pn) (by omega) (by decide) dX0_waits_51 ?_
            refine lv_istore (lv' := [(4, .int (a (0 + 6) 4 (toN pn))), (0, .ref (ω.2.1 0 99)), (1, .int pn), (2, .int fr), (3, .int to)]) hF.1 hF.2.1 dX0_waits_52 hl (by decide) rfl (fun ls hl => ?_)
            refine lv_aload_n hF.1 hF.2.1 dX0_waits_54 rfl (lv_at hl 1 rfl) ?_
            refine xg0_3 hF hK hH q221 dX0_waits_55 ?_
            refine xgN_q162 (j := 0) (by decide) hF hK hH dX0_waits_58 ?_
            refine lv_iload_n hF.1 hF.2.1 dX0_waits_61 rfl (lv_at hl 2 rfl) ?_
            refine n_top b15e ?_
            refine lv_iload_n hF.1 hF.2.1 dX0_waits_62 rfl (lv_at hl 3 rfl) ?_
            refine x1_ast (a' := up2 a (0 + 6) 4 (upd (a (0 + 6) 4) (toN pn) fr)) (j := 0) (by decide) hF hK hH hS 4 (n := 3) rfl rfl (by decide) rfl (f := a (0 + 6) 4) rfl (i := toN pn) (by omega) (by decide) dX0_waits_63 (by simp [up2]) (by intro i q hq; simp only [up2, if_neg hq]) (fun H locs hH hS => ?_)
            refine lv_aload_n hF.1 hF.2.1 dX0_waits_64 rfl (lv_at hl 1 rfl) ?_
            refine xg0_3 hF hK hH q221 dX0_waits_65 ?_
            refine xgN_q164 (j := 0) (by decide) hF hK hH dX0_waits_68 ?_
            refine lv_iload_n hF.1 hF.2.1 dX0_waits_71 rfl (lv_at hl 2 rfl) ?_
            refine n_top b15e ?_
            refine lv_iload_n hF.1 hF.2.1 dX0_waits_72 rfl (lv_at hl 3 rfl) ?_
            refine lv_iconst (v := (-1)) hF.1 hF.2.1 dX0_waits_73 (by decide) ?_
            refine lv_icmp_ne (tgt := 81) hF.1 hF.2.1 dX0_waits_74 (by decide) (fun c16 => ?_) (fun c16 => ?_)
            · skip
              refine lv_iload_n hF.1 hF.2.1 dX0_waits_81 rfl (lv_at hl 4 rfl) ?_
              refine x1_ast (a' := up2 (up2 a (0 + 6) 4 (upd (a (0 + 6) 4) (toN pn) fr)) (0 + 6) 5 (upd (a (0 + 6) 5) (toN pn) to)) (j := 0) (by decide) hF hK hH hS 5 (n := 3) rfl rfl (by decide) rfl (f := a (0 + 6) 5) (by simp [up2]) (i := toN pn) (by omega) (by decide) dX0_waits_82 (by simp [up2]) (by intro i q hq; simp only [up2, if_neg hq]) (fun H locs hH hS => ?_)
              refine lv_iload hF.1 hF.2.1 dX0_waits_83 (lv_at hl 0 rfl) ?_
              exact hret _ _ _ _ _ _ dX0_waits_85 ⟨_, _, by subst e_r12; subst e_r10; subst e_r1; unfold fX0_waits; first | (rw [if_neg c2, if_neg c3, if_neg c11, if_neg c13, if_pos c14, if_neg c16]; done) | (simp only [if_neg c2, if_neg c3, if_neg c11, if_neg c13, if_pos c14, if_neg c16]), rfl⟩ hH hS
            · skip
              refine lv_iconst (v := (-1)) hF.1 hF.2.1 dX0_waits_77 (by decide) ?_
              refine lv_goto (tgt := 82) hF.1 hF.2.1 dX0_waits_78 (by decide) ?_
              refine x1_ast (a' := up2 (up2 a (0 + 6) 4 (upd (a (0 + 6) 4) (toN pn) fr)) (0 + 6) 5 (upd (a (0 + 6) 5) (toN pn) (-1))) (j := 0) (by decide) hF hK hH hS 5 (n := 3) rfl rfl (by decide) rfl (f := a (0 + 6) 5) (by simp [up2]) (i := toN pn) (by omega) (by decide) dX0_waits_82 (by simp [up2]) (by intro i q hq; simp only [up2, if_neg hq]) (fun H locs hH hS => ?_)
              refine lv_iload hF.1 hF.2.1 dX0_waits_83 (lv_at hl 0 rfl) ?_
              exact hret _ _ _ _ _ _ dX0_waits_85 ⟨_, _, by subst e_r12; subst e_r10; subst e_r1; unfold fX0_waits; first | (rw [if_neg c2, if_neg c3, if_neg c11, if_neg c13, if_pos c14, if_pos c16]; done) | (simp only [if_neg c2, if_neg c3, if_neg c11, if_neg c13, if_pos c14, if_pos c16]), rfl⟩ hH hS
          · skip
            refine lv_iload_n hF.1 hF.2.1 dX0_waits_35 rfl (lv_at hl 2 rfl) ?_
            refine lv_iload_n hF.1 hF.2.1 dX0_waits_36 rfl (lv_at hl 3 rfl) ?_
            refine lv_icmp_ne (tgt := 43) hF.1 hF.2.1 dX0_waits_37 (by decide) (fun c17 => ?_) (fun c17 => ?_)
            · skip
              obtain ⟨b18e, b18l⟩ := g_lift (r := pn) (n := 3) (xPerson_lift3 hp3 (by rw [← e_r1]; exact c2)) (by omega)
              refine lv_aload_n hF.1 hF.2.1 dX0_waits_43 rfl (lv_at hl 0 rfl) ?_
              refine xg0_3 hF hK hH q221 dX0_waits_44 ?_
              refine xgN_q162 (j := 0) (by decide) hF hK hH dX0_waits_47 ?_
              refine lv_iload_n hF.1 hF.2.1 dX0_waits_50 rfl (lv_at hl 1 rfl) ?_
              refine n_top b18e ?_
              refine x1_ald (j := 0) (by decide) hF hK hH 4 (n := 3) rfl rfl (by decide) rfl (f := a (0 + 6) 4) rfl (i := toN pn) (by omega) (by decide) dX0_waits_51 ?_
              refine lv_istore (lv' := [(4, .int (a (0 + 6) 4 (toN pn))), (0, .ref (ω.2.1 0 99)), (1, .int pn), (2, .int fr), (3, .int to)]) hF.1 hF.2.1 dX0_waits_52 hl (by decide) rfl (fun ls hl => ?_)
              refine lv_aload_n hF.1 hF.2.1 dX0_waits_54 rfl (lv_at hl 1 rfl) ?_
              refine xg0_3 hF hK hH q221 dX0_waits_55 ?_
              refine xgN_q162 (j := 0) (by decide) hF hK hH dX0_waits_58 ?_
              refine lv_iload_n hF.1 hF.2.1 dX0_waits_61 rfl (lv_at hl 2 rfl) ?_
              refine n_top b18e ?_
              refine lv_iload_n hF.1 hF.2.1 dX0_waits_62 rfl (lv_at hl 3 rfl) ?_
              refine x1_ast (a' := up2 a (0 + 6) 4 (upd (a (0 + 6) 4) (toN pn) fr)) (j := 0) (by decide) hF hK hH hS 4 (n := 3) rfl rfl (by decide) rfl (f := a (0 + 6) 4) rfl (i := toN pn) (by omega) (by decide) dX0_waits_63 (by simp [up2]) (by intro i q hq; simp only [up2, if_neg hq]) (fun H locs hH hS => ?_)
              refine lv_aload_n hF.1 hF.2.1 dX0_waits_64 rfl (lv_at hl 1 rfl) ?_
              refine xg0_3 hF hK hH q221 dX0_waits_65 ?_
              refine xgN_q164 (j := 0) (by decide) hF hK hH dX0_waits_68 ?_
              refine lv_iload_n hF.1 hF.2.1 dX0_waits_71 rfl (lv_at hl 2 rfl) ?_
              refine n_top b18e ?_
              refine lv_iload_n hF.1 hF.2.1 dX0_waits_72 rfl (lv_at hl 3 rfl) ?_
              refine lv_iconst (v := (-1)) hF.1 hF.2.1 dX0_waits_73 (by decide) ?_
              refine lv_icmp_ne (tgt := 81) hF.1 hF.2.1 dX0_waits_74 (by decide) (fun c19 => ?_) (fun c19 => ?_)
              · skip
                refine lv_iload_n hF.1 hF.2.1 dX0_waits_81 rfl (lv_at hl 4 rfl) ?_
                refine x1_ast (a' := up2 (up2 a (0 + 6) 4 (upd (a (0 + 6) 4) (toN pn) fr)) (0 + 6) 5 (upd (a (0 + 6) 5) (toN pn) to)) (j := 0) (by decide) hF hK hH hS 5 (n := 3) rfl rfl (by decide) rfl (f := a (0 + 6) 5) (by simp [up2]) (i := toN pn) (by omega) (by decide) dX0_waits_82 (by simp [up2]) (by intro i q hq; simp only [up2, if_neg hq]) (fun H locs hH hS => ?_)
                refine lv_iload hF.1 hF.2.1 dX0_waits_83 (lv_at hl 0 rfl) ?_
                exact hret _ _ _ _ _ _ dX0_waits_85 ⟨_, _, by subst e_r12; subst e_r10; subst e_r1; unfold fX0_waits; first | (rw [if_neg c2, if_neg c3, if_neg c11, if_neg c13, if_neg c14, if_neg c17, if_neg c19]; done) | (simp only [if_neg c2, if_neg c3, if_neg c11, if_neg c13, if_neg c14, if_neg c17, if_neg c19]), rfl⟩ hH hS
              · skip
                refine lv_iconst (v := (-1)) hF.1 hF.2.1 dX0_waits_77 (by decide) ?_
                refine lv_goto (tgt := 82) hF.1 hF.2.1 dX0_waits_78 (by decide) ?_
                refine x1_ast (a' := up2 (up2 a (0 + 6) 4 (upd (a (0 + 6) 4) (toN pn) fr)) (0 + 6) 5 (upd (a (0 + 6) 5) (toN pn) (-1))) (j := 0) (by decide) hF hK hH hS 5 (n := 3) rfl rfl (by decide) rfl (f := a (0 + 6) 5) (by simp [up2]) (i := toN pn) (by omega) (by decide) dX0_waits_82 (by simp [up2]) (by intro i q hq; simp only [up2, if_neg hq]) (fun H locs hH hS => ?_)
                refine lv_iload hF.1 hF.2.1 dX0_waits_83 (lv_at hl 0 rfl) ?_
                exact hret _ _ _ _ _ _ dX0_waits_85 ⟨_, _, by subst e_r12; subst e_r10; subst e_r1; unfold fX0_waits; first | (rw [if_neg c2, if_neg c3, if_neg c11, if_neg c13, if_neg c14, if_neg c17, if_pos c19]; done) | (simp only [if_neg c2, if_neg c3, if_neg c11, if_neg c13, if_neg c14, if_neg c17, if_pos c19]), rfl⟩ hH hS
            · skip
              refine lv_bipush (v := (-103)) hF.1 hF.2.1 dX0_waits_40 (by decide) ?_
              have hH : xH ω (g, y, up2 (up2 a (0 + 6) 4 (a (0 + 6) 4)) (0 + 6) 5 (a (0 + 6) 5), z, dr, pg, t) H := x_ext (fun _ _ => rfl) (fun _ _ => rfl) (by intro o k; by_cases h0 : o = (0 + 6) ∧ k = 4; (obtain ⟨rfl, rfl⟩ := h0; simp [up2]); by_cases h1 : o = (0 + 6) ∧ k = 5; (obtain ⟨rfl, rfl⟩ := h1; simp [up2]); simp only [up2, if_neg h0, if_neg h1]) (fun _ _ => rfl) hH
              exact hret _ _ _ _ _ _ dX0_waits_42 ⟨_, _, by subst e_r12; subst e_r10; subst e_r1; unfold fX0_waits; first | (rw [if_neg c2, if_neg c3, if_neg c11, if_neg c13, if_neg c14, if_pos c17]; done) | (simp only [if_neg c2, if_neg c3, if_neg c11, if_neg c13, if_neg c14, if_pos c17]), rfl⟩ hH hS
        · skip
          refine lv_bipush (v := (-101)) hF.1 hF.2.1 dX0_waits_27 (by decide) ?_
          have hH : xH ω (g, y, up2 (up2 a (0 + 6) 4 (a (0 + 6) 4)) (0 + 6) 5 (a (0 + 6) 5), z, dr, pg, t) H := x_ext (fun _ _ => rfl) (fun _ _ => rfl) (by intro o k; by_cases h0 : o = (0 + 6) ∧ k = 4; (obtain ⟨rfl, rfl⟩ := h0; simp [up2]); by_cases h1 : o = (0 + 6) ∧ k = 5; (obtain ⟨rfl, rfl⟩ := h1; simp [up2]); simp only [up2, if_neg h0, if_neg h1]) (fun _ _ => rfl) hH
          exact hret _ _ _ _ _ _ dX0_waits_29 ⟨_, _, by subst e_r12; subst e_r10; subst e_r1; unfold fX0_waits; first | (rw [if_neg c2, if_neg c3, if_neg c11, if_pos c13]; done) | (simp only [if_neg c2, if_neg c3, if_neg c11, if_pos c13]), rfl⟩ hH hS

def fX0_see (g : Nat → Nat → Nat) (a : Nat → Nat → Nat → Int32) (t : TW) (pn : Int32) (fr : Int32) (to : Int32) (sn : Int32) : Int32 × (Nat → Int32) × (Nat → Int32) × (Nat → Int32) × (Nat → Int32) × Nat := if (fX0_isWay g pn fr to) = 0 then ((-101), a 0 13, a 0 14, a 0 15, a 0 16, g 0 12) else if fr = to then ((-101), a 0 13, a 0 14, a 0 15, a 0 16, g 0 12) else if (fX0_isStreet t sn) = 0 then ((-101), a 0 13, a 0 14, a 0 15, a 0 16, g 0 12) else if (g 0 12) = 6 then ((-104), a 0 13, a 0 14, a 0 15, a 0 16, g 0 12) else (nI ((g 0 12) + 1), upd (a 0 13) (g 0 12) pn, upd (a 0 14) (g 0 12) fr, upd (a 0 15) (g 0 12) to, upd (a 0 16) (g 0 12) sn, (g 0 12) + 1)
def rmX0_see : Room := { frames := 4, cells := 0, slots := 0, locals := 90 }
theorem hdX0_see : yX0_see.cls = RX0 ∧ yX0_see.cls ≠ "java/lang/invoke/MethodHandle" ∧ yX0_see.cls ≠ "java/lang/invoke/VarHandle" ∧ (parseMethodDescriptor yX0_see.desc).map (fun d => d.parameters.length) = some 4 := by decide +kernel
set_option maxHeartbeats 4000000 in
theorem kX0_see (l : Launch) (ω : OM) (g : Nat → Nat → Nat) (y : Nat → Nat → Int32) (a z : Nat → Nat → Nat → Int32) (dr : Int64) (pg : Nat → Int32) (t : TW) (pn : Int32) (fr : Int32) (to : Int32) (sn : Int32) (hs6 : g 0 12 ≤ 6) : Met l yX0_see (ws_ yX0_see cX0_see 5 (some .int)) rmX0_see (va_Pc [.ref (ω.2.1 0 99), .int pn, .int fr, .int to, .int sn] (fun U => xK ω U ∧ xH ω (g, y, a, z, dr, pg, t) U.heap)) (va_Qi (fun (r : Int32) (u : XS) => ∃ (o0 : Nat → Int32) (o1 : Nat → Int32) (o2 : Nat → Int32) (o3 : Nat → Int32) (o4 : Nat), (r, o0, o1, o2, o3, o4) = (fX0_see g a t pn fr to sn) ∧ u = (up2 g 0 12 o4, y, up2 (up2 (up2 (up2 a 0 13 o0) 0 14 o1) 0 15 o2) 0 16 o3, z, dr, pg, t)) (fun u t => xH ω u t.heap) ω.2.2.1) 0 0 ω.2.2.1 := by
  refine g_entWi (C := RX0) rfl (by decide) (Nat.le_of_ble_eq_true rfl) ?_
  intro p e s m args below meth c QQ ls H locs hF hK hH hS hl hret
  have hl : lv_has ls 5 [(0, .ref (ω.2.1 0 99)), (1, .int pn), (2, .int fr), (3, .int to), (4, .int sn)] := hl
  have hn9 : tn t ≤ 9 := hH.2.2.1
  refine lv_aload_n hF.1 hF.2.1 dX0_see_0 rfl (lv_at hl 0 rfl) ?_
  refine lv_iload_n hF.1 hF.2.1 dX0_see_1 rfl (lv_at hl 1 rfl) ?_
  refine lv_iload_n hF.1 hF.2.1 dX0_see_2 rfl (lv_at hl 2 rfl) ?_
  refine lv_iload_n hF.1 hF.2.1 dX0_see_3 rfl (lv_at hl 3 rfl) ?_
  refine g_vPi (As := [.int pn, .int fr, .int to]) (rest := []) hF (kX0_isWay l ω g y a z dr pg t pn fr to) (lw_V q760 q762 qs22 q92 q763) 3 hdX0_isWay rfl rfl ⟨Nat.le_of_ble_eq_true rfl, Nat.le_of_ble_eq_true rfl⟩ (x_preV0 hK hH) rfl hl.1 rfl (Nat.le_of_ble_eq_true rfl) dX0_see_4 ⟨Nat.zero_le _, Nat.zero_le _⟩ (fun r1 e_r1 => ?_)
  refine lv_if_eq (tgt := 24) hF.1 hF.2.1 dX0_see_7 (by decide) (fun c2 => ?_) (fun c2 => ?_)
  · skip
    refine lv_bipush (v := (-101)) hF.1 hF.2.1 dX0_see_24 (by decide) ?_
    have hH : xH ω (up2 g 0 12 (g 0 12), y, up2 (up2 (up2 (up2 a 0 13 (a 0 13)) 0 14 (a 0 14)) 0 15 (a 0 15)) 0 16 (a 0 16), z, dr, pg, t) H := x_ext (by intro o k; by_cases h0 : o = 0 ∧ k = 12; (obtain ⟨rfl, rfl⟩ := h0; simp [up2]); simp only [up2, if_neg h0]) (fun _ _ => rfl) (by intro o k; by_cases h0 : o = 0 ∧ k = 13; (obtain ⟨rfl, rfl⟩ := h0; simp [up2]); by_cases h1 : o = 0 ∧ k = 14; (obtain ⟨rfl, rfl⟩ := h1; simp [up2]); by_cases h2 : o = 0 ∧ k = 15; (obtain ⟨rfl, rfl⟩ := h2; simp [up2]); by_cases h3 : o = 0 ∧ k = 16; (obtain ⟨rfl, rfl⟩ := h3; simp [up2]); simp only [up2, if_neg h0, if_neg h1, if_neg h2, if_neg h3]) (fun _ _ => rfl) hH
    exact hret _ _ _ _ _ _ dX0_see_26 ⟨_, _, _, _, _, by subst e_r1; unfold fX0_see; first | (rw [if_pos c2]; done) | (simp only [if_pos c2]), rfl⟩ hH hS
  · skip
    refine lv_iload_n hF.1 hF.2.1 dX0_see_10 rfl (lv_at hl 2 rfl) ?_
    refine lv_iload_n hF.1 hF.2.1 dX0_see_11 rfl (lv_at hl 3 rfl) ?_
    refine lv_icmp_eq (tgt := 24) hF.1 hF.2.1 dX0_see_12 (by decide) (fun c3 => ?_) (fun c3 => ?_)
    · skip
      refine lv_bipush (v := (-101)) hF.1 hF.2.1 dX0_see_24 (by decide) ?_
      have hH : xH ω (up2 g 0 12 (g 0 12), y, up2 (up2 (up2 (up2 a 0 13 (a 0 13)) 0 14 (a 0 14)) 0 15 (a 0 15)) 0 16 (a 0 16), z, dr, pg, t) H := x_ext (by intro o k; by_cases h0 : o = 0 ∧ k = 12; (obtain ⟨rfl, rfl⟩ := h0; simp [up2]); simp only [up2, if_neg h0]) (fun _ _ => rfl) (by intro o k; by_cases h0 : o = 0 ∧ k = 13; (obtain ⟨rfl, rfl⟩ := h0; simp [up2]); by_cases h1 : o = 0 ∧ k = 14; (obtain ⟨rfl, rfl⟩ := h1; simp [up2]); by_cases h2 : o = 0 ∧ k = 15; (obtain ⟨rfl, rfl⟩ := h2; simp [up2]); by_cases h3 : o = 0 ∧ k = 16; (obtain ⟨rfl, rfl⟩ := h3; simp [up2]); simp only [up2, if_neg h0, if_neg h1, if_neg h2, if_neg h3]) (fun _ _ => rfl) hH
      exact hret _ _ _ _ _ _ dX0_see_26 ⟨_, _, _, _, _, by subst e_r1; unfold fX0_see; first | (rw [if_neg c2, if_pos c3]; done) | (simp only [if_neg c2, if_pos c3]), rfl⟩ hH hS
    · skip
      refine lv_aload_n hF.1 hF.2.1 dX0_see_15 rfl (lv_at hl 0 rfl) ?_
      refine lv_iload hF.1 hF.2.1 dX0_see_16 (lv_at hl 4 rfl) ?_
      refine g_vPi (As := [.int sn]) (rest := []) hF (kX0_isStreet l ω g y a z dr pg t sn) (lw_V q689 q691 qs18 q92 q692) 1 hdX0_isStreet rfl rfl ⟨Nat.le_of_ble_eq_true rfl, Nat.le_of_ble_eq_true rfl⟩ (x_preV0 hK hH) rfl hl.1 rfl (Nat.le_of_ble_eq_true rfl) dX0_see_18 ⟨Nat.zero_le _, Nat.zero_le _⟩ (fun r4 e_r4 => ?_)
      refine lv_if_ne (tgt := 27) hF.1 hF.2.1 dX0_see_21 (by decide) (fun c5 => ?_) (fun c5 => ?_)
      · skip
        refine lv_aload_n hF.1 hF.2.1 dX0_see_27 rfl (lv_at hl 0 rfl) ?_
        refine xg0_12 hF hK hH q232 dX0_see_28 (v := g 0 12) rfl ?_
        refine lv_bipush (v := nI 6) hF.1 hF.2.1 dX0_see_31 (by decide) ?_
        refine n_ne (tgt := 39) hF.1 hF.2.1 dX0_see_33 (by decide) (by omega) (by omega) (fun c6 => ?_) (fun c6 => ?_)
        · skip
          refine lv_aload_n hF.1 hF.2.1 dX0_see_39 rfl (lv_at hl 0 rfl) ?_
          refine xg0_13 hF hK hH q233 dX0_see_40 ?_
          refine lv_aload_n hF.1 hF.2.1 dX0_see_43 rfl (lv_at hl 0 rfl) ?_
          refine xg0_12 hF hK hH q232 dX0_see_44 (v := g 0 12) rfl ?_
          refine lv_iload_n hF.1 hF.2.1 dX0_see_47 rfl (lv_at hl 1 rfl) ?_
          refine x0_ast (a' := up2 a 0 13 (upd (a 0 13) (g 0 12) pn)) hF hK hH hS 13 (n := 6) rfl rfl (by decide) (by decide) rfl (f := a 0 13) rfl (i := g 0 12) (by omega) (by decide) dX0_see_48 (by simp [up2]) (by intro i q hq; simp only [up2, if_neg hq]) (fun H locs hH hS => ?_)
          refine lv_aload_n hF.1 hF.2.1 dX0_see_49 rfl (lv_at hl 0 rfl) ?_
          refine xg0_14 hF hK hH q234 dX0_see_50 ?_
          refine lv_aload_n hF.1 hF.2.1 dX0_see_53 rfl (lv_at hl 0 rfl) ?_
          refine xg0_12 hF hK hH q232 dX0_see_54 (v := g 0 12) rfl ?_
          refine lv_iload_n hF.1 hF.2.1 dX0_see_57 rfl (lv_at hl 2 rfl) ?_
          refine x0_ast (a' := up2 (up2 a 0 13 (upd (a 0 13) (g 0 12) pn)) 0 14 (upd (a 0 14) (g 0 12) fr)) hF hK hH hS 14 (n := 6) rfl rfl (by decide) (by decide) rfl (f := a 0 14) (by simp [up2]) (i := g 0 12) (by omega) (by decide) dX0_see_58 (by simp [up2]) (by intro i q hq; simp only [up2, if_neg hq]) (fun H locs hH hS => ?_)
          refine lv_aload_n hF.1 hF.2.1 dX0_see_59 rfl (lv_at hl 0 rfl) ?_
          refine xg0_15 hF hK hH q235 dX0_see_60 ?_
          refine lv_aload_n hF.1 hF.2.1 dX0_see_63 rfl (lv_at hl 0 rfl) ?_
          refine xg0_12 hF hK hH q232 dX0_see_64 (v := g 0 12) rfl ?_
          refine lv_iload_n hF.1 hF.2.1 dX0_see_67 rfl (lv_at hl 3 rfl) ?_
          refine x0_ast (a' := up2 (up2 (up2 a 0 13 (upd (a 0 13) (g 0 12) pn)) 0 14 (upd (a 0 14) (g 0 12) fr)) 0 15 (upd (a 0 15) (g 0 12) to)) hF hK hH hS 15 (n := 6) rfl rfl (by decide) (by decide) rfl (f := a 0 15) (by simp [up2]) (i := g 0 12) (by omega) (by decide) dX0_see_68 (by simp [up2]) (by intro i q hq; simp only [up2, if_neg hq]) (fun H locs hH hS => ?_)
          refine lv_aload_n hF.1 hF.2.1 dX0_see_69 rfl (lv_at hl 0 rfl) ?_
          refine xg0_16 hF hK hH q236 dX0_see_70 ?_
          refine lv_aload_n hF.1 hF.2.1 dX0_see_73 rfl (lv_at hl 0 rfl) ?_
          refine xg0_12 hF hK hH q232 dX0_see_74 (v := g 0 12) rfl ?_
          refine lv_iload hF.1 hF.2.1 dX0_see_77 (lv_at hl 4 rfl) ?_
          refine x0_ast (a' := up2 (up2 (up2 (up2 a 0 13 (upd (a 0 13) (g 0 12) pn)) 0 14 (upd (a 0 14) (g 0 12) fr)) 0 15 (upd (a 0 15) (g 0 12) to)) 0 16 (upd (a 0 16) (g 0 12) sn)) hF hK hH hS 16 (n := 6) rfl rfl (by decide) (by decide) rfl (f := a 0 16) (by simp [up2]) (i := g 0 12) (by omega) (by decide) dX0_see_79 (by simp [up2]) (by intro i q hq; simp only [up2, if_neg hq]) (fun H locs hH hS => ?_)
          refine lv_aload_n hF.1 hF.2.1 dX0_see_80 rfl (lv_at hl 0 rfl) ?_
          refine lv_dup hF.1 hF.2.1 dX0_see_81 rfl ?_
          refine xg0_12 hF hK hH q232 dX0_see_82 (v := g 0 12) rfl ?_
          refine lv_iconst (v := nI 1) hF.1 hF.2.1 dX0_see_85 (by decide) ?_
          refine n_iadd hF.1 hF.2.1 dX0_see_86 ?_
          refine xp0_12 hF hK hH hS q232 dX0_see_87 (g' := up2 g 0 12 ((g 0 12) + 1)) (by simp [up2]) (by intro i q hq; simp only [up2, if_neg hq]) (fun H locs hH hS => ?_)
          refine lv_aload_n hF.1 hF.2.1 dX0_see_90 rfl (lv_at hl 0 rfl) ?_
          refine xg0_12 hF hK hH q232 dX0_see_91 (v := (g 0 12) + 1) (by simp [up2]) ?_
          exact hret _ _ _ _ _ _ dX0_see_94 ⟨_, _, _, _, _, by subst e_r4; subst e_r1; unfold fX0_see; first | (rw [if_neg c2, if_neg c3, if_neg c5, if_neg c6]; done) | (simp only [if_neg c2, if_neg c3, if_neg c5, if_neg c6]), rfl⟩ hH hS
        · skip
          refine lv_bipush (v := (-104)) hF.1 hF.2.1 dX0_see_36 (by decide) ?_
          have hH : xH ω (up2 g 0 12 (g 0 12), y, up2 (up2 (up2 (up2 a 0 13 (a 0 13)) 0 14 (a 0 14)) 0 15 (a 0 15)) 0 16 (a 0 16), z, dr, pg, t) H := x_ext (by intro o k; by_cases h0 : o = 0 ∧ k = 12; (obtain ⟨rfl, rfl⟩ := h0; simp [up2]); simp only [up2, if_neg h0]) (fun _ _ => rfl) (by intro o k; by_cases h0 : o = 0 ∧ k = 13; (obtain ⟨rfl, rfl⟩ := h0; simp [up2]); by_cases h1 : o = 0 ∧ k = 14; (obtain ⟨rfl, rfl⟩ := h1; simp [up2]); by_cases h2 : o = 0 ∧ k = 15; (obtain ⟨rfl, rfl⟩ := h2; simp [up2]); by_cases h3 : o = 0 ∧ k = 16; (obtain ⟨rfl, rfl⟩ := h3; simp [up2]); simp only [up2, if_neg h0, if_neg h1, if_neg h2, if_neg h3]) (fun _ _ => rfl) hH
          exact hret _ _ _ _ _ _ dX0_see_38 ⟨_, _, _, _, _, by subst e_r4; subst e_r1; unfold fX0_see; first | (rw [if_neg c2, if_neg c3, if_neg c5, if_pos c6]; done) | (simp only [if_neg c2, if_neg c3, if_neg c5, if_pos c6]), rfl⟩ hH hS
      · skip
        refine lv_bipush (v := (-101)) hF.1 hF.2.1 dX0_see_24 (by decide) ?_
        have hH : xH ω (up2 g 0 12 (g 0 12), y, up2 (up2 (up2 (up2 a 0 13 (a 0 13)) 0 14 (a 0 14)) 0 15 (a 0 15)) 0 16 (a 0 16), z, dr, pg, t) H := x_ext (by intro o k; by_cases h0 : o = 0 ∧ k = 12; (obtain ⟨rfl, rfl⟩ := h0; simp [up2]); simp only [up2, if_neg h0]) (fun _ _ => rfl) (by intro o k; by_cases h0 : o = 0 ∧ k = 13; (obtain ⟨rfl, rfl⟩ := h0; simp [up2]); by_cases h1 : o = 0 ∧ k = 14; (obtain ⟨rfl, rfl⟩ := h1; simp [up2]); by_cases h2 : o = 0 ∧ k = 15; (obtain ⟨rfl, rfl⟩ := h2; simp [up2]); by_cases h3 : o = 0 ∧ k = 16; (obtain ⟨rfl, rfl⟩ := h3; simp [up2]); simp only [up2, if_neg h0, if_neg h1, if_neg h2, if_neg h3]) (fun _ _ => rfl) hH
        exact hret _ _ _ _ _ _ dX0_see_26 ⟨_, _, _, _, _, by subst e_r4; subst e_r1; unfold fX0_see; first | (rw [if_neg c2, if_neg c3, if_pos c5]; done) | (simp only [if_neg c2, if_neg c3, if_pos c5]), rfl⟩ hH hS

def fX0_forget (g : Nat → Nat → Nat) : Int32 × Nat := (nI (g 0 12), 0)
def rmX0_forget : Room := { frames := 1, cells := 0, slots := 0, locals := 24 }
theorem hdX0_forget : yX0_forget.cls = RX0 ∧ yX0_forget.cls ≠ "java/lang/invoke/MethodHandle" ∧ yX0_forget.cls ≠ "java/lang/invoke/VarHandle" ∧ (parseMethodDescriptor yX0_forget.desc).map (fun d => d.parameters.length) = some 0 := by decide +kernel
set_option maxHeartbeats 4000000 in
theorem kX0_forget (l : Launch) (ω : OM) (g : Nat → Nat → Nat) (y : Nat → Nat → Int32) (a z : Nat → Nat → Nat → Int32) (dr : Int64) (pg : Nat → Int32) (t : TW) : Met l yX0_forget (ws_ yX0_forget cX0_forget 2 (some .int)) rmX0_forget (va_Pc [.ref (ω.2.1 0 99)] (fun U => xK ω U ∧ xH ω (g, y, a, z, dr, pg, t) U.heap)) (va_Qi (fun (r : Int32) (u : XS) => ∃ (o0 : Nat), (r, o0) = (fX0_forget g) ∧ u = (up2 g 0 12 o0, y, a, z, dr, pg, t)) (fun u t => xH ω u t.heap) ω.2.2.1) 0 0 ω.2.2.1 := by
  refine g_entWi (C := RX0) rfl (by decide) (Nat.le_of_ble_eq_true rfl) ?_
  intro p e s m args below meth c QQ ls H locs hF hK hH hS hl hret
  have hl : lv_has ls 2 [(0, .ref (ω.2.1 0 99))] := hl
  have hn9 : tn t ≤ 9 := hH.2.2.1
  refine lv_aload_n hF.1 hF.2.1 dX0_forget_0 rfl (lv_at hl 0 rfl) ?_
  refine xg0_12 hF hK hH q232 dX0_forget_1 (v := g 0 12) rfl ?_
  refine lv_istore_n (lv' := [(1, .int (nI (g 0 12))), (0, .ref (ω.2.1 0 99))]) hF.1 hF.2.1 dX0_forget_4 rfl hl (by decide) rfl (fun ls hl => ?_)
  refine lv_aload_n hF.1 hF.2.1 dX0_forget_5 rfl (lv_at hl 1 rfl) ?_
  refine lv_iconst (v := nI 0) hF.1 hF.2.1 dX0_forget_6 (by decide) ?_
  refine xp0_12 hF hK hH hS q232 dX0_forget_7 (g' := up2 g 0 12 0) (by simp [up2]) (by intro i q hq; simp only [up2, if_neg hq]) (fun H locs hH hS => ?_)
  refine lv_iload_n hF.1 hF.2.1 dX0_forget_10 rfl (lv_at hl 0 rfl) ?_
  exact hret _ _ _ _ _ _ dX0_forget_11 ⟨_, by rfl, rfl⟩ hH hS

def fX0_sumOfPeople_b4 (a : Nat → Nat → Nat → Int32) (wh : Int32) (i4 : Nat) (S : Int32) : Int32 := S + (if wh = (nI 2) then a (0 + 6) 3 i4 else if wh = (nI 1) then a (0 + 6) 2 i4 else if (a (0 + 6) 4 i4) = (-1) then nI 0 else nI 1)
def fX0_sumOfPeople (g : Nat → Nat → Nat) (a : Nat → Nat → Nat → Int32) (wh : Int32) : Int32 := (it (fX0_sumOfPeople_b4 a wh) (g 0 1) (nI 0))
def rmX0_sumOfPeople : Room := { frames := 1, cells := 0, slots := 0, locals := 24 }
theorem hdX0_sumOfPeople : yX0_sumOfPeople.cls = RX0 ∧ yX0_sumOfPeople.cls ≠ "java/lang/invoke/MethodHandle" ∧ yX0_sumOfPeople.cls ≠ "java/lang/invoke/VarHandle" ∧ (parseMethodDescriptor yX0_sumOfPeople.desc).map (fun d => d.parameters.length) = some 1 := by decide +kernel
set_option maxHeartbeats 4000000 in
theorem kX0_sumOfPeople (l : Launch) (ω : OM) (g : Nat → Nat → Nat) (y : Nat → Nat → Int32) (a z : Nat → Nat → Nat → Int32) (dr : Int64) (pg : Nat → Int32) (t : TW) (wh : Int32) (hp3 : g 0 1 ≤ 3) : Met l yX0_sumOfPeople (ws_ yX0_sumOfPeople cX0_sumOfPeople 4 (some .int)) rmX0_sumOfPeople (va_Pc [.ref (ω.2.1 0 99), .int wh] (fun U => xK ω U ∧ xH ω (g, y, a, z, dr, pg, t) U.heap)) (vp_Si (fun r => r = (fX0_sumOfPeople g a wh))) 0 0 (fun _ => False) := by
  refine g_entPi (C := RX0) rfl (by decide) (Nat.le_of_ble_eq_true rfl) ?_
  intro p e s m args below meth c QQ ls hF hKH hl hret
  have hl : lv_has ls 4 [(0, .ref (ω.2.1 0 99)), (1, .int wh)] := hl
  obtain ⟨hK, hH⟩ := hKH
  have hn9 : tn t ≤ 9 := hH.2.2.1
  refine lv_iconst (v := nI 0) hF.1 hF.2.1 dX0_sumOfPeople_0 (by decide) ?_
  refine lv_istore_n (lv' := [(2, .int (nI 0)), (0, .ref (ω.2.1 0 99)), (1, .int wh)]) hF.1 hF.2.1 dX0_sumOfPeople_1 rfl hl (by decide) rfl (fun ls hl => ?_)
  refine lv_iconst (v := nI 0) hF.1 hF.2.1 dX0_sumOfPeople_2 (by decide) ?_
  refine lv_istore_n (lv' := [(3, .int (nI 0)), (2, .int (nI 0)), (0, .ref (ω.2.1 0 99)), (1, .int wh)]) hF.1 hF.2.1 dX0_sumOfPeople_3 rfl hl (by decide) rfl (fun ls hl => ?_)
  have lp4_59 : ∀ (d4 i4 : Nat) (x4_2 : Int32) (ls : Array Slot), i4 + d4 = g 0 1 → x4_2 = it (fX0_sumOfPeople_b4 a wh) i4 (nI 0) → lv_has ls 4 [(3, .int (nI i4)), (2, .int x4_2), (0, .ref (ω.2.1 0 99)), (1, .int wh)] → W p l e rmX0_sumOfPeople s m args below meth c s.heap [] 0 0 QQ (F0 m 4 ls []) := by
    intro d4
    induction d4 with
    | zero =>
      intro i4 x4_2 ls hi4 hS4 hl
      have hj4 : g 0 1 = i4 := by omega
      subst hj4
      have e_x4_2 := hS4
      refine lv_iload_n hF.1 hF.2.1 dX0_sumOfPeople_4 rfl (lv_at hl 0 rfl) ?_
      refine lv_aload_n hF.1 hF.2.1 dX0_sumOfPeople_5 rfl (lv_at hl 2 rfl) ?_
      refine xg0_1 hF hK hH q219 dX0_sumOfPeople_6 (v := g 0 1) rfl ?_
      refine n_ge (tgt := 73) hF.1 hF.2.1 dX0_sumOfPeople_9 (by decide) (by omega) (by omega) (fun c1 => ?_) (fun c1 => ?_)
      · skip
        refine lv_iload_n hF.1 hF.2.1 dX0_sumOfPeople_73 rfl (lv_at hl 1 rfl) ?_
        exact hret _ _ _ dX0_sumOfPeople_74 (by subst e_x4_2; rfl)
      · exact absurd (by omega) c1
    | succ d4 ih =>
      intro i4 x4_2 ls hi4 hS4 hl
      refine lv_iload_n hF.1 hF.2.1 dX0_sumOfPeople_4 rfl (lv_at hl 0 rfl) ?_
      refine lv_aload_n hF.1 hF.2.1 dX0_sumOfPeople_5 rfl (lv_at hl 2 rfl) ?_
      refine xg0_1 hF hK hH q219 dX0_sumOfPeople_6 (v := g 0 1) rfl ?_
      refine n_ge (tgt := 73) hF.1 hF.2.1 dX0_sumOfPeople_9 (by decide) (by omega) (by omega) (fun c2 => ?_) (fun c2 => ?_)
      · exact absurd c2 (by omega)
      · skip
        refine lv_iload_n hF.1 hF.2.1 dX0_sumOfPeople_12 rfl (lv_at hl 1 rfl) ?_
        refine lv_iload_n hF.1 hF.2.1 dX0_sumOfPeople_13 rfl (lv_at hl 3 rfl) ?_
        refine lv_iconst (v := nI 2) hF.1 hF.2.1 dX0_sumOfPeople_14 (by decide) ?_
        have k65_7 : ∀ (v6 : Int32) (ls : Array Slot), v6 = (if wh = (nI 2) then a (0 + 6) 3 i4 else if wh = (nI 1) then a (0 + 6) 2 i4 else if (a (0 + 6) 4 i4) = (-1) then nI 0 else nI 1) → lv_has ls 4 [(3, .int (nI i4)), (0, .ref (ω.2.1 0 99)), (1, .int wh)] → W p l e rmX0_sumOfPeople s m args below meth c s.heap [] 0 0 QQ (F0 m 65 ls [.int v6, .int x4_2]) := by
          intro v6 ls e_v6 hl
          refine lv_iadd hF.1 hF.2.1 dX0_sumOfPeople_65 ?_
          refine lv_istore_n (lv' := [(2, .int (x4_2 + v6)), (3, .int (nI i4)), (0, .ref (ω.2.1 0 99)), (1, .int wh)]) hF.1 hF.2.1 dX0_sumOfPeople_66 rfl hl (by decide) rfl (fun ls hl => ?_)
          refine n_iinc (lv' := [(3, .int (nI (i4 + 1))), (2, .int (x4_2 + v6)), (0, .ref (ω.2.1 0 99)), (1, .int wh)]) hF.1 hF.2.1 dX0_sumOfPeople_67 hl (k := 1) rfl (by decide) rfl (fun ls hl => ?_)
          refine lv_goto (tgt := 4) hF.1 hF.2.1 dX0_sumOfPeople_70 (by decide) ?_
          exact ih (i4 + 1) _ _ (by omega) (by subst e_v6; rw [it_succ (fX0_sumOfPeople_b4 a wh) i4 _, ← hS4]; try rfl) (lv_sub hl [0, 1, 2, 3] rfl)
        refine lv_icmp_ne (tgt := 30) hF.1 hF.2.1 dX0_sumOfPeople_15 (by decide) (fun c3 => ?_) (fun c3 => ?_)
        · skip
          refine lv_iload_n hF.1 hF.2.1 dX0_sumOfPeople_30 rfl (lv_at hl 3 rfl) ?_
          refine lv_iconst (v := nI 1) hF.1 hF.2.1 dX0_sumOfPeople_31 (by decide) ?_
          refine lv_icmp_ne (tgt := 47) hF.1 hF.2.1 dX0_sumOfPeople_32 (by decide) (fun c4 => ?_) (fun c4 => ?_)
          · skip
            refine lv_aload_n hF.1 hF.2.1 dX0_sumOfPeople_47 rfl (lv_at hl 2 rfl) ?_
            refine xg0_3 hF hK hH q221 dX0_sumOfPeople_48 ?_
            refine xgN_q162 (j := 0) (by decide) hF hK hH dX0_sumOfPeople_51 ?_
            refine lv_iload_n hF.1 hF.2.1 dX0_sumOfPeople_54 rfl (lv_at hl 0 rfl) ?_
            refine x1_ald (j := 0) (by decide) hF hK hH 4 (n := 3) rfl rfl (by decide) rfl (f := a (0 + 6) 4) rfl (i := i4) (by omega) (by decide) dX0_sumOfPeople_55 ?_
            refine lv_iconst (v := (-1)) hF.1 hF.2.1 dX0_sumOfPeople_56 (by decide) ?_
            refine lv_icmp_ne (tgt := 64) hF.1 hF.2.1 dX0_sumOfPeople_57 (by decide) (fun c5 => ?_) (fun c5 => ?_)
            · skip
              refine lv_iconst (v := nI 1) hF.1 hF.2.1 dX0_sumOfPeople_64 (by decide) ?_
              exact k65_7 _ _ (by first | (rw [if_neg c3, if_neg c4, if_neg c5]; done) | (simp only [if_neg c3, if_neg c4, if_neg c5])) (lv_sub hl [0, 2, 3] rfl)
            · skip
              refine lv_iconst (v := nI 0) hF.1 hF.2.1 dX0_sumOfPeople_60 (by decide) ?_
              refine lv_goto (tgt := 65) hF.1 hF.2.1 dX0_sumOfPeople_61 (by decide) ?_
              exact k65_7 _ _ (by first | (rw [if_neg c3, if_neg c4, if_pos c5]; done) | (simp only [if_neg c3, if_neg c4, if_pos c5])) (lv_sub hl [0, 2, 3] rfl)
          · skip
            refine lv_aload_n hF.1 hF.2.1 dX0_sumOfPeople_35 rfl (lv_at hl 2 rfl) ?_
            refine xg0_3 hF hK hH q221 dX0_sumOfPeople_36 ?_
            refine xgN_q158 (j := 0) (by decide) hF hK hH dX0_sumOfPeople_39 ?_
            refine lv_iload_n hF.1 hF.2.1 dX0_sumOfPeople_42 rfl (lv_at hl 0 rfl) ?_
            refine x1_ald (j := 0) (by decide) hF hK hH 2 (n := 3) rfl rfl (by decide) rfl (f := a (0 + 6) 2) rfl (i := i4) (by omega) (by decide) dX0_sumOfPeople_43 ?_
            refine lv_goto (tgt := 65) hF.1 hF.2.1 dX0_sumOfPeople_44 (by decide) ?_
            exact k65_7 _ _ (by first | (rw [if_neg c3, if_pos c4]; done) | (simp only [if_neg c3, if_pos c4])) (lv_sub hl [0, 2, 3] rfl)
        · skip
          refine lv_aload_n hF.1 hF.2.1 dX0_sumOfPeople_18 rfl (lv_at hl 2 rfl) ?_
          refine xg0_3 hF hK hH q221 dX0_sumOfPeople_19 ?_
          refine xgN_q160 (j := 0) (by decide) hF hK hH dX0_sumOfPeople_22 ?_
          refine lv_iload_n hF.1 hF.2.1 dX0_sumOfPeople_25 rfl (lv_at hl 0 rfl) ?_
          refine x1_ald (j := 0) (by decide) hF hK hH 3 (n := 3) rfl rfl (by decide) rfl (f := a (0 + 6) 3) rfl (i := i4) (by omega) (by decide) dX0_sumOfPeople_26 ?_
          refine lv_goto (tgt := 65) hF.1 hF.2.1 dX0_sumOfPeople_27 (by decide) ?_
          exact k65_7 _ _ (by first | (rw [if_pos c3]; done) | (simp only [if_pos c3])) (lv_sub hl [0, 2, 3] rfl)
  exact lp4_59 (g 0 1) 0 _ _ (by omega) rfl (lv_sub hl [0, 1, 2, 3] rfl)

def fX0_lengths_b4 (t : TW) (i4 : Nat) (S : Int32) : Int32 := S + (nI (tl t i4))
def fX0_lengths (t : TW) : Int32 := (it (fX0_lengths_b4 t) (tn t) (nI 0))
def rmX0_lengths : Room := { frames := 4, cells := 0, slots := 0, locals := 88 }
theorem hdX0_lengths : yX0_lengths.cls = RX0 ∧ yX0_lengths.cls ≠ "java/lang/invoke/MethodHandle" ∧ yX0_lengths.cls ≠ "java/lang/invoke/VarHandle" ∧ (parseMethodDescriptor yX0_lengths.desc).map (fun d => d.parameters.length) = some 0 := by decide +kernel
set_option maxHeartbeats 4000000 in
theorem kX0_lengths (l : Launch) (ω : OM) (g : Nat → Nat → Nat) (y : Nat → Nat → Int32) (a z : Nat → Nat → Nat → Int32) (dr : Int64) (pg : Nat → Int32) (t : TW) : Met l yX0_lengths (ws_ yX0_lengths cX0_lengths 3 (some .int)) rmX0_lengths (va_Pc [.ref (ω.2.1 0 99)] (fun U => xK ω U ∧ xH ω (g, y, a, z, dr, pg, t) U.heap)) (vp_Si (fun r => r = (fX0_lengths t))) 0 0 (fun _ => False) := by
  refine g_entPi (C := RX0) rfl (by decide) (Nat.le_of_ble_eq_true rfl) ?_
  intro p e s m args below meth c QQ ls hF hKH hl hret
  have hl : lv_has ls 3 [(0, .ref (ω.2.1 0 99))] := hl
  obtain ⟨hK, hH⟩ := hKH
  have hn9 : tn t ≤ 9 := hH.2.2.1
  refine lv_iconst (v := nI 0) hF.1 hF.2.1 dX0_lengths_0 (by decide) ?_
  refine lv_istore_n (lv' := [(1, .int (nI 0)), (0, .ref (ω.2.1 0 99))]) hF.1 hF.2.1 dX0_lengths_1 rfl hl (by decide) rfl (fun ls hl => ?_)
  refine lv_iconst (v := nI 0) hF.1 hF.2.1 dX0_lengths_2 (by decide) ?_
  refine lv_istore_n (lv' := [(2, .int (nI 0)), (1, .int (nI 0)), (0, .ref (ω.2.1 0 99))]) hF.1 hF.2.1 dX0_lengths_3 rfl hl (by decide) rfl (fun ls hl => ?_)
  have lp4_61 : ∀ (d4 i4 : Nat) (x4_1 : Int32) (ls : Array Slot), i4 + d4 = tn t → x4_1 = it (fX0_lengths_b4 t) i4 (nI 0) → lv_has ls 3 [(2, .int (nI i4)), (1, .int x4_1), (0, .ref (ω.2.1 0 99))] → W p l e rmX0_lengths s m args below meth c s.heap [] 0 0 QQ (F0 m 4 ls []) := by
    intro d4
    induction d4 with
    | zero =>
      intro i4 x4_1 ls hi4 hS4 hl
      have hj4 : tn t = i4 := by omega
      subst hj4
      have e_x4_1 := hS4
      refine lv_iload_n hF.1 hF.2.1 dX0_lengths_4 rfl (lv_at hl 0 rfl) ?_
      refine lv_aload_n hF.1 hF.2.1 dX0_lengths_5 rfl (lv_at hl 2 rfl) ?_
      refine xg0_0 hF hK hH q218 dX0_lengths_6 ?_
      refine g_vPi (As := []) (rest := [.int (nI (tn t))]) hF (kJ2_size l ω g y a z dr pg t) (lw_V q569 q554 q555 q95 q556) 0 hdJ2_size rfl rfl ⟨Nat.le_of_ble_eq_true rfl, Nat.le_of_ble_eq_true rfl⟩ (x_preVL hK hH) rfl hl.1 rfl (Nat.le_of_ble_eq_true rfl) dX0_lengths_9 ⟨Nat.zero_le _, Nat.zero_le _⟩ (fun r1 e_r1 => ?_)
      subst e_r1
      refine n_top (y := nI (tn t)) rfl ?_
      refine n_ge (tgt := 38) hF.1 hF.2.1 dX0_lengths_12 (by decide) (by omega) (by omega) (fun c2 => ?_) (fun c2 => ?_)
      · skip
        refine lv_iload_n hF.1 hF.2.1 dX0_lengths_38 rfl (lv_at hl 1 rfl) ?_
        exact hret _ _ _ dX0_lengths_39 (by subst e_x4_1; rfl)
      · exact absurd (by omega) c2
    | succ d4 ih =>
      intro i4 x4_1 ls hi4 hS4 hl
      refine lv_iload_n hF.1 hF.2.1 dX0_lengths_4 rfl (lv_at hl 0 rfl) ?_
      refine lv_aload_n hF.1 hF.2.1 dX0_lengths_5 rfl (lv_at hl 2 rfl) ?_
      refine xg0_0 hF hK hH q218 dX0_lengths_6 ?_
      refine g_vPi (As := []) (rest := [.int (nI i4)]) hF (kJ2_size l ω g y a z dr pg t) (lw_V q569 q554 q555 q95 q556) 0 hdJ2_size rfl rfl ⟨Nat.le_of_ble_eq_true rfl, Nat.le_of_ble_eq_true rfl⟩ (x_preVL hK hH) rfl hl.1 rfl (Nat.le_of_ble_eq_true rfl) dX0_lengths_9 ⟨Nat.zero_le _, Nat.zero_le _⟩ (fun r3 e_r3 => ?_)
      subst e_r3
      refine n_top (y := nI (tn t)) rfl ?_
      refine n_ge (tgt := 38) hF.1 hF.2.1 dX0_lengths_12 (by decide) (by omega) (by omega) (fun c4 => ?_) (fun c4 => ?_)
      · exact absurd c4 (by omega)
      · skip
        refine lv_iload_n hF.1 hF.2.1 dX0_lengths_15 rfl (lv_at hl 1 rfl) ?_
        refine lv_aload_n hF.1 hF.2.1 dX0_lengths_16 rfl (lv_at hl 2 rfl) ?_
        refine xg0_0 hF hK hH q218 dX0_lengths_17 ?_
        refine lv_iload_n hF.1 hF.2.1 dX0_lengths_20 rfl (lv_at hl 0 rfl) ?_
        refine g_vPr (As := [.int (nI i4)]) (rest := [.int x4_1]) hF (kJ2_get l ω g y a z dr pg t i4 (by omega)) (lw_V q570 q571 q572 q95 q573) 1 hdJ2_get rfl rfl ⟨Nat.le_of_ble_eq_true rfl, Nat.le_of_ble_eq_true rfl⟩ (x_preVL hK hH) rfl hl.1 rfl (Nat.le_of_ble_eq_true rfl) dX0_lengths_21 ⟨Nat.zero_le _, Nat.zero_le _⟩ ?_
        refine x_cast hF hK hH (i := i4) (by omega) q488 dX0_lengths_24 ?_
        refine xs_g2 hF hK hH (i := i4) (by omega) q450 dX0_lengths_27 ?_
        have hst27 := hH.2.2.2.2 i4 (by first | exact hsn | (show _ < tn t; omega))
        change tk t i4 < 5 ∧ ta t i4 < 8 ∧ tb t i4 < 8 ∧ ¬ ta t i4 = tb t i4 ∧ 1 ≤ tl t i4 ∧ tl t i4 ≤ 9 at hst27
        refine lv_iadd hF.1 hF.2.1 dX0_lengths_30 ?_
        refine lv_istore_n (lv' := [(1, .int (x4_1 + (nI (tl t i4)))), (2, .int (nI i4)), (0, .ref (ω.2.1 0 99))]) hF.1 hF.2.1 dX0_lengths_31 rfl hl (by decide) rfl (fun ls hl => ?_)
        refine n_iinc (lv' := [(2, .int (nI (i4 + 1))), (1, .int (x4_1 + (nI (tl t i4)))), (0, .ref (ω.2.1 0 99))]) hF.1 hF.2.1 dX0_lengths_32 hl (k := 1) rfl (by decide) rfl (fun ls hl => ?_)
        refine lv_goto (tgt := 4) hF.1 hF.2.1 dX0_lengths_35 (by decide) ?_
        exact ih (i4 + 1) _ _ (by omega) (by rw [it_succ (fX0_lengths_b4 t) i4 _, ← hS4]; try rfl) (lv_sub hl [0, 1, 2] rfl)
  exact lp4_61 (tn t) 0 _ _ (by omega) rfl (lv_sub hl [0, 1, 2] rfl)

def fX0_countOf (g : Nat → Nat → Nat) (a : Nat → Nat → Nat → Int32) (t : TW) (wh : Int32) : Int32 := if wh = nI 0 then nI (g 0 1) else if wh = nI 1 then nI (tn t) else if wh = nI 2 then (fJ10_bitCount (fX0_cornersUsed t)) else if wh = nI 3 then nI (g (0 + 6) 9) else if wh = nI 4 then (fX0_sumOfPeople g a (nI 1)) else if wh = nI 5 then (fX0_sumOfPeople g a (nI 2)) else if wh = nI 6 then (fJ10_bitCount ((a (0 + 6) 7 0) ||| (a (0 + 6) 7 1))) else if wh = nI 7 then (fX0_sumOfPeople g a (nI 4)) else if wh = nI 8 then nI (g 0 12) else if wh = nI 9 then nI (g 0 7) else if wh = nI 10 then nI (g 0 2) else if wh = nI 11 then (fX0_lengths t) else (-102)
def rmX0_countOf : Room := { frames := 5, cells := 0, slots := 0, locals := 110 }
theorem hdX0_countOf : yX0_countOf.cls = RX0 ∧ yX0_countOf.cls ≠ "java/lang/invoke/MethodHandle" ∧ yX0_countOf.cls ≠ "java/lang/invoke/VarHandle" ∧ (parseMethodDescriptor yX0_countOf.desc).map (fun d => d.parameters.length) = some 1 := by decide +kernel
set_option maxHeartbeats 4000000 in
theorem kX0_countOf (l : Launch) (ω : OM) (g : Nat → Nat → Nat) (y : Nat → Nat → Int32) (a z : Nat → Nat → Nat → Int32) (dr : Int64) (pg : Nat → Int32) (t : TW) (wh : Int32) (hp3 : g 0 1 ≤ 3) : Met l yX0_countOf (ws_ yX0_countOf cX0_countOf 2 (some .int)) rmX0_countOf (va_Pc [.ref (ω.2.1 0 99), .int wh] (fun U => xK ω U ∧ xH ω (g, y, a, z, dr, pg, t) U.heap)) (vp_Si (fun r => r = (fX0_countOf g a t wh))) 0 0 (fun _ => False) := by
  refine g_entPi (C := RX0) rfl (by decide) (Nat.le_of_ble_eq_true rfl) ?_
  intro p e s m args below meth c QQ ls hF hKH hl hret
  have hl : lv_has ls 2 [(0, .ref (ω.2.1 0 99)), (1, .int wh)] := hl
  obtain ⟨hK, hH⟩ := hKH
  have hn9 : tn t ≤ 9 := hH.2.2.1
  refine lv_iload_n hF.1 hF.2.1 dX0_countOf_0 rfl (lv_at hl 1 rfl) ?_
  by_cases c2 : wh = nI 0
  · skip
    refine n_top (y := nI 0) c2 ?_
    refine lv_tableIn (off := 63) (tgt := 64) hF.1 hF.2.1 dX0_countOf_1 (by decide) (by decide) (by decide) (by decide) ?_
    refine lv_aload_n hF.1 hF.2.1 dX0_countOf_64 rfl (lv_at hl 0 rfl) ?_
    refine xg0_1 hF hK hH q219 dX0_countOf_65 (v := g 0 1) rfl ?_
    exact hret _ _ _ dX0_countOf_68 (by unfold fX0_countOf; first | (rw [if_pos c2]; done) | (simp only [if_pos c2]))
  by_cases c3 : wh = nI 1
  · skip
    refine n_top (y := nI 1) c3 ?_
    refine lv_tableIn (off := 68) (tgt := 69) hF.1 hF.2.1 dX0_countOf_1 (by decide) (by decide) (by decide) (by decide) ?_
    refine lv_aload_n hF.1 hF.2.1 dX0_countOf_69 rfl (lv_at hl 0 rfl) ?_
    refine xg0_0 hF hK hH q218 dX0_countOf_70 ?_
    refine g_vPi (As := []) (rest := []) hF (kJ2_size l ω g y a z dr pg t) (lw_V q569 q554 q555 q95 q556) 0 hdJ2_size rfl rfl ⟨Nat.le_of_ble_eq_true rfl, Nat.le_of_ble_eq_true rfl⟩ (x_preVL hK hH) rfl hl.1 rfl (Nat.le_of_ble_eq_true rfl) dX0_countOf_73 ⟨Nat.zero_le _, Nat.zero_le _⟩ (fun r4 e_r4 => ?_)
    subst e_r4
    refine n_top (y := nI (tn t)) rfl ?_
    exact hret _ _ _ dX0_countOf_76 (by unfold fX0_countOf; first | (rw [if_neg c2, if_pos c3]; done) | (simp only [if_neg c2, if_pos c3]))
  by_cases c5 : wh = nI 2
  · skip
    refine n_top (y := nI 2) c5 ?_
    refine lv_tableIn (off := 76) (tgt := 77) hF.1 hF.2.1 dX0_countOf_1 (by decide) (by decide) (by decide) (by decide) ?_
    refine lv_aload_n hF.1 hF.2.1 dX0_countOf_77 rfl (lv_at hl 0 rfl) ?_
    refine g_vPi (As := []) (rest := []) hF (kX0_cornersUsed l ω g y a z dr pg t) (lw_V q829 q831 qs33 q92 q832) 0 hdX0_cornersUsed rfl rfl ⟨Nat.le_of_ble_eq_true rfl, Nat.le_of_ble_eq_true rfl⟩ (x_preV0 hK hH) rfl hl.1 rfl (Nat.le_of_ble_eq_true rfl) dX0_countOf_78 ⟨Nat.zero_le _, Nat.zero_le _⟩ (fun r6 e_r6 => ?_)
    refine g_sPi (As := [.int r6]) (rest := []) hF (kJ10_bitCount l r6) (lw_S q833 q834 q113 q835) 1 hdJ10_bitCount.2 rfl rfl ⟨Nat.le_of_ble_eq_true rfl, Nat.le_of_ble_eq_true rfl⟩ g_pre0 rfl hl.1 rfl (Nat.le_of_ble_eq_true rfl) dX0_countOf_81 ⟨Nat.zero_le _, Nat.zero_le _⟩ (fun r7 e_r7 => ?_)
    exact hret _ _ _ dX0_countOf_84 (by subst e_r7; subst e_r6; unfold fX0_countOf; first | (rw [if_neg c2, if_neg c3, if_pos c5]; done) | (simp only [if_neg c2, if_neg c3, if_pos c5]))
  by_cases c8 : wh = nI 3
  · skip
    refine n_top (y := nI 3) c8 ?_
    refine lv_tableIn (off := 84) (tgt := 85) hF.1 hF.2.1 dX0_countOf_1 (by decide) (by decide) (by decide) (by decide) ?_
    refine lv_aload_n hF.1 hF.2.1 dX0_countOf_85 rfl (lv_at hl 0 rfl) ?_
    refine xg0_3 hF hK hH q221 dX0_countOf_86 ?_
    refine xgN_q172 (j := 0) (by decide) hF hK hH dX0_countOf_89 (v := g (0 + 6) 9) rfl ?_
    exact hret _ _ _ dX0_countOf_92 (by unfold fX0_countOf; first | (rw [if_neg c2, if_neg c3, if_neg c5, if_pos c8]; done) | (simp only [if_neg c2, if_neg c3, if_neg c5, if_pos c8]))
  by_cases c9 : wh = nI 4
  · skip
    refine n_top (y := nI 4) c9 ?_
    refine lv_tableIn (off := 92) (tgt := 93) hF.1 hF.2.1 dX0_countOf_1 (by decide) (by decide) (by decide) (by decide) ?_
    refine lv_aload_n hF.1 hF.2.1 dX0_countOf_93 rfl (lv_at hl 0 rfl) ?_
    refine lv_iconst (v := nI 1) hF.1 hF.2.1 dX0_countOf_94 (by decide) ?_
    refine g_vPi (As := [.int (nI 1)]) (rest := []) hF (kX0_sumOfPeople l ω g y a z dr pg t (nI 1) (by omega)) (lw_V q940 q942 qs43 q92 q943) 1 hdX0_sumOfPeople rfl rfl ⟨Nat.le_of_ble_eq_true rfl, Nat.le_of_ble_eq_true rfl⟩ (x_preV0 hK hH) rfl hl.1 rfl (Nat.le_of_ble_eq_true rfl) dX0_countOf_95 ⟨Nat.zero_le _, Nat.zero_le _⟩ (fun r10 e_r10 => ?_)
    exact hret _ _ _ dX0_countOf_98 (by subst e_r10; unfold fX0_countOf; first | (rw [if_neg c2, if_neg c3, if_neg c5, if_neg c8, if_pos c9]; done) | (simp only [if_neg c2, if_neg c3, if_neg c5, if_neg c8, if_pos c9]))
  by_cases c11 : wh = nI 5
  · skip
    refine n_top (y := nI 5) c11 ?_
    refine lv_tableIn (off := 98) (tgt := 99) hF.1 hF.2.1 dX0_countOf_1 (by decide) (by decide) (by decide) (by decide) ?_
    refine lv_aload_n hF.1 hF.2.1 dX0_countOf_99 rfl (lv_at hl 0 rfl) ?_
    refine lv_iconst (v := nI 2) hF.1 hF.2.1 dX0_countOf_100 (by decide) ?_
    refine g_vPi (As := [.int (nI 2)]) (rest := []) hF (kX0_sumOfPeople l ω g y a z dr pg t (nI 2) (by omega)) (lw_V q940 q942 qs43 q92 q943) 1 hdX0_sumOfPeople rfl rfl ⟨Nat.le_of_ble_eq_true rfl, Nat.le_of_ble_eq_true rfl⟩ (x_preV0 hK hH) rfl hl.1 rfl (Nat.le_of_ble_eq_true rfl) dX0_countOf_101 ⟨Nat.zero_le _, Nat.zero_le _⟩ (fun r12 e_r12 => ?_)
    exact hret _ _ _ dX0_countOf_104 (by subst e_r12; unfold fX0_countOf; first | (rw [if_neg c2, if_neg c3, if_neg c5, if_neg c8, if_neg c9, if_pos c11]; done) | (simp only [if_neg c2, if_neg c3, if_neg c5, if_neg c8, if_neg c9, if_pos c11]))
  by_cases c13 : wh = nI 6
  · skip
    refine n_top (y := nI 6) c13 ?_
    refine lv_tableIn (off := 104) (tgt := 105) hF.1 hF.2.1 dX0_countOf_1 (by decide) (by decide) (by decide) (by decide) ?_
    refine lv_aload_n hF.1 hF.2.1 dX0_countOf_105 rfl (lv_at hl 0 rfl) ?_
    refine xg0_3 hF hK hH q221 dX0_countOf_106 ?_
    refine xgN_q168 (j := 0) (by decide) hF hK hH dX0_countOf_109 ?_
    refine lv_iconst (v := nI 0) hF.1 hF.2.1 dX0_countOf_112 (by decide) ?_
    refine x1_ald (j := 0) (by decide) hF hK hH 7 (n := 2) rfl rfl (by decide) rfl (f := a (0 + 6) 7) rfl (i := 0) (by omega) (by decide) dX0_countOf_113 ?_
    refine lv_aload_n hF.1 hF.2.1 dX0_countOf_114 rfl (lv_at hl 0 rfl) ?_
    refine xg0_3 hF hK hH q221 dX0_countOf_115 ?_
    refine xgN_q168 (j := 0) (by decide) hF hK hH dX0_countOf_118 ?_
    refine lv_iconst (v := nI 1) hF.1 hF.2.1 dX0_countOf_121 (by decide) ?_
    refine x1_ald (j := 0) (by decide) hF hK hH 7 (n := 2) rfl rfl (by decide) rfl (f := a (0 + 6) 7) rfl (i := 1) (by omega) (by decide) dX0_countOf_122 ?_
    refine lv_ior hF.1 hF.2.1 dX0_countOf_123 ?_
    refine g_sPi (As := [.int ((a (0 + 6) 7 0) ||| (a (0 + 6) 7 1))]) (rest := []) hF (kJ10_bitCount l ((a (0 + 6) 7 0) ||| (a (0 + 6) 7 1))) (lw_S q833 q834 q113 q835) 1 hdJ10_bitCount.2 rfl rfl ⟨Nat.le_of_ble_eq_true rfl, Nat.le_of_ble_eq_true rfl⟩ g_pre0 rfl hl.1 rfl (Nat.le_of_ble_eq_true rfl) dX0_countOf_124 ⟨Nat.zero_le _, Nat.zero_le _⟩ (fun r14 e_r14 => ?_)
    exact hret _ _ _ dX0_countOf_127 (by subst e_r14; unfold fX0_countOf; first | (rw [if_neg c2, if_neg c3, if_neg c5, if_neg c8, if_neg c9, if_neg c11, if_pos c13]; done) | (simp only [if_neg c2, if_neg c3, if_neg c5, if_neg c8, if_neg c9, if_neg c11, if_pos c13]))
  by_cases c15 : wh = nI 7
  · skip
    refine n_top (y := nI 7) c15 ?_
    refine lv_tableIn (off := 127) (tgt := 128) hF.1 hF.2.1 dX0_countOf_1 (by decide) (by decide) (by decide) (by decide) ?_
    refine lv_aload_n hF.1 hF.2.1 dX0_countOf_128 rfl (lv_at hl 0 rfl) ?_
    refine lv_iconst (v := nI 4) hF.1 hF.2.1 dX0_countOf_129 (by decide) ?_
    refine g_vPi (As := [.int (nI 4)]) (rest := []) hF (kX0_sumOfPeople l ω g y a z dr pg t (nI 4) (by omega)) (lw_V q940 q942 qs43 q92 q943) 1 hdX0_sumOfPeople rfl rfl ⟨Nat.le_of_ble_eq_true rfl, Nat.le_of_ble_eq_true rfl⟩ (x_preV0 hK hH) rfl hl.1 rfl (Nat.le_of_ble_eq_true rfl) dX0_countOf_130 ⟨Nat.zero_le _, Nat.zero_le _⟩ (fun r16 e_r16 => ?_)
    exact hret _ _ _ dX0_countOf_133 (by subst e_r16; unfold fX0_countOf; first | (rw [if_neg c2, if_neg c3, if_neg c5, if_neg c8, if_neg c9, if_neg c11, if_neg c13, if_pos c15]; done) | (simp only [if_neg c2, if_neg c3, if_neg c5, if_neg c8, if_neg c9, if_neg c11, if_neg c13, if_pos c15]))
  by_cases c17 : wh = nI 8
  · skip
    refine n_top (y := nI 8) c17 ?_
    refine lv_tableIn (off := 133) (tgt := 134) hF.1 hF.2.1 dX0_countOf_1 (by decide) (by decide) (by decide) (by decide) ?_
    refine lv_aload_n hF.1 hF.2.1 dX0_countOf_134 rfl (lv_at hl 0 rfl) ?_
    refine xg0_12 hF hK hH q232 dX0_countOf_135 (v := g 0 12) rfl ?_
    exact hret _ _ _ dX0_countOf_138 (by unfold fX0_countOf; first | (rw [if_neg c2, if_neg c3, if_neg c5, if_neg c8, if_neg c9, if_neg c11, if_neg c13, if_neg c15, if_pos c17]; done) | (simp only [if_neg c2, if_neg c3, if_neg c5, if_neg c8, if_neg c9, if_neg c11, if_neg c13, if_neg c15, if_pos c17]))
  by_cases c18 : wh = nI 9
  · skip
    refine n_top (y := nI 9) c18 ?_
    refine lv_tableIn (off := 138) (tgt := 139) hF.1 hF.2.1 dX0_countOf_1 (by decide) (by decide) (by decide) (by decide) ?_
    refine lv_aload_n hF.1 hF.2.1 dX0_countOf_139 rfl (lv_at hl 0 rfl) ?_
    refine xg0_7 hF hK hH q227 dX0_countOf_140 (v := g 0 7) rfl ?_
    exact hret _ _ _ dX0_countOf_143 (by unfold fX0_countOf; first | (rw [if_neg c2, if_neg c3, if_neg c5, if_neg c8, if_neg c9, if_neg c11, if_neg c13, if_neg c15, if_neg c17, if_pos c18]; done) | (simp only [if_neg c2, if_neg c3, if_neg c5, if_neg c8, if_neg c9, if_neg c11, if_neg c13, if_neg c15, if_neg c17, if_pos c18]))
  by_cases c19 : wh = nI 10
  · skip
    refine n_top (y := nI 10) c19 ?_
    refine lv_tableIn (off := 143) (tgt := 144) hF.1 hF.2.1 dX0_countOf_1 (by decide) (by decide) (by decide) (by decide) ?_
    refine lv_aload_n hF.1 hF.2.1 dX0_countOf_144 rfl (lv_at hl 0 rfl) ?_
    refine xg0_2 hF hK hH q220 dX0_countOf_145 (v := g 0 2) rfl ?_
    exact hret _ _ _ dX0_countOf_148 (by unfold fX0_countOf; first | (rw [if_neg c2, if_neg c3, if_neg c5, if_neg c8, if_neg c9, if_neg c11, if_neg c13, if_neg c15, if_neg c17, if_neg c18, if_pos c19]; done) | (simp only [if_neg c2, if_neg c3, if_neg c5, if_neg c8, if_neg c9, if_neg c11, if_neg c13, if_neg c15, if_neg c17, if_neg c18, if_pos c19]))
  by_cases c20 : wh = nI 11
  · skip
    refine n_top (y := nI 11) c20 ?_
    refine lv_tableIn (off := 148) (tgt := 149) hF.1 hF.2.1 dX0_countOf_1 (by decide) (by decide) (by decide) (by decide) ?_
    refine lv_aload_n hF.1 hF.2.1 dX0_countOf_149 rfl (lv_at hl 0 rfl) ?_
    refine g_vPi (As := []) (rest := []) hF (kX0_lengths l ω g y a z dr pg t) (lw_V q944 q946 qs44 q92 q947) 0 hdX0_lengths rfl rfl ⟨Nat.le_of_ble_eq_true rfl, Nat.le_of_ble_eq_true rfl⟩ (x_preV0 hK hH) rfl hl.1 rfl (Nat.le_of_ble_eq_true rfl) dX0_countOf_150 ⟨Nat.zero_le _, Nat.zero_le _⟩ (fun r21 e_r21 => ?_)
    exact hret _ _ _ dX0_countOf_153 (by subst e_r21; unfold fX0_countOf; first | (rw [if_neg c2, if_neg c3, if_neg c5, if_neg c8, if_neg c9, if_neg c11, if_neg c13, if_neg c15, if_neg c17, if_neg c18, if_neg c19, if_pos c20]; done) | (simp only [if_neg c2, if_neg c3, if_neg c5, if_neg c8, if_neg c9, if_neg c11, if_neg c13, if_neg c15, if_neg c17, if_neg c18, if_neg c19, if_pos c20]))
  have kd1 : W p l e rmX0_countOf s m args below meth c s.heap [] 0 0 QQ (F0 m 154 ls []) := by
    skip
    refine lv_bipush (v := (-102)) hF.1 hF.2.1 dX0_countOf_154 (by decide) ?_
    exact hret _ _ _ dX0_countOf_156 (by unfold fX0_countOf; first | (rw [if_neg c2, if_neg c3, if_neg c5, if_neg c8, if_neg c9, if_neg c11, if_neg c13, if_neg c15, if_neg c17, if_neg c18, if_neg c19, if_neg c20]; done) | (simp only [if_neg c2, if_neg c3, if_neg c5, if_neg c8, if_neg c9, if_neg c11, if_neg c13, if_neg c15, if_neg c17, if_neg c18, if_neg c19, if_neg c20]))
  by_cases hlo : wh.toInt < 0
  · exact lv_tableOut (tgt := 154) hF.1 hF.2.1 dX0_countOf_1 (Or.inl hlo) (by decide) kd1
  by_cases hhi : 11 < wh.toInt
  · exact lv_tableOut (tgt := 154) hF.1 hF.2.1 dX0_countOf_1 (Or.inr hhi) (by decide) kd1
  by_cases hv0 : wh.toInt = 0
  · exact absurd (Int32.toInt_inj.mp (hv0.trans (by decide)) : wh = nI 0) c2
  by_cases hv1 : wh.toInt = 1
  · exact absurd (Int32.toInt_inj.mp (hv1.trans (by decide)) : wh = nI 1) c3
  by_cases hv2 : wh.toInt = 2
  · exact absurd (Int32.toInt_inj.mp (hv2.trans (by decide)) : wh = nI 2) c5
  by_cases hv3 : wh.toInt = 3
  · exact absurd (Int32.toInt_inj.mp (hv3.trans (by decide)) : wh = nI 3) c8
  by_cases hv4 : wh.toInt = 4
  · exact absurd (Int32.toInt_inj.mp (hv4.trans (by decide)) : wh = nI 4) c9
  by_cases hv5 : wh.toInt = 5
  · exact absurd (Int32.toInt_inj.mp (hv5.trans (by decide)) : wh = nI 5) c11
  by_cases hv6 : wh.toInt = 6
  · exact absurd (Int32.toInt_inj.mp (hv6.trans (by decide)) : wh = nI 6) c13
  by_cases hv7 : wh.toInt = 7
  · exact absurd (Int32.toInt_inj.mp (hv7.trans (by decide)) : wh = nI 7) c15
  by_cases hv8 : wh.toInt = 8
  · exact absurd (Int32.toInt_inj.mp (hv8.trans (by decide)) : wh = nI 8) c17
  by_cases hv9 : wh.toInt = 9
  · exact absurd (Int32.toInt_inj.mp (hv9.trans (by decide)) : wh = nI 9) c18
  by_cases hv10 : wh.toInt = 10
  · exact absurd (Int32.toInt_inj.mp (hv10.trans (by decide)) : wh = nI 10) c19
  by_cases hv11 : wh.toInt = 11
  · exact absurd (Int32.toInt_inj.mp (hv11.trans (by decide)) : wh = nI 11) c20
  exfalso
  omega

def fX0_count (g : Nat → Nat → Nat) (a : Nat → Nat → Nat → Int32) (t : TW) (wh : Int32) : Int32 := (fX0_countOf g a t wh)
def rmX0_count : Room := { frames := 6, cells := 0, slots := 0, locals := 131 }
theorem hdX0_count : yX0_count.cls = RX0 ∧ yX0_count.cls ≠ "java/lang/invoke/MethodHandle" ∧ yX0_count.cls ≠ "java/lang/invoke/VarHandle" ∧ (parseMethodDescriptor yX0_count.desc).map (fun d => d.parameters.length) = some 1 := by decide +kernel
set_option maxHeartbeats 4000000 in
theorem kX0_count (l : Launch) (ω : OM) (g : Nat → Nat → Nat) (y : Nat → Nat → Int32) (a z : Nat → Nat → Nat → Int32) (dr : Int64) (pg : Nat → Int32) (t : TW) (wh : Int32) (hp3 : g 0 1 ≤ 3) : Met l yX0_count (ws_ yX0_count cX0_count 2 (some .int)) rmX0_count (va_Pc [.ref (ω.2.1 0 99), .int wh] (fun U => xK ω U ∧ xH ω (g, y, a, z, dr, pg, t) U.heap)) (vp_Si (fun r => r = (fX0_count g a t wh))) 0 0 (fun _ => False) := by
  refine g_entPi (C := RX0) rfl (by decide) (Nat.le_of_ble_eq_true rfl) ?_
  intro p e s m args below meth c QQ ls hF hKH hl hret
  have hl : lv_has ls 2 [(0, .ref (ω.2.1 0 99)), (1, .int wh)] := hl
  obtain ⟨hK, hH⟩ := hKH
  have hn9 : tn t ≤ 9 := hH.2.2.1
  refine lv_aload_n hF.1 hF.2.1 dX0_count_0 rfl (lv_at hl 0 rfl) ?_
  refine lv_iload_n hF.1 hF.2.1 dX0_count_1 rfl (lv_at hl 1 rfl) ?_
  refine g_vPi (As := [.int wh]) (rest := []) hF (kX0_countOf l ω g y a z dr pg t wh (by omega)) (lw_V q936 q938 qs42 q92 q939) 1 hdX0_countOf rfl rfl ⟨Nat.le_of_ble_eq_true rfl, Nat.le_of_ble_eq_true rfl⟩ (x_preV0 hK hH) rfl hl.1 rfl (Nat.le_of_ble_eq_true rfl) dX0_count_2 ⟨Nat.zero_le _, Nat.zero_le _⟩ (fun r1 e_r1 => ?_)
  exact hret _ _ _ dX0_count_5 (by subst e_r1; rfl)

def fX0_image_b39 (a : Nat → Nat → Nat → Int32) (i39 : Nat) (S : (Nat → Int32) × (Nat → Int32) × (Nat → Int32) × (Nat → Int32)) : (Nat → Int32) × (Nat → Int32) × (Nat → Int32) × (Nat → Int32) := (upd S.1 i39 (a 0 13 i39), upd S.2.1 i39 (a 0 14 i39), upd S.2.2.1 i39 (a 0 15 i39), upd S.2.2.2 i39 (a 0 16 i39))
def fX0_image (g : Nat → Nat → Nat) (a : Nat → Nat → Nat → Int32) : Int32 × (Nat → Int32) × (Nat → Int32) × (Nat → Int32) × (Nat → Int32) × (Nat → Int32) × (Nat → Int32) × (Nat → Int32) × (Nat → Int32) × (Nat → Int32) × (Nat → Int32) × (Nat → Int32) × (Nat → Int32) × (Nat → Int32) × Nat × Nat × Nat := if (fX0_isTown g) = 0 then ((-103), a (2 + 6) 0, a (2 + 6) 1, a (2 + 6) 2, a (2 + 6) 3, a (2 + 6) 4, a (2 + 6) 5, a (2 + 6) 6, a (2 + 6) 7, a (2 + 6) 8, a 0 21, a 0 22, a 0 23, a 0 24, g (2 + 6) 9, g 0 19, g 0 20) else (nI (g (0 + 6) 9), ((fX1_become_2_0 (up2 (up2 g 0 19 (g 0 2)) 0 20 (g 0 12)) a).1), ((fX1_become_2_0 (up2 (up2 g 0 19 (g 0 2)) 0 20 (g 0 12)) a).2.1), ((fX1_become_2_0 (up2 (up2 g 0 19 (g 0 2)) 0 20 (g 0 12)) a).2.2.1), ((fX1_become_2_0 (up2 (up2 g 0 19 (g 0 2)) 0 20 (g 0 12)) a).2.2.2.1), ((fX1_become_2_0 (up2 (up2 g 0 19 (g 0 2)) 0 20 (g 0 12)) a).2.2.2.2.1), ((fX1_become_2_0 (up2 (up2 g 0 19 (g 0 2)) 0 20 (g 0 12)) a).2.2.2.2.2.1), ((fX1_become_2_0 (up2 (up2 g 0 19 (g 0 2)) 0 20 (g 0 12)) a).2.2.2.2.2.2.1), ((fX1_become_2_0 (up2 (up2 g 0 19 (g 0 2)) 0 20 (g 0 12)) a).2.2.2.2.2.2.2.1), ((fX1_become_2_0 (up2 (up2 g 0 19 (g 0 2)) 0 20 (g 0 12)) a).2.2.2.2.2.2.2.2.1), ((it (fX0_image_b39 a) 6 (a 0 21, a 0 22, a 0 23, a 0 24)).1), ((it (fX0_image_b39 a) 6 (a 0 21, a 0 22, a 0 23, a 0 24)).2.1), ((it (fX0_image_b39 a) 6 (a 0 21, a 0 22, a 0 23, a 0 24)).2.2.1), ((it (fX0_image_b39 a) 6 (a 0 21, a 0 22, a 0 23, a 0 24)).2.2.2), ((fX1_become_2_0 (up2 (up2 g 0 19 (g 0 2)) 0 20 (g 0 12)) a).2.2.2.2.2.2.2.2.2), g 0 2, g 0 12)
def rmX0_image : Room := { frames := 2, cells := 0, slots := 0, locals := 46 }
theorem hdX0_image : yX0_image.cls = RX0 ∧ yX0_image.cls ≠ "java/lang/invoke/MethodHandle" ∧ yX0_image.cls ≠ "java/lang/invoke/VarHandle" ∧ (parseMethodDescriptor yX0_image.desc).map (fun d => d.parameters.length) = some 0 := by decide +kernel
set_option maxHeartbeats 4000000 in
theorem kX0_image (l : Launch) (ω : OM) (g : Nat → Nat → Nat) (y : Nat → Nat → Int32) (a z : Nat → Nat → Nat → Int32) (dr : Int64) (pg : Nat → Int32) (t : TW) (hp3 : g 0 1 ≤ 3) : Met l yX0_image (ws_ yX0_image cX0_image 2 (some .int)) rmX0_image (va_Pc [.ref (ω.2.1 0 99)] (fun U => xK ω U ∧ xH ω (g, y, a, z, dr, pg, t) U.heap)) (va_Qi (fun (r : Int32) (u : XS) => ∃ (o0 : Nat → Int32) (o1 : Nat → Int32) (o2 : Nat → Int32) (o3 : Nat → Int32) (o4 : Nat → Int32) (o5 : Nat → Int32) (o6 : Nat → Int32) (o7 : Nat → Int32) (o8 : Nat → Int32) (o9 : Nat → Int32) (o10 : Nat → Int32) (o11 : Nat → Int32) (o12 : Nat → Int32) (o13 : Nat) (o14 : Nat) (o15 : Nat), (r, o0, o1, o2, o3, o4, o5, o6, o7, o8, o9, o10, o11, o12, o13, o14, o15) = (fX0_image g a) ∧ u = (up2 (up2 (up2 g 0 19 o14) 0 20 o15) (2 + 6) 9 o13, y, up2 (up2 (up2 (up2 (up2 (up2 (up2 (up2 (up2 (up2 (up2 (up2 (up2 a 0 21 o9) 0 22 o10) 0 23 o11) 0 24 o12) (2 + 6) 0 o0) (2 + 6) 1 o1) (2 + 6) 2 o2) (2 + 6) 3 o3) (2 + 6) 4 o4) (2 + 6) 5 o5) (2 + 6) 6 o6) (2 + 6) 7 o7) (2 + 6) 8 o8, z, dr, pg, t)) (fun u t => xH ω u t.heap) ω.2.2.1) 0 0 ω.2.2.1 := by
  refine g_entWi (C := RX0) rfl (by decide) (Nat.le_of_ble_eq_true rfl) ?_
  intro p e s m args below meth c QQ ls H locs hF hK hH hS hl hret
  have hl : lv_has ls 2 [(0, .ref (ω.2.1 0 99))] := hl
  have hn9 : tn t ≤ 9 := hH.2.2.1
  refine lv_aload_n hF.1 hF.2.1 dX0_image_0 rfl (lv_at hl 0 rfl) ?_
  refine g_vPi (As := []) (rest := []) hF (kX0_isTown l ω g y a z dr pg t (by omega)) (lw_V q752 q754 qs21 q92 q755) 0 hdX0_isTown rfl rfl ⟨Nat.le_of_ble_eq_true rfl, Nat.le_of_ble_eq_true rfl⟩ (x_preV0 hK hH) rfl hl.1 rfl (Nat.le_of_ble_eq_true rfl) dX0_image_1 ⟨Nat.zero_le _, Nat.zero_le _⟩ (fun r1 e_r1 => ?_)
  refine lv_if_ne (tgt := 10) hF.1 hF.2.1 dX0_image_4 (by decide) (fun c2 => ?_) (fun c2 => ?_)
  · skip
    refine lv_aload_n hF.1 hF.2.1 dX0_image_10 rfl (lv_at hl 0 rfl) ?_
    refine lv_aload_n hF.1 hF.2.1 dX0_image_11 rfl (lv_at hl 0 rfl) ?_
    refine xg0_2 hF hK hH q220 dX0_image_12 (v := g 0 2) rfl ?_
    refine xp0_19 hF hK hH hS q239 dX0_image_15 (g' := up2 g 0 19 (g 0 2)) (by simp [up2]) (by intro i q hq; simp only [up2, if_neg hq]) (fun H locs hH hS => ?_)
    refine lv_aload_n hF.1 hF.2.1 dX0_image_18 rfl (lv_at hl 0 rfl) ?_
    refine lv_aload_n hF.1 hF.2.1 dX0_image_19 rfl (lv_at hl 0 rfl) ?_
    refine xg0_12 hF hK hH q232 dX0_image_20 (v := g 0 12) (by simp [up2]) ?_
    refine xp0_20 hF hK hH hS q240 dX0_image_23 (g' := up2 (up2 g 0 19 (g 0 2)) 0 20 (g 0 12)) (by simp [up2]) (by intro i q hq; simp only [up2, if_neg hq]) (fun H locs hH hS => ?_)
    refine lv_aload_n hF.1 hF.2.1 dX0_image_26 rfl (lv_at hl 0 rfl) ?_
    refine xg0_5 hF hK hH q223 dX0_image_27 ?_
    refine lv_aload_n hF.1 hF.2.1 dX0_image_30 rfl (lv_at hl 0 rfl) ?_
    refine xg0_3 hF hK hH q221 dX0_image_31 ?_
    refine g_vWv (As := [.ref (ω.2.1 (0 + 6) 99)]) (rest := []) hF (kX1_become_2_0 l ω (up2 (up2 g 0 19 (g 0 2)) 0 20 (g 0 12)) y a z dr pg t) (lw_V q912 q913 q914 q96 q915) 1 hdX1_become_2_0 rfl rfl ⟨Nat.le_of_ble_eq_true rfl, Nat.le_of_ble_eq_true rfl⟩ (x_preV1 (by decide) hK hH) rfl hl.1 rfl (Nat.le_of_ble_eq_true rfl) dX0_image_34 ⟨Nat.le_of_ble_eq_true rfl, Nat.le_of_ble_eq_true rfl⟩ hS (fun ur3 H locs hqr3 hH hS => ?_)
    obtain ⟨r3o0, r3o1, r3o2, r3o3, r3o4, r3o5, r3o6, r3o7, r3o8, r3o9, hr3, rfl⟩ := hqr3
    have e_r3o0 : r3o0 = (fX1_become_2_0 (up2 (up2 g 0 19 (g 0 2)) 0 20 (g 0 12)) a).1 := by rw [← hr3]
    have e_r3o1 : r3o1 = (fX1_become_2_0 (up2 (up2 g 0 19 (g 0 2)) 0 20 (g 0 12)) a).2.1 := by rw [← hr3]
    have e_r3o2 : r3o2 = (fX1_become_2_0 (up2 (up2 g 0 19 (g 0 2)) 0 20 (g 0 12)) a).2.2.1 := by rw [← hr3]
    have e_r3o3 : r3o3 = (fX1_become_2_0 (up2 (up2 g 0 19 (g 0 2)) 0 20 (g 0 12)) a).2.2.2.1 := by rw [← hr3]
    have e_r3o4 : r3o4 = (fX1_become_2_0 (up2 (up2 g 0 19 (g 0 2)) 0 20 (g 0 12)) a).2.2.2.2.1 := by rw [← hr3]
    have e_r3o5 : r3o5 = (fX1_become_2_0 (up2 (up2 g 0 19 (g 0 2)) 0 20 (g 0 12)) a).2.2.2.2.2.1 := by rw [← hr3]
    have e_r3o6 : r3o6 = (fX1_become_2_0 (up2 (up2 g 0 19 (g 0 2)) 0 20 (g 0 12)) a).2.2.2.2.2.2.1 := by rw [← hr3]
    have e_r3o7 : r3o7 = (fX1_become_2_0 (up2 (up2 g 0 19 (g 0 2)) 0 20 (g 0 12)) a).2.2.2.2.2.2.2.1 := by rw [← hr3]
    have e_r3o8 : r3o8 = (fX1_become_2_0 (up2 (up2 g 0 19 (g 0 2)) 0 20 (g 0 12)) a).2.2.2.2.2.2.2.2.1 := by rw [← hr3]
    have e_r3o9 : r3o9 = (fX1_become_2_0 (up2 (up2 g 0 19 (g 0 2)) 0 20 (g 0 12)) a).2.2.2.2.2.2.2.2.2 := by rw [← hr3]
    have hH : xH ω (up2 (up2 (up2 g 0 19 (g 0 2)) 0 20 (g 0 12)) (2 + 6) 9 r3o9, y, up2 (up2 (up2 (up2 (up2 (up2 (up2 (up2 (up2 a (2 + 6) 0 r3o0) (2 + 6) 1 r3o1) (2 + 6) 2 r3o2) (2 + 6) 3 r3o3) (2 + 6) 4 r3o4) (2 + 6) 5 r3o5) (2 + 6) 6 r3o6) (2 + 6) 7 r3o7) (2 + 6) 8 r3o8, z, dr, pg, t) H := x_ext (by intro o k; by_cases h0 : o = (2 + 6) ∧ k = 9; (obtain ⟨rfl, rfl⟩ := h0; simp [up2]); simp only [up2, if_neg h0]) (fun _ _ => rfl) (fun _ _ => rfl) (fun _ _ => rfl) hH
    refine lv_iconst (v := nI 0) hF.1 hF.2.1 dX0_image_37 (by decide) ?_
    refine lv_istore_n (lv' := [(1, .int (nI 0)), (0, .ref (ω.2.1 0 99))]) hF.1 hF.2.1 dX0_image_38 rfl hl (by decide) rfl (fun ls hl => ?_)
    have lp39_63 : ∀ (d39 i39 : Nat) (w39_a0_21 : Nat → Int32) (w39_a0_22 : Nat → Int32) (w39_a0_23 : Nat → Int32) (w39_a0_24 : Nat → Int32) (H : Heap) (locs : List Loc) (ls : Array Slot), i39 + d39 = 6 → (w39_a0_21, w39_a0_22, w39_a0_23, w39_a0_24) = it (fX0_image_b39 a) i39 (a 0 21, a 0 22, a 0 23, a 0 24) → xH ω (up2 (up2 (up2 g 0 19 (g 0 2)) 0 20 (g 0 12)) (2 + 6) 9 r3o9, y, up2 (up2 (up2 (up2 (up2 (up2 (up2 (up2 (up2 (up2 (up2 (up2 (up2 a 0 21 w39_a0_21) 0 22 w39_a0_22) 0 23 w39_a0_23) 0 24 w39_a0_24) (2 + 6) 0 r3o0) (2 + 6) 1 r3o1) (2 + 6) 2 r3o2) (2 + 6) 3 r3o3) (2 + 6) 4 r3o4) (2 + 6) 5 r3o5) (2 + 6) 6 r3o6) (2 + 6) 7 r3o7) (2 + 6) 8 r3o8, z, dr, pg, t) H → va_S ω.2.2.1 s.heap H locs → lv_has ls 2 [(1, .int (nI i39)), (0, .ref (ω.2.1 0 99))] → W p l e rmX0_image s m args below meth c H locs 0 0 QQ (F0 m 39 ls []) := by
      intro d39
      induction d39 with
      | zero =>
        intro i39 w39_a0_21 w39_a0_22 w39_a0_23 w39_a0_24 H locs ls hi39 hS39 hH hS hl
        have hj39 : 6 = i39 := by omega
        subst hj39
        have e_w39_a0_21 : w39_a0_21 = (it (fX0_image_b39 a) 6 (a 0 21, a 0 22, a 0 23, a 0 24)).1 := by rw [← hS39]
        have e_w39_a0_22 : w39_a0_22 = (it (fX0_image_b39 a) 6 (a 0 21, a 0 22, a 0 23, a 0 24)).2.1 := by rw [← hS39]
        have e_w39_a0_23 : w39_a0_23 = (it (fX0_image_b39 a) 6 (a 0 21, a 0 22, a 0 23, a 0 24)).2.2.1 := by rw [← hS39]
        have e_w39_a0_24 : w39_a0_24 = (it (fX0_image_b39 a) 6 (a 0 21, a 0 22, a 0 23, a 0 24)).2.2.2 := by rw [← hS39]
        refine lv_iload_n hF.1 hF.2.1 dX0_image_39 rfl (lv_at hl 0 rfl) ?_
        refine lv_bipush (v := nI 6) hF.1 hF.2.1 dX0_image_40 (by decide) ?_
        refine n_ge (tgt := 99) hF.1 hF.2.1 dX0_image_42 (by decide) (by omega) (by omega) (fun c4 => ?_) (fun c4 => ?_)
        · skip
          refine lv_aload_n hF.1 hF.2.1 dX0_image_99 rfl (lv_at hl 1 rfl) ?_
          refine xg0_3 hF hK hH q221 dX0_image_100 ?_
          refine xgN_q172 (j := 0) (by decide) hF hK hH dX0_image_103 (v := g (0 + 6) 9) (by simp [up2]) ?_
          exact hret _ _ _ _ _ _ dX0_image_106 ⟨_, _, _, _, _, _, _, _, _, _, _, _, _, _, _, _, by subst e_w39_a0_24; subst e_w39_a0_23; subst e_w39_a0_22; subst e_w39_a0_21; subst e_r3o9; subst e_r3o8; subst e_r3o7; subst e_r3o6; subst e_r3o5; subst e_r3o4; subst e_r3o3; subst e_r3o2; subst e_r3o1; subst e_r3o0; subst e_r1; unfold fX0_image; first | (rw [if_neg c2]; done) | (simp only [if_neg c2]), rfl⟩ hH hS
        · exact absurd (by omega) c4
      | succ d39 ih =>
        intro i39 w39_a0_21 w39_a0_22 w39_a0_23 w39_a0_24 H locs ls hi39 hS39 hH hS hl
        refine lv_iload_n hF.1 hF.2.1 dX0_image_39 rfl (lv_at hl 0 rfl) ?_
        refine lv_bipush (v := nI 6) hF.1 hF.2.1 dX0_image_40 (by decide) ?_
        refine n_ge (tgt := 99) hF.1 hF.2.1 dX0_image_42 (by decide) (by omega) (by omega) (fun c5 => ?_) (fun c5 => ?_)
        · exact absurd c5 (by omega)
        · skip
          refine lv_aload_n hF.1 hF.2.1 dX0_image_45 rfl (lv_at hl 1 rfl) ?_
          refine xg0_21 hF hK hH q241 dX0_image_46 ?_
          refine lv_iload_n hF.1 hF.2.1 dX0_image_49 rfl (lv_at hl 0 rfl) ?_
          refine lv_aload_n hF.1 hF.2.1 dX0_image_50 rfl (lv_at hl 1 rfl) ?_
          refine xg0_13 hF hK hH q233 dX0_image_51 ?_
          refine lv_iload_n hF.1 hF.2.1 dX0_image_54 rfl (lv_at hl 0 rfl) ?_
          refine x0_ald hF hK hH 13 (n := 6) rfl rfl (by decide) (by decide) rfl (f := a 0 13) (by simp [up2]) (i := i39) (by omega) (by decide) dX0_image_55 ?_
          refine x0_ast (a' := up2 (up2 (up2 (up2 (up2 (up2 (up2 (up2 (up2 (up2 (up2 (up2 (up2 a 0 21 (upd w39_a0_21 i39 (a 0 13 i39))) 0 22 w39_a0_22) 0 23 w39_a0_23) 0 24 w39_a0_24) (2 + 6) 0 r3o0) (2 + 6) 1 r3o1) (2 + 6) 2 r3o2) (2 + 6) 3 r3o3) (2 + 6) 4 r3o4) (2 + 6) 5 r3o5) (2 + 6) 6 r3o6) (2 + 6) 7 r3o7) (2 + 6) 8 r3o8) hF hK hH hS 21 (n := 6) rfl rfl (by decide) (by decide) rfl (f := w39_a0_21) (by simp [up2]) (i := i39) (by omega) (by decide) dX0_image_56 (by simp [up2]) (by intro i q hq; simp only [up2, if_neg hq]) (fun H locs hH hS => ?_)
          refine lv_aload_n hF.1 hF.2.1 dX0_image_57 rfl (lv_at hl 1 rfl) ?_
          refine xg0_22 hF hK hH q242 dX0_image_58 ?_
          refine lv_iload_n hF.1 hF.2.1 dX0_image_61 rfl (lv_at hl 0 rfl) ?_
          refine lv_aload_n hF.1 hF.2.1 dX0_image_62 rfl (lv_at hl 1 rfl) ?_
          refine xg0_14 hF hK hH q234 dX0_image_63 ?_
          refine lv_iload_n hF.1 hF.2.1 dX0_image_66 rfl (lv_at hl 0 rfl) ?_
          refine x0_ald hF hK hH 14 (n := 6) rfl rfl (by decide) (by decide) rfl (f := a 0 14) (by simp [up2]) (i := i39) (by omega) (by decide) dX0_image_67 ?_
          refine x0_ast (a' := up2 (up2 (up2 (up2 (up2 (up2 (up2 (up2 (up2 (up2 (up2 (up2 (up2 a 0 21 (upd w39_a0_21 i39 (a 0 13 i39))) 0 22 (upd w39_a0_22 i39 (a 0 14 i39))) 0 23 w39_a0_23) 0 24 w39_a0_24) (2 + 6) 0 r3o0) (2 + 6) 1 r3o1) (2 + 6) 2 r3o2) (2 + 6) 3 r3o3) (2 + 6) 4 r3o4) (2 + 6) 5 r3o5) (2 + 6) 6 r3o6) (2 + 6) 7 r3o7) (2 + 6) 8 r3o8) hF hK hH hS 22 (n := 6) rfl rfl (by decide) (by decide) rfl (f := w39_a0_22) (by simp [up2]) (i := i39) (by omega) (by decide) dX0_image_68 (by simp [up2]) (by intro i q hq; simp only [up2, if_neg hq]) (fun H locs hH hS => ?_)
          refine lv_aload_n hF.1 hF.2.1 dX0_image_69 rfl (lv_at hl 1 rfl) ?_
          refine xg0_23 hF hK hH q243 dX0_image_70 ?_
          refine lv_iload_n hF.1 hF.2.1 dX0_image_73 rfl (lv_at hl 0 rfl) ?_
          refine lv_aload_n hF.1 hF.2.1 dX0_image_74 rfl (lv_at hl 1 rfl) ?_
          refine xg0_15 hF hK hH q235 dX0_image_75 ?_
          refine lv_iload_n hF.1 hF.2.1 dX0_image_78 rfl (lv_at hl 0 rfl) ?_
          refine x0_ald hF hK hH 15 (n := 6) rfl rfl (by decide) (by decide) rfl (f := a 0 15) (by simp [up2]) (i := i39) (by omega) (by decide) dX0_image_79 ?_
          refine x0_ast (a' := up2 (up2 (up2 (up2 (up2 (up2 (up2 (up2 (up2 (up2 (up2 (up2 (up2 a 0 21 (upd w39_a0_21 i39 (a 0 13 i39))) 0 22 (upd w39_a0_22 i39 (a 0 14 i39))) 0 23 (upd w39_a0_23 i39 (a 0 15 i39))) 0 24 w39_a0_24) (2 + 6) 0 r3o0) (2 + 6) 1 r3o1) (2 + 6) 2 r3o2) (2 + 6) 3 r3o3) (2 + 6) 4 r3o4) (2 + 6) 5 r3o5) (2 + 6) 6 r3o6) (2 + 6) 7 r3o7) (2 + 6) 8 r3o8) hF hK hH hS 23 (n := 6) rfl rfl (by decide) (by decide) rfl (f := w39_a0_23) (by simp [up2]) (i := i39) (by omega) (by decide) dX0_image_80 (by simp [up2]) (by intro i q hq; simp only [up2, if_neg hq]) (fun H locs hH hS => ?_)
          refine lv_aload_n hF.1 hF.2.1 dX0_image_81 rfl (lv_at hl 1 rfl) ?_
          refine xg0_24 hF hK hH q244 dX0_image_82 ?_
          refine lv_iload_n hF.1 hF.2.1 dX0_image_85 rfl (lv_at hl 0 rfl) ?_
          refine lv_aload_n hF.1 hF.2.1 dX0_image_86 rfl (lv_at hl 1 rfl) ?_
          refine xg0_16 hF hK hH q236 dX0_image_87 ?_
          refine lv_iload_n hF.1 hF.2.1 dX0_image_90 rfl (lv_at hl 0 rfl) ?_
          refine x0_ald hF hK hH 16 (n := 6) rfl rfl (by decide) (by decide) rfl (f := a 0 16) (by simp [up2]) (i := i39) (by omega) (by decide) dX0_image_91 ?_
          refine x0_ast (a' := up2 (up2 (up2 (up2 (up2 (up2 (up2 (up2 (up2 (up2 (up2 (up2 (up2 a 0 21 (upd w39_a0_21 i39 (a 0 13 i39))) 0 22 (upd w39_a0_22 i39 (a 0 14 i39))) 0 23 (upd w39_a0_23 i39 (a 0 15 i39))) 0 24 (upd w39_a0_24 i39 (a 0 16 i39))) (2 + 6) 0 r3o0) (2 + 6) 1 r3o1) (2 + 6) 2 r3o2) (2 + 6) 3 r3o3) (2 + 6) 4 r3o4) (2 + 6) 5 r3o5) (2 + 6) 6 r3o6) (2 + 6) 7 r3o7) (2 + 6) 8 r3o8) hF hK hH hS 24 (n := 6) rfl rfl (by decide) (by decide) rfl (f := w39_a0_24) (by simp [up2]) (i := i39) (by omega) (by decide) dX0_image_92 (by simp [up2]) (by intro i q hq; simp only [up2, if_neg hq]) (fun H locs hH hS => ?_)
          refine n_iinc (lv' := [(1, .int (nI (i39 + 1))), (0, .ref (ω.2.1 0 99))]) hF.1 hF.2.1 dX0_image_93 hl (k := 0) rfl (by decide) rfl (fun ls hl => ?_)
          refine lv_goto (tgt := 39) hF.1 hF.2.1 dX0_image_96 (by decide) ?_
          exact ih (i39 + 1) _ _ _ _ _ _ _ (by omega) (by rw [it_succ (fX0_image_b39 a) i39 _, ← hS39]; try rfl) hH hS (lv_sub hl [0, 1] rfl)
    have hH : xH ω (up2 (up2 (up2 g 0 19 (g 0 2)) 0 20 (g 0 12)) (2 + 6) 9 r3o9, y, up2 (up2 (up2 (up2 (up2 (up2 (up2 (up2 (up2 (up2 (up2 (up2 (up2 a 0 21 (a 0 21)) 0 22 (a 0 22)) 0 23 (a 0 23)) 0 24 (a 0 24)) (2 + 6) 0 r3o0) (2 + 6) 1 r3o1) (2 + 6) 2 r3o2) (2 + 6) 3 r3o3) (2 + 6) 4 r3o4) (2 + 6) 5 r3o5) (2 + 6) 6 r3o6) (2 + 6) 7 r3o7) (2 + 6) 8 r3o8, z, dr, pg, t) H := x_ext (fun _ _ => rfl) (fun _ _ => rfl) (by intro o k; by_cases h0 : o = 0 ∧ k = 21; (obtain ⟨rfl, rfl⟩ := h0; simp [up2]); by_cases h1 : o = 0 ∧ k = 22; (obtain ⟨rfl, rfl⟩ := h1; simp [up2]); by_cases h2 : o = 0 ∧ k = 23; (obtain ⟨rfl, rfl⟩ := h2; simp [up2]); by_cases h3 : o = 0 ∧ k = 24; (obtain ⟨rfl, rfl⟩ := h3; simp [up2]); simp only [up2, if_neg h0, if_neg h1, if_neg h2, if_neg h3]) (fun _ _ => rfl) hH
    exact lp39_63 6 0 _ _ _ _ _ _ _ (by omega) rfl hH hS (lv_sub hl [0, 1] rfl)
  · skip
    refine lv_bipush (v := (-103)) hF.1 hF.2.1 dX0_image_7 (by decide) ?_
    have hH : xH ω (up2 (up2 (up2 g 0 19 (g 0 19)) 0 20 (g 0 20)) (2 + 6) 9 (g (2 + 6) 9), y, up2 (up2 (up2 (up2 (up2 (up2 (up2 (up2 (up2 (up2 (up2 (up2 (up2 a 0 21 (a 0 21)) 0 22 (a 0 22)) 0 23 (a 0 23)) 0 24 (a 0 24)) (2 + 6) 0 (a (2 + 6) 0)) (2 + 6) 1 (a (2 + 6) 1)) (2 + 6) 2 (a (2 + 6) 2)) (2 + 6) 3 (a (2 + 6) 3)) (2 + 6) 4 (a (2 + 6) 4)) (2 + 6) 5 (a (2 + 6) 5)) (2 + 6) 6 (a (2 + 6) 6)) (2 + 6) 7 (a (2 + 6) 7)) (2 + 6) 8 (a (2 + 6) 8), z, dr, pg, t) H := x_ext (by intro o k; by_cases h0 : o = (2 + 6) ∧ k = 9; (obtain ⟨rfl, rfl⟩ := h0; simp [up2]); by_cases h1 : o = 0 ∧ k = 19; (obtain ⟨rfl, rfl⟩ := h1; simp [up2]); by_cases h2 : o = 0 ∧ k = 20; (obtain ⟨rfl, rfl⟩ := h2; simp [up2]); simp only [up2, if_neg h0, if_neg h1, if_neg h2]) (fun _ _ => rfl) (by intro o k; by_cases h0 : o = (2 + 6) ∧ k = 0; (obtain ⟨rfl, rfl⟩ := h0; simp [up2]); by_cases h1 : o = (2 + 6) ∧ k = 1; (obtain ⟨rfl, rfl⟩ := h1; simp [up2]); by_cases h2 : o = (2 + 6) ∧ k = 2; (obtain ⟨rfl, rfl⟩ := h2; simp [up2]); by_cases h3 : o = (2 + 6) ∧ k = 3; (obtain ⟨rfl, rfl⟩ := h3; simp [up2]); by_cases h4 : o = (2 + 6) ∧ k = 4; (obtain ⟨rfl, rfl⟩ := h4; simp [up2]); by_cases h5 : o = (2 + 6) ∧ k = 5; (obtain ⟨rfl, rfl⟩ := h5; simp [up2]); by_cases h6 : o = (2 + 6) ∧ k = 6; (obtain ⟨rfl, rfl⟩ := h6; simp [up2]); by_cases h7 : o = (2 + 6) ∧ k = 7; (obtain ⟨rfl, rfl⟩ := h7; simp [up2]); by_cases h8 : o = (2 + 6) ∧ k = 8; (obtain ⟨rfl, rfl⟩ := h8; simp [up2]); by_cases h9 : o = 0 ∧ k = 21; (obtain ⟨rfl, rfl⟩ := h9; simp [up2]); by_cases h10 : o = 0 ∧ k = 22; (obtain ⟨rfl, rfl⟩ := h10; simp [up2]); by_cases h11 : o = 0 ∧ k = 23; (obtain ⟨rfl, rfl⟩ := h11; simp [up2]); by_cases h12 : o = 0 ∧ k = 24; (obtain ⟨rfl, rfl⟩ := h12; simp [up2]); simp only [up2, if_neg h0, if_neg h1, if_neg h2, if_neg h3, if_neg h4, if_neg h5, if_neg h6, if_neg h7, if_neg h8, if_neg h9, if_neg h10, if_neg h11, if_neg h12]) (fun _ _ => rfl) hH
    exact hret _ _ _ _ _ _ dX0_image_9 ⟨_, _, _, _, _, _, _, _, _, _, _, _, _, _, _, _, by subst e_r1; unfold fX0_image; first | (rw [if_pos c2]; done) | (simp only [if_pos c2]), rfl⟩ hH hS

def fX0_restore_b42 (a : Nat → Nat → Nat → Int32) (i42 : Nat) (S : (Nat → Int32) × (Nat → Int32) × (Nat → Int32) × (Nat → Int32)) : (Nat → Int32) × (Nat → Int32) × (Nat → Int32) × (Nat → Int32) := (upd S.1 i42 (a 0 21 i42), upd S.2.1 i42 (a 0 22 i42), upd S.2.2.1 i42 (a 0 23 i42), upd S.2.2.2 i42 (a 0 24 i42))
def fX0_restore (g : Nat → Nat → Nat) (a : Nat → Nat → Nat → Int32) : Int32 × (Nat → Int32) × (Nat → Int32) × (Nat → Int32) × (Nat → Int32) × (Nat → Int32) × (Nat → Int32) × (Nat → Int32) × (Nat → Int32) × (Nat → Int32) × (Nat → Int32) × (Nat → Int32) × (Nat → Int32) × (Nat → Int32) × Nat × Nat := if (nI (g 0 19)) = 0 then ((-103), a (0 + 6) 0, a (0 + 6) 1, a (0 + 6) 2, a (0 + 6) 3, a (0 + 6) 4, a (0 + 6) 5, a (0 + 6) 6, a (0 + 6) 7, a (0 + 6) 8, a 0 13, a 0 14, a 0 15, a 0 16, g (0 + 6) 9, g 0 12) else if (nI (g 0 19)) = (nI (g 0 2)) then (nI ((fX1_become_0_2 (up2 g 0 12 (g 0 20)) a).2.2.2.2.2.2.2.2.2), ((fX1_become_0_2 (up2 g 0 12 (g 0 20)) a).1), ((fX1_become_0_2 (up2 g 0 12 (g 0 20)) a).2.1), ((fX1_become_0_2 (up2 g 0 12 (g 0 20)) a).2.2.1), ((fX1_become_0_2 (up2 g 0 12 (g 0 20)) a).2.2.2.1), ((fX1_become_0_2 (up2 g 0 12 (g 0 20)) a).2.2.2.2.1), ((fX1_become_0_2 (up2 g 0 12 (g 0 20)) a).2.2.2.2.2.1), ((fX1_become_0_2 (up2 g 0 12 (g 0 20)) a).2.2.2.2.2.2.1), ((fX1_become_0_2 (up2 g 0 12 (g 0 20)) a).2.2.2.2.2.2.2.1), ((fX1_become_0_2 (up2 g 0 12 (g 0 20)) a).2.2.2.2.2.2.2.2.1), ((it (fX0_restore_b42 a) 6 (a 0 13, a 0 14, a 0 15, a 0 16)).1), ((it (fX0_restore_b42 a) 6 (a 0 13, a 0 14, a 0 15, a 0 16)).2.1), ((it (fX0_restore_b42 a) 6 (a 0 13, a 0 14, a 0 15, a 0 16)).2.2.1), ((it (fX0_restore_b42 a) 6 (a 0 13, a 0 14, a 0 15, a 0 16)).2.2.2), ((fX1_become_0_2 (up2 g 0 12 (g 0 20)) a).2.2.2.2.2.2.2.2.2), g 0 20) else ((-103), a (0 + 6) 0, a (0 + 6) 1, a (0 + 6) 2, a (0 + 6) 3, a (0 + 6) 4, a (0 + 6) 5, a (0 + 6) 6, a (0 + 6) 7, a (0 + 6) 8, a 0 13, a 0 14, a 0 15, a 0 16, g (0 + 6) 9, g 0 12)
def rmX0_restore : Room := { frames := 2, cells := 0, slots := 0, locals := 46 }
theorem hdX0_restore : yX0_restore.cls = RX0 ∧ yX0_restore.cls ≠ "java/lang/invoke/MethodHandle" ∧ yX0_restore.cls ≠ "java/lang/invoke/VarHandle" ∧ (parseMethodDescriptor yX0_restore.desc).map (fun d => d.parameters.length) = some 0 := by decide +kernel
set_option maxHeartbeats 4000000 in
theorem kX0_restore (l : Launch) (ω : OM) (g : Nat → Nat → Nat) (y : Nat → Nat → Int32) (a z : Nat → Nat → Nat → Int32) (dr : Int64) (pg : Nat → Int32) (t : TW) : Met l yX0_restore (ws_ yX0_restore cX0_restore 2 (some .int)) rmX0_restore (va_Pc [.ref (ω.2.1 0 99)] (fun U => xK ω U ∧ xH ω (g, y, a, z, dr, pg, t) U.heap)) (va_Qi (fun (r : Int32) (u : XS) => ∃ (o0 : Nat → Int32) (o1 : Nat → Int32) (o2 : Nat → Int32) (o3 : Nat → Int32) (o4 : Nat → Int32) (o5 : Nat → Int32) (o6 : Nat → Int32) (o7 : Nat → Int32) (o8 : Nat → Int32) (o9 : Nat → Int32) (o10 : Nat → Int32) (o11 : Nat → Int32) (o12 : Nat → Int32) (o13 : Nat) (o14 : Nat), (r, o0, o1, o2, o3, o4, o5, o6, o7, o8, o9, o10, o11, o12, o13, o14) = (fX0_restore g a) ∧ u = (up2 (up2 g 0 12 o14) (0 + 6) 9 o13, y, up2 (up2 (up2 (up2 (up2 (up2 (up2 (up2 (up2 (up2 (up2 (up2 (up2 a 0 13 o9) 0 14 o10) 0 15 o11) 0 16 o12) (0 + 6) 0 o0) (0 + 6) 1 o1) (0 + 6) 2 o2) (0 + 6) 3 o3) (0 + 6) 4 o4) (0 + 6) 5 o5) (0 + 6) 6 o6) (0 + 6) 7 o7) (0 + 6) 8 o8, z, dr, pg, t)) (fun u t => xH ω u t.heap) ω.2.2.1) 0 0 ω.2.2.1 := by
  refine g_entWi (C := RX0) rfl (by decide) (Nat.le_of_ble_eq_true rfl) ?_
  intro p e s m args below meth c QQ ls H locs hF hK hH hS hl hret
  have hl : lv_has ls 2 [(0, .ref (ω.2.1 0 99))] := hl
  have hn9 : tn t ≤ 9 := hH.2.2.1
  refine lv_aload_n hF.1 hF.2.1 dX0_restore_0 rfl (lv_at hl 0 rfl) ?_
  refine xg0_19 hF hK hH q239 dX0_restore_1 (v := g 0 19) rfl ?_
  refine lv_if_eq (tgt := 18) hF.1 hF.2.1 dX0_restore_4 (by decide) (fun c1 => ?_) (fun c1 => ?_)
  · skip
    refine lv_bipush (v := (-103)) hF.1 hF.2.1 dX0_restore_18 (by decide) ?_
    have hH : xH ω (up2 (up2 g 0 12 (g 0 12)) (0 + 6) 9 (g (0 + 6) 9), y, up2 (up2 (up2 (up2 (up2 (up2 (up2 (up2 (up2 (up2 (up2 (up2 (up2 a 0 13 (a 0 13)) 0 14 (a 0 14)) 0 15 (a 0 15)) 0 16 (a 0 16)) (0 + 6) 0 (a (0 + 6) 0)) (0 + 6) 1 (a (0 + 6) 1)) (0 + 6) 2 (a (0 + 6) 2)) (0 + 6) 3 (a (0 + 6) 3)) (0 + 6) 4 (a (0 + 6) 4)) (0 + 6) 5 (a (0 + 6) 5)) (0 + 6) 6 (a (0 + 6) 6)) (0 + 6) 7 (a (0 + 6) 7)) (0 + 6) 8 (a (0 + 6) 8), z, dr, pg, t) H := x_ext (by intro o k; by_cases h0 : o = (0 + 6) ∧ k = 9; (obtain ⟨rfl, rfl⟩ := h0; simp [up2]); by_cases h1 : o = 0 ∧ k = 12; (obtain ⟨rfl, rfl⟩ := h1; simp [up2]); simp only [up2, if_neg h0, if_neg h1]) (fun _ _ => rfl) (by intro o k; by_cases h0 : o = (0 + 6) ∧ k = 0; (obtain ⟨rfl, rfl⟩ := h0; simp [up2]); by_cases h1 : o = (0 + 6) ∧ k = 1; (obtain ⟨rfl, rfl⟩ := h1; simp [up2]); by_cases h2 : o = (0 + 6) ∧ k = 2; (obtain ⟨rfl, rfl⟩ := h2; simp [up2]); by_cases h3 : o = (0 + 6) ∧ k = 3; (obtain ⟨rfl, rfl⟩ := h3; simp [up2]); by_cases h4 : o = (0 + 6) ∧ k = 4; (obtain ⟨rfl, rfl⟩ := h4; simp [up2]); by_cases h5 : o = (0 + 6) ∧ k = 5; (obtain ⟨rfl, rfl⟩ := h5; simp [up2]); by_cases h6 : o = (0 + 6) ∧ k = 6; (obtain ⟨rfl, rfl⟩ := h6; simp [up2]); by_cases h7 : o = (0 + 6) ∧ k = 7; (obtain ⟨rfl, rfl⟩ := h7; simp [up2]); by_cases h8 : o = (0 + 6) ∧ k = 8; (obtain ⟨rfl, rfl⟩ := h8; simp [up2]); by_cases h9 : o = 0 ∧ k = 13; (obtain ⟨rfl, rfl⟩ := h9; simp [up2]); by_cases h10 : o = 0 ∧ k = 14; (obtain ⟨rfl, rfl⟩ := h10; simp [up2]); by_cases h11 : o = 0 ∧ k = 15; (obtain ⟨rfl, rfl⟩ := h11; simp [up2]); by_cases h12 : o = 0 ∧ k = 16; (obtain ⟨rfl, rfl⟩ := h12; simp [up2]); simp only [up2, if_neg h0, if_neg h1, if_neg h2, if_neg h3, if_neg h4, if_neg h5, if_neg h6, if_neg h7, if_neg h8, if_neg h9, if_neg h10, if_neg h11, if_neg h12]) (fun _ _ => rfl) hH
    exact hret _ _ _ _ _ _ dX0_restore_20 ⟨_, _, _, _, _, _, _, _, _, _, _, _, _, _, _, by unfold fX0_restore; first | (rw [if_pos c1]; done) | (simp only [if_pos c1]), rfl⟩ hH hS
  · skip
    refine lv_aload_n hF.1 hF.2.1 dX0_restore_7 rfl (lv_at hl 0 rfl) ?_
    refine xg0_19 hF hK hH q239 dX0_restore_8 (v := g 0 19) rfl ?_
    refine lv_aload_n hF.1 hF.2.1 dX0_restore_11 rfl (lv_at hl 0 rfl) ?_
    refine xg0_2 hF hK hH q220 dX0_restore_12 (v := g 0 2) rfl ?_
    refine lv_icmp_eq (tgt := 21) hF.1 hF.2.1 dX0_restore_15 (by decide) (fun c2 => ?_) (fun c2 => ?_)
    · skip
      refine lv_aload_n hF.1 hF.2.1 dX0_restore_21 rfl (lv_at hl 0 rfl) ?_
      refine lv_aload_n hF.1 hF.2.1 dX0_restore_22 rfl (lv_at hl 0 rfl) ?_
      refine xg0_20 hF hK hH q240 dX0_restore_23 (v := g 0 20) rfl ?_
      refine xp0_12 hF hK hH hS q232 dX0_restore_26 (g' := up2 g 0 12 (g 0 20)) (by simp [up2]) (by intro i q hq; simp only [up2, if_neg hq]) (fun H locs hH hS => ?_)
      refine lv_aload_n hF.1 hF.2.1 dX0_restore_29 rfl (lv_at hl 0 rfl) ?_
      refine xg0_3 hF hK hH q221 dX0_restore_30 ?_
      refine lv_aload_n hF.1 hF.2.1 dX0_restore_33 rfl (lv_at hl 0 rfl) ?_
      refine xg0_5 hF hK hH q223 dX0_restore_34 ?_
      refine g_vWv (As := [.ref (ω.2.1 (2 + 6) 99)]) (rest := []) hF (kX1_become_0_2 l ω (up2 g 0 12 (g 0 20)) y a z dr pg t) (lw_V q912 q913 q914 q96 q915) 1 hdX1_become_0_2 rfl rfl ⟨Nat.le_of_ble_eq_true rfl, Nat.le_of_ble_eq_true rfl⟩ (x_preV1 (by decide) hK hH) rfl hl.1 rfl (Nat.le_of_ble_eq_true rfl) dX0_restore_37 ⟨Nat.le_of_ble_eq_true rfl, Nat.le_of_ble_eq_true rfl⟩ hS (fun ur3 H locs hqr3 hH hS => ?_)
      obtain ⟨r3o0, r3o1, r3o2, r3o3, r3o4, r3o5, r3o6, r3o7, r3o8, r3o9, hr3, rfl⟩ := hqr3
      have e_r3o0 : r3o0 = (fX1_become_0_2 (up2 g 0 12 (g 0 20)) a).1 := by rw [← hr3]
      have e_r3o1 : r3o1 = (fX1_become_0_2 (up2 g 0 12 (g 0 20)) a).2.1 := by rw [← hr3]
      have e_r3o2 : r3o2 = (fX1_become_0_2 (up2 g 0 12 (g 0 20)) a).2.2.1 := by rw [← hr3]
      have e_r3o3 : r3o3 = (fX1_become_0_2 (up2 g 0 12 (g 0 20)) a).2.2.2.1 := by rw [← hr3]
      have e_r3o4 : r3o4 = (fX1_become_0_2 (up2 g 0 12 (g 0 20)) a).2.2.2.2.1 := by rw [← hr3]
      have e_r3o5 : r3o5 = (fX1_become_0_2 (up2 g 0 12 (g 0 20)) a).2.2.2.2.2.1 := by rw [← hr3]
      have e_r3o6 : r3o6 = (fX1_become_0_2 (up2 g 0 12 (g 0 20)) a).2.2.2.2.2.2.1 := by rw [← hr3]
      have e_r3o7 : r3o7 = (fX1_become_0_2 (up2 g 0 12 (g 0 20)) a).2.2.2.2.2.2.2.1 := by rw [← hr3]
      have e_r3o8 : r3o8 = (fX1_become_0_2 (up2 g 0 12 (g 0 20)) a).2.2.2.2.2.2.2.2.1 := by rw [← hr3]
      have e_r3o9 : r3o9 = (fX1_become_0_2 (up2 g 0 12 (g 0 20)) a).2.2.2.2.2.2.2.2.2 := by rw [← hr3]
      have hH : xH ω (up2 (up2 g 0 12 (g 0 20)) (0 + 6) 9 r3o9, y, up2 (up2 (up2 (up2 (up2 (up2 (up2 (up2 (up2 a (0 + 6) 0 r3o0) (0 + 6) 1 r3o1) (0 + 6) 2 r3o2) (0 + 6) 3 r3o3) (0 + 6) 4 r3o4) (0 + 6) 5 r3o5) (0 + 6) 6 r3o6) (0 + 6) 7 r3o7) (0 + 6) 8 r3o8, z, dr, pg, t) H := x_ext (by intro o k; by_cases h0 : o = (0 + 6) ∧ k = 9; (obtain ⟨rfl, rfl⟩ := h0; simp [up2]); simp only [up2, if_neg h0]) (fun _ _ => rfl) (fun _ _ => rfl) (fun _ _ => rfl) hH
      refine lv_iconst (v := nI 0) hF.1 hF.2.1 dX0_restore_40 (by decide) ?_
      refine lv_istore_n (lv' := [(1, .int (nI 0)), (0, .ref (ω.2.1 0 99))]) hF.1 hF.2.1 dX0_restore_41 rfl hl (by decide) rfl (fun ls hl => ?_)
      have lp42_65 : ∀ (d42 i42 : Nat) (w42_a0_13 : Nat → Int32) (w42_a0_14 : Nat → Int32) (w42_a0_15 : Nat → Int32) (w42_a0_16 : Nat → Int32) (H : Heap) (locs : List Loc) (ls : Array Slot), i42 + d42 = 6 → (w42_a0_13, w42_a0_14, w42_a0_15, w42_a0_16) = it (fX0_restore_b42 a) i42 (a 0 13, a 0 14, a 0 15, a 0 16) → xH ω (up2 (up2 g 0 12 (g 0 20)) (0 + 6) 9 r3o9, y, up2 (up2 (up2 (up2 (up2 (up2 (up2 (up2 (up2 (up2 (up2 (up2 (up2 a 0 13 w42_a0_13) 0 14 w42_a0_14) 0 15 w42_a0_15) 0 16 w42_a0_16) (0 + 6) 0 r3o0) (0 + 6) 1 r3o1) (0 + 6) 2 r3o2) (0 + 6) 3 r3o3) (0 + 6) 4 r3o4) (0 + 6) 5 r3o5) (0 + 6) 6 r3o6) (0 + 6) 7 r3o7) (0 + 6) 8 r3o8, z, dr, pg, t) H → va_S ω.2.2.1 s.heap H locs → lv_has ls 2 [(1, .int (nI i42)), (0, .ref (ω.2.1 0 99))] → W p l e rmX0_restore s m args below meth c H locs 0 0 QQ (F0 m 42 ls []) := by
        intro d42
        induction d42 with
        | zero =>
          intro i42 w42_a0_13 w42_a0_14 w42_a0_15 w42_a0_16 H locs ls hi42 hS42 hH hS hl
          have hj42 : 6 = i42 := by omega
          subst hj42
          have e_w42_a0_13 : w42_a0_13 = (it (fX0_restore_b42 a) 6 (a 0 13, a 0 14, a 0 15, a 0 16)).1 := by rw [← hS42]
          have e_w42_a0_14 : w42_a0_14 = (it (fX0_restore_b42 a) 6 (a 0 13, a 0 14, a 0 15, a 0 16)).2.1 := by rw [← hS42]
          have e_w42_a0_15 : w42_a0_15 = (it (fX0_restore_b42 a) 6 (a 0 13, a 0 14, a 0 15, a 0 16)).2.2.1 := by rw [← hS42]
          have e_w42_a0_16 : w42_a0_16 = (it (fX0_restore_b42 a) 6 (a 0 13, a 0 14, a 0 15, a 0 16)).2.2.2 := by rw [← hS42]
          refine lv_iload_n hF.1 hF.2.1 dX0_restore_42 rfl (lv_at hl 0 rfl) ?_
          refine lv_bipush (v := nI 6) hF.1 hF.2.1 dX0_restore_43 (by decide) ?_
          refine n_ge (tgt := 102) hF.1 hF.2.1 dX0_restore_45 (by decide) (by omega) (by omega) (fun c4 => ?_) (fun c4 => ?_)
          · skip
            refine lv_aload_n hF.1 hF.2.1 dX0_restore_102 rfl (lv_at hl 1 rfl) ?_
            refine xg0_3 hF hK hH q221 dX0_restore_103 ?_
            refine xgN_q172 (j := 0) (by decide) hF hK hH dX0_restore_106 (v := r3o9) (by simp [up2]) ?_
            exact hret _ _ _ _ _ _ dX0_restore_109 ⟨_, _, _, _, _, _, _, _, _, _, _, _, _, _, _, by subst e_w42_a0_16; subst e_w42_a0_15; subst e_w42_a0_14; subst e_w42_a0_13; subst e_r3o9; subst e_r3o8; subst e_r3o7; subst e_r3o6; subst e_r3o5; subst e_r3o4; subst e_r3o3; subst e_r3o2; subst e_r3o1; subst e_r3o0; unfold fX0_restore; first | (rw [if_neg c1, if_pos c2]; done) | (simp only [if_neg c1, if_pos c2]), rfl⟩ hH hS
          · exact absurd (by omega) c4
        | succ d42 ih =>
          intro i42 w42_a0_13 w42_a0_14 w42_a0_15 w42_a0_16 H locs ls hi42 hS42 hH hS hl
          refine lv_iload_n hF.1 hF.2.1 dX0_restore_42 rfl (lv_at hl 0 rfl) ?_
          refine lv_bipush (v := nI 6) hF.1 hF.2.1 dX0_restore_43 (by decide) ?_
          refine n_ge (tgt := 102) hF.1 hF.2.1 dX0_restore_45 (by decide) (by omega) (by omega) (fun c5 => ?_) (fun c5 => ?_)
          · exact absurd c5 (by omega)
          · skip
            refine lv_aload_n hF.1 hF.2.1 dX0_restore_48 rfl (lv_at hl 1 rfl) ?_
            refine xg0_13 hF hK hH q233 dX0_restore_49 ?_
            refine lv_iload_n hF.1 hF.2.1 dX0_restore_52 rfl (lv_at hl 0 rfl) ?_
            refine lv_aload_n hF.1 hF.2.1 dX0_restore_53 rfl (lv_at hl 1 rfl) ?_
            refine xg0_21 hF hK hH q241 dX0_restore_54 ?_
            refine lv_iload_n hF.1 hF.2.1 dX0_restore_57 rfl (lv_at hl 0 rfl) ?_
            refine x0_ald hF hK hH 21 (n := 6) rfl rfl (by decide) (by decide) rfl (f := a 0 21) (by simp [up2]) (i := i42) (by omega) (by decide) dX0_restore_58 ?_
            refine x0_ast (a' := up2 (up2 (up2 (up2 (up2 (up2 (up2 (up2 (up2 (up2 (up2 (up2 (up2 a 0 13 (upd w42_a0_13 i42 (a 0 21 i42))) 0 14 w42_a0_14) 0 15 w42_a0_15) 0 16 w42_a0_16) (0 + 6) 0 r3o0) (0 + 6) 1 r3o1) (0 + 6) 2 r3o2) (0 + 6) 3 r3o3) (0 + 6) 4 r3o4) (0 + 6) 5 r3o5) (0 + 6) 6 r3o6) (0 + 6) 7 r3o7) (0 + 6) 8 r3o8) hF hK hH hS 13 (n := 6) rfl rfl (by decide) (by decide) rfl (f := w42_a0_13) (by simp [up2]) (i := i42) (by omega) (by decide) dX0_restore_59 (by simp [up2]) (by intro i q hq; simp only [up2, if_neg hq]) (fun H locs hH hS => ?_)
            refine lv_aload_n hF.1 hF.2.1 dX0_restore_60 rfl (lv_at hl 1 rfl) ?_
            refine xg0_14 hF hK hH q234 dX0_restore_61 ?_
            refine lv_iload_n hF.1 hF.2.1 dX0_restore_64 rfl (lv_at hl 0 rfl) ?_
            refine lv_aload_n hF.1 hF.2.1 dX0_restore_65 rfl (lv_at hl 1 rfl) ?_
            refine xg0_22 hF hK hH q242 dX0_restore_66 ?_
            refine lv_iload_n hF.1 hF.2.1 dX0_restore_69 rfl (lv_at hl 0 rfl) ?_
            refine x0_ald hF hK hH 22 (n := 6) rfl rfl (by decide) (by decide) rfl (f := a 0 22) (by simp [up2]) (i := i42) (by omega) (by decide) dX0_restore_70 ?_
            refine x0_ast (a' := up2 (up2 (up2 (up2 (up2 (up2 (up2 (up2 (up2 (up2 (up2 (up2 (up2 a 0 13 (upd w42_a0_13 i42 (a 0 21 i42))) 0 14 (upd w42_a0_14 i42 (a 0 22 i42))) 0 15 w42_a0_15) 0 16 w42_a0_16) (0 + 6) 0 r3o0) (0 + 6) 1 r3o1) (0 + 6) 2 r3o2) (0 + 6) 3 r3o3) (0 + 6) 4 r3o4) (0 + 6) 5 r3o5) (0 + 6) 6 r3o6) (0 + 6) 7 r3o7) (0 + 6) 8 r3o8) hF hK hH hS 14 (n := 6) rfl rfl (by decide) (by decide) rfl (f := w42_a0_14) (by simp [up2]) (i := i42) (by omega) (by decide) dX0_restore_71 (by simp [up2]) (by intro i q hq; simp only [up2, if_neg hq]) (fun H locs hH hS => ?_)
            refine lv_aload_n hF.1 hF.2.1 dX0_restore_72 rfl (lv_at hl 1 rfl) ?_
            refine xg0_15 hF hK hH q235 dX0_restore_73 ?_
            refine lv_iload_n hF.1 hF.2.1 dX0_restore_76 rfl (lv_at hl 0 rfl) ?_
            refine lv_aload_n hF.1 hF.2.1 dX0_restore_77 rfl (lv_at hl 1 rfl) ?_
            refine xg0_23 hF hK hH q243 dX0_restore_78 ?_
            refine lv_iload_n hF.1 hF.2.1 dX0_restore_81 rfl (lv_at hl 0 rfl) ?_
            refine x0_ald hF hK hH 23 (n := 6) rfl rfl (by decide) (by decide) rfl (f := a 0 23) (by simp [up2]) (i := i42) (by omega) (by decide) dX0_restore_82 ?_
            refine x0_ast (a' := up2 (up2 (up2 (up2 (up2 (up2 (up2 (up2 (up2 (up2 (up2 (up2 (up2 a 0 13 (upd w42_a0_13 i42 (a 0 21 i42))) 0 14 (upd w42_a0_14 i42 (a 0 22 i42))) 0 15 (upd w42_a0_15 i42 (a 0 23 i42))) 0 16 w42_a0_16) (0 + 6) 0 r3o0) (0 + 6) 1 r3o1) (0 + 6) 2 r3o2) (0 + 6) 3 r3o3) (0 + 6) 4 r3o4) (0 + 6) 5 r3o5) (0 + 6) 6 r3o6) (0 + 6) 7 r3o7) (0 + 6) 8 r3o8) hF hK hH hS 15 (n := 6) rfl rfl (by decide) (by decide) rfl (f := w42_a0_15) (by simp [up2]) (i := i42) (by omega) (by decide) dX0_restore_83 (by simp [up2]) (by intro i q hq; simp only [up2, if_neg hq]) (fun H locs hH hS => ?_)
            refine lv_aload_n hF.1 hF.2.1 dX0_restore_84 rfl (lv_at hl 1 rfl) ?_
            refine xg0_16 hF hK hH q236 dX0_restore_85 ?_
            refine lv_iload_n hF.1 hF.2.1 dX0_restore_88 rfl (lv_at hl 0 rfl) ?_
            refine lv_aload_n hF.1 hF.2.1 dX0_restore_89 rfl (lv_at hl 1 rfl) ?_
            refine xg0_24 hF hK hH q244 dX0_restore_90 ?_
            refine lv_iload_n hF.1 hF.2.1 dX0_restore_93 rfl (lv_at hl 0 rfl) ?_
            refine x0_ald hF hK hH 24 (n := 6) rfl rfl (by decide) (by decide) rfl (f := a 0 24) (by simp [up2]) (i := i42) (by omega) (by decide) dX0_restore_94 ?_
            refine x0_ast (a' := up2 (up2 (up2 (up2 (up2 (up2 (up2 (up2 (up2 (up2 (up2 (up2 (up2 a 0 13 (upd w42_a0_13 i42 (a 0 21 i42))) 0 14 (upd w42_a0_14 i42 (a 0 22 i42))) 0 15 (upd w42_a0_15 i42 (a 0 23 i42))) 0 16 (upd w42_a0_16 i42 (a 0 24 i42))) (0 + 6) 0 r3o0) (0 + 6) 1 r3o1) (0 + 6) 2 r3o2) (0 + 6) 3 r3o3) (0 + 6) 4 r3o4) (0 + 6) 5 r3o5) (0 + 6) 6 r3o6) (0 + 6) 7 r3o7) (0 + 6) 8 r3o8) hF hK hH hS 16 (n := 6) rfl rfl (by decide) (by decide) rfl (f := w42_a0_16) (by simp [up2]) (i := i42) (by omega) (by decide) dX0_restore_95 (by simp [up2]) (by intro i q hq; simp only [up2, if_neg hq]) (fun H locs hH hS => ?_)
            refine n_iinc (lv' := [(1, .int (nI (i42 + 1))), (0, .ref (ω.2.1 0 99))]) hF.1 hF.2.1 dX0_restore_96 hl (k := 0) rfl (by decide) rfl (fun ls hl => ?_)
            refine lv_goto (tgt := 42) hF.1 hF.2.1 dX0_restore_99 (by decide) ?_
            exact ih (i42 + 1) _ _ _ _ _ _ _ (by omega) (by rw [it_succ (fX0_restore_b42 a) i42 _, ← hS42]; try rfl) hH hS (lv_sub hl [0, 1] rfl)
      have hH : xH ω (up2 (up2 g 0 12 (g 0 20)) (0 + 6) 9 r3o9, y, up2 (up2 (up2 (up2 (up2 (up2 (up2 (up2 (up2 (up2 (up2 (up2 (up2 a 0 13 (a 0 13)) 0 14 (a 0 14)) 0 15 (a 0 15)) 0 16 (a 0 16)) (0 + 6) 0 r3o0) (0 + 6) 1 r3o1) (0 + 6) 2 r3o2) (0 + 6) 3 r3o3) (0 + 6) 4 r3o4) (0 + 6) 5 r3o5) (0 + 6) 6 r3o6) (0 + 6) 7 r3o7) (0 + 6) 8 r3o8, z, dr, pg, t) H := x_ext (fun _ _ => rfl) (fun _ _ => rfl) (by intro o k; by_cases h0 : o = 0 ∧ k = 13; (obtain ⟨rfl, rfl⟩ := h0; simp [up2]); by_cases h1 : o = 0 ∧ k = 14; (obtain ⟨rfl, rfl⟩ := h1; simp [up2]); by_cases h2 : o = 0 ∧ k = 15; (obtain ⟨rfl, rfl⟩ := h2; simp [up2]); by_cases h3 : o = 0 ∧ k = 16; (obtain ⟨rfl, rfl⟩ := h3; simp [up2]); simp only [up2, if_neg h0, if_neg h1, if_neg h2, if_neg h3]) (fun _ _ => rfl) hH
      exact lp42_65 6 0 _ _ _ _ _ _ _ (by omega) rfl hH hS (lv_sub hl [0, 1] rfl)
    · skip
      refine lv_bipush (v := (-103)) hF.1 hF.2.1 dX0_restore_18 (by decide) ?_
      have hH : xH ω (up2 (up2 g 0 12 (g 0 12)) (0 + 6) 9 (g (0 + 6) 9), y, up2 (up2 (up2 (up2 (up2 (up2 (up2 (up2 (up2 (up2 (up2 (up2 (up2 a 0 13 (a 0 13)) 0 14 (a 0 14)) 0 15 (a 0 15)) 0 16 (a 0 16)) (0 + 6) 0 (a (0 + 6) 0)) (0 + 6) 1 (a (0 + 6) 1)) (0 + 6) 2 (a (0 + 6) 2)) (0 + 6) 3 (a (0 + 6) 3)) (0 + 6) 4 (a (0 + 6) 4)) (0 + 6) 5 (a (0 + 6) 5)) (0 + 6) 6 (a (0 + 6) 6)) (0 + 6) 7 (a (0 + 6) 7)) (0 + 6) 8 (a (0 + 6) 8), z, dr, pg, t) H := x_ext (by intro o k; by_cases h0 : o = (0 + 6) ∧ k = 9; (obtain ⟨rfl, rfl⟩ := h0; simp [up2]); by_cases h1 : o = 0 ∧ k = 12; (obtain ⟨rfl, rfl⟩ := h1; simp [up2]); simp only [up2, if_neg h0, if_neg h1]) (fun _ _ => rfl) (by intro o k; by_cases h0 : o = (0 + 6) ∧ k = 0; (obtain ⟨rfl, rfl⟩ := h0; simp [up2]); by_cases h1 : o = (0 + 6) ∧ k = 1; (obtain ⟨rfl, rfl⟩ := h1; simp [up2]); by_cases h2 : o = (0 + 6) ∧ k = 2; (obtain ⟨rfl, rfl⟩ := h2; simp [up2]); by_cases h3 : o = (0 + 6) ∧ k = 3; (obtain ⟨rfl, rfl⟩ := h3; simp [up2]); by_cases h4 : o = (0 + 6) ∧ k = 4; (obtain ⟨rfl, rfl⟩ := h4; simp [up2]); by_cases h5 : o = (0 + 6) ∧ k = 5; (obtain ⟨rfl, rfl⟩ := h5; simp [up2]); by_cases h6 : o = (0 + 6) ∧ k = 6; (obtain ⟨rfl, rfl⟩ := h6; simp [up2]); by_cases h7 : o = (0 + 6) ∧ k = 7; (obtain ⟨rfl, rfl⟩ := h7; simp [up2]); by_cases h8 : o = (0 + 6) ∧ k = 8; (obtain ⟨rfl, rfl⟩ := h8; simp [up2]); by_cases h9 : o = 0 ∧ k = 13; (obtain ⟨rfl, rfl⟩ := h9; simp [up2]); by_cases h10 : o = 0 ∧ k = 14; (obtain ⟨rfl, rfl⟩ := h10; simp [up2]); by_cases h11 : o = 0 ∧ k = 15; (obtain ⟨rfl, rfl⟩ := h11; simp [up2]); by_cases h12 : o = 0 ∧ k = 16; (obtain ⟨rfl, rfl⟩ := h12; simp [up2]); simp only [up2, if_neg h0, if_neg h1, if_neg h2, if_neg h3, if_neg h4, if_neg h5, if_neg h6, if_neg h7, if_neg h8, if_neg h9, if_neg h10, if_neg h11, if_neg h12]) (fun _ _ => rfl) hH
      exact hret _ _ _ _ _ _ dX0_restore_20 ⟨_, _, _, _, _, _, _, _, _, _, _, _, _, _, _, by unfold fX0_restore; first | (rw [if_neg c1, if_neg c2]; done) | (simp only [if_neg c1, if_neg c2]), rfl⟩ hH hS

def fX0_draw (dr : Int64) (of : Nat) : Int32 × Int64 := ((((((1103515245 * dr) + 12345) &&& 2147483647) / 65536) - ((((1103515245 * dr) + 12345) &&& 2147483647) / 65536) / ((nI of).toInt64) * ((nI of).toInt64)).toInt32, ((1103515245 * dr) + 12345) &&& 2147483647)
def rmX0_draw : Room := { frames := 1, cells := 0, slots := 0, locals := 24 }
theorem hdX0_draw : yX0_draw.cls = RX0 ∧ yX0_draw.cls ≠ "java/lang/invoke/MethodHandle" ∧ yX0_draw.cls ≠ "java/lang/invoke/VarHandle" ∧ (parseMethodDescriptor yX0_draw.desc).map (fun d => d.parameters.length) = some 1 := by decide +kernel
set_option maxHeartbeats 4000000 in
theorem kX0_draw (l : Launch) (ω : OM) (g : Nat → Nat → Nat) (y : Nat → Nat → Int32) (a z : Nat → Nat → Nat → Int32) (dr : Int64) (pg : Nat → Int32) (t : TW) (of : Nat) (hof : 0 < of) (hof9 : of < 9) : Met l yX0_draw (ws_ yX0_draw cX0_draw 2 (some .int)) rmX0_draw (va_Pc [.ref (ω.2.1 0 99), .int (nI of)] (fun U => xK ω U ∧ xH ω (g, y, a, z, dr, pg, t) U.heap)) (va_Qi (fun (r : Int32) (u : XS) => ∃ (o0 : Int64), (r, o0) = (fX0_draw dr of) ∧ u = (g, y, a, z, o0, pg, t)) (fun u t => xH ω u t.heap) ω.2.2.1) 0 0 ω.2.2.1 := by
  refine g_entWi (C := RX0) rfl (by decide) (Nat.le_of_ble_eq_true rfl) ?_
  intro p e s m args below meth c QQ ls H locs hF hK hH hS hl hret
  have hl : lv_has ls 2 [(0, .ref (ω.2.1 0 99)), (1, .int (nI of))] := hl
  have hn9 : tn t ≤ 9 := hH.2.2.1
  refine lv_aload_n hF.1 hF.2.1 dX0_draw_0 rfl (lv_at hl 0 rfl) ?_
  refine lv_ldc2 (v := 1103515245) hF.1 hF.2.1 hF.2.2.2.1 (hF.2.2.2.2 _ q920) dX0_draw_1 ?_
  refine lv_aload_n hF.1 hF.2.1 dX0_draw_4 rfl (lv_at hl 0 rfl) ?_
  refine xg0_18 hF hK hH q238 dX0_draw_5 ?_
  refine lv_lmul hF.1 hF.2.1 dX0_draw_8 ?_
  refine lv_ldc2 (v := 12345) hF.1 hF.2.1 hF.2.2.2.1 (hF.2.2.2.2 _ q921) dX0_draw_9 ?_
  refine lv_ladd hF.1 hF.2.1 dX0_draw_12 ?_
  refine lv_ldc2 (v := 2147483647) hF.1 hF.2.1 hF.2.2.2.1 (hF.2.2.2.2 _ q922) dX0_draw_13 ?_
  refine lv_land hF.1 hF.2.1 dX0_draw_16 ?_
  refine xp0_18 hF hK hH hS q238 dX0_draw_17 (dr' := ((1103515245 * dr) + 12345) &&& 2147483647) (fun H locs hH hS => ?_)
  refine lv_aload_n hF.1 hF.2.1 dX0_draw_20 rfl (lv_at hl 0 rfl) ?_
  refine xg0_18 hF hK hH q238 dX0_draw_21 ?_
  refine lv_ldc2 (v := 65536) hF.1 hF.2.1 hF.2.2.2.1 (hF.2.2.2.2 _ q923) dX0_draw_24 ?_
  refine lv_ldiv hF.1 hF.2.1 dX0_draw_27 (by decide) ?_
  refine lv_iload_n hF.1 hF.2.1 dX0_draw_28 rfl (lv_at hl 1 rfl) ?_
  refine lv_i2l (v := (nI of).toInt64) hF.1 hF.2.1 dX0_draw_29 rfl ?_
  refine lv_lrem hF.1 hF.2.1 dX0_draw_30 (by rw [nI_l (by omega)]; exact fun q => absurd ((lN_eq (a := of) (b := 0) (by omega) (by omega)).mp q) (by omega)) ?_
  refine lv_l2i (v := (((((1103515245 * dr) + 12345) &&& 2147483647) / 65536) - ((((1103515245 * dr) + 12345) &&& 2147483647) / 65536) / ((nI of).toInt64) * ((nI of).toInt64)).toInt32) hF.1 hF.2.1 dX0_draw_31 rfl ?_
  exact hret _ _ _ _ _ _ dX0_draw_32 ⟨_, by rfl, rfl⟩ hH hS

def fX0_matchTold (y : Nat → Nat → Int32) (z : Nat → Nat → Nat → Int32) (wh : Int32) : Int32 := if wh = 0 then y 0 9 else if wh = (nI 1) then y 0 10 else z 0 11 (toN (wh - (nI 10)))
def rmX0_matchTold : Room := { frames := 1, cells := 0, slots := 0, locals := 24 }
theorem hdX0_matchTold : yX0_matchTold.cls = RX0 ∧ yX0_matchTold.cls ≠ "java/lang/invoke/MethodHandle" ∧ yX0_matchTold.cls ≠ "java/lang/invoke/VarHandle" ∧ (parseMethodDescriptor yX0_matchTold.desc).map (fun d => d.parameters.length) = some 1 := by decide +kernel
set_option maxHeartbeats 4000000 in
theorem kX0_matchTold (l : Launch) (ω : OM) (g : Nat → Nat → Nat) (y : Nat → Nat → Int32) (a z : Nat → Nat → Nat → Int32) (dr : Int64) (pg : Nat → Int32) (t : TW) (wh : Int32) (hwh : wh = nI 0 ∨ wh = nI 1 ∨ wh = nI 10 ∨ wh = nI 11) : Met l yX0_matchTold (ws_ yX0_matchTold cX0_matchTold 2 (some .int)) rmX0_matchTold (va_Pc [.ref (ω.2.1 0 99), .int wh] (fun U => xK ω U ∧ xH ω (g, y, a, z, dr, pg, t) U.heap)) (vp_Si (fun r => r = (fX0_matchTold y z wh))) 0 0 (fun _ => False) := by
  refine g_entPi (C := RX0) rfl (by decide) (Nat.le_of_ble_eq_true rfl) ?_
  intro p e s m args below meth c QQ ls hF hKH hl hret
  have hl : lv_has ls 2 [(0, .ref (ω.2.1 0 99)), (1, .int wh)] := hl
  obtain ⟨hK, hH⟩ := hKH
  have hn9 : tn t ≤ 9 := hH.2.2.1
  refine lv_iload_n hF.1 hF.2.1 dX0_matchTold_0 rfl (lv_at hl 1 rfl) ?_
  refine lv_if_ne (tgt := 11) hF.1 hF.2.1 dX0_matchTold_1 (by decide) (fun c1 => ?_) (fun c1 => ?_)
  · skip
    refine lv_iload_n hF.1 hF.2.1 dX0_matchTold_11 rfl (lv_at hl 1 rfl) ?_
    refine lv_iconst (v := nI 1) hF.1 hF.2.1 dX0_matchTold_12 (by decide) ?_
    refine lv_icmp_ne (tgt := 23) hF.1 hF.2.1 dX0_matchTold_13 (by decide) (fun c2 => ?_) (fun c2 => ?_)
    · skip
      refine lv_aload_n hF.1 hF.2.1 dX0_matchTold_23 rfl (lv_at hl 0 rfl) ?_
      refine xg0_11 hF hK hH q231 dX0_matchTold_24 ?_
      refine lv_iload_n hF.1 hF.2.1 dX0_matchTold_27 rfl (lv_at hl 1 rfl) ?_
      refine lv_bipush (v := nI 10) hF.1 hF.2.1 dX0_matchTold_28 (by decide) ?_
      refine lv_isub hF.1 hF.2.1 dX0_matchTold_30 ?_
      obtain ⟨b3e, b3l⟩ := g_lift (r := wh - (nI 10)) (n := 2) (by rcases hwh with h | h | h | h; exact absurd (h.trans nI_0) c1; exact absurd h c2; exact ⟨0, by omega, by rw [h]; rfl⟩; exact ⟨1, by omega, by rw [h]; rfl⟩) (by omega)
      refine n_top b3e ?_
      refine x0_zld hF hK hH 11 (n := 2) rfl rfl (by decide) (by decide) rfl (f := z 0 11) rfl (i := toN (wh - (nI 10))) (by omega) (by decide) dX0_matchTold_31 ?_
      exact hret _ _ _ dX0_matchTold_32 (by unfold fX0_matchTold; first | (rw [if_neg c1, if_neg c2]; done) | (simp only [if_neg c1, if_neg c2]))
    · skip
      refine lv_aload_n hF.1 hF.2.1 dX0_matchTold_16 rfl (lv_at hl 0 rfl) ?_
      refine xg0_10 hF hK hH q230 dX0_matchTold_17 (v := y 0 10) rfl ?_
      refine lv_goto (tgt := 32) hF.1 hF.2.1 dX0_matchTold_20 (by decide) ?_
      exact hret _ _ _ dX0_matchTold_32 (by unfold fX0_matchTold; first | (rw [if_neg c1, if_pos c2]; done) | (simp only [if_neg c1, if_pos c2]))
  · skip
    refine lv_aload_n hF.1 hF.2.1 dX0_matchTold_4 rfl (lv_at hl 0 rfl) ?_
    refine xg0_9 hF hK hH q229 dX0_matchTold_5 (v := y 0 9) rfl ?_
    refine lv_goto (tgt := 32) hF.1 hF.2.1 dX0_matchTold_8 (by decide) ?_
    exact hret _ _ _ dX0_matchTold_32 (by unfold fX0_matchTold; first | (rw [if_pos c1]; done) | (simp only [if_pos c1]))

