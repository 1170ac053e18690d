/-! MODEL: leaves -/
set_option maxRecDepth 100000
def fX2_in (v : Int64) (lo : Int64) (hi : Int64) : Int32 := if (lg_cmp v lo) < 0 then nI 0 else if 0 < (lg_cmp v hi) then nI 0 else nI 1
theorem fX2_in_b (v : Int64) (lo : Int64) (hi : Int64) : (fX2_in v lo hi) = 0 ∨ (fX2_in v lo hi) = 1 := by
  unfold fX2_in
  exact (g_ite (Or.inl nI_0) (g_ite (Or.inl nI_0) (Or.inr rfl)))
def rmX2_in : Room := { frames := 1, cells := 0, slots := 0, locals := 24 }
theorem hdX2_in : yX2_in.cls = RX2 ∧ yX2_in.cls ≠ "java/lang/invoke/MethodHandle" ∧ yX2_in.cls ≠ "java/lang/invoke/VarHandle" ∧ (parseMethodDescriptor yX2_in.desc).map (fun d => d.parameters.length) = some 3 := by decide +kernel
set_option maxHeartbeats 4000000 in
theorem kX2_in (l : Launch) (v : Int64) (lo : Int64) (hi : Int64) : Met l yX2_in (ws_ yX2_in cX2_in 6 (some .boolean)) rmX2_in (va_Pc [.long v, .long lo, .long hi] (fun _ => True)) (vp_Si (fun r => r = (fX2_in v lo hi))) 0 0 (fun _ => False) := by
  refine g_entPz (C := RX2) rfl (by decide) (Nat.le_of_ble_eq_true rfl) ?_
  intro p e s m args below meth c QQ ls hF hKH hl hret
  have hl : lv_has ls 6 [(0, .long v), (2, .long lo), (4, .long hi)] := hl
  refine lv_lload_n hF.1 hF.2.1 dX2_in_0 rfl (lv_at hl 0 rfl) ?_
  refine lv_lload_n hF.1 hF.2.1 dX2_in_1 rfl (lv_at hl 1 rfl) ?_
  refine W.lcmp hF.1 hF.2.1 dX2_in_2 ?_
  refine lv_if_lt (tgt := 17) hF.1 hF.2.1 dX2_in_3 (by decide) (fun c1 => ?_) (fun c1 => ?_)
  · skip
    refine lv_iconst (v := nI 0) hF.1 hF.2.1 dX2_in_17 (by decide) ?_
    exact hret _ _ _ dX2_in_18 (by unfold fX2_in; first | (rw [if_pos c1]; done) | (simp only [if_pos c1])) (by exact (Or.inl nI_0))
  · skip
    refine lv_lload_n hF.1 hF.2.1 dX2_in_6 rfl (lv_at hl 0 rfl) ?_
    refine lv_lload hF.1 hF.2.1 dX2_in_7 (lv_at hl 2 rfl) ?_
    refine W.lcmp hF.1 hF.2.1 dX2_in_9 ?_
    refine lv_if_gt (tgt := 17) hF.1 hF.2.1 dX2_in_10 (by decide) (fun c2 => ?_) (fun c2 => ?_)
    · skip
      refine lv_iconst (v := nI 0) hF.1 hF.2.1 dX2_in_17 (by decide) ?_
      exact hret _ _ _ dX2_in_18 (by unfold fX2_in; first | (rw [if_neg c1, if_pos c2]; done) | (simp only [if_neg c1, if_pos c2])) (by exact (Or.inl nI_0))
    · skip
      refine lv_iconst (v := nI 1) hF.1 hF.2.1 dX2_in_13 (by decide) ?_
      refine lv_goto (tgt := 18) hF.1 hF.2.1 dX2_in_14 (by decide) ?_
      exact hret _ _ _ dX2_in_18 (by unfold fX2_in; first | (rw [if_neg c1, if_neg c2]; done) | (simp only [if_neg c1, if_neg c2])) (by exact (Or.inr rfl))

def fX2_ones_b4 (set : Int32) (i4 : Nat) (S : Int32) : Int32 := S + ((set >>> ((nI i4) &&& 31)) &&& (nI 1))
def fX2_ones (set : Int32) : Int32 := (it (fX2_ones_b4 set) 10 (nI 0))
def rmX2_ones : Room := { frames := 1, cells := 0, slots := 0, locals := 24 }
theorem hdX2_ones : yX2_ones.cls = RX2 ∧ yX2_ones.cls ≠ "java/lang/invoke/MethodHandle" ∧ yX2_ones.cls ≠ "java/lang/invoke/VarHandle" ∧ (parseMethodDescriptor yX2_ones.desc).map (fun d => d.parameters.length) = some 1 := by decide +kernel
set_option maxHeartbeats 4000000 in
theorem kX2_ones (l : Launch) (set : Int32) : Met l yX2_ones (ws_ yX2_ones cX2_ones 3 (some .int)) rmX2_ones (va_Pc [.int set] (fun _ => True)) (vp_Si (fun r => r = (fX2_ones set))) 0 0 (fun _ => False) := by
  refine g_entPi (C := RX2) rfl (by decide) (Nat.le_of_ble_eq_true rfl) ?_
  intro p e s m args below meth c QQ ls hF hKH hl hret
  have hl : lv_has ls 3 [(0, .int set)] := hl
  refine lv_iconst (v := nI 0) hF.1 hF.2.1 dX2_ones_0 (by decide) ?_
  refine lv_istore_n (lv' := [(1, .int (nI 0)), (0, .int set)]) hF.1 hF.2.1 dX2_ones_1 rfl hl (by decide) rfl (fun ls hl => ?_)
  refine lv_iconst (v := nI 0) hF.1 hF.2.1 dX2_ones_2 (by decide) ?_
  refine lv_istore_n (lv' := [(2, .int (nI 0)), (1, .int (nI 0)), (0, .int set)]) hF.1 hF.2.1 dX2_ones_3 rfl hl (by decide) rfl (fun ls hl => ?_)
  have lp4_2 : ∀ (d4 i4 : Nat) (x4_1 : Int32) (ls : Array Slot), i4 + d4 = 10 → x4_1 = it (fX2_ones_b4 set) i4 (nI 0) → lv_has ls 3 [(2, .int (nI i4)), (1, .int x4_1), (0, .int set)] → W p l e rmX2_ones s m args below meth c s.heap [] 0 0 QQ (F0 m 4 ls []) := by
    intro d4
    induction d4 with
    | zero =>
      intro i4 x4_1 ls hi4 hS4 hl
      have hj4 : 10 = i4 := by omega
      subst hj4
      have e_x4_1 := hS4
      refine lv_iload_n hF.1 hF.2.1 dX2_ones_4 rfl (lv_at hl 0 rfl) ?_
      refine lv_bipush (v := nI 10) hF.1 hF.2.1 dX2_ones_5 (by decide) ?_
      refine n_ge (tgt := 24) hF.1 hF.2.1 dX2_ones_7 (by decide) (by omega) (by omega) (fun c1 => ?_) (fun c1 => ?_)
      · skip
        refine lv_iload_n hF.1 hF.2.1 dX2_ones_24 rfl (lv_at hl 1 rfl) ?_
        exact hret _ _ _ dX2_ones_25 (by subst e_x4_1; rfl)
      · exact absurd (by omega) c1
    | succ d4 ih =>
      intro i4 x4_1 ls hi4 hS4 hl
      refine lv_iload_n hF.1 hF.2.1 dX2_ones_4 rfl (lv_at hl 0 rfl) ?_
      refine lv_bipush (v := nI 10) hF.1 hF.2.1 dX2_ones_5 (by decide) ?_
      refine n_ge (tgt := 24) hF.1 hF.2.1 dX2_ones_7 (by decide) (by omega) (by omega) (fun c2 => ?_) (fun c2 => ?_)
      · exact absurd c2 (by omega)
      · skip
        refine lv_iload_n hF.1 hF.2.1 dX2_ones_10 rfl (lv_at hl 1 rfl) ?_
        refine lv_iload_n hF.1 hF.2.1 dX2_ones_11 rfl (lv_at hl 2 rfl) ?_
        refine lv_iload_n hF.1 hF.2.1 dX2_ones_12 rfl (lv_at hl 0 rfl) ?_
        refine lv_ishr hF.1 hF.2.1 dX2_ones_13 ?_
        refine lv_iconst (v := nI 1) hF.1 hF.2.1 dX2_ones_14 (by decide) ?_
        refine lv_iand hF.1 hF.2.1 dX2_ones_15 ?_
        refine lv_iadd hF.1 hF.2.1 dX2_ones_16 ?_
        refine lv_istore_n (lv' := [(1, .int (x4_1 + ((set >>> ((nI i4) &&& 31)) &&& (nI 1)))), (2, .int (nI i4)), (0, .int set)]) hF.1 hF.2.1 dX2_ones_17 rfl hl (by decide) rfl (fun ls hl => ?_)
        refine n_iinc (lv' := [(2, .int (nI (i4 + 1))), (1, .int (x4_1 + ((set >>> ((nI i4) &&& 31)) &&& (nI 1)))), (0, .int set)]) hF.1 hF.2.1 dX2_ones_18 hl (k := 1) rfl (by decide) rfl (fun ls hl => ?_)
        refine lv_goto (tgt := 4) hF.1 hF.2.1 dX2_ones_21 (by decide) ?_
        exact ih (i4 + 1) _ _ (by omega) (by rw [it_succ (fX2_ones_b4 set) i4 _, ← hS4]; try rfl) (lv_sub hl [0, 1, 2] rfl)
  exact lp4_2 10 0 _ _ (by omega) rfl (lv_sub hl [0, 1, 2] rfl)

def fX2_blank (g : Nat → Nat) : Int32 × Nat := (nI (g 1), 0)
def rmX2_blank : Room := { frames := 1, cells := 0, slots := 0, locals := 24 }
theorem hdX2_blank : yX2_blank.cls = RX2 ∧ yX2_blank.cls ≠ "java/lang/invoke/MethodHandle" ∧ yX2_blank.cls ≠ "java/lang/invoke/VarHandle" ∧ (parseMethodDescriptor yX2_blank.desc).map (fun d => d.parameters.length) = some 0 := by decide +kernel
set_option maxHeartbeats 4000000 in
theorem kX2_blank (l : Launch) (ω : OM) (g : Nat → Nat) (y : Nat → Int32) (a z : Nat → Nat → Int32) (kt : Int32) (hs : Int64) : Met l yX2_blank (ws_ yX2_blank cX2_blank 2 (some .int)) rmX2_blank (va_Pc [.ref (ω.2.1 0 99)] (fun U => mK ω U ∧ mH ω (g, y, a, z, kt, hs) U.heap)) (va_Qi (fun (r : Int32) (u : MS) => ∃ (o0 : Nat), (r, o0) = (fX2_blank g) ∧ u = (va_up g 1 o0, y, a, z, kt, hs)) (fun u t => mH ω u t.heap) ω.2.2.1) 0 0 ω.2.2.1 := by
  refine g_entWi (C := RX2) rfl (by decide) (Nat.le_of_ble_eq_true rfl) ?_
  intro p e s m args below meth c QQ ls H locs hF hK hH hS hl hret
  have hl : lv_has ls 2 [(0, .ref (ω.2.1 0 99))] := hl
  refine lv_aload_n hF.1 hF.2.1 dX2_blank_0 rfl (lv_at hl 0 rfl) ?_
  refine mg_1 hF hK hH q972 dX2_blank_1 (v := g 1) rfl ?_
  refine lv_istore_n (lv' := [(1, .int (nI (g 1))), (0, .ref (ω.2.1 0 99))]) hF.1 hF.2.1 dX2_blank_4 rfl hl (by decide) rfl (fun ls hl => ?_)
  refine lv_aload_n hF.1 hF.2.1 dX2_blank_5 rfl (lv_at hl 1 rfl) ?_
  refine lv_iconst (v := nI 0) hF.1 hF.2.1 dX2_blank_6 (by decide) ?_
  refine mp_1 hF hK hH hS q972 dX2_blank_7 (g' := va_up g 1 0) rfl (by intro j hj; simp only [va_up, if_neg hj]) (fun H locs hH hS => ?_)
  refine lv_iload_n hF.1 hF.2.1 dX2_blank_10 rfl (lv_at hl 0 rfl) ?_
  exact hret _ _ _ _ _ _ dX2_blank_11 ⟨_, by rfl, rfl⟩ hH hS

def fX2_letter (g : Nat → Nat) (a : Nat → Nat → Int32) (code : Int32) : Int32 × (Nat → Int32) × Nat := if (fX2_in code.toInt64 1 126) = 0 then ((-102), a 0, g 1) else if (g 1) = 50 then ((-104), a 0, g 1) else (nI ((g 1) + 1), upd (a 0) (g 1) code, (g 1) + 1)
def rmX2_letter : Room := { frames := 2, cells := 0, slots := 0, locals := 49 }
theorem hdX2_letter : yX2_letter.cls = RX2 ∧ yX2_letter.cls ≠ "java/lang/invoke/MethodHandle" ∧ yX2_letter.cls ≠ "java/lang/invoke/VarHandle" ∧ (parseMethodDescriptor yX2_letter.desc).map (fun d => d.parameters.length) = some 1 := by decide +kernel
set_option maxHeartbeats 4000000 in
theorem kX2_letter (l : Launch) (ω : OM) (g : Nat → Nat) (y : Nat → Int32) (a z : Nat → Nat → Int32) (kt : Int32) (hs : Int64) (code : Int32) (hp : g 1 ≤ 50) : Met l yX2_letter (ws_ yX2_letter cX2_letter 2 (some .int)) rmX2_letter (va_Pc [.ref (ω.2.1 0 99), .int code] (fun U => mK ω U ∧ mH ω (g, y, a, z, kt, hs) U.heap)) (va_Qi (fun (r : Int32) (u : MS) => ∃ (o0 : Nat → Int32) (o1 : Nat), (r, o0, o1) = (fX2_letter g a code) ∧ u = (va_up g 1 o1, y, va_up a 0 o0, z, kt, hs)) (fun u t => mH ω u t.heap) ω.2.2.1) 0 0 ω.2.2.1 := by
  refine g_entWi (C := RX2) rfl (by decide) (Nat.le_of_ble_eq_true rfl) ?_
  intro p e s m args below meth c QQ ls H locs hF hK hH hS hl hret
  have hl : lv_has ls 2 [(0, .ref (ω.2.1 0 99)), (1, .int code)] := hl
  refine lv_iload_n hF.1 hF.2.1 dX2_letter_0 rfl (lv_at hl 1 rfl) ?_
  refine lv_i2l (v := code.toInt64) hF.1 hF.2.1 dX2_letter_1 rfl ?_
  refine lv_lconst (v := 1) hF.1 hF.2.1 dX2_letter_2 (by decide) ?_
  refine lv_ldc2 (v := 126) hF.1 hF.2.1 hF.2.2.2.1 (hF.2.2.2.2 _ q1060) dX2_letter_3 ?_
  refine g_sPi (As := [.long code.toInt64, .long 1, .long 126]) (rest := []) hF (kX2_in l code.toInt64 1 126) (lw_S q1061 q1062 q97 q1063) 3 hdX2_in.2 rfl rfl ⟨Nat.le_of_ble_eq_true rfl, Nat.le_of_ble_eq_true rfl⟩ g_pre0 rfl hl.1 rfl (Nat.le_of_ble_eq_true rfl) dX2_letter_6 ⟨Nat.zero_le _, Nat.zero_le _⟩ (fun r1 e_r1 => ?_)
  refine lv_if_ne (tgt := 15) hF.1 hF.2.1 dX2_letter_9 (by decide) (fun c2 => ?_) (fun c2 => ?_)
  · skip
    refine lv_aload_n hF.1 hF.2.1 dX2_letter_15 rfl (lv_at hl 0 rfl) ?_
    refine mg_1 hF hK hH q972 dX2_letter_16 (v := g 1) rfl ?_
    refine lv_bipush (v := nI 50) hF.1 hF.2.1 dX2_letter_19 (by decide) ?_
    refine n_ne (tgt := 27) hF.1 hF.2.1 dX2_letter_21 (by decide) (by omega) (by omega) (fun c3 => ?_) (fun c3 => ?_)
    · skip
      refine lv_aload_n hF.1 hF.2.1 dX2_letter_27 rfl (lv_at hl 0 rfl) ?_
      refine mg_0 hF hK hH q971 dX2_letter_28 ?_
      refine lv_aload_n hF.1 hF.2.1 dX2_letter_31 rfl (lv_at hl 0 rfl) ?_
      refine mg_1 hF hK hH q972 dX2_letter_32 (v := g 1) rfl ?_
      refine lv_iload_n hF.1 hF.2.1 dX2_letter_35 rfl (lv_at hl 1 rfl) ?_
      refine m_ast (a' := va_up a 0 (upd (a 0) (g 1) code)) hF hK hH hS 0 (n := 50) rfl rfl (by decide) rfl (f := a 0) rfl (i := g 1) (by omega) (by decide) dX2_letter_36 rfl (by intro j hj; simp only [va_up, if_neg hj]) (fun H locs hH hS => ?_)
      refine lv_aload_n hF.1 hF.2.1 dX2_letter_37 rfl (lv_at hl 0 rfl) ?_
      refine lv_dup hF.1 hF.2.1 dX2_letter_38 rfl ?_
      refine mg_1 hF hK hH q972 dX2_letter_39 (v := g 1) rfl ?_
      refine lv_iconst (v := nI 1) hF.1 hF.2.1 dX2_letter_42 (by decide) ?_
      refine n_iadd hF.1 hF.2.1 dX2_letter_43 ?_
      refine mp_1 hF hK hH hS q972 dX2_letter_44 (g' := va_up g 1 ((g 1) + 1)) rfl (by intro j hj; simp only [va_up, if_neg hj]) (fun H locs hH hS => ?_)
      refine lv_aload_n hF.1 hF.2.1 dX2_letter_47 rfl (lv_at hl 0 rfl) ?_
      refine mg_1 hF hK hH q972 dX2_letter_48 (v := (g 1) + 1) rfl ?_
      exact hret _ _ _ _ _ _ dX2_letter_51 ⟨_, _, by subst e_r1; unfold fX2_letter; first | (rw [if_neg c2, if_neg c3]; done) | (simp only [if_neg c2, if_neg c3]), rfl⟩ hH hS
    · skip
      refine lv_bipush (v := (-104)) hF.1 hF.2.1 dX2_letter_24 (by decide) ?_
      have hH : mH ω (va_up g 1 (g 1), y, va_up a 0 (a 0), z, kt, hs) H := m_ext (by intro k; by_cases h0 : k = 1; (subst h0; simp [va_up]); simp only [va_up, if_neg h0]) (fun _ => rfl) (by intro k; by_cases h0 : k = 0; (subst h0; simp [va_up]); simp only [va_up, if_neg h0]) (fun _ => rfl) hH
      exact hret _ _ _ _ _ _ dX2_letter_26 ⟨_, _, by subst e_r1; unfold fX2_letter; first | (rw [if_neg c2, if_pos c3]; done) | (simp only [if_neg c2, if_pos c3]), rfl⟩ hH hS
  · skip
    refine lv_bipush (v := (-102)) hF.1 hF.2.1 dX2_letter_12 (by decide) ?_
    have hH : mH ω (va_up g 1 (g 1), y, va_up a 0 (a 0), z, kt, hs) H := m_ext (by intro k; by_cases h0 : k = 1; (subst h0; simp [va_up]); simp only [va_up, if_neg h0]) (fun _ => rfl) (by intro k; by_cases h0 : k = 0; (subst h0; simp [va_up]); simp only [va_up, if_neg h0]) (fun _ => rfl) hH
    exact hret _ _ _ _ _ _ dX2_letter_14 ⟨_, _, by subst e_r1; unfold fX2_letter; first | (rw [if_pos c2]; done) | (simp only [if_pos c2]), rfl⟩ hH hS

def fX2_lacks (g : Nat → Nat) : Int32 := if (g 4) = 0 then nI 1 else nI 0
theorem fX2_lacks_b (g : Nat → Nat) : (fX2_lacks g) = 0 ∨ (fX2_lacks g) = 1 := by
  unfold fX2_lacks
  exact (g_ite (Or.inr rfl) (Or.inl nI_0))
def rmX2_lacks : Room := { frames := 1, cells := 0, slots := 0, locals := 24 }
theorem hdX2_lacks : yX2_lacks.cls = RX2 ∧ yX2_lacks.cls ≠ "java/lang/invoke/MethodHandle" ∧ yX2_lacks.cls ≠ "java/lang/invoke/VarHandle" ∧ (parseMethodDescriptor yX2_lacks.desc).map (fun d => d.parameters.length) = some 0 := by decide +kernel
set_option maxHeartbeats 4000000 in
theorem kX2_lacks (l : Launch) (ω : OM) (g : Nat → Nat) (y : Nat → Int32) (a z : Nat → Nat → Int32) (kt : Int32) (hs : Int64) (hn : g 4 ≤ 9) : Met l yX2_lacks (ws_ yX2_lacks cX2_lacks 1 (some .boolean)) rmX2_lacks (va_Pc [.ref (ω.2.1 0 99)] (fun U => mK ω U ∧ mH ω (g, y, a, z, kt, hs) U.heap)) (vp_Si (fun r => r = (fX2_lacks g))) 0 0 (fun _ => False) := by
  refine g_entPz (C := RX2) rfl (by decide) (Nat.le_of_ble_eq_true rfl) ?_
  intro p e s m args below meth c QQ ls hF hKH hl hret
  have hl : lv_has ls 1 [(0, .ref (ω.2.1 0 99))] := hl
  obtain ⟨hK, hH⟩ := hKH
  refine lv_aload_n hF.1 hF.2.1 dX2_lacks_0 rfl (lv_at hl 0 rfl) ?_
  refine mg_4 hF hK hH q975 dX2_lacks_1 (v := g 4) rfl ?_
  refine n_ifne (tgt := 11) hF.1 hF.2.1 dX2_lacks_4 (by decide) (by omega) (fun c1 => ?_) (fun c1 => ?_)
  · skip
    refine lv_iconst (v := nI 0) hF.1 hF.2.1 dX2_lacks_11 (by decide) ?_
    exact hret _ _ _ dX2_lacks_12 (by unfold fX2_lacks; first | (rw [if_neg c1]; done) | (simp only [if_neg c1])) (by exact (Or.inl nI_0))
  · skip
    refine lv_iconst (v := nI 1) hF.1 hF.2.1 dX2_lacks_7 (by decide) ?_
    refine lv_goto (tgt := 12) hF.1 hF.2.1 dX2_lacks_8 (by decide) ?_
    exact hret _ _ _ dX2_lacks_12 (by unfold fX2_lacks; first | (rw [if_pos c1]; done) | (simp only [if_pos c1])) (by exact (Or.inr rfl))

def fX2_hurtsBy (g : Nat → Nat) (a : Nat → Nat → Int32) (pn : Nat) (td : Int32) (sn : Nat) : Int32 := if (a 7 (4 * sn)) = (nI 4) then (if (a 7 (4 * sn)) = 0 then nI 0 else if 0 ≤ (if (a 7 (4 * sn)) = (nI 2) then td - (nI (2 * (g 5))) else if (a 7 (4 * sn)) = (nI 3) then (nI 9) - td else td) then (if (a 7 (4 * sn)) = (nI 2) then td - (nI (2 * (g 5))) else if (a 7 (4 * sn)) = (nI 3) then (nI 9) - td else td) else nI 0) + (a 9 ((9 * pn) + sn)) else (if (a 7 (4 * sn)) = 0 then nI 0 else if 0 ≤ (if (a 7 (4 * sn)) = (nI 2) then td - (nI (2 * (g 5))) else if (a 7 (4 * sn)) = (nI 3) then (nI 9) - td else td) then (if (a 7 (4 * sn)) = (nI 2) then td - (nI (2 * (g 5))) else if (a 7 (4 * sn)) = (nI 3) then (nI 9) - td else td) else nI 0)
def rmX2_hurtsBy : Room := { frames := 1, cells := 0, slots := 0, locals := 24 }
theorem hdX2_hurtsBy : yX2_hurtsBy.cls = RX2 ∧ yX2_hurtsBy.cls ≠ "java/lang/invoke/MethodHandle" ∧ yX2_hurtsBy.cls ≠ "java/lang/invoke/VarHandle" ∧ (parseMethodDescriptor yX2_hurtsBy.desc).map (fun d => d.parameters.length) = some 3 := by decide +kernel
set_option maxHeartbeats 4000000 in
theorem kX2_hurtsBy (l : Launch) (ω : OM) (g : Nat → Nat) (y : Nat → Int32) (a z : Nat → Nat → Int32) (kt : Int32) (hs : Int64) (pn : Nat) (td : Int32) (sn : Nat) (hpn : pn < 3) (hsn : sn < 9) : Met l yX2_hurtsBy (ws_ yX2_hurtsBy cX2_hurtsBy 5 (some .int)) rmX2_hurtsBy (va_Pc [.ref (ω.2.1 0 99), .int (nI pn), .int td, .int (nI sn)] (fun U => mK ω U ∧ mH ω (g, y, a, z, kt, hs) U.heap)) (vp_Si (fun r => r = (fX2_hurtsBy g a pn td sn))) 0 0 (fun _ => False) := by
  refine g_entPi (C := RX2) rfl (by decide) (Nat.le_of_ble_eq_true rfl) ?_
  intro p e s m args below meth c QQ ls hF hKH hl hret
  have hl : lv_has ls 5 [(0, .ref (ω.2.1 0 99)), (1, .int (nI pn)), (2, .int td), (3, .int (nI sn))] := hl
  obtain ⟨hK, hH⟩ := hKH
  refine lv_aload_n hF.1 hF.2.1 dX2_hurtsBy_0 rfl (lv_at hl 0 rfl) ?_
  refine mg_7 hF hK hH q978 dX2_hurtsBy_1 ?_
  refine lv_iconst (v := nI 4) hF.1 hF.2.1 dX2_hurtsBy_4 (by decide) ?_
  refine lv_iload_n hF.1 hF.2.1 dX2_hurtsBy_5 rfl (lv_at hl 3 rfl) ?_
  refine n_imul hF.1 hF.2.1 dX2_hurtsBy_6 ?_
  refine m_ald hF hK hH 7 (n := 36) rfl rfl (by decide) rfl (f := a 7) rfl (i := 4 * sn) (by omega) (by decide) dX2_hurtsBy_7 ?_
  refine lv_iconst (v := nI 2) hF.1 hF.2.1 dX2_hurtsBy_8 (by decide) ?_
  have k43_4 : ∀ (v3 : Int32) (ls : Array Slot), v3 = (if (a 7 (4 * sn)) = (nI 2) then td - (nI (2 * (g 5))) else if (a 7 (4 * sn)) = (nI 3) then (nI 9) - td else td) → lv_has ls 5 [(0, .ref (ω.2.1 0 99)), (1, .int (nI pn)), (3, .int (nI sn))] → W p l e rmX2_hurtsBy s m args below meth c s.heap [] 0 0 QQ (F0 m 43 ls [.int v3]) := by
    intro v3 ls e_v3 hl
    refine lv_istore (lv' := [(4, .int v3), (0, .ref (ω.2.1 0 99)), (1, .int (nI pn)), (3, .int (nI sn))]) hF.1 hF.2.1 dX2_hurtsBy_43 hl (by decide) rfl (fun ls hl => ?_)
    refine lv_aload_n hF.1 hF.2.1 dX2_hurtsBy_45 rfl (lv_at hl 1 rfl) ?_
    refine mg_7 hF hK hH q978 dX2_hurtsBy_46 ?_
    refine lv_iconst (v := nI 4) hF.1 hF.2.1 dX2_hurtsBy_49 (by decide) ?_
    refine lv_iload_n hF.1 hF.2.1 dX2_hurtsBy_50 rfl (lv_at hl 3 rfl) ?_
    refine n_imul hF.1 hF.2.1 dX2_hurtsBy_51 ?_
    refine m_ald hF hK hH 7 (n := 36) rfl rfl (by decide) rfl (f := a 7) rfl (i := 4 * sn) (by omega) (by decide) dX2_hurtsBy_52 ?_
    have k67_8 : ∀ (v7 : Int32) (ls : Array Slot), v7 = (if (a 7 (4 * sn)) = 0 then nI 0 else if 0 ≤ v3 then v3 else nI 0) → lv_has ls 5 [(0, .ref (ω.2.1 0 99)), (1, .int (nI pn)), (3, .int (nI sn))] → W p l e rmX2_hurtsBy s m args below meth c s.heap [] 0 0 QQ (F0 m 67 ls [.int v7]) := by
      intro v7 ls e_v7 hl
      refine lv_istore (lv' := [(4, .int v7), (0, .ref (ω.2.1 0 99)), (1, .int (nI pn)), (3, .int (nI sn))]) hF.1 hF.2.1 dX2_hurtsBy_67 hl (by decide) rfl (fun ls hl => ?_)
      refine lv_aload_n hF.1 hF.2.1 dX2_hurtsBy_69 rfl (lv_at hl 1 rfl) ?_
      refine mg_7 hF hK hH q978 dX2_hurtsBy_70 ?_
      refine lv_iconst (v := nI 4) hF.1 hF.2.1 dX2_hurtsBy_73 (by decide) ?_
      refine lv_iload_n hF.1 hF.2.1 dX2_hurtsBy_74 rfl (lv_at hl 3 rfl) ?_
      refine n_imul hF.1 hF.2.1 dX2_hurtsBy_75 ?_
      refine m_ald hF hK hH 7 (n := 36) rfl rfl (by decide) rfl (f := a 7) rfl (i := 4 * sn) (by omega) (by decide) dX2_hurtsBy_76 ?_
      refine lv_iconst (v := nI 4) hF.1 hF.2.1 dX2_hurtsBy_77 (by decide) ?_
      refine lv_icmp_ne (tgt := 98) hF.1 hF.2.1 dX2_hurtsBy_78 (by decide) (fun c9 => ?_) (fun c9 => ?_)
      · skip
        refine lv_iload hF.1 hF.2.1 dX2_hurtsBy_98 (lv_at hl 0 rfl) ?_
        exact hret _ _ _ dX2_hurtsBy_100 (by subst e_v7; subst e_v3; unfold fX2_hurtsBy; first | (rw [if_neg c9]; done) | (simp only [if_neg c9]))
      · skip
        refine lv_iload hF.1 hF.2.1 dX2_hurtsBy_81 (lv_at hl 0 rfl) ?_
        refine lv_aload_n hF.1 hF.2.1 dX2_hurtsBy_83 rfl (lv_at hl 1 rfl) ?_
        refine mg_9 hF hK hH q980 dX2_hurtsBy_84 ?_
        refine lv_bipush (v := nI 9) hF.1 hF.2.1 dX2_hurtsBy_87 (by decide) ?_
        refine lv_iload_n hF.1 hF.2.1 dX2_hurtsBy_89 rfl (lv_at hl 2 rfl) ?_
        refine n_imul hF.1 hF.2.1 dX2_hurtsBy_90 ?_
        refine lv_iload_n hF.1 hF.2.1 dX2_hurtsBy_91 rfl (lv_at hl 3 rfl) ?_
        refine n_iadd hF.1 hF.2.1 dX2_hurtsBy_92 ?_
        refine m_ald hF hK hH 9 (n := 27) rfl rfl (by decide) rfl (f := a 9) rfl (i := (9 * pn) + sn) (by omega) (by decide) dX2_hurtsBy_93 ?_
        refine lv_iadd hF.1 hF.2.1 dX2_hurtsBy_94 ?_
        refine lv_goto (tgt := 100) hF.1 hF.2.1 dX2_hurtsBy_95 (by decide) ?_
        exact hret _ _ _ dX2_hurtsBy_100 (by subst e_v7; subst e_v3; unfold fX2_hurtsBy; first | (rw [if_pos c9]; done) | (simp only [if_pos c9]))
    refine lv_if_eq (tgt := 61) hF.1 hF.2.1 dX2_hurtsBy_53 (by decide) (fun c5 => ?_) (fun c5 => ?_)
    · skip
      refine lv_iconst (v := nI 0) hF.1 hF.2.1 dX2_hurtsBy_61 (by decide) ?_
      refine lv_goto (tgt := 67) hF.1 hF.2.1 dX2_hurtsBy_62 (by decide) ?_
      exact k67_8 _ _ (by first | (rw [if_pos c5]; done) | (simp only [if_pos c5])) (lv_sub hl [1, 2, 3] rfl)
    · skip
      refine lv_iload hF.1 hF.2.1 dX2_hurtsBy_56 (lv_at hl 0 rfl) ?_
      refine lv_if_ge (tgt := 65) hF.1 hF.2.1 dX2_hurtsBy_58 (by decide) (fun c6 => ?_) (fun c6 => ?_)
      · skip
        refine lv_iload hF.1 hF.2.1 dX2_hurtsBy_65 (lv_at hl 0 rfl) ?_
        exact k67_8 _ _ (by first | (rw [if_neg c5, if_pos c6]; done) | (simp only [if_neg c5, if_pos c6])) (lv_sub hl [1, 2, 3] rfl)
      · skip
        refine lv_iconst (v := nI 0) hF.1 hF.2.1 dX2_hurtsBy_61 (by decide) ?_
        refine lv_goto (tgt := 67) hF.1 hF.2.1 dX2_hurtsBy_62 (by decide) ?_
        exact k67_8 _ _ (by first | (rw [if_neg c5, if_neg c6]; done) | (simp only [if_neg c5, if_neg c6])) (lv_sub hl [1, 2, 3] rfl)
  refine lv_icmp_ne (tgt := 23) hF.1 hF.2.1 dX2_hurtsBy_9 (by decide) (fun c1 => ?_) (fun c1 => ?_)
  · skip
    refine lv_aload_n hF.1 hF.2.1 dX2_hurtsBy_23 rfl (lv_at hl 0 rfl) ?_
    refine mg_7 hF hK hH q978 dX2_hurtsBy_24 ?_
    refine lv_iconst (v := nI 4) hF.1 hF.2.1 dX2_hurtsBy_27 (by decide) ?_
    refine lv_iload_n hF.1 hF.2.1 dX2_hurtsBy_28 rfl (lv_at hl 3 rfl) ?_
    refine n_imul hF.1 hF.2.1 dX2_hurtsBy_29 ?_
    refine m_ald hF hK hH 7 (n := 36) rfl rfl (by decide) rfl (f := a 7) rfl (i := 4 * sn) (by omega) (by decide) dX2_hurtsBy_30 ?_
    refine lv_iconst (v := nI 3) hF.1 hF.2.1 dX2_hurtsBy_31 (by decide) ?_
    refine lv_icmp_ne (tgt := 42) hF.1 hF.2.1 dX2_hurtsBy_32 (by decide) (fun c2 => ?_) (fun c2 => ?_)
    · skip
      refine lv_iload_n hF.1 hF.2.1 dX2_hurtsBy_42 rfl (lv_at hl 2 rfl) ?_
      exact k43_4 _ _ (by first | (rw [if_neg c1, if_neg c2]; done) | (simp only [if_neg c1, if_neg c2])) (lv_sub hl [0, 1, 3] rfl)
    · skip
      refine lv_bipush (v := nI 9) hF.1 hF.2.1 dX2_hurtsBy_35 (by decide) ?_
      refine lv_iload_n hF.1 hF.2.1 dX2_hurtsBy_37 rfl (lv_at hl 2 rfl) ?_
      refine lv_isub hF.1 hF.2.1 dX2_hurtsBy_38 ?_
      refine lv_goto (tgt := 43) hF.1 hF.2.1 dX2_hurtsBy_39 (by decide) ?_
      exact k43_4 _ _ (by first | (rw [if_neg c1, if_pos c2]; done) | (simp only [if_neg c1, if_pos c2])) (lv_sub hl [0, 1, 3] rfl)
  · skip
    refine lv_iload_n hF.1 hF.2.1 dX2_hurtsBy_12 rfl (lv_at hl 2 rfl) ?_
    refine lv_iconst (v := nI 2) hF.1 hF.2.1 dX2_hurtsBy_13 (by decide) ?_
    refine lv_aload_n hF.1 hF.2.1 dX2_hurtsBy_14 rfl (lv_at hl 0 rfl) ?_
    refine mg_5 hF hK hH q976 dX2_hurtsBy_15 (v := g 5) rfl ?_
    refine n_imul hF.1 hF.2.1 dX2_hurtsBy_18 ?_
    refine lv_isub hF.1 hF.2.1 dX2_hurtsBy_19 ?_
    refine lv_goto (tgt := 43) hF.1 hF.2.1 dX2_hurtsBy_20 (by decide) ?_
    exact k43_4 _ _ (by first | (rw [if_pos c1]; done) | (simp only [if_pos c1])) (lv_sub hl [0, 1, 3] rfl)

def fX2_hurtsOf (g : Nat → Nat) (a : Nat → Nat → Int32) (pn : Nat) (sn : Nat) : Int32 := (fX2_hurtsBy g a pn (a 8 (5 * pn)) sn)
def rmX2_hurtsOf : Room := { frames := 2, cells := 0, slots := 0, locals := 48 }
theorem hdX2_hurtsOf : yX2_hurtsOf.cls = RX2 ∧ yX2_hurtsOf.cls ≠ "java/lang/invoke/MethodHandle" ∧ yX2_hurtsOf.cls ≠ "java/lang/invoke/VarHandle" ∧ (parseMethodDescriptor yX2_hurtsOf.desc).map (fun d => d.parameters.length) = some 2 := by decide +kernel
set_option maxHeartbeats 4000000 in
theorem kX2_hurtsOf (l : Launch) (ω : OM) (g : Nat → Nat) (y : Nat → Int32) (a z : Nat → Nat → Int32) (kt : Int32) (hs : Int64) (pn : Nat) (sn : Nat) (hpn : pn < 3) (hsn : sn < 9) : Met l yX2_hurtsOf (ws_ yX2_hurtsOf cX2_hurtsOf 3 (some .int)) rmX2_hurtsOf (va_Pc [.ref (ω.2.1 0 99), .int (nI pn), .int (nI sn)] (fun U => mK ω U ∧ mH ω (g, y, a, z, kt, hs) U.heap)) (vp_Si (fun r => r = (fX2_hurtsOf g a pn sn))) 0 0 (fun _ => False) := by
  refine g_entPi (C := RX2) rfl (by decide) (Nat.le_of_ble_eq_true rfl) ?_
  intro p e s m args below meth c QQ ls hF hKH hl hret
  have hl : lv_has ls 3 [(0, .ref (ω.2.1 0 99)), (1, .int (nI pn)), (2, .int (nI sn))] := hl
  obtain ⟨hK, hH⟩ := hKH
  refine lv_aload_n hF.1 hF.2.1 dX2_hurtsOf_0 rfl (lv_at hl 0 rfl) ?_
  refine lv_iload_n hF.1 hF.2.1 dX2_hurtsOf_1 rfl (lv_at hl 1 rfl) ?_
  refine lv_aload_n hF.1 hF.2.1 dX2_hurtsOf_2 rfl (lv_at hl 0 rfl) ?_
  refine mg_8 hF hK hH q979 dX2_hurtsOf_3 ?_
  refine lv_iconst (v := nI 5) hF.1 hF.2.1 dX2_hurtsOf_6 (by decide) ?_
  refine lv_iload_n hF.1 hF.2.1 dX2_hurtsOf_7 rfl (lv_at hl 1 rfl) ?_
  refine n_imul hF.1 hF.2.1 dX2_hurtsOf_8 ?_
  refine m_ald hF hK hH 8 (n := 15) rfl rfl (by decide) rfl (f := a 8) rfl (i := 5 * pn) (by omega) (by decide) dX2_hurtsOf_9 ?_
  refine lv_iload_n hF.1 hF.2.1 dX2_hurtsOf_10 rfl (lv_at hl 2 rfl) ?_
  refine g_vPi (As := [.int (nI pn), .int (a 8 (5 * pn)), .int (nI sn)]) (rest := []) hF (kX2_hurtsBy l ω g y a z kt hs pn (a 8 (5 * pn)) sn (by omega) (by omega)) (lw_V q1135 q1137 qs57 q97 q1138) 3 hdX2_hurtsBy rfl rfl ⟨Nat.le_of_ble_eq_true rfl, Nat.le_of_ble_eq_true rfl⟩ (m_preV hK hH) rfl hl.1 rfl (Nat.le_of_ble_eq_true rfl) dX2_hurtsOf_11 ⟨Nat.zero_le _, Nat.zero_le _⟩ (fun r1 e_r1 => ?_)
  exact hret _ _ _ dX2_hurtsOf_14 (by subst e_r1; rfl)

def fX2_costBy (g : Nat → Nat) (a : Nat → Nat → Int32) (pn : Nat) (td : Int32) (sn : Nat) : Int32 := ((nI 1000) * (fX2_hurtsBy g a pn td sn)) + (a 7 ((4 * sn) + 3))
def rmX2_costBy : Room := { frames := 2, cells := 0, slots := 0, locals := 48 }
theorem hdX2_costBy : yX2_costBy.cls = RX2 ∧ yX2_costBy.cls ≠ "java/lang/invoke/MethodHandle" ∧ yX2_costBy.cls ≠ "java/lang/invoke/VarHandle" ∧ (parseMethodDescriptor yX2_costBy.desc).map (fun d => d.parameters.length) = some 3 := by decide +kernel
set_option maxHeartbeats 4000000 in
theorem kX2_costBy (l : Launch) (ω : OM) (g : Nat → Nat) (y : Nat → Int32) (a z : Nat → Nat → Int32) (kt : Int32) (hs : Int64) (pn : Nat) (td : Int32) (sn : Nat) (hpn : pn < 3) (hsn : sn < 9) : Met l yX2_costBy (ws_ yX2_costBy cX2_costBy 4 (some .int)) rmX2_costBy (va_Pc [.ref (ω.2.1 0 99), .int (nI pn), .int td, .int (nI sn)] (fun U => mK ω U ∧ mH ω (g, y, a, z, kt, hs) U.heap)) (vp_Si (fun r => r = (fX2_costBy g a pn td sn))) 0 0 (fun _ => False) := by
  refine g_entPi (C := RX2) rfl (by decide) (Nat.le_of_ble_eq_true rfl) ?_
  intro p e s m args below meth c QQ ls hF hKH hl hret
  have hl : lv_has ls 4 [(0, .ref (ω.2.1 0 99)), (1, .int (nI pn)), (2, .int td), (3, .int (nI sn))] := hl
  obtain ⟨hK, hH⟩ := hKH
  refine lv_sipush (v := nI 1000) hF.1 hF.2.1 dX2_costBy_0 (by decide) ?_
  refine lv_aload_n hF.1 hF.2.1 dX2_costBy_3 rfl (lv_at hl 0 rfl) ?_
  refine lv_iload_n hF.1 hF.2.1 dX2_costBy_4 rfl (lv_at hl 1 rfl) ?_
  refine lv_iload_n hF.1 hF.2.1 dX2_costBy_5 rfl (lv_at hl 2 rfl) ?_
  refine lv_iload_n hF.1 hF.2.1 dX2_costBy_6 rfl (lv_at hl 3 rfl) ?_
  refine g_vPi (As := [.int (nI pn), .int td, .int (nI sn)]) (rest := [.int (nI 1000)]) hF (kX2_hurtsBy l ω g y a z kt hs pn td sn (by omega) (by omega)) (lw_V q1135 q1137 qs57 q97 q1138) 3 hdX2_hurtsBy rfl rfl ⟨Nat.le_of_ble_eq_true rfl, Nat.le_of_ble_eq_true rfl⟩ (m_preV hK hH) rfl hl.1 rfl (Nat.le_of_ble_eq_true rfl) dX2_costBy_7 ⟨Nat.zero_le _, Nat.zero_le _⟩ (fun r1 e_r1 => ?_)
  refine lv_imul hF.1 hF.2.1 dX2_costBy_10 ?_
  refine lv_aload_n hF.1 hF.2.1 dX2_costBy_11 rfl (lv_at hl 0 rfl) ?_
  refine mg_7 hF hK hH q978 dX2_costBy_12 ?_
  refine lv_iconst (v := nI 4) hF.1 hF.2.1 dX2_costBy_15 (by decide) ?_
  refine lv_iload_n hF.1 hF.2.1 dX2_costBy_16 rfl (lv_at hl 3 rfl) ?_
  refine n_imul hF.1 hF.2.1 dX2_costBy_17 ?_
  refine lv_iconst (v := nI 3) hF.1 hF.2.1 dX2_costBy_18 (by decide) ?_
  refine n_iadd hF.1 hF.2.1 dX2_costBy_19 ?_
  refine m_ald hF hK hH 7 (n := 36) rfl rfl (by decide) rfl (f := a 7) rfl (i := (4 * sn) + 3) (by omega) (by decide) dX2_costBy_20 ?_
  refine lv_iadd hF.1 hF.2.1 dX2_costBy_21 ?_
  exact hret _ _ _ dX2_costBy_22 (by subst e_r1; rfl)

def fX2_beyond (a : Nat → Nat → Int32) (sn : Nat) (cn : Int32) : Int32 := if (a 7 ((4 * sn) + 1)) = cn then a 7 ((4 * sn) + 2) else if (a 7 ((4 * sn) + 2)) = cn then a 7 ((4 * sn) + 1) else (-1)
def rmX2_beyond : Room := { frames := 1, cells := 0, slots := 0, locals := 24 }
theorem hdX2_beyond : yX2_beyond.cls = RX2 ∧ yX2_beyond.cls ≠ "java/lang/invoke/MethodHandle" ∧ yX2_beyond.cls ≠ "java/lang/invoke/VarHandle" ∧ (parseMethodDescriptor yX2_beyond.desc).map (fun d => d.parameters.length) = some 2 := by decide +kernel
set_option maxHeartbeats 4000000 in
theorem kX2_beyond (l : Launch) (ω : OM) (g : Nat → Nat) (y : Nat → Int32) (a z : Nat → Nat → Int32) (kt : Int32) (hs : Int64) (sn : Nat) (cn : Int32) (hsn : sn < 9) : Met l yX2_beyond (ws_ yX2_beyond cX2_beyond 3 (some .int)) rmX2_beyond (va_Pc [.ref (ω.2.1 0 99), .int (nI sn), .int cn] (fun U => mK ω U ∧ mH ω (g, y, a, z, kt, hs) U.heap)) (vp_Si (fun r => r = (fX2_beyond a sn cn))) 0 0 (fun _ => False) := by
  refine g_entPi (C := RX2) rfl (by decide) (Nat.le_of_ble_eq_true rfl) ?_
  intro p e s m args below meth c QQ ls hF hKH hl hret
  have hl : lv_has ls 3 [(0, .ref (ω.2.1 0 99)), (1, .int (nI sn)), (2, .int cn)] := hl
  obtain ⟨hK, hH⟩ := hKH
  refine lv_aload_n hF.1 hF.2.1 dX2_beyond_0 rfl (lv_at hl 0 rfl) ?_
  refine mg_7 hF hK hH q978 dX2_beyond_1 ?_
  refine lv_iconst (v := nI 4) hF.1 hF.2.1 dX2_beyond_4 (by decide) ?_
  refine lv_iload_n hF.1 hF.2.1 dX2_beyond_5 rfl (lv_at hl 1 rfl) ?_
  refine n_imul hF.1 hF.2.1 dX2_beyond_6 ?_
  refine lv_iconst (v := nI 1) hF.1 hF.2.1 dX2_beyond_7 (by decide) ?_
  refine n_iadd hF.1 hF.2.1 dX2_beyond_8 ?_
  refine m_ald hF hK hH 7 (n := 36) rfl rfl (by decide) rfl (f := a 7) rfl (i := (4 * sn) + 1) (by omega) (by decide) dX2_beyond_9 ?_
  refine lv_iload_n hF.1 hF.2.1 dX2_beyond_10 rfl (lv_at hl 2 rfl) ?_
  refine lv_icmp_ne (tgt := 27) hF.1 hF.2.1 dX2_beyond_11 (by decide) (fun c1 => ?_) (fun c1 => ?_)
  · skip
    refine lv_aload_n hF.1 hF.2.1 dX2_beyond_27 rfl (lv_at hl 0 rfl) ?_
    refine mg_7 hF hK hH q978 dX2_beyond_28 ?_
    refine lv_iconst (v := nI 4) hF.1 hF.2.1 dX2_beyond_31 (by decide) ?_
    refine lv_iload_n hF.1 hF.2.1 dX2_beyond_32 rfl (lv_at hl 1 rfl) ?_
    refine n_imul hF.1 hF.2.1 dX2_beyond_33 ?_
    refine lv_iconst (v := nI 2) hF.1 hF.2.1 dX2_beyond_34 (by decide) ?_
    refine n_iadd hF.1 hF.2.1 dX2_beyond_35 ?_
    refine m_ald hF hK hH 7 (n := 36) rfl rfl (by decide) rfl (f := a 7) rfl (i := (4 * sn) + 2) (by omega) (by decide) dX2_beyond_36 ?_
    refine lv_iload_n hF.1 hF.2.1 dX2_beyond_37 rfl (lv_at hl 2 rfl) ?_
    refine lv_icmp_ne (tgt := 54) hF.1 hF.2.1 dX2_beyond_38 (by decide) (fun c2 => ?_) (fun c2 => ?_)
    · skip
      refine lv_iconst (v := (-1)) hF.1 hF.2.1 dX2_beyond_54 (by decide) ?_
      exact hret _ _ _ dX2_beyond_55 (by unfold fX2_beyond; first | (rw [if_neg c1, if_neg c2]; done) | (simp only [if_neg c1, if_neg c2]))
    · skip
      refine lv_aload_n hF.1 hF.2.1 dX2_beyond_41 rfl (lv_at hl 0 rfl) ?_
      refine mg_7 hF hK hH q978 dX2_beyond_42 ?_
      refine lv_iconst (v := nI 4) hF.1 hF.2.1 dX2_beyond_45 (by decide) ?_
      refine lv_iload_n hF.1 hF.2.1 dX2_beyond_46 rfl (lv_at hl 1 rfl) ?_
      refine n_imul hF.1 hF.2.1 dX2_beyond_47 ?_
      refine lv_iconst (v := nI 1) hF.1 hF.2.1 dX2_beyond_48 (by decide) ?_
      refine n_iadd hF.1 hF.2.1 dX2_beyond_49 ?_
      refine m_ald hF hK hH 7 (n := 36) rfl rfl (by decide) rfl (f := a 7) rfl (i := (4 * sn) + 1) (by omega) (by decide) dX2_beyond_50 ?_
      refine lv_goto (tgt := 55) hF.1 hF.2.1 dX2_beyond_51 (by decide) ?_
      exact hret _ _ _ dX2_beyond_55 (by unfold fX2_beyond; first | (rw [if_neg c1, if_pos c2]; done) | (simp only [if_neg c1, if_pos c2]))
  · skip
    refine lv_aload_n hF.1 hF.2.1 dX2_beyond_14 rfl (lv_at hl 0 rfl) ?_
    refine mg_7 hF hK hH q978 dX2_beyond_15 ?_
    refine lv_iconst (v := nI 4) hF.1 hF.2.1 dX2_beyond_18 (by decide) ?_
    refine lv_iload_n hF.1 hF.2.1 dX2_beyond_19 rfl (lv_at hl 1 rfl) ?_
    refine n_imul hF.1 hF.2.1 dX2_beyond_20 ?_
    refine lv_iconst (v := nI 2) hF.1 hF.2.1 dX2_beyond_21 (by decide) ?_
    refine n_iadd hF.1 hF.2.1 dX2_beyond_22 ?_
    refine m_ald hF hK hH 7 (n := 36) rfl rfl (by decide) rfl (f := a 7) rfl (i := (4 * sn) + 2) (by omega) (by decide) dX2_beyond_23 ?_
    refine lv_goto (tgt := 55) hF.1 hF.2.1 dX2_beyond_24 (by decide) ?_
    exact hret _ _ _ dX2_beyond_55 (by unfold fX2_beyond; first | (rw [if_pos c1]; done) | (simp only [if_pos c1]))

