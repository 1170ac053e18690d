/-! MODEL: pages, tests, ways -/
set_option maxRecDepth 100000
def fX2_copy_9_19_b2 (a : Nat → Nat → Int32) (i2 : Nat) (S : (Nat → Int32)) : (Nat → Int32) := upd S i2 (a 9 i2)
def fX2_copy_9_19 (a : Nat → Nat → Int32) (z : Nat → Nat → Int32) : (Nat → Int32) := (it (fX2_copy_9_19_b2 a) 27 (z 19))
def rmX2_copy_9_19 : Room := { frames := 1, cells := 0, slots := 0, locals := 24 }
theorem hdX2_copy_9_19 : yX2_copy.cls = RX2 ∧ yX2_copy.cls ≠ "java/lang/invoke/MethodHandle" ∧ yX2_copy.cls ≠ "java/lang/invoke/VarHandle" ∧ (parseMethodDescriptor yX2_copy.desc).map (fun d => d.parameters.length) = some 2 := by decide +kernel
set_option maxHeartbeats 4000000 in
theorem kX2_copy_9_19 (l : Launch) (ω : OM) (g : Nat → Nat) (y : Nat → Int32) (a z : Nat → Nat → Int32) (kt : Int32) (hs : Int64) : Met l yX2_copy (ws_ yX2_copy cX2_copy 3 none) rmX2_copy_9_19 (va_Pc [.ref (ω.2.1 0 9), .ref (ω.2.1 0 19)] (fun U => mK ω U ∧ mH ω (g, y, a, z, kt, hs) U.heap)) (va_Qv (fun (u : MS) => ∃ (o0 : Nat → Int32), o0 = (fX2_copy_9_19 a z) ∧ u = (g, y, a, va_up z 19 o0, kt, hs)) (fun u t => mH ω u t.heap) ω.2.2.1) 0 0 ω.2.2.1 := by
  refine g_entWv (C := RX2) rfl (by decide) (Nat.le_of_ble_eq_true rfl) ?_
  intro p e s m args below meth c QQ ls H locs hF hK hH hS hl hret
  have hl : lv_has ls 3 [(0, .ref (ω.2.1 0 9)), (1, .ref (ω.2.1 0 19))] := hl
  refine lv_iconst (v := nI 0) hF.1 hF.2.1 dX2_copy_0 (by decide) ?_
  refine lv_istore_n (lv' := [(2, .int (nI 0)), (0, .ref (ω.2.1 0 9)), (1, .ref (ω.2.1 0 19))]) hF.1 hF.2.1 dX2_copy_1 rfl hl (by decide) rfl (fun ls hl => ?_)
  have lp2_4 : ∀ (d2 i2 : Nat) (w2_z19 : Nat → Int32) (H : Heap) (locs : List Loc) (ls : Array Slot), i2 + d2 = 27 → w2_z19 = it (fX2_copy_9_19_b2 a) i2 (z 19) → mH ω (g, y, a, va_up z 19 w2_z19, kt, hs) H → va_S ω.2.2.1 s.heap H locs → lv_has ls 3 [(2, .int (nI i2)), (0, .ref (ω.2.1 0 9)), (1, .ref (ω.2.1 0 19))] → W p l e rmX2_copy_9_19 s m args below meth c H locs 0 0 QQ (F0 m 2 ls []) := by
    intro d2
    induction d2 with
    | zero =>
      intro i2 w2_z19 H locs ls hi2 hS2 hH hS hl
      have hj2 : 27 = i2 := by omega
      subst hj2
      have e_w2_z19 := hS2
      refine lv_iload_n hF.1 hF.2.1 dX2_copy_2 rfl (lv_at hl 0 rfl) ?_
      refine lv_aload_n hF.1 hF.2.1 dX2_copy_3 rfl (lv_at hl 1 rfl) ?_
      refine m_len hF hK hH 9 (n := 27) rfl rfl (by decide) dX2_copy_4 ?_
      refine n_ge (tgt := 20) hF.1 hF.2.1 dX2_copy_5 (by decide) (by omega) (by omega) (fun c1 => ?_) (fun c1 => ?_)
      · skip
        exact hret _ _ _ _ _ dX2_copy_20 ⟨_, by subst e_w2_z19; rfl, rfl⟩ hH hS
      · exact absurd (by omega) c1
    | succ d2 ih =>
      intro i2 w2_z19 H locs ls hi2 hS2 hH hS hl
      refine lv_iload_n hF.1 hF.2.1 dX2_copy_2 rfl (lv_at hl 0 rfl) ?_
      refine lv_aload_n hF.1 hF.2.1 dX2_copy_3 rfl (lv_at hl 1 rfl) ?_
      refine m_len hF hK hH 9 (n := 27) rfl rfl (by decide) dX2_copy_4 ?_
      refine n_ge (tgt := 20) hF.1 hF.2.1 dX2_copy_5 (by decide) (by omega) (by omega) (fun c2 => ?_) (fun c2 => ?_)
      · exact absurd c2 (by omega)
      · skip
        refine lv_aload_n hF.1 hF.2.1 dX2_copy_8 rfl (lv_at hl 2 rfl) ?_
        refine lv_iload_n hF.1 hF.2.1 dX2_copy_9 rfl (lv_at hl 0 rfl) ?_
        refine lv_aload_n hF.1 hF.2.1 dX2_copy_10 rfl (lv_at hl 1 rfl) ?_
        refine lv_iload_n hF.1 hF.2.1 dX2_copy_11 rfl (lv_at hl 0 rfl) ?_
        refine m_ald hF hK hH 9 (n := 27) rfl rfl (by decide) rfl (f := a 9) rfl (i := i2) (by omega) (by decide) dX2_copy_12 ?_
        refine m_zst (z' := va_up z 19 (upd w2_z19 i2 (a 9 i2))) hF hK hH hS 19 (n := 27) rfl rfl (by decide) rfl (f := w2_z19) rfl (i := i2) (by omega) (by decide) dX2_copy_13 rfl (by intro j hj; simp only [va_up, if_neg hj]) (fun H locs hH hS => ?_)
        refine n_iinc (lv' := [(2, .int (nI (i2 + 1))), (0, .ref (ω.2.1 0 9)), (1, .ref (ω.2.1 0 19))]) hF.1 hF.2.1 dX2_copy_14 hl (k := 0) rfl (by decide) rfl (fun ls hl => ?_)
        refine lv_goto (tgt := 2) hF.1 hF.2.1 dX2_copy_17 (by decide) ?_
        exact ih (i2 + 1) _ _ _ _ (by omega) (by rw [it_succ (fX2_copy_9_19_b2 a) i2 _, ← hS2]; try rfl) hH hS (lv_sub hl [0, 1, 2] rfl)
  have hH : mH ω (g, y, a, va_up z 19 (z 19), kt, hs) H := m_ext (fun _ => rfl) (fun _ => rfl) (fun _ => rfl) (by intro k; by_cases h0 : k = 19; (subst h0; simp [va_up]); simp only [va_up, if_neg h0]) hH
  exact lp2_4 27 0 _ _ _ _ (by omega) rfl hH hS (lv_sub hl [0, 1, 2] rfl)

def fX2_copy_19_9_b2 (z : Nat → Nat → Int32) (i2 : Nat) (S : (Nat → Int32)) : (Nat → Int32) := upd S i2 (z 19 i2)
def fX2_copy_19_9 (a : Nat → Nat → Int32) (z : Nat → Nat → Int32) : (Nat → Int32) := (it (fX2_copy_19_9_b2 z) 27 (a 9))
def rmX2_copy_19_9 : Room := { frames := 1, cells := 0, slots := 0, locals := 24 }
theorem hdX2_copy_19_9 : yX2_copy.cls = RX2 ∧ yX2_copy.cls ≠ "java/lang/invoke/MethodHandle" ∧ yX2_copy.cls ≠ "java/lang/invoke/VarHandle" ∧ (parseMethodDescriptor yX2_copy.desc).map (fun d => d.parameters.length) = some 2 := by decide +kernel
set_option maxHeartbeats 4000000 in
theorem kX2_copy_19_9 (l : Launch) (ω : OM) (g : Nat → Nat) (y : Nat → Int32) (a z : Nat → Nat → Int32) (kt : Int32) (hs : Int64) : Met l yX2_copy (ws_ yX2_copy cX2_copy 3 none) rmX2_copy_19_9 (va_Pc [.ref (ω.2.1 0 19), .ref (ω.2.1 0 9)] (fun U => mK ω U ∧ mH ω (g, y, a, z, kt, hs) U.heap)) (va_Qv (fun (u : MS) => ∃ (o0 : Nat → Int32), o0 = (fX2_copy_19_9 a z) ∧ u = (g, y, va_up a 9 o0, z, kt, hs)) (fun u t => mH ω u t.heap) ω.2.2.1) 0 0 ω.2.2.1 := by
  refine g_entWv (C := RX2) rfl (by decide) (Nat.le_of_ble_eq_true rfl) ?_
  intro p e s m args below meth c QQ ls H locs hF hK hH hS hl hret
  have hl : lv_has ls 3 [(0, .ref (ω.2.1 0 19)), (1, .ref (ω.2.1 0 9))] := hl
  refine lv_iconst (v := nI 0) hF.1 hF.2.1 dX2_copy_0 (by decide) ?_
  refine lv_istore_n (lv' := [(2, .int (nI 0)), (0, .ref (ω.2.1 0 19)), (1, .ref (ω.2.1 0 9))]) hF.1 hF.2.1 dX2_copy_1 rfl hl (by decide) rfl (fun ls hl => ?_)
  have lp2_6 : ∀ (d2 i2 : Nat) (w2_a9 : Nat → Int32) (H : Heap) (locs : List Loc) (ls : Array Slot), i2 + d2 = 27 → w2_a9 = it (fX2_copy_19_9_b2 z) i2 (a 9) → mH ω (g, y, va_up a 9 w2_a9, z, kt, hs) H → va_S ω.2.2.1 s.heap H locs → lv_has ls 3 [(2, .int (nI i2)), (0, .ref (ω.2.1 0 19)), (1, .ref (ω.2.1 0 9))] → W p l e rmX2_copy_19_9 s m args below meth c H locs 0 0 QQ (F0 m 2 ls []) := by
    intro d2
    induction d2 with
    | zero =>
      intro i2 w2_a9 H locs ls hi2 hS2 hH hS hl
      have hj2 : 27 = i2 := by omega
      subst hj2
      have e_w2_a9 := hS2
      refine lv_iload_n hF.1 hF.2.1 dX2_copy_2 rfl (lv_at hl 0 rfl) ?_
      refine lv_aload_n hF.1 hF.2.1 dX2_copy_3 rfl (lv_at hl 1 rfl) ?_
      refine m_len hF hK hH 19 (n := 27) rfl rfl (by decide) dX2_copy_4 ?_
      refine n_ge (tgt := 20) hF.1 hF.2.1 dX2_copy_5 (by decide) (by omega) (by omega) (fun c1 => ?_) (fun c1 => ?_)
      · skip
        exact hret _ _ _ _ _ dX2_copy_20 ⟨_, by subst e_w2_a9; rfl, rfl⟩ hH hS
      · exact absurd (by omega) c1
    | succ d2 ih =>
      intro i2 w2_a9 H locs ls hi2 hS2 hH hS hl
      refine lv_iload_n hF.1 hF.2.1 dX2_copy_2 rfl (lv_at hl 0 rfl) ?_
      refine lv_aload_n hF.1 hF.2.1 dX2_copy_3 rfl (lv_at hl 1 rfl) ?_
      refine m_len hF hK hH 19 (n := 27) rfl rfl (by decide) dX2_copy_4 ?_
      refine n_ge (tgt := 20) hF.1 hF.2.1 dX2_copy_5 (by decide) (by omega) (by omega) (fun c2 => ?_) (fun c2 => ?_)
      · exact absurd c2 (by omega)
      · skip
        refine lv_aload_n hF.1 hF.2.1 dX2_copy_8 rfl (lv_at hl 2 rfl) ?_
        refine lv_iload_n hF.1 hF.2.1 dX2_copy_9 rfl (lv_at hl 0 rfl) ?_
        refine lv_aload_n hF.1 hF.2.1 dX2_copy_10 rfl (lv_at hl 1 rfl) ?_
        refine lv_iload_n hF.1 hF.2.1 dX2_copy_11 rfl (lv_at hl 0 rfl) ?_
        refine m_zld hF hK hH 19 (n := 27) rfl rfl (by decide) rfl (f := z 19) rfl (i := i2) (by omega) (by decide) dX2_copy_12 ?_
        refine m_ast (a' := va_up a 9 (upd w2_a9 i2 (z 19 i2))) hF hK hH hS 9 (n := 27) rfl rfl (by decide) rfl (f := w2_a9) rfl (i := i2) (by omega) (by decide) dX2_copy_13 rfl (by intro j hj; simp only [va_up, if_neg hj]) (fun H locs hH hS => ?_)
        refine n_iinc (lv' := [(2, .int (nI (i2 + 1))), (0, .ref (ω.2.1 0 19)), (1, .ref (ω.2.1 0 9))]) hF.1 hF.2.1 dX2_copy_14 hl (k := 0) rfl (by decide) rfl (fun ls hl => ?_)
        refine lv_goto (tgt := 2) hF.1 hF.2.1 dX2_copy_17 (by decide) ?_
        exact ih (i2 + 1) _ _ _ _ (by omega) (by rw [it_succ (fX2_copy_19_9_b2 z) i2 _, ← hS2]; try rfl) hH hS (lv_sub hl [0, 1, 2] rfl)
  have hH : mH ω (g, y, va_up a 9 (a 9), z, kt, hs) H := m_ext (fun _ => rfl) (fun _ => rfl) (by intro k; by_cases h0 : k = 9; (subst h0; simp [va_up]); simp only [va_up, if_neg h0]) (fun _ => rfl) hH
  exact lp2_6 27 0 _ _ _ _ (by omega) rfl hH hS (lv_sub hl [0, 1, 2] rfl)

def fX2_copy_8_23_b2 (a : Nat → Nat → Int32) (i2 : Nat) (S : (Nat → Int32)) : (Nat → Int32) := upd S i2 (a 8 i2)
def fX2_copy_8_23 (a : Nat → Nat → Int32) : (Nat → Int32) := (it (fX2_copy_8_23_b2 a) 15 (a 23))
def rmX2_copy_8_23 : Room := { frames := 1, cells := 0, slots := 0, locals := 24 }
theorem hdX2_copy_8_23 : yX2_copy.cls = RX2 ∧ yX2_copy.cls ≠ "java/lang/invoke/MethodHandle" ∧ yX2_copy.cls ≠ "java/lang/invoke/VarHandle" ∧ (parseMethodDescriptor yX2_copy.desc).map (fun d => d.parameters.length) = some 2 := by decide +kernel
set_option maxHeartbeats 4000000 in
theorem kX2_copy_8_23 (l : Launch) (ω : OM) (g : Nat → Nat) (y : Nat → Int32) (a z : Nat → Nat → Int32) (kt : Int32) (hs : Int64) : Met l yX2_copy (ws_ yX2_copy cX2_copy 3 none) rmX2_copy_8_23 (va_Pc [.ref (ω.2.1 0 8), .ref (ω.2.1 0 23)] (fun U => mK ω U ∧ mH ω (g, y, a, z, kt, hs) U.heap)) (va_Qv (fun (u : MS) => ∃ (o0 : Nat → Int32), o0 = (fX2_copy_8_23 a) ∧ u = (g, y, va_up a 23 o0, z, kt, hs)) (fun u t => mH ω u t.heap) ω.2.2.1) 0 0 ω.2.2.1 := by
  refine g_entWv (C := RX2) rfl (by decide) (Nat.le_of_ble_eq_true rfl) ?_
  intro p e s m args below meth c QQ ls H locs hF hK hH hS hl hret
  have hl : lv_has ls 3 [(0, .ref (ω.2.1 0 8)), (1, .ref (ω.2.1 0 23))] := hl
  refine lv_iconst (v := nI 0) hF.1 hF.2.1 dX2_copy_0 (by decide) ?_
  refine lv_istore_n (lv' := [(2, .int (nI 0)), (0, .ref (ω.2.1 0 8)), (1, .ref (ω.2.1 0 23))]) hF.1 hF.2.1 dX2_copy_1 rfl hl (by decide) rfl (fun ls hl => ?_)
  have lp2_8 : ∀ (d2 i2 : Nat) (w2_a23 : Nat → Int32) (H : Heap) (locs : List Loc) (ls : Array Slot), i2 + d2 = 15 → w2_a23 = it (fX2_copy_8_23_b2 a) i2 (a 23) → mH ω (g, y, va_up a 23 w2_a23, z, kt, hs) H → va_S ω.2.2.1 s.heap H locs → lv_has ls 3 [(2, .int (nI i2)), (0, .ref (ω.2.1 0 8)), (1, .ref (ω.2.1 0 23))] → W p l e rmX2_copy_8_23 s m args below meth c H locs 0 0 QQ (F0 m 2 ls []) := by
    intro d2
    induction d2 with
    | zero =>
      intro i2 w2_a23 H locs ls hi2 hS2 hH hS hl
      have hj2 : 15 = i2 := by omega
      subst hj2
      have e_w2_a23 := hS2
      refine lv_iload_n hF.1 hF.2.1 dX2_copy_2 rfl (lv_at hl 0 rfl) ?_
      refine lv_aload_n hF.1 hF.2.1 dX2_copy_3 rfl (lv_at hl 1 rfl) ?_
      refine m_len hF hK hH 8 (n := 15) rfl rfl (by decide) dX2_copy_4 ?_
      refine n_ge (tgt := 20) hF.1 hF.2.1 dX2_copy_5 (by decide) (by omega) (by omega) (fun c1 => ?_) (fun c1 => ?_)
      · skip
        exact hret _ _ _ _ _ dX2_copy_20 ⟨_, by subst e_w2_a23; rfl, rfl⟩ hH hS
      · exact absurd (by omega) c1
    | succ d2 ih =>
      intro i2 w2_a23 H locs ls hi2 hS2 hH hS hl
      refine lv_iload_n hF.1 hF.2.1 dX2_copy_2 rfl (lv_at hl 0 rfl) ?_
      refine lv_aload_n hF.1 hF.2.1 dX2_copy_3 rfl (lv_at hl 1 rfl) ?_
      refine m_len hF hK hH 8 (n := 15) rfl rfl (by decide) dX2_copy_4 ?_
      refine n_ge (tgt := 20) hF.1 hF.2.1 dX2_copy_5 (by decide) (by omega) (by omega) (fun c2 => ?_) (fun c2 => ?_)
      · exact absurd c2 (by omega)
      · skip
        refine lv_aload_n hF.1 hF.2.1 dX2_copy_8 rfl (lv_at hl 2 rfl) ?_
        refine lv_iload_n hF.1 hF.2.1 dX2_copy_9 rfl (lv_at hl 0 rfl) ?_
        refine lv_aload_n hF.1 hF.2.1 dX2_copy_10 rfl (lv_at hl 1 rfl) ?_
        refine lv_iload_n hF.1 hF.2.1 dX2_copy_11 rfl (lv_at hl 0 rfl) ?_
        refine m_ald hF hK hH 8 (n := 15) rfl rfl (by decide) rfl (f := a 8) rfl (i := i2) (by omega) (by decide) dX2_copy_12 ?_
        refine m_ast (a' := va_up a 23 (upd w2_a23 i2 (a 8 i2))) hF hK hH hS 23 (n := 15) rfl rfl (by decide) rfl (f := w2_a23) rfl (i := i2) (by omega) (by decide) dX2_copy_13 rfl (by intro j hj; simp only [va_up, if_neg hj]) (fun H locs hH hS => ?_)
        refine n_iinc (lv' := [(2, .int (nI (i2 + 1))), (0, .ref (ω.2.1 0 8)), (1, .ref (ω.2.1 0 23))]) hF.1 hF.2.1 dX2_copy_14 hl (k := 0) rfl (by decide) rfl (fun ls hl => ?_)
        refine lv_goto (tgt := 2) hF.1 hF.2.1 dX2_copy_17 (by decide) ?_
        exact ih (i2 + 1) _ _ _ _ (by omega) (by rw [it_succ (fX2_copy_8_23_b2 a) i2 _, ← hS2]; try rfl) hH hS (lv_sub hl [0, 1, 2] rfl)
  have hH : mH ω (g, y, va_up a 23 (a 23), z, kt, hs) H := m_ext (fun _ => rfl) (fun _ => rfl) (by intro k; by_cases h0 : k = 23; (subst h0; simp [va_up]); simp only [va_up, if_neg h0]) (fun _ => rfl) hH
  exact lp2_8 15 0 _ _ _ _ (by omega) rfl hH hS (lv_sub hl [0, 1, 2] rfl)

def fX2_copy_9_24_b2 (a : Nat → Nat → Int32) (i2 : Nat) (S : (Nat → Int32)) : (Nat → Int32) := upd S i2 (a 9 i2)
def fX2_copy_9_24 (a : Nat → Nat → Int32) : (Nat → Int32) := (it (fX2_copy_9_24_b2 a) 27 (a 24))
def rmX2_copy_9_24 : Room := { frames := 1, cells := 0, slots := 0, locals := 24 }
theorem hdX2_copy_9_24 : yX2_copy.cls = RX2 ∧ yX2_copy.cls ≠ "java/lang/invoke/MethodHandle" ∧ yX2_copy.cls ≠ "java/lang/invoke/VarHandle" ∧ (parseMethodDescriptor yX2_copy.desc).map (fun d => d.parameters.length) = some 2 := by decide +kernel
set_option maxHeartbeats 4000000 in
theorem kX2_copy_9_24 (l : Launch) (ω : OM) (g : Nat → Nat) (y : Nat → Int32) (a z : Nat → Nat → Int32) (kt : Int32) (hs : Int64) : Met l yX2_copy (ws_ yX2_copy cX2_copy 3 none) rmX2_copy_9_24 (va_Pc [.ref (ω.2.1 0 9), .ref (ω.2.1 0 24)] (fun U => mK ω U ∧ mH ω (g, y, a, z, kt, hs) U.heap)) (va_Qv (fun (u : MS) => ∃ (o0 : Nat → Int32), o0 = (fX2_copy_9_24 a) ∧ u = (g, y, va_up a 24 o0, z, kt, hs)) (fun u t => mH ω u t.heap) ω.2.2.1) 0 0 ω.2.2.1 := by
  refine g_entWv (C := RX2) rfl (by decide) (Nat.le_of_ble_eq_true rfl) ?_
  intro p e s m args below meth c QQ ls H locs hF hK hH hS hl hret
  have hl : lv_has ls 3 [(0, .ref (ω.2.1 0 9)), (1, .ref (ω.2.1 0 24))] := hl
  refine lv_iconst (v := nI 0) hF.1 hF.2.1 dX2_copy_0 (by decide) ?_
  refine lv_istore_n (lv' := [(2, .int (nI 0)), (0, .ref (ω.2.1 0 9)), (1, .ref (ω.2.1 0 24))]) hF.1 hF.2.1 dX2_copy_1 rfl hl (by decide) rfl (fun ls hl => ?_)
  have lp2_10 : ∀ (d2 i2 : Nat) (w2_a24 : Nat → Int32) (H : Heap) (locs : List Loc) (ls : Array Slot), i2 + d2 = 27 → w2_a24 = it (fX2_copy_9_24_b2 a) i2 (a 24) → mH ω (g, y, va_up a 24 w2_a24, z, kt, hs) H → va_S ω.2.2.1 s.heap H locs → lv_has ls 3 [(2, .int (nI i2)), (0, .ref (ω.2.1 0 9)), (1, .ref (ω.2.1 0 24))] → W p l e rmX2_copy_9_24 s m args below meth c H locs 0 0 QQ (F0 m 2 ls []) := by
    intro d2
    induction d2 with
    | zero =>
      intro i2 w2_a24 H locs ls hi2 hS2 hH hS hl
      have hj2 : 27 = i2 := by omega
      subst hj2
      have e_w2_a24 := hS2
      refine lv_iload_n hF.1 hF.2.1 dX2_copy_2 rfl (lv_at hl 0 rfl) ?_
      refine lv_aload_n hF.1 hF.2.1 dX2_copy_3 rfl (lv_at hl 1 rfl) ?_
      refine m_len hF hK hH 9 (n := 27) rfl rfl (by decide) dX2_copy_4 ?_
      refine n_ge (tgt := 20) hF.1 hF.2.1 dX2_copy_5 (by decide) (by omega) (by omega) (fun c1 => ?_) (fun c1 => ?_)
      · skip
        exact hret _ _ _ _ _ dX2_copy_20 ⟨_, by subst e_w2_a24; rfl, rfl⟩ hH hS
      · exact absurd (by omega) c1
    | succ d2 ih =>
      intro i2 w2_a24 H locs ls hi2 hS2 hH hS hl
      refine lv_iload_n hF.1 hF.2.1 dX2_copy_2 rfl (lv_at hl 0 rfl) ?_
      refine lv_aload_n hF.1 hF.2.1 dX2_copy_3 rfl (lv_at hl 1 rfl) ?_
      refine m_len hF hK hH 9 (n := 27) rfl rfl (by decide) dX2_copy_4 ?_
      refine n_ge (tgt := 20) hF.1 hF.2.1 dX2_copy_5 (by decide) (by omega) (by omega) (fun c2 => ?_) (fun c2 => ?_)
      · exact absurd c2 (by omega)
      · skip
        refine lv_aload_n hF.1 hF.2.1 dX2_copy_8 rfl (lv_at hl 2 rfl) ?_
        refine lv_iload_n hF.1 hF.2.1 dX2_copy_9 rfl (lv_at hl 0 rfl) ?_
        refine lv_aload_n hF.1 hF.2.1 dX2_copy_10 rfl (lv_at hl 1 rfl) ?_
        refine lv_iload_n hF.1 hF.2.1 dX2_copy_11 rfl (lv_at hl 0 rfl) ?_
        refine m_ald hF hK hH 9 (n := 27) rfl rfl (by decide) rfl (f := a 9) rfl (i := i2) (by omega) (by decide) dX2_copy_12 ?_
        refine m_ast (a' := va_up a 24 (upd w2_a24 i2 (a 9 i2))) hF hK hH hS 24 (n := 27) rfl rfl (by decide) rfl (f := w2_a24) rfl (i := i2) (by omega) (by decide) dX2_copy_13 rfl (by intro j hj; simp only [va_up, if_neg hj]) (fun H locs hH hS => ?_)
        refine n_iinc (lv' := [(2, .int (nI (i2 + 1))), (0, .ref (ω.2.1 0 9)), (1, .ref (ω.2.1 0 24))]) hF.1 hF.2.1 dX2_copy_14 hl (k := 0) rfl (by decide) rfl (fun ls hl => ?_)
        refine lv_goto (tgt := 2) hF.1 hF.2.1 dX2_copy_17 (by decide) ?_
        exact ih (i2 + 1) _ _ _ _ (by omega) (by rw [it_succ (fX2_copy_9_24_b2 a) i2 _, ← hS2]; try rfl) hH hS (lv_sub hl [0, 1, 2] rfl)
  have hH : mH ω (g, y, va_up a 24 (a 24), z, kt, hs) H := m_ext (fun _ => rfl) (fun _ => rfl) (by intro k; by_cases h0 : k = 24; (subst h0; simp [va_up]); simp only [va_up, if_neg h0]) (fun _ => rfl) hH
  exact lp2_10 27 0 _ _ _ _ (by omega) rfl hH hS (lv_sub hl [0, 1, 2] rfl)

def fX2_copy_10_25_b2 (a : Nat → Nat → Int32) (i2 : Nat) (S : (Nat → Int32)) : (Nat → Int32) := upd S i2 (a 10 i2)
def fX2_copy_10_25 (a : Nat → Nat → Int32) : (Nat → Int32) := (it (fX2_copy_10_25_b2 a) 6 (a 25))
def rmX2_copy_10_25 : Room := { frames := 1, cells := 0, slots := 0, locals := 24 }
theorem hdX2_copy_10_25 : yX2_copy.cls = RX2 ∧ yX2_copy.cls ≠ "java/lang/invoke/MethodHandle" ∧ yX2_copy.cls ≠ "java/lang/invoke/VarHandle" ∧ (parseMethodDescriptor yX2_copy.desc).map (fun d => d.parameters.length) = some 2 := by decide +kernel
set_option maxHeartbeats 4000000 in
theorem kX2_copy_10_25 (l : Launch) (ω : OM) (g : Nat → Nat) (y : Nat → Int32) (a z : Nat → Nat → Int32) (kt : Int32) (hs : Int64) : Met l yX2_copy (ws_ yX2_copy cX2_copy 3 none) rmX2_copy_10_25 (va_Pc [.ref (ω.2.1 0 10), .ref (ω.2.1 0 25)] (fun U => mK ω U ∧ mH ω (g, y, a, z, kt, hs) U.heap)) (va_Qv (fun (u : MS) => ∃ (o0 : Nat → Int32), o0 = (fX2_copy_10_25 a) ∧ u = (g, y, va_up a 25 o0, z, kt, hs)) (fun u t => mH ω u t.heap) ω.2.2.1) 0 0 ω.2.2.1 := by
  refine g_entWv (C := RX2) rfl (by decide) (Nat.le_of_ble_eq_true rfl) ?_
  intro p e s m args below meth c QQ ls H locs hF hK hH hS hl hret
  have hl : lv_has ls 3 [(0, .ref (ω.2.1 0 10)), (1, .ref (ω.2.1 0 25))] := hl
  refine lv_iconst (v := nI 0) hF.1 hF.2.1 dX2_copy_0 (by decide) ?_
  refine lv_istore_n (lv' := [(2, .int (nI 0)), (0, .ref (ω.2.1 0 10)), (1, .ref (ω.2.1 0 25))]) hF.1 hF.2.1 dX2_copy_1 rfl hl (by decide) rfl (fun ls hl => ?_)
  have lp2_12 : ∀ (d2 i2 : Nat) (w2_a25 : Nat → Int32) (H : Heap) (locs : List Loc) (ls : Array Slot), i2 + d2 = 6 → w2_a25 = it (fX2_copy_10_25_b2 a) i2 (a 25) → mH ω (g, y, va_up a 25 w2_a25, z, kt, hs) H → va_S ω.2.2.1 s.heap H locs → lv_has ls 3 [(2, .int (nI i2)), (0, .ref (ω.2.1 0 10)), (1, .ref (ω.2.1 0 25))] → W p l e rmX2_copy_10_25 s m args below meth c H locs 0 0 QQ (F0 m 2 ls []) := by
    intro d2
    induction d2 with
    | zero =>
      intro i2 w2_a25 H locs ls hi2 hS2 hH hS hl
      have hj2 : 6 = i2 := by omega
      subst hj2
      have e_w2_a25 := hS2
      refine lv_iload_n hF.1 hF.2.1 dX2_copy_2 rfl (lv_at hl 0 rfl) ?_
      refine lv_aload_n hF.1 hF.2.1 dX2_copy_3 rfl (lv_at hl 1 rfl) ?_
      refine m_len hF hK hH 10 (n := 6) rfl rfl (by decide) dX2_copy_4 ?_
      refine n_ge (tgt := 20) hF.1 hF.2.1 dX2_copy_5 (by decide) (by omega) (by omega) (fun c1 => ?_) (fun c1 => ?_)
      · skip
        exact hret _ _ _ _ _ dX2_copy_20 ⟨_, by subst e_w2_a25; rfl, rfl⟩ hH hS
      · exact absurd (by omega) c1
    | succ d2 ih =>
      intro i2 w2_a25 H locs ls hi2 hS2 hH hS hl
      refine lv_iload_n hF.1 hF.2.1 dX2_copy_2 rfl (lv_at hl 0 rfl) ?_
      refine lv_aload_n hF.1 hF.2.1 dX2_copy_3 rfl (lv_at hl 1 rfl) ?_
      refine m_len hF hK hH 10 (n := 6) rfl rfl (by decide) dX2_copy_4 ?_
      refine n_ge (tgt := 20) hF.1 hF.2.1 dX2_copy_5 (by decide) (by omega) (by omega) (fun c2 => ?_) (fun c2 => ?_)
      · exact absurd c2 (by omega)
      · skip
        refine lv_aload_n hF.1 hF.2.1 dX2_copy_8 rfl (lv_at hl 2 rfl) ?_
        refine lv_iload_n hF.1 hF.2.1 dX2_copy_9 rfl (lv_at hl 0 rfl) ?_
        refine lv_aload_n hF.1 hF.2.1 dX2_copy_10 rfl (lv_at hl 1 rfl) ?_
        refine lv_iload_n hF.1 hF.2.1 dX2_copy_11 rfl (lv_at hl 0 rfl) ?_
        refine m_ald hF hK hH 10 (n := 6) rfl rfl (by decide) rfl (f := a 10) rfl (i := i2) (by omega) (by decide) dX2_copy_12 ?_
        refine m_ast (a' := va_up a 25 (upd w2_a25 i2 (a 10 i2))) hF hK hH hS 25 (n := 6) rfl rfl (by decide) rfl (f := w2_a25) rfl (i := i2) (by omega) (by decide) dX2_copy_13 rfl (by intro j hj; simp only [va_up, if_neg hj]) (fun H locs hH hS => ?_)
        refine n_iinc (lv' := [(2, .int (nI (i2 + 1))), (0, .ref (ω.2.1 0 10)), (1, .ref (ω.2.1 0 25))]) hF.1 hF.2.1 dX2_copy_14 hl (k := 0) rfl (by decide) rfl (fun ls hl => ?_)
        refine lv_goto (tgt := 2) hF.1 hF.2.1 dX2_copy_17 (by decide) ?_
        exact ih (i2 + 1) _ _ _ _ (by omega) (by rw [it_succ (fX2_copy_10_25_b2 a) i2 _, ← hS2]; try rfl) hH hS (lv_sub hl [0, 1, 2] rfl)
  have hH : mH ω (g, y, va_up a 25 (a 25), z, kt, hs) H := m_ext (fun _ => rfl) (fun _ => rfl) (by intro k; by_cases h0 : k = 25; (subst h0; simp [va_up]); simp only [va_up, if_neg h0]) (fun _ => rfl) hH
  exact lp2_12 6 0 _ _ _ _ (by omega) rfl hH hS (lv_sub hl [0, 1, 2] rfl)

def fX2_copy_16_26_b2 (a : Nat → Nat → Int32) (i2 : Nat) (S : (Nat → Int32)) : (Nat → Int32) := upd S i2 (a 16 i2)
def fX2_copy_16_26 (a : Nat → Nat → Int32) : (Nat → Int32) := (it (fX2_copy_16_26_b2 a) 24 (a 26))
def rmX2_copy_16_26 : Room := { frames := 1, cells := 0, slots := 0, locals := 24 }
theorem hdX2_copy_16_26 : yX2_copy.cls = RX2 ∧ yX2_copy.cls ≠ "java/lang/invoke/MethodHandle" ∧ yX2_copy.cls ≠ "java/lang/invoke/VarHandle" ∧ (parseMethodDescriptor yX2_copy.desc).map (fun d => d.parameters.length) = some 2 := by decide +kernel
set_option maxHeartbeats 4000000 in
theorem kX2_copy_16_26 (l : Launch) (ω : OM) (g : Nat → Nat) (y : Nat → Int32) (a z : Nat → Nat → Int32) (kt : Int32) (hs : Int64) : Met l yX2_copy (ws_ yX2_copy cX2_copy 3 none) rmX2_copy_16_26 (va_Pc [.ref (ω.2.1 0 16), .ref (ω.2.1 0 26)] (fun U => mK ω U ∧ mH ω (g, y, a, z, kt, hs) U.heap)) (va_Qv (fun (u : MS) => ∃ (o0 : Nat → Int32), o0 = (fX2_copy_16_26 a) ∧ u = (g, y, va_up a 26 o0, z, kt, hs)) (fun u t => mH ω u t.heap) ω.2.2.1) 0 0 ω.2.2.1 := by
  refine g_entWv (C := RX2) rfl (by decide) (Nat.le_of_ble_eq_true rfl) ?_
  intro p e s m args below meth c QQ ls H locs hF hK hH hS hl hret
  have hl : lv_has ls 3 [(0, .ref (ω.2.1 0 16)), (1, .ref (ω.2.1 0 26))] := hl
  refine lv_iconst (v := nI 0) hF.1 hF.2.1 dX2_copy_0 (by decide) ?_
  refine lv_istore_n (lv' := [(2, .int (nI 0)), (0, .ref (ω.2.1 0 16)), (1, .ref (ω.2.1 0 26))]) hF.1 hF.2.1 dX2_copy_1 rfl hl (by decide) rfl (fun ls hl => ?_)
  have lp2_14 : ∀ (d2 i2 : Nat) (w2_a26 : Nat → Int32) (H : Heap) (locs : List Loc) (ls : Array Slot), i2 + d2 = 24 → w2_a26 = it (fX2_copy_16_26_b2 a) i2 (a 26) → mH ω (g, y, va_up a 26 w2_a26, z, kt, hs) H → va_S ω.2.2.1 s.heap H locs → lv_has ls 3 [(2, .int (nI i2)), (0, .ref (ω.2.1 0 16)), (1, .ref (ω.2.1 0 26))] → W p l e rmX2_copy_16_26 s m args below meth c H locs 0 0 QQ (F0 m 2 ls []) := by
    intro d2
    induction d2 with
    | zero =>
      intro i2 w2_a26 H locs ls hi2 hS2 hH hS hl
      have hj2 : 24 = i2 := by omega
      subst hj2
      have e_w2_a26 := hS2
      refine lv_iload_n hF.1 hF.2.1 dX2_copy_2 rfl (lv_at hl 0 rfl) ?_
      refine lv_aload_n hF.1 hF.2.1 dX2_copy_3 rfl (lv_at hl 1 rfl) ?_
      refine m_len hF hK hH 16 (n := 24) rfl rfl (by decide) dX2_copy_4 ?_
      refine n_ge (tgt := 20) hF.1 hF.2.1 dX2_copy_5 (by decide) (by omega) (by omega) (fun c1 => ?_) (fun c1 => ?_)
      · skip
        exact hret _ _ _ _ _ dX2_copy_20 ⟨_, by subst e_w2_a26; rfl, rfl⟩ hH hS
      · exact absurd (by omega) c1
    | succ d2 ih =>
      intro i2 w2_a26 H locs ls hi2 hS2 hH hS hl
      refine lv_iload_n hF.1 hF.2.1 dX2_copy_2 rfl (lv_at hl 0 rfl) ?_
      refine lv_aload_n hF.1 hF.2.1 dX2_copy_3 rfl (lv_at hl 1 rfl) ?_
      refine m_len hF hK hH 16 (n := 24) rfl rfl (by decide) dX2_copy_4 ?_
      refine n_ge (tgt := 20) hF.1 hF.2.1 dX2_copy_5 (by decide) (by omega) (by omega) (fun c2 => ?_) (fun c2 => ?_)
      · exact absurd c2 (by omega)
      · skip
        refine lv_aload_n hF.1 hF.2.1 dX2_copy_8 rfl (lv_at hl 2 rfl) ?_
        refine lv_iload_n hF.1 hF.2.1 dX2_copy_9 rfl (lv_at hl 0 rfl) ?_
        refine lv_aload_n hF.1 hF.2.1 dX2_copy_10 rfl (lv_at hl 1 rfl) ?_
        refine lv_iload_n hF.1 hF.2.1 dX2_copy_11 rfl (lv_at hl 0 rfl) ?_
        refine m_ald hF hK hH 16 (n := 24) rfl rfl (by decide) rfl (f := a 16) rfl (i := i2) (by omega) (by decide) dX2_copy_12 ?_
        refine m_ast (a' := va_up a 26 (upd w2_a26 i2 (a 16 i2))) hF hK hH hS 26 (n := 24) rfl rfl (by decide) rfl (f := w2_a26) rfl (i := i2) (by omega) (by decide) dX2_copy_13 rfl (by intro j hj; simp only [va_up, if_neg hj]) (fun H locs hH hS => ?_)
        refine n_iinc (lv' := [(2, .int (nI (i2 + 1))), (0, .ref (ω.2.1 0 16)), (1, .ref (ω.2.1 0 26))]) hF.1 hF.2.1 dX2_copy_14 hl (k := 0) rfl (by decide) rfl (fun ls hl => ?_)
        refine lv_goto (tgt := 2) hF.1 hF.2.1 dX2_copy_17 (by decide) ?_
        exact ih (i2 + 1) _ _ _ _ (by omega) (by rw [it_succ (fX2_copy_16_26_b2 a) i2 _, ← hS2]; try rfl) hH hS (lv_sub hl [0, 1, 2] rfl)
  have hH : mH ω (g, y, va_up a 26 (a 26), z, kt, hs) H := m_ext (fun _ => rfl) (fun _ => rfl) (by intro k; by_cases h0 : k = 26; (subst h0; simp [va_up]); simp only [va_up, if_neg h0]) (fun _ => rfl) hH
  exact lp2_14 24 0 _ _ _ _ (by omega) rfl hH hS (lv_sub hl [0, 1, 2] rfl)

def fX2_copy_23_8_b2 (a : Nat → Nat → Int32) (i2 : Nat) (S : (Nat → Int32)) : (Nat → Int32) := upd S i2 (a 23 i2)
def fX2_copy_23_8 (a : Nat → Nat → Int32) : (Nat → Int32) := (it (fX2_copy_23_8_b2 a) 15 (a 8))
def rmX2_copy_23_8 : Room := { frames := 1, cells := 0, slots := 0, locals := 24 }
theorem hdX2_copy_23_8 : yX2_copy.cls = RX2 ∧ yX2_copy.cls ≠ "java/lang/invoke/MethodHandle" ∧ yX2_copy.cls ≠ "java/lang/invoke/VarHandle" ∧ (parseMethodDescriptor yX2_copy.desc).map (fun d => d.parameters.length) = some 2 := by decide +kernel
set_option maxHeartbeats 4000000 in
theorem kX2_copy_23_8 (l : Launch) (ω : OM) (g : Nat → Nat) (y : Nat → Int32) (a z : Nat → Nat → Int32) (kt : Int32) (hs : Int64) : Met l yX2_copy (ws_ yX2_copy cX2_copy 3 none) rmX2_copy_23_8 (va_Pc [.ref (ω.2.1 0 23), .ref (ω.2.1 0 8)] (fun U => mK ω U ∧ mH ω (g, y, a, z, kt, hs) U.heap)) (va_Qv (fun (u : MS) => ∃ (o0 : Nat → Int32), o0 = (fX2_copy_23_8 a) ∧ u = (g, y, va_up a 8 o0, z, kt, hs)) (fun u t => mH ω u t.heap) ω.2.2.1) 0 0 ω.2.2.1 := by
  refine g_entWv (C := RX2) rfl (by decide) (Nat.le_of_ble_eq_true rfl) ?_
  intro p e s m args below meth c QQ ls H locs hF hK hH hS hl hret
  have hl : lv_has ls 3 [(0, .ref (ω.2.1 0 23)), (1, .ref (ω.2.1 0 8))] := hl
  refine lv_iconst (v := nI 0) hF.1 hF.2.1 dX2_copy_0 (by decide) ?_
  refine lv_istore_n (lv' := [(2, .int (nI 0)), (0, .ref (ω.2.1 0 23)), (1, .ref (ω.2.1 0 8))]) hF.1 hF.2.1 dX2_copy_1 rfl hl (by decide) rfl (fun ls hl => ?_)
  have lp2_16 : ∀ (d2 i2 : Nat) (w2_a8 : Nat → Int32) (H : Heap) (locs : List Loc) (ls : Array Slot), i2 + d2 = 15 → w2_a8 = it (fX2_copy_23_8_b2 a) i2 (a 8) → mH ω (g, y, va_up a 8 w2_a8, z, kt, hs) H → va_S ω.2.2.1 s.heap H locs → lv_has ls 3 [(2, .int (nI i2)), (0, .ref (ω.2.1 0 23)), (1, .ref (ω.2.1 0 8))] → W p l e rmX2_copy_23_8 s m args below meth c H locs 0 0 QQ (F0 m 2 ls []) := by
    intro d2
    induction d2 with
    | zero =>
      intro i2 w2_a8 H locs ls hi2 hS2 hH hS hl
      have hj2 : 15 = i2 := by omega
      subst hj2
      have e_w2_a8 := hS2
      refine lv_iload_n hF.1 hF.2.1 dX2_copy_2 rfl (lv_at hl 0 rfl) ?_
      refine lv_aload_n hF.1 hF.2.1 dX2_copy_3 rfl (lv_at hl 1 rfl) ?_
      refine m_len hF hK hH 23 (n := 15) rfl rfl (by decide) dX2_copy_4 ?_
      refine n_ge (tgt := 20) hF.1 hF.2.1 dX2_copy_5 (by decide) (by omega) (by omega) (fun c1 => ?_) (fun c1 => ?_)
      · skip
        exact hret _ _ _ _ _ dX2_copy_20 ⟨_, by subst e_w2_a8; rfl, rfl⟩ hH hS
      · exact absurd (by omega) c1
    | succ d2 ih =>
      intro i2 w2_a8 H locs ls hi2 hS2 hH hS hl
      refine lv_iload_n hF.1 hF.2.1 dX2_copy_2 rfl (lv_at hl 0 rfl) ?_
      refine lv_aload_n hF.1 hF.2.1 dX2_copy_3 rfl (lv_at hl 1 rfl) ?_
      refine m_len hF hK hH 23 (n := 15) rfl rfl (by decide) dX2_copy_4 ?_
      refine n_ge (tgt := 20) hF.1 hF.2.1 dX2_copy_5 (by decide) (by omega) (by omega) (fun c2 => ?_) (fun c2 => ?_)
      · exact absurd c2 (by omega)
      · skip
        refine lv_aload_n hF.1 hF.2.1 dX2_copy_8 rfl (lv_at hl 2 rfl) ?_
        refine lv_iload_n hF.1 hF.2.1 dX2_copy_9 rfl (lv_at hl 0 rfl) ?_
        refine lv_aload_n hF.1 hF.2.1 dX2_copy_10 rfl (lv_at hl 1 rfl) ?_
        refine lv_iload_n hF.1 hF.2.1 dX2_copy_11 rfl (lv_at hl 0 rfl) ?_
        refine m_ald hF hK hH 23 (n := 15) rfl rfl (by decide) rfl (f := a 23) rfl (i := i2) (by omega) (by decide) dX2_copy_12 ?_
        refine m_ast (a' := va_up a 8 (upd w2_a8 i2 (a 23 i2))) hF hK hH hS 8 (n := 15) rfl rfl (by decide) rfl (f := w2_a8) rfl (i := i2) (by omega) (by decide) dX2_copy_13 rfl (by intro j hj; simp only [va_up, if_neg hj]) (fun H locs hH hS => ?_)
        refine n_iinc (lv' := [(2, .int (nI (i2 + 1))), (0, .ref (ω.2.1 0 23)), (1, .ref (ω.2.1 0 8))]) hF.1 hF.2.1 dX2_copy_14 hl (k := 0) rfl (by decide) rfl (fun ls hl => ?_)
        refine lv_goto (tgt := 2) hF.1 hF.2.1 dX2_copy_17 (by decide) ?_
        exact ih (i2 + 1) _ _ _ _ (by omega) (by rw [it_succ (fX2_copy_23_8_b2 a) i2 _, ← hS2]; try rfl) hH hS (lv_sub hl [0, 1, 2] rfl)
  have hH : mH ω (g, y, va_up a 8 (a 8), z, kt, hs) H := m_ext (fun _ => rfl) (fun _ => rfl) (by intro k; by_cases h0 : k = 8; (subst h0; simp [va_up]); simp only [va_up, if_neg h0]) (fun _ => rfl) hH
  exact lp2_16 15 0 _ _ _ _ (by omega) rfl hH hS (lv_sub hl [0, 1, 2] rfl)

def fX2_copy_24_9_b2 (a : Nat → Nat → Int32) (i2 : Nat) (S : (Nat → Int32)) : (Nat → Int32) := upd S i2 (a 24 i2)
def fX2_copy_24_9 (a : Nat → Nat → Int32) : (Nat → Int32) := (it (fX2_copy_24_9_b2 a) 27 (a 9))
def rmX2_copy_24_9 : Room := { frames := 1, cells := 0, slots := 0, locals := 24 }
theorem hdX2_copy_24_9 : yX2_copy.cls = RX2 ∧ yX2_copy.cls ≠ "java/lang/invoke/MethodHandle" ∧ yX2_copy.cls ≠ "java/lang/invoke/VarHandle" ∧ (parseMethodDescriptor yX2_copy.desc).map (fun d => d.parameters.length) = some 2 := by decide +kernel
set_option maxHeartbeats 4000000 in
theorem kX2_copy_24_9 (l : Launch) (ω : OM) (g : Nat → Nat) (y : Nat → Int32) (a z : Nat → Nat → Int32) (kt : Int32) (hs : Int64) : Met l yX2_copy (ws_ yX2_copy cX2_copy 3 none) rmX2_copy_24_9 (va_Pc [.ref (ω.2.1 0 24), .ref (ω.2.1 0 9)] (fun U => mK ω U ∧ mH ω (g, y, a, z, kt, hs) U.heap)) (va_Qv (fun (u : MS) => ∃ (o0 : Nat → Int32), o0 = (fX2_copy_24_9 a) ∧ u = (g, y, va_up a 9 o0, z, kt, hs)) (fun u t => mH ω u t.heap) ω.2.2.1) 0 0 ω.2.2.1 := by
  refine g_entWv (C := RX2) rfl (by decide) (Nat.le_of_ble_eq_true rfl) ?_
  intro p e s m args below meth c QQ ls H locs hF hK hH hS hl hret
  have hl : lv_has ls 3 [(0, .ref (ω.2.1 0 24)), (1, .ref (ω.2.1 0 9))] := hl
  refine lv_iconst (v := nI 0) hF.1 hF.2.1 dX2_copy_0 (by decide) ?_
  refine lv_istore_n (lv' := [(2, .int (nI 0)), (0, .ref (ω.2.1 0 24)), (1, .ref (ω.2.1 0 9))]) hF.1 hF.2.1 dX2_copy_1 rfl hl (by decide) rfl (fun ls hl => ?_)
  have lp2_18 : ∀ (d2 i2 : Nat) (w2_a9 : Nat → Int32) (H : Heap) (locs : List Loc) (ls : Array Slot), i2 + d2 = 27 → w2_a9 = it (fX2_copy_24_9_b2 a) i2 (a 9) → mH ω (g, y, va_up a 9 w2_a9, z, kt, hs) H → va_S ω.2.2.1 s.heap H locs → lv_has ls 3 [(2, .int (nI i2)), (0, .ref (ω.2.1 0 24)), (1, .ref (ω.2.1 0 9))] → W p l e rmX2_copy_24_9 s m args below meth c H locs 0 0 QQ (F0 m 2 ls []) := by
    intro d2
    induction d2 with
    | zero =>
      intro i2 w2_a9 H locs ls hi2 hS2 hH hS hl
      have hj2 : 27 = i2 := by omega
      subst hj2
      have e_w2_a9 := hS2
      refine lv_iload_n hF.1 hF.2.1 dX2_copy_2 rfl (lv_at hl 0 rfl) ?_
      refine lv_aload_n hF.1 hF.2.1 dX2_copy_3 rfl (lv_at hl 1 rfl) ?_
      refine m_len hF hK hH 24 (n := 27) rfl rfl (by decide) dX2_copy_4 ?_
      refine n_ge (tgt := 20) hF.1 hF.2.1 dX2_copy_5 (by decide) (by omega) (by omega) (fun c1 => ?_) (fun c1 => ?_)
      · skip
        exact hret _ _ _ _ _ dX2_copy_20 ⟨_, by subst e_w2_a9; rfl, rfl⟩ hH hS
      · exact absurd (by omega) c1
    | succ d2 ih =>
      intro i2 w2_a9 H locs ls hi2 hS2 hH hS hl
      refine lv_iload_n hF.1 hF.2.1 dX2_copy_2 rfl (lv_at hl 0 rfl) ?_
      refine lv_aload_n hF.1 hF.2.1 dX2_copy_3 rfl (lv_at hl 1 rfl) ?_
      refine m_len hF hK hH 24 (n := 27) rfl rfl (by decide) dX2_copy_4 ?_
      refine n_ge (tgt := 20) hF.1 hF.2.1 dX2_copy_5 (by decide) (by omega) (by omega) (fun c2 => ?_) (fun c2 => ?_)
      · exact absurd c2 (by omega)
      · skip
        refine lv_aload_n hF.1 hF.2.1 dX2_copy_8 rfl (lv_at hl 2 rfl) ?_
        refine lv_iload_n hF.1 hF.2.1 dX2_copy_9 rfl (lv_at hl 0 rfl) ?_
        refine lv_aload_n hF.1 hF.2.1 dX2_copy_10 rfl (lv_at hl 1 rfl) ?_
        refine lv_iload_n hF.1 hF.2.1 dX2_copy_11 rfl (lv_at hl 0 rfl) ?_
        refine m_ald hF hK hH 24 (n := 27) rfl rfl (by decide) rfl (f := a 24) rfl (i := i2) (by omega) (by decide) dX2_copy_12 ?_
        refine m_ast (a' := va_up a 9 (upd w2_a9 i2 (a 24 i2))) hF hK hH hS 9 (n := 27) rfl rfl (by decide) rfl (f := w2_a9) rfl (i := i2) (by omega) (by decide) dX2_copy_13 rfl (by intro j hj; simp only [va_up, if_neg hj]) (fun H locs hH hS => ?_)
        refine n_iinc (lv' := [(2, .int (nI (i2 + 1))), (0, .ref (ω.2.1 0 24)), (1, .ref (ω.2.1 0 9))]) hF.1 hF.2.1 dX2_copy_14 hl (k := 0) rfl (by decide) rfl (fun ls hl => ?_)
        refine lv_goto (tgt := 2) hF.1 hF.2.1 dX2_copy_17 (by decide) ?_
        exact ih (i2 + 1) _ _ _ _ (by omega) (by rw [it_succ (fX2_copy_24_9_b2 a) i2 _, ← hS2]; try rfl) hH hS (lv_sub hl [0, 1, 2] rfl)
  have hH : mH ω (g, y, va_up a 9 (a 9), z, kt, hs) H := m_ext (fun _ => rfl) (fun _ => rfl) (by intro k; by_cases h0 : k = 9; (subst h0; simp [va_up]); simp only [va_up, if_neg h0]) (fun _ => rfl) hH
  exact lp2_18 27 0 _ _ _ _ (by omega) rfl hH hS (lv_sub hl [0, 1, 2] rfl)

def fX2_copy_25_10_b2 (a : Nat → Nat → Int32) (i2 : Nat) (S : (Nat → Int32)) : (Nat → Int32) := upd S i2 (a 25 i2)
def fX2_copy_25_10 (a : Nat → Nat → Int32) : (Nat → Int32) := (it (fX2_copy_25_10_b2 a) 6 (a 10))
def rmX2_copy_25_10 : Room := { frames := 1, cells := 0, slots := 0, locals := 24 }
theorem hdX2_copy_25_10 : yX2_copy.cls = RX2 ∧ yX2_copy.cls ≠ "java/lang/invoke/MethodHandle" ∧ yX2_copy.cls ≠ "java/lang/invoke/VarHandle" ∧ (parseMethodDescriptor yX2_copy.desc).map (fun d => d.parameters.length) = some 2 := by decide +kernel
set_option maxHeartbeats 4000000 in
theorem kX2_copy_25_10 (l : Launch) (ω : OM) (g : Nat → Nat) (y : Nat → Int32) (a z : Nat → Nat → Int32) (kt : Int32) (hs : Int64) : Met l yX2_copy (ws_ yX2_copy cX2_copy 3 none) rmX2_copy_25_10 (va_Pc [.ref (ω.2.1 0 25), .ref (ω.2.1 0 10)] (fun U => mK ω U ∧ mH ω (g, y, a, z, kt, hs) U.heap)) (va_Qv (fun (u : MS) => ∃ (o0 : Nat → Int32), o0 = (fX2_copy_25_10 a) ∧ u = (g, y, va_up a 10 o0, z, kt, hs)) (fun u t => mH ω u t.heap) ω.2.2.1) 0 0 ω.2.2.1 := by
  refine g_entWv (C := RX2) rfl (by decide) (Nat.le_of_ble_eq_true rfl) ?_
  intro p e s m args below meth c QQ ls H locs hF hK hH hS hl hret
  have hl : lv_has ls 3 [(0, .ref (ω.2.1 0 25)), (1, .ref (ω.2.1 0 10))] := hl
  refine lv_iconst (v := nI 0) hF.1 hF.2.1 dX2_copy_0 (by decide) ?_
  refine lv_istore_n (lv' := [(2, .int (nI 0)), (0, .ref (ω.2.1 0 25)), (1, .ref (ω.2.1 0 10))]) hF.1 hF.2.1 dX2_copy_1 rfl hl (by decide) rfl (fun ls hl => ?_)
  have lp2_20 : ∀ (d2 i2 : Nat) (w2_a10 : Nat → Int32) (H : Heap) (locs : List Loc) (ls : Array Slot), i2 + d2 = 6 → w2_a10 = it (fX2_copy_25_10_b2 a) i2 (a 10) → mH ω (g, y, va_up a 10 w2_a10, z, kt, hs) H → va_S ω.2.2.1 s.heap H locs → lv_has ls 3 [(2, .int (nI i2)), (0, .ref (ω.2.1 0 25)), (1, .ref (ω.2.1 0 10))] → W p l e rmX2_copy_25_10 s m args below meth c H locs 0 0 QQ (F0 m 2 ls []) := by
    intro d2
    induction d2 with
    | zero =>
      intro i2 w2_a10 H locs ls hi2 hS2 hH hS hl
      have hj2 : 6 = i2 := by omega
      subst hj2
      have e_w2_a10 := hS2
      refine lv_iload_n hF.1 hF.2.1 dX2_copy_2 rfl (lv_at hl 0 rfl) ?_
      refine lv_aload_n hF.1 hF.2.1 dX2_copy_3 rfl (lv_at hl 1 rfl) ?_
      refine m_len hF hK hH 25 (n := 6) rfl rfl (by decide) dX2_copy_4 ?_
      refine n_ge (tgt := 20) hF.1 hF.2.1 dX2_copy_5 (by decide) (by omega) (by omega) (fun c1 => ?_) (fun c1 => ?_)
      · skip
        exact hret _ _ _ _ _ dX2_copy_20 ⟨_, by subst e_w2_a10; rfl, rfl⟩ hH hS
      · exact absurd (by omega) c1
    | succ d2 ih =>
      intro i2 w2_a10 H locs ls hi2 hS2 hH hS hl
      refine lv_iload_n hF.1 hF.2.1 dX2_copy_2 rfl (lv_at hl 0 rfl) ?_
      refine lv_aload_n hF.1 hF.2.1 dX2_copy_3 rfl (lv_at hl 1 rfl) ?_
      refine m_len hF hK hH 25 (n := 6) rfl rfl (by decide) dX2_copy_4 ?_
      refine n_ge (tgt := 20) hF.1 hF.2.1 dX2_copy_5 (by decide) (by omega) (by omega) (fun c2 => ?_) (fun c2 => ?_)
      · exact absurd c2 (by omega)
      · skip
        refine lv_aload_n hF.1 hF.2.1 dX2_copy_8 rfl (lv_at hl 2 rfl) ?_
        refine lv_iload_n hF.1 hF.2.1 dX2_copy_9 rfl (lv_at hl 0 rfl) ?_
        refine lv_aload_n hF.1 hF.2.1 dX2_copy_10 rfl (lv_at hl 1 rfl) ?_
        refine lv_iload_n hF.1 hF.2.1 dX2_copy_11 rfl (lv_at hl 0 rfl) ?_
        refine m_ald hF hK hH 25 (n := 6) rfl rfl (by decide) rfl (f := a 25) rfl (i := i2) (by omega) (by decide) dX2_copy_12 ?_
        refine m_ast (a' := va_up a 10 (upd w2_a10 i2 (a 25 i2))) hF hK hH hS 10 (n := 6) rfl rfl (by decide) rfl (f := w2_a10) rfl (i := i2) (by omega) (by decide) dX2_copy_13 rfl (by intro j hj; simp only [va_up, if_neg hj]) (fun H locs hH hS => ?_)
        refine n_iinc (lv' := [(2, .int (nI (i2 + 1))), (0, .ref (ω.2.1 0 25)), (1, .ref (ω.2.1 0 10))]) hF.1 hF.2.1 dX2_copy_14 hl (k := 0) rfl (by decide) rfl (fun ls hl => ?_)
        refine lv_goto (tgt := 2) hF.1 hF.2.1 dX2_copy_17 (by decide) ?_
        exact ih (i2 + 1) _ _ _ _ (by omega) (by rw [it_succ (fX2_copy_25_10_b2 a) i2 _, ← hS2]; try rfl) hH hS (lv_sub hl [0, 1, 2] rfl)
  have hH : mH ω (g, y, va_up a 10 (a 10), z, kt, hs) H := m_ext (fun _ => rfl) (fun _ => rfl) (by intro k; by_cases h0 : k = 10; (subst h0; simp [va_up]); simp only [va_up, if_neg h0]) (fun _ => rfl) hH
  exact lp2_20 6 0 _ _ _ _ (by omega) rfl hH hS (lv_sub hl [0, 1, 2] rfl)

def fX2_copy_26_16_b2 (a : Nat → Nat → Int32) (i2 : Nat) (S : (Nat → Int32)) : (Nat → Int32) := upd S i2 (a 26 i2)
def fX2_copy_26_16 (a : Nat → Nat → Int32) : (Nat → Int32) := (it (fX2_copy_26_16_b2 a) 24 (a 16))
def rmX2_copy_26_16 : Room := { frames := 1, cells := 0, slots := 0, locals := 24 }
theorem hdX2_copy_26_16 : yX2_copy.cls = RX2 ∧ yX2_copy.cls ≠ "java/lang/invoke/MethodHandle" ∧ yX2_copy.cls ≠ "java/lang/invoke/VarHandle" ∧ (parseMethodDescriptor yX2_copy.desc).map (fun d => d.parameters.length) = some 2 := by decide +kernel
set_option maxHeartbeats 4000000 in
theorem kX2_copy_26_16 (l : Launch) (ω : OM) (g : Nat → Nat) (y : Nat → Int32) (a z : Nat → Nat → Int32) (kt : Int32) (hs : Int64) : Met l yX2_copy (ws_ yX2_copy cX2_copy 3 none) rmX2_copy_26_16 (va_Pc [.ref (ω.2.1 0 26), .ref (ω.2.1 0 16)] (fun U => mK ω U ∧ mH ω (g, y, a, z, kt, hs) U.heap)) (va_Qv (fun (u : MS) => ∃ (o0 : Nat → Int32), o0 = (fX2_copy_26_16 a) ∧ u = (g, y, va_up a 16 o0, z, kt, hs)) (fun u t => mH ω u t.heap) ω.2.2.1) 0 0 ω.2.2.1 := by
  refine g_entWv (C := RX2) rfl (by decide) (Nat.le_of_ble_eq_true rfl) ?_
  intro p e s m args below meth c QQ ls H locs hF hK hH hS hl hret
  have hl : lv_has ls 3 [(0, .ref (ω.2.1 0 26)), (1, .ref (ω.2.1 0 16))] := hl
  refine lv_iconst (v := nI 0) hF.1 hF.2.1 dX2_copy_0 (by decide) ?_
  refine lv_istore_n (lv' := [(2, .int (nI 0)), (0, .ref (ω.2.1 0 26)), (1, .ref (ω.2.1 0 16))]) hF.1 hF.2.1 dX2_copy_1 rfl hl (by decide) rfl (fun ls hl => ?_)
  have lp2_22 : ∀ (d2 i2 : Nat) (w2_a16 : Nat → Int32) (H : Heap) (locs : List Loc) (ls : Array Slot), i2 + d2 = 24 → w2_a16 = it (fX2_copy_26_16_b2 a) i2 (a 16) → mH ω (g, y, va_up a 16 w2_a16, z, kt, hs) H → va_S ω.2.2.1 s.heap H locs → lv_has ls 3 [(2, .int (nI i2)), (0, .ref (ω.2.1 0 26)), (1, .ref (ω.2.1 0 16))] → W p l e rmX2_copy_26_16 s m args below meth c H locs 0 0 QQ (F0 m 2 ls []) := by
    intro d2
    induction d2 with
    | zero =>
      intro i2 w2_a16 H locs ls hi2 hS2 hH hS hl
      have hj2 : 24 = i2 := by omega
      subst hj2
      have e_w2_a16 := hS2
      refine lv_iload_n hF.1 hF.2.1 dX2_copy_2 rfl (lv_at hl 0 rfl) ?_
      refine lv_aload_n hF.1 hF.2.1 dX2_copy_3 rfl (lv_at hl 1 rfl) ?_
      refine m_len hF hK hH 26 (n := 24) rfl rfl (by decide) dX2_copy_4 ?_
      refine n_ge (tgt := 20) hF.1 hF.2.1 dX2_copy_5 (by decide) (by omega) (by omega) (fun c1 => ?_) (fun c1 => ?_)
      · skip
        exact hret _ _ _ _ _ dX2_copy_20 ⟨_, by subst e_w2_a16; rfl, rfl⟩ hH hS
      · exact absurd (by omega) c1
    | succ d2 ih =>
      intro i2 w2_a16 H locs ls hi2 hS2 hH hS hl
      refine lv_iload_n hF.1 hF.2.1 dX2_copy_2 rfl (lv_at hl 0 rfl) ?_
      refine lv_aload_n hF.1 hF.2.1 dX2_copy_3 rfl (lv_at hl 1 rfl) ?_
      refine m_len hF hK hH 26 (n := 24) rfl rfl (by decide) dX2_copy_4 ?_
      refine n_ge (tgt := 20) hF.1 hF.2.1 dX2_copy_5 (by decide) (by omega) (by omega) (fun c2 => ?_) (fun c2 => ?_)
      · exact absurd c2 (by omega)
      · skip
        refine lv_aload_n hF.1 hF.2.1 dX2_copy_8 rfl (lv_at hl 2 rfl) ?_
        refine lv_iload_n hF.1 hF.2.1 dX2_copy_9 rfl (lv_at hl 0 rfl) ?_
        refine lv_aload_n hF.1 hF.2.1 dX2_copy_10 rfl (lv_at hl 1 rfl) ?_
        refine lv_iload_n hF.1 hF.2.1 dX2_copy_11 rfl (lv_at hl 0 rfl) ?_
        refine m_ald hF hK hH 26 (n := 24) rfl rfl (by decide) rfl (f := a 26) rfl (i := i2) (by omega) (by decide) dX2_copy_12 ?_
        refine m_ast (a' := va_up a 16 (upd w2_a16 i2 (a 26 i2))) hF hK hH hS 16 (n := 24) rfl rfl (by decide) rfl (f := w2_a16) rfl (i := i2) (by omega) (by decide) dX2_copy_13 rfl (by intro j hj; simp only [va_up, if_neg hj]) (fun H locs hH hS => ?_)
        refine n_iinc (lv' := [(2, .int (nI (i2 + 1))), (0, .ref (ω.2.1 0 26)), (1, .ref (ω.2.1 0 16))]) hF.1 hF.2.1 dX2_copy_14 hl (k := 0) rfl (by decide) rfl (fun ls hl => ?_)
        refine lv_goto (tgt := 2) hF.1 hF.2.1 dX2_copy_17 (by decide) ?_
        exact ih (i2 + 1) _ _ _ _ (by omega) (by rw [it_succ (fX2_copy_26_16_b2 a) i2 _, ← hS2]; try rfl) hH hS (lv_sub hl [0, 1, 2] rfl)
  have hH : mH ω (g, y, va_up a 16 (a 16), z, kt, hs) H := m_ext (fun _ => rfl) (fun _ => rfl) (by intro k; by_cases h0 : k = 16; (subst h0; simp [va_up]); simp only [va_up, if_neg h0]) (fun _ => rfl) hH
  exact lp2_22 24 0 _ _ _ _ (by omega) rfl hH hS (lv_sub hl [0, 1, 2] rfl)

def fX2_kindBy (ch : Int32) : Int32 := if ch = nI 103 then nI 4 else if ch = nI 106 then nI 3 else if ch = nI 108 then nI 1 else if ch = nI 113 then nI 2 else if ch = nI 115 then nI 0 else (-1)
def rmX2_kindBy : Room := { frames := 1, cells := 0, slots := 0, locals := 24 }
theorem hdX2_kindBy : yX2_kindBy.cls = RX2 ∧ yX2_kindBy.cls ≠ "java/lang/invoke/MethodHandle" ∧ yX2_kindBy.cls ≠ "java/lang/invoke/VarHandle" ∧ (parseMethodDescriptor yX2_kindBy.desc).map (fun d => d.parameters.length) = some 1 := by decide +kernel
set_option maxHeartbeats 4000000 in
theorem kX2_kindBy (l : Launch) (ch : Int32) : Met l yX2_kindBy (ws_ yX2_kindBy cX2_kindBy 1 (some .int)) rmX2_kindBy (va_Pc [.int ch] (fun _ => True)) (vp_Si (fun r => r = (fX2_kindBy ch))) 0 0 (fun _ => False) := by
  refine g_entPi (C := RX2) rfl (by decide) (Nat.le_of_ble_eq_true rfl) ?_
  intro p e s m args below meth c QQ ls hF hKH hl hret
  have hl : lv_has ls 1 [(0, .int ch)] := hl
  refine lv_iload_n hF.1 hF.2.1 dX2_kindBy_0 rfl (lv_at hl 0 rfl) ?_
  by_cases c2 : ch = nI 103
  · skip
    refine n_top (y := nI 103) c2 ?_
    refine lv_tableIn (off := 75) (tgt := 76) hF.1 hF.2.1 dX2_kindBy_1 (by decide) (by decide) (by decide) (by decide) ?_
    refine lv_iconst (v := nI 4) hF.1 hF.2.1 dX2_kindBy_76 (by decide) ?_
    exact hret _ _ _ dX2_kindBy_77 (by unfold fX2_kindBy; first | (rw [if_pos c2]; done) | (simp only [if_pos c2]))
  by_cases c3 : ch = nI 106
  · skip
    refine n_top (y := nI 106) c3 ?_
    refine lv_tableIn (off := 73) (tgt := 74) hF.1 hF.2.1 dX2_kindBy_1 (by decide) (by decide) (by decide) (by decide) ?_
    refine lv_iconst (v := nI 3) hF.1 hF.2.1 dX2_kindBy_74 (by decide) ?_
    exact hret _ _ _ dX2_kindBy_75 (by unfold fX2_kindBy; first | (rw [if_neg c2, if_pos c3]; done) | (simp only [if_neg c2, if_pos c3]))
  by_cases c4 : ch = nI 108
  · skip
    refine n_top (y := nI 108) c4 ?_
    refine lv_tableIn (off := 69) (tgt := 70) hF.1 hF.2.1 dX2_kindBy_1 (by decide) (by decide) (by decide) (by decide) ?_
    refine lv_iconst (v := nI 1) hF.1 hF.2.1 dX2_kindBy_70 (by decide) ?_
    exact hret _ _ _ dX2_kindBy_71 (by unfold fX2_kindBy; first | (rw [if_neg c2, if_neg c3, if_pos c4]; done) | (simp only [if_neg c2, if_neg c3, if_pos c4]))
  by_cases c5 : ch = nI 113
  · skip
    refine n_top (y := nI 113) c5 ?_
    refine lv_tableIn (off := 71) (tgt := 72) hF.1 hF.2.1 dX2_kindBy_1 (by decide) (by decide) (by decide) (by decide) ?_
    refine lv_iconst (v := nI 2) hF.1 hF.2.1 dX2_kindBy_72 (by decide) ?_
    exact hret _ _ _ dX2_kindBy_73 (by unfold fX2_kindBy; first | (rw [if_neg c2, if_neg c3, if_neg c4, if_pos c5]; done) | (simp only [if_neg c2, if_neg c3, if_neg c4, if_pos c5]))
  by_cases c6 : ch = nI 115
  · skip
    refine n_top (y := nI 115) c6 ?_
    refine lv_tableIn (off := 67) (tgt := 68) hF.1 hF.2.1 dX2_kindBy_1 (by decide) (by decide) (by decide) (by decide) ?_
    refine lv_iconst (v := nI 0) hF.1 hF.2.1 dX2_kindBy_68 (by decide) ?_
    exact hret _ _ _ dX2_kindBy_69 (by unfold fX2_kindBy; first | (rw [if_neg c2, if_neg c3, if_neg c4, if_neg c5, if_pos c6]; done) | (simp only [if_neg c2, if_neg c3, if_neg c4, if_neg c5, if_pos c6]))
  have kd1 : W p l e rmX2_kindBy s m args below meth c s.heap [] 0 0 QQ (F0 m 78 ls []) := by
    skip
    refine lv_iconst (v := (-1)) hF.1 hF.2.1 dX2_kindBy_78 (by decide) ?_
    exact hret _ _ _ dX2_kindBy_79 (by unfold fX2_kindBy; first | (rw [if_neg c2, if_neg c3, if_neg c4, if_neg c5, if_neg c6]; done) | (simp only [if_neg c2, if_neg c3, if_neg c4, if_neg c5, if_neg c6]))
  by_cases hlo : ch.toInt < 103
  · exact lv_tableOut (tgt := 78) hF.1 hF.2.1 dX2_kindBy_1 (Or.inl hlo) (by decide) kd1
  by_cases hhi : 115 < ch.toInt
  · exact lv_tableOut (tgt := 78) hF.1 hF.2.1 dX2_kindBy_1 (Or.inr hhi) (by decide) kd1
  by_cases hv103 : ch.toInt = 103
  · exact absurd (Int32.toInt_inj.mp (hv103.trans (by decide)) : ch = nI 103) c2
  by_cases hv104 : ch.toInt = 104
  · exact n_top (Int32.toInt_inj.mp (hv104.trans (by decide)) : ch = nI 104) (lv_tableIn (off := 77) (tgt := 78) hF.1 hF.2.1 dX2_kindBy_1 (by decide) (by decide) (by decide) (by decide) kd1)
  by_cases hv105 : ch.toInt = 105
  · exact n_top (Int32.toInt_inj.mp (hv105.trans (by decide)) : ch = nI 105) (lv_tableIn (off := 77) (tgt := 78) hF.1 hF.2.1 dX2_kindBy_1 (by decide) (by decide) (by decide) (by decide) kd1)
  by_cases hv106 : ch.toInt = 106
  · exact absurd (Int32.toInt_inj.mp (hv106.trans (by decide)) : ch = nI 106) c3
  by_cases hv107 : ch.toInt = 107
  · exact n_top (Int32.toInt_inj.mp (hv107.trans (by decide)) : ch = nI 107) (lv_tableIn (off := 77) (tgt := 78) hF.1 hF.2.1 dX2_kindBy_1 (by decide) (by decide) (by decide) (by decide) kd1)
  by_cases hv108 : ch.toInt = 108
  · exact absurd (Int32.toInt_inj.mp (hv108.trans (by decide)) : ch = nI 108) c4
  by_cases hv109 : ch.toInt = 109
  · exact n_top (Int32.toInt_inj.mp (hv109.trans (by decide)) : ch = nI 109) (lv_tableIn (off := 77) (tgt := 78) hF.1 hF.2.1 dX2_kindBy_1 (by decide) (by decide) (by decide) (by decide) kd1)
  by_cases hv110 : ch.toInt = 110
  · exact n_top (Int32.toInt_inj.mp (hv110.trans (by decide)) : ch = nI 110) (lv_tableIn (off := 77) (tgt := 78) hF.1 hF.2.1 dX2_kindBy_1 (by decide) (by decide) (by decide) (by decide) kd1)
  by_cases hv111 : ch.toInt = 111
  · exact n_top (Int32.toInt_inj.mp (hv111.trans (by decide)) : ch = nI 111) (lv_tableIn (off := 77) (tgt := 78) hF.1 hF.2.1 dX2_kindBy_1 (by decide) (by decide) (by decide) (by decide) kd1)
  by_cases hv112 : ch.toInt = 112
  · exact n_top (Int32.toInt_inj.mp (hv112.trans (by decide)) : ch = nI 112) (lv_tableIn (off := 77) (tgt := 78) hF.1 hF.2.1 dX2_kindBy_1 (by decide) (by decide) (by decide) (by decide) kd1)
  by_cases hv113 : ch.toInt = 113
  · exact absurd (Int32.toInt_inj.mp (hv113.trans (by decide)) : ch = nI 113) c5
  by_cases hv114 : ch.toInt = 114
  · exact n_top (Int32.toInt_inj.mp (hv114.trans (by decide)) : ch = nI 114) (lv_tableIn (off := 77) (tgt := 78) hF.1 hF.2.1 dX2_kindBy_1 (by decide) (by decide) (by decide) (by decide) kd1)
  by_cases hv115 : ch.toInt = 115
  · exact absurd (Int32.toInt_inj.mp (hv115.trans (by decide)) : ch = nI 115) c6
  exfalso
  omega

def fX2_isStreetLetter (a : Nat → Nat → Int32) (at_ : Nat) (bh : Nat) : Int32 := if (bh % 5) = 0 then if (fX2_kindBy (a 0 at_)) = (-1) then nI 0 else nI 1 else if (bh % 5) = 1 then (fX2_in ((a 0 at_).toInt64) 48 55) else if (bh % 5) = 2 then if (fX2_in ((a 0 at_).toInt64) 48 55) = 0 then nI 0 else if (a 0 at_) = (a 0 (at_ - 1)) then nI 0 else nI 1 else if (bh % 5) = 3 then (fX2_in ((a 0 at_).toInt64) 49 57) else if (a 0 at_) = (nI 44) then if 44 ≤ bh then nI 0 else nI 1 else nI 0
theorem fX2_isStreetLetter_b (a : Nat → Nat → Int32) (at_ : Nat) (bh : Nat) : (fX2_isStreetLetter a at_ bh) = 0 ∨ (fX2_isStreetLetter a at_ bh) = 1 := by
  unfold fX2_isStreetLetter
  exact (g_ite (g_ite (Or.inl nI_0) (Or.inr rfl)) (g_ite (fX2_in_b ..) (g_ite (g_ite (Or.inl nI_0) (g_ite (Or.inl nI_0) (Or.inr rfl))) (g_ite (fX2_in_b ..) (g_ite (g_ite (Or.inl nI_0) (Or.inr rfl)) (Or.inl nI_0))))))
def rmX2_isStreetLetter : Room := { frames := 2, cells := 0, slots := 0, locals := 49 }
theorem hdX2_isStreetLetter : yX2_isStreetLetter.cls = RX2 ∧ yX2_isStreetLetter.cls ≠ "java/lang/invoke/MethodHandle" ∧ yX2_isStreetLetter.cls ≠ "java/lang/invoke/VarHandle" ∧ (parseMethodDescriptor yX2_isStreetLetter.desc).map (fun d => d.parameters.length) = some 2 := by decide +kernel
set_option maxHeartbeats 4000000 in
theorem kX2_isStreetLetter (l : Launch) (ω : OM) (g : Nat → Nat) (y : Nat → Int32) (a z : Nat → Nat → Int32) (kt : Int32) (hs : Int64) (at_ : Nat) (bh : Nat) (hat : at_ < 50) (hbh : bh + 1 ≤ at_) : Met l yX2_isStreetLetter (ws_ yX2_isStreetLetter cX2_isStreetLetter 4 (some .boolean)) rmX2_isStreetLetter (va_Pc [.ref (ω.2.1 0 99), .int (nI at_), .int (nI bh)] (fun U => mK ω U ∧ mH ω (g, y, a, z, kt, hs) U.heap)) (vp_Si (fun r => r = (fX2_isStreetLetter a at_ bh))) 0 0 (fun _ => False) := by
  refine g_entPz (C := RX2) rfl (by decide) (Nat.le_of_ble_eq_true rfl) ?_
  intro p e s m args below meth c QQ ls hF hKH hl hret
  have hl : lv_has ls 4 [(0, .ref (ω.2.1 0 99)), (1, .int (nI at_)), (2, .int (nI bh))] := hl
  obtain ⟨hK, hH⟩ := hKH
  refine lv_aload_n hF.1 hF.2.1 dX2_isStreetLetter_0 rfl (lv_at hl 0 rfl) ?_
  refine mg_0 hF hK hH q971 dX2_isStreetLetter_1 ?_
  refine lv_iload_n hF.1 hF.2.1 dX2_isStreetLetter_4 rfl (lv_at hl 1 rfl) ?_
  refine m_ald hF hK hH 0 (n := 50) rfl rfl (by decide) rfl (f := a 0) rfl (i := at_) (by omega) (by decide) dX2_isStreetLetter_5 ?_
  refine lv_istore_n (lv' := [(3, .int (a 0 at_)), (0, .ref (ω.2.1 0 99)), (1, .int (nI at_)), (2, .int (nI bh))]) hF.1 hF.2.1 dX2_isStreetLetter_6 rfl hl (by decide) rfl (fun ls hl => ?_)
  refine lv_iload_n hF.1 hF.2.1 dX2_isStreetLetter_7 rfl (lv_at hl 3 rfl) ?_
  refine lv_iconst (v := nI 5) hF.1 hF.2.1 dX2_isStreetLetter_8 (by decide) ?_
  refine n_irem hF.1 hF.2.1 dX2_isStreetLetter_9 (by omega) (by omega) (by omega) ?_
  by_cases c2 : (bh % 5) = 0
  · skip
    refine n_top (y := nI 0) (by rw [c2]) ?_
    refine lv_tableIn (off := 30) (tgt := 40) hF.1 hF.2.1 dX2_isStreetLetter_10 (by decide) (by decide) (by decide) (by decide) ?_
    refine lv_iload_n hF.1 hF.2.1 dX2_isStreetLetter_40 rfl (lv_at hl 0 rfl) ?_
    refine g_sPi (As := [.int (a 0 at_)]) (rest := []) hF (kX2_kindBy l (a 0 at_)) (lw_S q1084 q1085 q97 q1086) 1 hdX2_kindBy.2 rfl rfl ⟨Nat.le_of_ble_eq_true rfl, Nat.le_of_ble_eq_true rfl⟩ g_pre0 rfl hl.1 rfl (Nat.le_of_ble_eq_true rfl) dX2_isStreetLetter_41 ⟨Nat.zero_le _, Nat.zero_le _⟩ (fun r3 e_r3 => ?_)
    refine lv_iconst (v := (-1)) hF.1 hF.2.1 dX2_isStreetLetter_44 (by decide) ?_
    refine lv_icmp_eq (tgt := 52) hF.1 hF.2.1 dX2_isStreetLetter_45 (by decide) (fun c4 => ?_) (fun c4 => ?_)
    · skip
      refine lv_iconst (v := nI 0) hF.1 hF.2.1 dX2_isStreetLetter_52 (by decide) ?_
      exact hret _ _ _ dX2_isStreetLetter_53 (by subst e_r3; unfold fX2_isStreetLetter; first | (rw [if_pos c2, if_pos c4]; done) | (simp only [if_pos c2, if_pos c4])) (by subst e_r3; exact (Or.inl nI_0))
    · skip
      refine lv_iconst (v := nI 1) hF.1 hF.2.1 dX2_isStreetLetter_48 (by decide) ?_
      refine lv_goto (tgt := 53) hF.1 hF.2.1 dX2_isStreetLetter_49 (by decide) ?_
      exact hret _ _ _ dX2_isStreetLetter_53 (by subst e_r3; unfold fX2_isStreetLetter; first | (rw [if_pos c2, if_neg c4]; done) | (simp only [if_pos c2, if_neg c4])) (by subst e_r3; exact (Or.inr rfl))
  by_cases c5 : (bh % 5) = 1
  · skip
    refine n_top (y := nI 1) (by rw [c5]) ?_
    refine lv_tableIn (off := 44) (tgt := 54) hF.1 hF.2.1 dX2_isStreetLetter_10 (by decide) (by decide) (by decide) (by decide) ?_
    refine lv_iload_n hF.1 hF.2.1 dX2_isStreetLetter_54 rfl (lv_at hl 0 rfl) ?_
    refine lv_i2l (v := (a 0 at_).toInt64) hF.1 hF.2.1 dX2_isStreetLetter_55 rfl ?_
    refine lv_ldc2 (v := 48) hF.1 hF.2.1 hF.2.2.2.1 (hF.2.2.2.2 _ q1087) dX2_isStreetLetter_56 ?_
    refine lv_ldc2 (v := 55) hF.1 hF.2.1 hF.2.2.2.1 (hF.2.2.2.2 _ q1088) dX2_isStreetLetter_59 ?_
    refine g_sPi (As := [.long ((a 0 at_).toInt64), .long 48, .long 55]) (rest := []) hF (kX2_in l ((a 0 at_).toInt64) 48 55) (lw_S q1061 q1062 q97 q1063) 3 hdX2_in.2 rfl rfl ⟨Nat.le_of_ble_eq_true rfl, Nat.le_of_ble_eq_true rfl⟩ g_pre0 rfl hl.1 rfl (Nat.le_of_ble_eq_true rfl) dX2_isStreetLetter_62 ⟨Nat.zero_le _, Nat.zero_le _⟩ (fun r6 e_r6 => ?_)
    exact hret _ _ _ dX2_isStreetLetter_65 (by subst e_r6; unfold fX2_isStreetLetter; first | (rw [if_neg c2, if_pos c5]; done) | (simp only [if_neg c2, if_pos c5])) (by subst e_r6; exact (fX2_in_b ..))
  by_cases c7 : (bh % 5) = 2
  · skip
    refine n_top (y := nI 2) (by rw [c7]) ?_
    refine lv_tableIn (off := 56) (tgt := 66) hF.1 hF.2.1 dX2_isStreetLetter_10 (by decide) (by decide) (by decide) (by decide) ?_
    refine lv_iload_n hF.1 hF.2.1 dX2_isStreetLetter_66 rfl (lv_at hl 0 rfl) ?_
    refine lv_i2l (v := (a 0 at_).toInt64) hF.1 hF.2.1 dX2_isStreetLetter_67 rfl ?_
    refine lv_ldc2 (v := 48) hF.1 hF.2.1 hF.2.2.2.1 (hF.2.2.2.2 _ q1087) dX2_isStreetLetter_68 ?_
    refine lv_ldc2 (v := 55) hF.1 hF.2.1 hF.2.2.2.1 (hF.2.2.2.2 _ q1088) dX2_isStreetLetter_71 ?_
    refine g_sPi (As := [.long ((a 0 at_).toInt64), .long 48, .long 55]) (rest := []) hF (kX2_in l ((a 0 at_).toInt64) 48 55) (lw_S q1061 q1062 q97 q1063) 3 hdX2_in.2 rfl rfl ⟨Nat.le_of_ble_eq_true rfl, Nat.le_of_ble_eq_true rfl⟩ g_pre0 rfl hl.1 rfl (Nat.le_of_ble_eq_true rfl) dX2_isStreetLetter_74 ⟨Nat.zero_le _, Nat.zero_le _⟩ (fun r8 e_r8 => ?_)
    refine lv_if_eq (tgt := 96) hF.1 hF.2.1 dX2_isStreetLetter_77 (by decide) (fun c9 => ?_) (fun c9 => ?_)
    · skip
      refine lv_iconst (v := nI 0) hF.1 hF.2.1 dX2_isStreetLetter_96 (by decide) ?_
      exact hret _ _ _ dX2_isStreetLetter_97 (by subst e_r8; unfold fX2_isStreetLetter; first | (rw [if_neg c2, if_neg c5, if_pos c7, if_pos c9]; done) | (simp only [if_neg c2, if_neg c5, if_pos c7, if_pos c9])) (by subst e_r8; exact (Or.inl nI_0))
    · skip
      refine lv_iload_n hF.1 hF.2.1 dX2_isStreetLetter_80 rfl (lv_at hl 0 rfl) ?_
      refine lv_aload_n hF.1 hF.2.1 dX2_isStreetLetter_81 rfl (lv_at hl 1 rfl) ?_
      refine mg_0 hF hK hH q971 dX2_isStreetLetter_82 ?_
      refine lv_iload_n hF.1 hF.2.1 dX2_isStreetLetter_85 rfl (lv_at hl 2 rfl) ?_
      refine lv_iconst (v := nI 1) hF.1 hF.2.1 dX2_isStreetLetter_86 (by decide) ?_
      refine n_isub hF.1 hF.2.1 dX2_isStreetLetter_87 (by omega) ?_
      refine m_ald hF hK hH 0 (n := 50) rfl rfl (by decide) rfl (f := a 0) rfl (i := at_ - 1) (by omega) (by decide) dX2_isStreetLetter_88 ?_
      refine lv_icmp_eq (tgt := 96) hF.1 hF.2.1 dX2_isStreetLetter_89 (by decide) (fun c10 => ?_) (fun c10 => ?_)
      · skip
        refine lv_iconst (v := nI 0) hF.1 hF.2.1 dX2_isStreetLetter_96 (by decide) ?_
        exact hret _ _ _ dX2_isStreetLetter_97 (by subst e_r8; unfold fX2_isStreetLetter; first | (rw [if_neg c2, if_neg c5, if_pos c7, if_neg c9, if_pos c10]; done) | (simp only [if_neg c2, if_neg c5, if_pos c7, if_neg c9, if_pos c10])) (by subst e_r8; exact (Or.inl nI_0))
      · skip
        refine lv_iconst (v := nI 1) hF.1 hF.2.1 dX2_isStreetLetter_92 (by decide) ?_
        refine lv_goto (tgt := 97) hF.1 hF.2.1 dX2_isStreetLetter_93 (by decide) ?_
        exact hret _ _ _ dX2_isStreetLetter_97 (by subst e_r8; unfold fX2_isStreetLetter; first | (rw [if_neg c2, if_neg c5, if_pos c7, if_neg c9, if_neg c10]; done) | (simp only [if_neg c2, if_neg c5, if_pos c7, if_neg c9, if_neg c10])) (by subst e_r8; exact (Or.inr rfl))
  by_cases c11 : (bh % 5) = 3
  · skip
    refine n_top (y := nI 3) (by rw [c11]) ?_
    refine lv_tableIn (off := 88) (tgt := 98) hF.1 hF.2.1 dX2_isStreetLetter_10 (by decide) (by decide) (by decide) (by decide) ?_
    refine lv_iload_n hF.1 hF.2.1 dX2_isStreetLetter_98 rfl (lv_at hl 0 rfl) ?_
    refine lv_i2l (v := (a 0 at_).toInt64) hF.1 hF.2.1 dX2_isStreetLetter_99 rfl ?_
    refine lv_ldc2 (v := 49) hF.1 hF.2.1 hF.2.2.2.1 (hF.2.2.2.2 _ q1089) dX2_isStreetLetter_100 ?_
    refine lv_ldc2 (v := 57) hF.1 hF.2.1 hF.2.2.2.1 (hF.2.2.2.2 _ q1090) dX2_isStreetLetter_103 ?_
    refine g_sPi (As := [.long ((a 0 at_).toInt64), .long 49, .long 57]) (rest := []) hF (kX2_in l ((a 0 at_).toInt64) 49 57) (lw_S q1061 q1062 q97 q1063) 3 hdX2_in.2 rfl rfl ⟨Nat.le_of_ble_eq_true rfl, Nat.le_of_ble_eq_true rfl⟩ g_pre0 rfl hl.1 rfl (Nat.le_of_ble_eq_true rfl) dX2_isStreetLetter_106 ⟨Nat.zero_le _, Nat.zero_le _⟩ (fun r12 e_r12 => ?_)
    exact hret _ _ _ dX2_isStreetLetter_109 (by subst e_r12; unfold fX2_isStreetLetter; first | (rw [if_neg c2, if_neg c5, if_neg c7, if_pos c11]; done) | (simp only [if_neg c2, if_neg c5, if_neg c7, if_pos c11])) (by subst e_r12; exact (fX2_in_b ..))
  have kd1 : W p l e rmX2_isStreetLetter s m args below meth c s.heap [] 0 0 QQ (F0 m 110 ls []) := by
    skip
    refine lv_iload_n hF.1 hF.2.1 dX2_isStreetLetter_110 rfl (lv_at hl 0 rfl) ?_
    refine lv_bipush (v := nI 44) hF.1 hF.2.1 dX2_isStreetLetter_111 (by decide) ?_
    refine lv_icmp_ne (tgt := 126) hF.1 hF.2.1 dX2_isStreetLetter_113 (by decide) (fun c13 => ?_) (fun c13 => ?_)
    · skip
      refine lv_iconst (v := nI 0) hF.1 hF.2.1 dX2_isStreetLetter_126 (by decide) ?_
      exact hret _ _ _ dX2_isStreetLetter_127 (by unfold fX2_isStreetLetter; first | (rw [if_neg c2, if_neg c5, if_neg c7, if_neg c11, if_neg c13]; done) | (simp only [if_neg c2, if_neg c5, if_neg c7, if_neg c11, if_neg c13])) (by exact (Or.inl nI_0))
    · skip
      refine lv_iload_n hF.1 hF.2.1 dX2_isStreetLetter_116 rfl (lv_at hl 3 rfl) ?_
      refine lv_bipush (v := nI 44) hF.1 hF.2.1 dX2_isStreetLetter_117 (by decide) ?_
      refine n_ge (tgt := 126) hF.1 hF.2.1 dX2_isStreetLetter_119 (by decide) (by omega) (by omega) (fun c14 => ?_) (fun c14 => ?_)
      · skip
        refine lv_iconst (v := nI 0) hF.1 hF.2.1 dX2_isStreetLetter_126 (by decide) ?_
        exact hret _ _ _ dX2_isStreetLetter_127 (by unfold fX2_isStreetLetter; first | (rw [if_neg c2, if_neg c5, if_neg c7, if_neg c11, if_pos c13, if_pos c14]; done) | (simp only [if_neg c2, if_neg c5, if_neg c7, if_neg c11, if_pos c13, if_pos c14])) (by exact (Or.inl nI_0))
      · skip
        refine lv_iconst (v := nI 1) hF.1 hF.2.1 dX2_isStreetLetter_122 (by decide) ?_
        refine lv_goto (tgt := 127) hF.1 hF.2.1 dX2_isStreetLetter_123 (by decide) ?_
        exact hret _ _ _ dX2_isStreetLetter_127 (by unfold fX2_isStreetLetter; first | (rw [if_neg c2, if_neg c5, if_neg c7, if_neg c11, if_pos c13, if_neg c14]; done) | (simp only [if_neg c2, if_neg c5, if_neg c7, if_neg c11, if_pos c13, if_neg c14])) (by exact (Or.inr rfl))
  by_cases hlo : (nI (bh % 5)).toInt < 0
  · exact lv_tableOut (tgt := 110) hF.1 hF.2.1 dX2_isStreetLetter_10 (Or.inl hlo) (by decide) kd1
  by_cases hhi : 3 < (nI (bh % 5)).toInt
  · exact lv_tableOut (tgt := 110) hF.1 hF.2.1 dX2_isStreetLetter_10 (Or.inr hhi) (by decide) kd1
  by_cases hv0 : (nI (bh % 5)).toInt = 0
  · exact absurd ((nI_eq (by omega) (by omega)).mp (Int32.toInt_inj.mp (hv0.trans (by decide)) : (nI (bh % 5)) = nI 0)) c2
  by_cases hv1 : (nI (bh % 5)).toInt = 1
  · exact absurd ((nI_eq (by omega) (by omega)).mp (Int32.toInt_inj.mp (hv1.trans (by decide)) : (nI (bh % 5)) = nI 1)) c5
  by_cases hv2 : (nI (bh % 5)).toInt = 2
  · exact absurd ((nI_eq (by omega) (by omega)).mp (Int32.toInt_inj.mp (hv2.trans (by decide)) : (nI (bh % 5)) = nI 2)) c7
  by_cases hv3 : (nI (bh % 5)).toInt = 3
  · exact absurd ((nI_eq (by omega) (by omega)).mp (Int32.toInt_inj.mp (hv3.trans (by decide)) : (nI (bh % 5)) = nI 3)) c11
  exfalso
  omega

def fX2_isGood (y : Nat → Int32) (a : Nat → Nat → Int32) (at_ : Nat) : Int32 × Int32 := if (y 2) = (-1) then if (a 0 at_) = (nI 59) then if (nI at_) ≤ 0 then if 3 ≤ at_ then (nI 0, y 2) else if (fX2_in ((a 0 at_).toInt64) 48 57) = 0 then (nI 0, y 2) else (nI 1, y 2) else (nI 1, nI at_) else if 3 ≤ at_ then (nI 0, y 2) else if (fX2_in ((a 0 at_).toInt64) 48 57) = 0 then (nI 0, y 2) else (nI 1, y 2) else ((fX2_isStreetLetter a at_ ((at_ - (toN (y 2))) - 1)), y 2)
def rmX2_isGood : Room := { frames := 3, cells := 0, slots := 0, locals := 72 }
theorem hdX2_isGood : yX2_isGood.cls = RX2 ∧ yX2_isGood.cls ≠ "java/lang/invoke/MethodHandle" ∧ yX2_isGood.cls ≠ "java/lang/invoke/VarHandle" ∧ (parseMethodDescriptor yX2_isGood.desc).map (fun d => d.parameters.length) = some 1 := by decide +kernel
set_option maxHeartbeats 4000000 in
theorem kX2_isGood (l : Launch) (ω : OM) (g : Nat → Nat) (y : Nat → Int32) (a z : Nat → Nat → Int32) (kt : Int32) (hs : Int64) (at_ : Nat) (hat : at_ < 50) (hE : y 2 = -1 ∨ ∃ e, e < at_ ∧ y 2 = nI e) : Met l yX2_isGood (ws_ yX2_isGood cX2_isGood 3 (some .boolean)) rmX2_isGood (va_Pc [.ref (ω.2.1 0 99), .int (nI at_)] (fun U => mK ω U ∧ mH ω (g, y, a, z, kt, hs) U.heap)) (va_Qi (fun (r : Int32) (u : MS) => ∃ (o0 : Int32), (r, o0) = (fX2_isGood y a at_) ∧ u = (g, va_up y 2 o0, a, z, kt, hs)) (fun u t => mH ω u t.heap) ω.2.2.1) 0 0 ω.2.2.1 := by
  refine g_entWz (C := RX2) rfl (by decide) (Nat.le_of_ble_eq_true rfl) ?_
  intro p e s m args below meth c QQ ls H locs hF hK hH hS hl hret
  have hl : lv_has ls 3 [(0, .ref (ω.2.1 0 99)), (1, .int (nI at_))] := hl
  refine lv_aload_n hF.1 hF.2.1 dX2_isGood_0 rfl (lv_at hl 0 rfl) ?_
  refine mg_0 hF hK hH q971 dX2_isGood_1 ?_
  refine lv_iload_n hF.1 hF.2.1 dX2_isGood_4 rfl (lv_at hl 1 rfl) ?_
  refine m_ald hF hK hH 0 (n := 50) rfl rfl (by decide) rfl (f := a 0) rfl (i := at_) (by omega) (by decide) dX2_isGood_5 ?_
  refine lv_istore_n (lv' := [(2, .int (a 0 at_)), (0, .ref (ω.2.1 0 99)), (1, .int (nI at_))]) hF.1 hF.2.1 dX2_isGood_6 rfl hl (by decide) rfl (fun ls hl => ?_)
  refine lv_aload_n hF.1 hF.2.1 dX2_isGood_7 rfl (lv_at hl 1 rfl) ?_
  refine mg_2 hF hK hH q973 dX2_isGood_8 (v := y 2) rfl ?_
  refine lv_iconst (v := (-1)) hF.1 hF.2.1 dX2_isGood_11 (by decide) ?_
  refine lv_icmp_eq (tgt := 29) hF.1 hF.2.1 dX2_isGood_12 (by decide) (fun c1 => ?_) (fun c1 => ?_)
  · skip
    refine lv_iload_n hF.1 hF.2.1 dX2_isGood_29 rfl (lv_at hl 0 rfl) ?_
    refine lv_bipush (v := nI 59) hF.1 hF.2.1 dX2_isGood_30 (by decide) ?_
    refine lv_icmp_ne (tgt := 46) hF.1 hF.2.1 dX2_isGood_32 (by decide) (fun c2 => ?_) (fun c2 => ?_)
    · skip
      refine lv_iload_n hF.1 hF.2.1 dX2_isGood_46 rfl (lv_at hl 2 rfl) ?_
      refine lv_iconst (v := nI 3) hF.1 hF.2.1 dX2_isGood_47 (by decide) ?_
      refine n_ge (tgt := 69) hF.1 hF.2.1 dX2_isGood_48 (by decide) (by omega) (by omega) (fun c3 => ?_) (fun c3 => ?_)
      · skip
        refine lv_iconst (v := nI 0) hF.1 hF.2.1 dX2_isGood_69 (by decide) ?_
        have hH : mH ω (g, va_up y 2 (y 2), a, z, kt, hs) H := m_ext (fun _ => rfl) (by intro k; by_cases h0 : k = 2; (subst h0; simp [va_up]); simp only [va_up, if_neg h0]) (fun _ => rfl) (fun _ => rfl) hH
        exact hret _ _ _ _ _ _ dX2_isGood_70 ⟨_, by unfold fX2_isGood; first | (rw [if_pos c1, if_neg c2, if_pos c3]; done) | (simp only [if_pos c1, if_neg c2, if_pos c3]), rfl⟩ (by exact (Or.inl nI_0)) hH hS
      · skip
        refine lv_iload_n hF.1 hF.2.1 dX2_isGood_51 rfl (lv_at hl 0 rfl) ?_
        refine lv_i2l (v := (a 0 at_).toInt64) hF.1 hF.2.1 dX2_isGood_52 rfl ?_
        refine lv_ldc2 (v := 48) hF.1 hF.2.1 hF.2.2.2.1 (hF.2.2.2.2 _ q1087) dX2_isGood_53 ?_
        refine lv_ldc2 (v := 57) hF.1 hF.2.1 hF.2.2.2.1 (hF.2.2.2.2 _ q1090) dX2_isGood_56 ?_
        refine g_sPi (As := [.long ((a 0 at_).toInt64), .long 48, .long 57]) (rest := []) hF (kX2_in l ((a 0 at_).toInt64) 48 57) (lw_S q1061 q1062 q97 q1063) 3 hdX2_in.2 rfl rfl ⟨Nat.le_of_ble_eq_true rfl, Nat.le_of_ble_eq_true rfl⟩ g_pre0 rfl hl.1 rfl (Nat.le_of_ble_eq_true rfl) dX2_isGood_59 ⟨Nat.zero_le _, Nat.zero_le _⟩ (fun r4 e_r4 => ?_)
        refine lv_if_eq (tgt := 69) hF.1 hF.2.1 dX2_isGood_62 (by decide) (fun c5 => ?_) (fun c5 => ?_)
        · skip
          refine lv_iconst (v := nI 0) hF.1 hF.2.1 dX2_isGood_69 (by decide) ?_
          have hH : mH ω (g, va_up y 2 (y 2), a, z, kt, hs) H := m_ext (fun _ => rfl) (by intro k; by_cases h0 : k = 2; (subst h0; simp [va_up]); simp only [va_up, if_neg h0]) (fun _ => rfl) (fun _ => rfl) hH
          exact hret _ _ _ _ _ _ dX2_isGood_70 ⟨_, by subst e_r4; unfold fX2_isGood; first | (rw [if_pos c1, if_neg c2, if_neg c3, if_pos c5]; done) | (simp only [if_pos c1, if_neg c2, if_neg c3, if_pos c5]), rfl⟩ (by subst e_r4; exact (Or.inl nI_0)) hH hS
        · skip
          refine lv_iconst (v := nI 1) hF.1 hF.2.1 dX2_isGood_65 (by decide) ?_
          refine lv_goto (tgt := 70) hF.1 hF.2.1 dX2_isGood_66 (by decide) ?_
          have hH : mH ω (g, va_up y 2 (y 2), a, z, kt, hs) H := m_ext (fun _ => rfl) (by intro k; by_cases h0 : k = 2; (subst h0; simp [va_up]); simp only [va_up, if_neg h0]) (fun _ => rfl) (fun _ => rfl) hH
          exact hret _ _ _ _ _ _ dX2_isGood_70 ⟨_, by subst e_r4; unfold fX2_isGood; first | (rw [if_pos c1, if_neg c2, if_neg c3, if_neg c5]; done) | (simp only [if_pos c1, if_neg c2, if_neg c3, if_neg c5]), rfl⟩ (by subst e_r4; exact (Or.inr rfl)) hH hS
    · skip
      refine lv_iload_n hF.1 hF.2.1 dX2_isGood_35 rfl (lv_at hl 2 rfl) ?_
      refine lv_if_le (tgt := 46) hF.1 hF.2.1 dX2_isGood_36 (by decide) (fun c6 => ?_) (fun c6 => ?_)
      · skip
        refine lv_iload_n hF.1 hF.2.1 dX2_isGood_46 rfl (lv_at hl 2 rfl) ?_
        refine lv_iconst (v := nI 3) hF.1 hF.2.1 dX2_isGood_47 (by decide) ?_
        refine n_ge (tgt := 69) hF.1 hF.2.1 dX2_isGood_48 (by decide) (by omega) (by omega) (fun c7 => ?_) (fun c7 => ?_)
        · skip
          refine lv_iconst (v := nI 0) hF.1 hF.2.1 dX2_isGood_69 (by decide) ?_
          have hH : mH ω (g, va_up y 2 (y 2), a, z, kt, hs) H := m_ext (fun _ => rfl) (by intro k; by_cases h0 : k = 2; (subst h0; simp [va_up]); simp only [va_up, if_neg h0]) (fun _ => rfl) (fun _ => rfl) hH
          exact hret _ _ _ _ _ _ dX2_isGood_70 ⟨_, by unfold fX2_isGood; first | (rw [if_pos c1, if_pos c2, if_pos c6, if_pos c7]; done) | (simp only [if_pos c1, if_pos c2, if_pos c6, if_pos c7]), rfl⟩ (by exact (Or.inl nI_0)) hH hS
        · skip
          refine lv_iload_n hF.1 hF.2.1 dX2_isGood_51 rfl (lv_at hl 0 rfl) ?_
          refine lv_i2l (v := (a 0 at_).toInt64) hF.1 hF.2.1 dX2_isGood_52 rfl ?_
          refine lv_ldc2 (v := 48) hF.1 hF.2.1 hF.2.2.2.1 (hF.2.2.2.2 _ q1087) dX2_isGood_53 ?_
          refine lv_ldc2 (v := 57) hF.1 hF.2.1 hF.2.2.2.1 (hF.2.2.2.2 _ q1090) dX2_isGood_56 ?_
          refine g_sPi (As := [.long ((a 0 at_).toInt64), .long 48, .long 57]) (rest := []) hF (kX2_in l ((a 0 at_).toInt64) 48 57) (lw_S q1061 q1062 q97 q1063) 3 hdX2_in.2 rfl rfl ⟨Nat.le_of_ble_eq_true rfl, Nat.le_of_ble_eq_true rfl⟩ g_pre0 rfl hl.1 rfl (Nat.le_of_ble_eq_true rfl) dX2_isGood_59 ⟨Nat.zero_le _, Nat.zero_le _⟩ (fun r8 e_r8 => ?_)
          refine lv_if_eq (tgt := 69) hF.1 hF.2.1 dX2_isGood_62 (by decide) (fun c9 => ?_) (fun c9 => ?_)
          · skip
            refine lv_iconst (v := nI 0) hF.1 hF.2.1 dX2_isGood_69 (by decide) ?_
            have hH : mH ω (g, va_up y 2 (y 2), a, z, kt, hs) H := m_ext (fun _ => rfl) (by intro k; by_cases h0 : k = 2; (subst h0; simp [va_up]); simp only [va_up, if_neg h0]) (fun _ => rfl) (fun _ => rfl) hH
            exact hret _ _ _ _ _ _ dX2_isGood_70 ⟨_, by subst e_r8; unfold fX2_isGood; first | (rw [if_pos c1, if_pos c2, if_pos c6, if_neg c7, if_pos c9]; done) | (simp only [if_pos c1, if_pos c2, if_pos c6, if_neg c7, if_pos c9]), rfl⟩ (by subst e_r8; exact (Or.inl nI_0)) hH hS
          · skip
            refine lv_iconst (v := nI 1) hF.1 hF.2.1 dX2_isGood_65 (by decide) ?_
            refine lv_goto (tgt := 70) hF.1 hF.2.1 dX2_isGood_66 (by decide) ?_
            have hH : mH ω (g, va_up y 2 (y 2), a, z, kt, hs) H := m_ext (fun _ => rfl) (by intro k; by_cases h0 : k = 2; (subst h0; simp [va_up]); simp only [va_up, if_neg h0]) (fun _ => rfl) (fun _ => rfl) hH
            exact hret _ _ _ _ _ _ dX2_isGood_70 ⟨_, by subst e_r8; unfold fX2_isGood; first | (rw [if_pos c1, if_pos c2, if_pos c6, if_neg c7, if_neg c9]; done) | (simp only [if_pos c1, if_pos c2, if_pos c6, if_neg c7, if_neg c9]), rfl⟩ (by subst e_r8; exact (Or.inr rfl)) hH hS
      · skip
        refine lv_aload_n hF.1 hF.2.1 dX2_isGood_39 rfl (lv_at hl 1 rfl) ?_
        refine lv_iload_n hF.1 hF.2.1 dX2_isGood_40 rfl (lv_at hl 2 rfl) ?_
        refine mp_2 hF hK hH hS q973 dX2_isGood_41 (y' := va_up y 2 (nI at_)) rfl (by intro j hj; simp only [va_up, if_neg hj]) (fun H locs hH hS => ?_)
        refine lv_iconst (v := nI 1) hF.1 hF.2.1 dX2_isGood_44 (by decide) ?_
        exact hret _ _ _ _ _ _ dX2_isGood_45 ⟨_, by unfold fX2_isGood; first | (rw [if_pos c1, if_pos c2, if_neg c6]; done) | (simp only [if_pos c1, if_pos c2, if_neg c6]), rfl⟩ (by exact (Or.inr rfl)) hH hS
  · skip
    refine lv_aload_n hF.1 hF.2.1 dX2_isGood_15 rfl (lv_at hl 1 rfl) ?_
    refine lv_iload_n hF.1 hF.2.1 dX2_isGood_16 rfl (lv_at hl 2 rfl) ?_
    refine lv_iload_n hF.1 hF.2.1 dX2_isGood_17 rfl (lv_at hl 2 rfl) ?_
    refine lv_aload_n hF.1 hF.2.1 dX2_isGood_18 rfl (lv_at hl 1 rfl) ?_
    refine mg_2 hF hK hH q973 dX2_isGood_19 (v := y 2) rfl ?_
    obtain ⟨b10e, b10l⟩ := g_lift (r := y 2) (n := at_) (hE.resolve_left c1) (by omega)
    refine n_top b10e ?_
    refine n_isub hF.1 hF.2.1 dX2_isGood_22 (by omega) ?_
    refine lv_iconst (v := nI 1) hF.1 hF.2.1 dX2_isGood_23 (by decide) ?_
    refine n_isub hF.1 hF.2.1 dX2_isGood_24 (by omega) ?_
    refine g_vPi (As := [.int (nI at_), .int (nI ((at_ - (toN (y 2))) - 1))]) (rest := []) hF (kX2_isStreetLetter l ω g y a z kt hs at_ ((at_ - (toN (y 2))) - 1) (by omega) (by omega)) (lw_V q1080 q1082 qs49 q97 q1083) 2 hdX2_isStreetLetter rfl rfl ⟨Nat.le_of_ble_eq_true rfl, Nat.le_of_ble_eq_true rfl⟩ (m_preV hK hH) rfl hl.1 rfl (Nat.le_of_ble_eq_true rfl) dX2_isGood_25 ⟨Nat.zero_le _, Nat.zero_le _⟩ (fun r11 e_r11 => ?_)
    have hH : mH ω (g, va_up y 2 (y 2), a, z, kt, hs) H := m_ext (fun _ => rfl) (by intro k; by_cases h0 : k = 2; (subst h0; simp [va_up]); simp only [va_up, if_neg h0]) (fun _ => rfl) (fun _ => rfl) hH
    exact hret _ _ _ _ _ _ dX2_isGood_28 ⟨_, by subst e_r11; unfold fX2_isGood; first | (rw [if_neg c1]; done) | (simp only [if_neg c1]), rfl⟩ (by subst e_r11; exact (fX2_isStreetLetter_b ..)) hH hS

def fX2_isPerson (g : Nat → Nat) (pn : Int32) : Int32 := (fX2_in pn.toInt64 0 (((nI (g 3)) - (nI 1)).toInt64))
theorem fX2_isPerson_b (g : Nat → Nat) (pn : Int32) : (fX2_isPerson g pn) = 0 ∨ (fX2_isPerson g pn) = 1 := by
  unfold fX2_isPerson
  exact (fX2_in_b ..)
def rmX2_isPerson : Room := { frames := 2, cells := 0, slots := 0, locals := 49 }
theorem hdX2_isPerson : yX2_isPerson.cls = RX2 ∧ yX2_isPerson.cls ≠ "java/lang/invoke/MethodHandle" ∧ yX2_isPerson.cls ≠ "java/lang/invoke/VarHandle" ∧ (parseMethodDescriptor yX2_isPerson.desc).map (fun d => d.parameters.length) = some 1 := by decide +kernel
set_option maxHeartbeats 4000000 in
theorem kX2_isPerson (l : Launch) (ω : OM) (g : Nat → Nat) (y : Nat → Int32) (a z : Nat → Nat → Int32) (kt : Int32) (hs : Int64) (pn : Int32) : Met l yX2_isPerson (ws_ yX2_isPerson cX2_isPerson 2 (some .boolean)) rmX2_isPerson (va_Pc [.ref (ω.2.1 0 99), .int pn] (fun U => mK ω U ∧ mH ω (g, y, a, z, kt, hs) U.heap)) (vp_Si (fun r => r = (fX2_isPerson g pn))) 0 0 (fun _ => False) := by
  refine g_entPz (C := RX2) rfl (by decide) (Nat.le_of_ble_eq_true rfl) ?_
  intro p e s m args below meth c QQ ls hF hKH hl hret
  have hl : lv_has ls 2 [(0, .ref (ω.2.1 0 99)), (1, .int pn)] := hl
  obtain ⟨hK, hH⟩ := hKH
  refine lv_iload_n hF.1 hF.2.1 dX2_isPerson_0 rfl (lv_at hl 1 rfl) ?_
  refine lv_i2l (v := pn.toInt64) hF.1 hF.2.1 dX2_isPerson_1 rfl ?_
  refine lv_lconst (v := 0) hF.1 hF.2.1 dX2_isPerson_2 (by decide) ?_
  refine lv_aload_n hF.1 hF.2.1 dX2_isPerson_3 rfl (lv_at hl 0 rfl) ?_
  refine mg_3 hF hK hH q974 dX2_isPerson_4 (v := g 3) rfl ?_
  refine lv_iconst (v := nI 1) hF.1 hF.2.1 dX2_isPerson_7 (by decide) ?_
  refine lv_isub hF.1 hF.2.1 dX2_isPerson_8 ?_
  refine lv_i2l (v := ((nI (g 3)) - (nI 1)).toInt64) hF.1 hF.2.1 dX2_isPerson_9 rfl ?_
  refine g_sPi (As := [.long pn.toInt64, .long 0, .long (((nI (g 3)) - (nI 1)).toInt64)]) (rest := []) hF (kX2_in l pn.toInt64 0 (((nI (g 3)) - (nI 1)).toInt64)) (lw_S q1061 q1062 q97 q1063) 3 hdX2_in.2 rfl rfl ⟨Nat.le_of_ble_eq_true rfl, Nat.le_of_ble_eq_true rfl⟩ g_pre0 rfl hl.1 rfl (Nat.le_of_ble_eq_true rfl) dX2_isPerson_10 ⟨Nat.zero_le _, Nat.zero_le _⟩ (fun r1 e_r1 => ?_)
  exact hret _ _ _ dX2_isPerson_13 (by subst e_r1; rfl) (by subst e_r1; exact (fX2_in_b ..))

def fX2_isStreet (g : Nat → Nat) (sn : Int32) : Int32 := (fX2_in sn.toInt64 0 (((nI (g 4)) - (nI 1)).toInt64))
theorem fX2_isStreet_b (g : Nat → Nat) (sn : Int32) : (fX2_isStreet g sn) = 0 ∨ (fX2_isStreet g sn) = 1 := by
  unfold fX2_isStreet
  exact (fX2_in_b ..)
def rmX2_isStreet : Room := { frames := 2, cells := 0, slots := 0, locals := 49 }
theorem hdX2_isStreet : yX2_isStreet.cls = RX2 ∧ yX2_isStreet.cls ≠ "java/lang/invoke/MethodHandle" ∧ yX2_isStreet.cls ≠ "java/lang/invoke/VarHandle" ∧ (parseMethodDescriptor yX2_isStreet.desc).map (fun d => d.parameters.length) = some 1 := by decide +kernel
set_option maxHeartbeats 4000000 in
theorem kX2_isStreet (l : Launch) (ω : OM) (g : Nat → Nat) (y : Nat → Int32) (a z : Nat → Nat → Int32) (kt : Int32) (hs : Int64) (sn : Int32) : Met l yX2_isStreet (ws_ yX2_isStreet cX2_isStreet 2 (some .boolean)) rmX2_isStreet (va_Pc [.ref (ω.2.1 0 99), .int sn] (fun U => mK ω U ∧ mH ω (g, y, a, z, kt, hs) U.heap)) (vp_Si (fun r => r = (fX2_isStreet g sn))) 0 0 (fun _ => False) := by
  refine g_entPz (C := RX2) rfl (by decide) (Nat.le_of_ble_eq_true rfl) ?_
  intro p e s m args below meth c QQ ls hF hKH hl hret
  have hl : lv_has ls 2 [(0, .ref (ω.2.1 0 99)), (1, .int sn)] := hl
  obtain ⟨hK, hH⟩ := hKH
  refine lv_iload_n hF.1 hF.2.1 dX2_isStreet_0 rfl (lv_at hl 1 rfl) ?_
  refine lv_i2l (v := sn.toInt64) hF.1 hF.2.1 dX2_isStreet_1 rfl ?_
  refine lv_lconst (v := 0) hF.1 hF.2.1 dX2_isStreet_2 (by decide) ?_
  refine lv_aload_n hF.1 hF.2.1 dX2_isStreet_3 rfl (lv_at hl 0 rfl) ?_
  refine mg_4 hF hK hH q975 dX2_isStreet_4 (v := g 4) rfl ?_
  refine lv_iconst (v := nI 1) hF.1 hF.2.1 dX2_isStreet_7 (by decide) ?_
  refine lv_isub hF.1 hF.2.1 dX2_isStreet_8 ?_
  refine lv_i2l (v := ((nI (g 4)) - (nI 1)).toInt64) hF.1 hF.2.1 dX2_isStreet_9 rfl ?_
  refine g_sPi (As := [.long sn.toInt64, .long 0, .long (((nI (g 4)) - (nI 1)).toInt64)]) (rest := []) hF (kX2_in l sn.toInt64 0 (((nI (g 4)) - (nI 1)).toInt64)) (lw_S q1061 q1062 q97 q1063) 3 hdX2_in.2 rfl rfl ⟨Nat.le_of_ble_eq_true rfl, Nat.le_of_ble_eq_true rfl⟩ g_pre0 rfl hl.1 rfl (Nat.le_of_ble_eq_true rfl) dX2_isStreet_10 ⟨Nat.zero_le _, Nat.zero_le _⟩ (fun r1 e_r1 => ?_)
  exact hret _ _ _ dX2_isStreet_13 (by subst e_r1; rfl) (by subst e_r1; exact (fX2_in_b ..))

def fX2_isCorner (cn : Int32) : Int32 := (fX2_in cn.toInt64 0 7)
theorem fX2_isCorner_b (cn : Int32) : (fX2_isCorner cn) = 0 ∨ (fX2_isCorner cn) = 1 := by
  unfold fX2_isCorner
  exact (fX2_in_b ..)
def rmX2_isCorner : Room := { frames := 2, cells := 0, slots := 0, locals := 49 }
theorem hdX2_isCorner : yX2_isCorner.cls = RX2 ∧ yX2_isCorner.cls ≠ "java/lang/invoke/MethodHandle" ∧ yX2_isCorner.cls ≠ "java/lang/invoke/VarHandle" ∧ (parseMethodDescriptor yX2_isCorner.desc).map (fun d => d.parameters.length) = some 1 := by decide +kernel
set_option maxHeartbeats 4000000 in
theorem kX2_isCorner (l : Launch) (cn : Int32) : Met l yX2_isCorner (ws_ yX2_isCorner cX2_isCorner 1 (some .boolean)) rmX2_isCorner (va_Pc [.int cn] (fun _ => True)) (vp_Si (fun r => r = (fX2_isCorner cn))) 0 0 (fun _ => False) := by
  refine g_entPz (C := RX2) rfl (by decide) (Nat.le_of_ble_eq_true rfl) ?_
  intro p e s m args below meth c QQ ls hF hKH hl hret
  have hl : lv_has ls 1 [(0, .int cn)] := hl
  refine lv_iload_n hF.1 hF.2.1 dX2_isCorner_0 rfl (lv_at hl 0 rfl) ?_
  refine lv_i2l (v := cn.toInt64) hF.1 hF.2.1 dX2_isCorner_1 rfl ?_
  refine lv_lconst (v := 0) hF.1 hF.2.1 dX2_isCorner_2 (by decide) ?_
  refine lv_ldc2 (v := 7) hF.1 hF.2.1 hF.2.2.2.1 (hF.2.2.2.2 _ q1110) dX2_isCorner_3 ?_
  refine g_sPi (As := [.long cn.toInt64, .long 0, .long 7]) (rest := []) hF (kX2_in l cn.toInt64 0 7) (lw_S q1061 q1062 q97 q1063) 3 hdX2_in.2 rfl rfl ⟨Nat.le_of_ble_eq_true rfl, Nat.le_of_ble_eq_true rfl⟩ g_pre0 rfl hl.1 rfl (Nat.le_of_ble_eq_true rfl) dX2_isCorner_6 ⟨Nat.zero_le _, Nat.zero_le _⟩ (fun r1 e_r1 => ?_)
  exact hret _ _ _ dX2_isCorner_9 (by subst e_r1; rfl) (by subst e_r1; exact (fX2_in_b ..))

def fX2_isDriver (g : Nat → Nat) (dn : Int32) : Int32 := if (fX2_lacks g) = 0 then if (fX2_in dn.toInt64 0 1) = 0 then nI 0 else nI 1 else nI 0
theorem fX2_isDriver_b (g : Nat → Nat) (dn : Int32) : (fX2_isDriver g dn) = 0 ∨ (fX2_isDriver g dn) = 1 := by
  unfold fX2_isDriver
  exact (g_ite (g_ite (Or.inl nI_0) (Or.inr rfl)) (Or.inl nI_0))
def rmX2_isDriver : Room := { frames := 2, cells := 0, slots := 0, locals := 49 }
theorem hdX2_isDriver : yX2_isDriver.cls = RX2 ∧ yX2_isDriver.cls ≠ "java/lang/invoke/MethodHandle" ∧ yX2_isDriver.cls ≠ "java/lang/invoke/VarHandle" ∧ (parseMethodDescriptor yX2_isDriver.desc).map (fun d => d.parameters.length) = some 1 := by decide +kernel
set_option maxHeartbeats 4000000 in
theorem kX2_isDriver (l : Launch) (ω : OM) (g : Nat → Nat) (y : Nat → Int32) (a z : Nat → Nat → Int32) (kt : Int32) (hs : Int64) (dn : Int32) (hn : g 4 ≤ 9) : Met l yX2_isDriver (ws_ yX2_isDriver cX2_isDriver 2 (some .boolean)) rmX2_isDriver (va_Pc [.ref (ω.2.1 0 99), .int dn] (fun U => mK ω U ∧ mH ω (g, y, a, z, kt, hs) U.heap)) (vp_Si (fun r => r = (fX2_isDriver g dn))) 0 0 (fun _ => False) := by
  refine g_entPz (C := RX2) rfl (by decide) (Nat.le_of_ble_eq_true rfl) ?_
  intro p e s m args below meth c QQ ls hF hKH hl hret
  have hl : lv_has ls 2 [(0, .ref (ω.2.1 0 99)), (1, .int dn)] := hl
  obtain ⟨hK, hH⟩ := hKH
  refine lv_aload_n hF.1 hF.2.1 dX2_isDriver_0 rfl (lv_at hl 0 rfl) ?_
  refine g_vPi (As := []) (rest := []) hF (kX2_lacks l ω g y a z kt hs (by omega)) (lw_V q1232 q1234 qs71 q97 q1235) 0 hdX2_lacks rfl rfl ⟨Nat.le_of_ble_eq_true rfl, Nat.le_of_ble_eq_true rfl⟩ (m_preV hK hH) rfl hl.1 rfl (Nat.le_of_ble_eq_true rfl) dX2_isDriver_1 ⟨Nat.zero_le _, Nat.zero_le _⟩ (fun r1 e_r1 => ?_)
  refine lv_if_ne (tgt := 21) hF.1 hF.2.1 dX2_isDriver_4 (by decide) (fun c2 => ?_) (fun c2 => ?_)
  · skip
    refine lv_iconst (v := nI 0) hF.1 hF.2.1 dX2_isDriver_21 (by decide) ?_
    exact hret _ _ _ dX2_isDriver_22 (by subst e_r1; unfold fX2_isDriver; first | (rw [if_neg c2]; done) | (simp only [if_neg c2])) (by subst e_r1; exact (Or.inl nI_0))
  · skip
    refine lv_iload_n hF.1 hF.2.1 dX2_isDriver_7 rfl (lv_at hl 1 rfl) ?_
    refine lv_i2l (v := dn.toInt64) hF.1 hF.2.1 dX2_isDriver_8 rfl ?_
    refine lv_lconst (v := 0) hF.1 hF.2.1 dX2_isDriver_9 (by decide) ?_
    refine lv_lconst (v := 1) hF.1 hF.2.1 dX2_isDriver_10 (by decide) ?_
    refine g_sPi (As := [.long dn.toInt64, .long 0, .long 1]) (rest := []) hF (kX2_in l dn.toInt64 0 1) (lw_S q1061 q1062 q97 q1063) 3 hdX2_in.2 rfl rfl ⟨Nat.le_of_ble_eq_true rfl, Nat.le_of_ble_eq_true rfl⟩ g_pre0 rfl hl.1 rfl (Nat.le_of_ble_eq_true rfl) dX2_isDriver_11 ⟨Nat.zero_le _, Nat.zero_le _⟩ (fun r3 e_r3 => ?_)
    refine lv_if_eq (tgt := 21) hF.1 hF.2.1 dX2_isDriver_14 (by decide) (fun c4 => ?_) (fun c4 => ?_)
    · skip
      refine lv_iconst (v := nI 0) hF.1 hF.2.1 dX2_isDriver_21 (by decide) ?_
      exact hret _ _ _ dX2_isDriver_22 (by subst e_r3; subst e_r1; unfold fX2_isDriver; first | (rw [if_pos c2, if_pos c4]; done) | (simp only [if_pos c2, if_pos c4])) (by subst e_r3; subst e_r1; exact (Or.inl nI_0))
    · skip
      refine lv_iconst (v := nI 1) hF.1 hF.2.1 dX2_isDriver_17 (by decide) ?_
      refine lv_goto (tgt := 22) hF.1 hF.2.1 dX2_isDriver_18 (by decide) ?_
      exact hret _ _ _ dX2_isDriver_22 (by subst e_r3; subst e_r1; unfold fX2_isDriver; first | (rw [if_pos c2, if_neg c4]; done) | (simp only [if_pos c2, if_neg c4])) (by subst e_r3; subst e_r1; exact (Or.inr rfl))

def fX2_everyStreet (g : Nat → Nat) : Int32 := ((nI 1) <<< ((nI (g 4)) &&& 31)) - (nI 1)
def rmX2_everyStreet : Room := { frames := 1, cells := 0, slots := 0, locals := 24 }
theorem hdX2_everyStreet : yX2_everyStreet.cls = RX2 ∧ yX2_everyStreet.cls ≠ "java/lang/invoke/MethodHandle" ∧ yX2_everyStreet.cls ≠ "java/lang/invoke/VarHandle" ∧ (parseMethodDescriptor yX2_everyStreet.desc).map (fun d => d.parameters.length) = some 0 := by decide +kernel
set_option maxHeartbeats 4000000 in
theorem kX2_everyStreet (l : Launch) (ω : OM) (g : Nat → Nat) (y : Nat → Int32) (a z : Nat → Nat → Int32) (kt : Int32) (hs : Int64) : Met l yX2_everyStreet (ws_ yX2_everyStreet cX2_everyStreet 1 (some .int)) rmX2_everyStreet (va_Pc [.ref (ω.2.1 0 99)] (fun U => mK ω U ∧ mH ω (g, y, a, z, kt, hs) U.heap)) (vp_Si (fun r => r = (fX2_everyStreet g))) 0 0 (fun _ => False) := by
  refine g_entPi (C := RX2) rfl (by decide) (Nat.le_of_ble_eq_true rfl) ?_
  intro p e s m args below meth c QQ ls hF hKH hl hret
  have hl : lv_has ls 1 [(0, .ref (ω.2.1 0 99))] := hl
  obtain ⟨hK, hH⟩ := hKH
  refine lv_iconst (v := nI 1) hF.1 hF.2.1 dX2_everyStreet_0 (by decide) ?_
  refine lv_aload_n hF.1 hF.2.1 dX2_everyStreet_1 rfl (lv_at hl 0 rfl) ?_
  refine mg_4 hF hK hH q975 dX2_everyStreet_2 (v := g 4) rfl ?_
  refine lv_ishl hF.1 hF.2.1 dX2_everyStreet_5 ?_
  refine lv_iconst (v := nI 1) hF.1 hF.2.1 dX2_everyStreet_6 (by decide) ?_
  refine lv_isub hF.1 hF.2.1 dX2_everyStreet_7 ?_
  exact hret _ _ _ dX2_everyStreet_8 (by rfl)

def fX2_layAway_b48 (g : Nat → Nat) (a : Nat → Nat → Int32) (pn : Nat) (td : Int32) (set : Int32) (i48 : Nat) (S : (Nat → Int32)) : (Nat → Int32) := if ((set >>> ((nI i48) &&& 31)) &&& (nI 1)) = (nI 1) then if ((upd S (toN (a 7 ((4 * i48) + 1))) (if (S (toN (a 7 ((4 * i48) + 1)))) ≤ ((S (toN (a 7 ((4 * i48) + 2)))) + (fX2_costBy g a pn td i48)) then S (toN (a 7 ((4 * i48) + 1))) else (S (toN (a 7 ((4 * i48) + 2)))) + (fX2_costBy g a pn td i48))) (toN (a 7 ((4 * i48) + 2)))) ≤ (((upd S (toN (a 7 ((4 * i48) + 1))) (if (S (toN (a 7 ((4 * i48) + 1)))) ≤ ((S (toN (a 7 ((4 * i48) + 2)))) + (fX2_costBy g a pn td i48)) then S (toN (a 7 ((4 * i48) + 1))) else (S (toN (a 7 ((4 * i48) + 2)))) + (fX2_costBy g a pn td i48))) (toN (a 7 ((4 * i48) + 1)))) + (fX2_costBy g a pn td i48)) then upd (upd S (toN (a 7 ((4 * i48) + 1))) (if (S (toN (a 7 ((4 * i48) + 1)))) ≤ ((S (toN (a 7 ((4 * i48) + 2)))) + (fX2_costBy g a pn td i48)) then S (toN (a 7 ((4 * i48) + 1))) else (S (toN (a 7 ((4 * i48) + 2)))) + (fX2_costBy g a pn td i48))) (toN (a 7 ((4 * i48) + 2))) ((upd S (toN (a 7 ((4 * i48) + 1))) (if (S (toN (a 7 ((4 * i48) + 1)))) ≤ ((S (toN (a 7 ((4 * i48) + 2)))) + (fX2_costBy g a pn td i48)) then S (toN (a 7 ((4 * i48) + 1))) else (S (toN (a 7 ((4 * i48) + 2)))) + (fX2_costBy g a pn td i48))) (toN (a 7 ((4 * i48) + 2)))) else upd (upd S (toN (a 7 ((4 * i48) + 1))) (if (S (toN (a 7 ((4 * i48) + 1)))) ≤ ((S (toN (a 7 ((4 * i48) + 2)))) + (fX2_costBy g a pn td i48)) then S (toN (a 7 ((4 * i48) + 1))) else (S (toN (a 7 ((4 * i48) + 2)))) + (fX2_costBy g a pn td i48))) (toN (a 7 ((4 * i48) + 2))) (((upd S (toN (a 7 ((4 * i48) + 1))) (if (S (toN (a 7 ((4 * i48) + 1)))) ≤ ((S (toN (a 7 ((4 * i48) + 2)))) + (fX2_costBy g a pn td i48)) then S (toN (a 7 ((4 * i48) + 1))) else (S (toN (a 7 ((4 * i48) + 2)))) + (fX2_costBy g a pn td i48))) (toN (a 7 ((4 * i48) + 1)))) + (fX2_costBy g a pn td i48)) else S
def fX2_layAway_b38 (g : Nat → Nat) (a : Nat → Nat → Int32) (pn : Nat) (td : Int32) (set : Int32) (i38 : Nat) (S : (Nat → Int32)) : (Nat → Int32) := (it (fX2_layAway_b48 g a pn td set) (g 4) S)
def fX2_layAway_b3 (to : Nat) (i3 : Nat) (S : (Nat → Int32)) : (Nat → Int32) := if i3 = to then upd S i3 (nI 0) else upd S i3 (nI 1000000000)
def fX2_layAway (g : Nat → Nat) (a : Nat → Nat → Int32) (z : Nat → Nat → Int32) (pn : Nat) (td : Int32) (to : Nat) (set : Int32) : (Nat → Int32) := (it (fX2_layAway_b38 g a pn td set) 8 (it (fX2_layAway_b3 to) 8 (z 11)))
def rmX2_layAway : Room := { frames := 3, cells := 0, slots := 0, locals := 71 }
theorem hdX2_layAway : yX2_layAway.cls = RX2 ∧ yX2_layAway.cls ≠ "java/lang/invoke/MethodHandle" ∧ yX2_layAway.cls ≠ "java/lang/invoke/VarHandle" ∧ (parseMethodDescriptor yX2_layAway.desc).map (fun d => d.parameters.length) = some 4 := by decide +kernel
set_option maxHeartbeats 4000000 in
theorem kX2_layAway (l : Launch) (ω : OM) (g : Nat → Nat) (y : Nat → Int32) (a z : Nat → Nat → Int32) (kt : Int32) (hs : Int64) (pn : Nat) (td : Int32) (to : Nat) (set : Int32) (hpn : pn < 3) (hto : to < 8) (hr : mRows (g 4) (a 7)) : Met l yX2_layAway (ws_ yX2_layAway cX2_layAway 10 none) rmX2_layAway (va_Pc [.ref (ω.2.1 0 99), .int (nI pn), .int td, .int (nI to), .int set] (fun U => mK ω U ∧ mH ω (g, y, a, z, kt, hs) U.heap)) (va_Qv (fun (u : MS) => ∃ (o0 : Nat → Int32), o0 = (fX2_layAway g a z pn td to set) ∧ u = (g, y, a, va_up z 11 o0, kt, hs)) (fun u t => mH ω u t.heap) ω.2.2.1) 0 0 ω.2.2.1 := by
  refine g_entWv (C := RX2) rfl (by decide) (Nat.le_of_ble_eq_true rfl) ?_
  intro p e s m args below meth c QQ ls H locs hF hK hH hS hl hret
  have hl : lv_has ls 10 [(0, .ref (ω.2.1 0 99)), (1, .int (nI pn)), (2, .int td), (3, .int (nI to)), (4, .int set)] := hl
  have hn := hr.1
  refine lv_iconst (v := nI 0) hF.1 hF.2.1 dX2_layAway_0 (by decide) ?_
  refine lv_istore (lv' := [(5, .int (nI 0)), (0, .ref (ω.2.1 0 99)), (1, .int (nI pn)), (2, .int td), (3, .int (nI to)), (4, .int set)]) hF.1 hF.2.1 dX2_layAway_1 hl (by decide) rfl (fun ls hl => ?_)
  have lp3_24 : ∀ (d3 i3 : Nat) (w3_z11 : Nat → Int32) (H : Heap) (locs : List Loc) (ls : Array Slot), i3 + d3 = 8 → w3_z11 = it (fX2_layAway_b3 to) i3 (z 11) → mH ω (g, y, a, va_up z 11 w3_z11, kt, hs) H → va_S ω.2.2.1 s.heap H locs → lv_has ls 10 [(5, .int (nI i3)), (0, .ref (ω.2.1 0 99)), (1, .int (nI pn)), (2, .int td), (3, .int (nI to)), (4, .int set)] → W p l e rmX2_layAway s m args below meth c H locs 0 0 QQ (F0 m 3 ls []) := by
    intro d3
    induction d3 with
    | zero =>
      intro i3 w3_z11 H locs ls hi3 hS3 hH hS hl
      have hj3 : 8 = i3 := by omega
      subst hj3
      have e_w3_z11 := hS3
      refine lv_iload hF.1 hF.2.1 dX2_layAway_3 (lv_at hl 0 rfl) ?_
      refine lv_bipush (v := nI 8) hF.1 hF.2.1 dX2_layAway_5 (by decide) ?_
      refine n_ge (tgt := 35) hF.1 hF.2.1 dX2_layAway_7 (by decide) (by omega) (by omega) (fun c1 => ?_) (fun c1 => ?_)
      · skip
        refine lv_iconst (v := nI 0) hF.1 hF.2.1 dX2_layAway_35 (by decide) ?_
        refine lv_istore (lv' := [(5, .int (nI 0)), (0, .ref (ω.2.1 0 99)), (1, .int (nI pn)), (2, .int td), (3, .int (nI to)), (4, .int set)]) hF.1 hF.2.1 dX2_layAway_36 hl (by decide) rfl (fun ls hl => ?_)
        have lp38_30 : ∀ (d38 i38 : Nat) (w38_z11 : Nat → Int32) (H : Heap) (locs : List Loc) (ls : Array Slot), i38 + d38 = 8 → w38_z11 = it (fX2_layAway_b38 g a pn td set) i38 w3_z11 → mH ω (g, y, a, va_up z 11 w38_z11, kt, hs) H → va_S ω.2.2.1 s.heap H locs → lv_has ls 10 [(5, .int (nI i38)), (0, .ref (ω.2.1 0 99)), (1, .int (nI pn)), (2, .int td), (4, .int set)] → W p l e rmX2_layAway s m args below meth c H locs 0 0 QQ (F0 m 38 ls []) := by
          intro d38
          induction d38 with
          | zero =>
            intro i38 w38_z11 H locs ls hi38 hS38 hH hS hl
            have hj38 : 8 = i38 := by omega
            subst hj38
            have e_w38_z11 := hS38
            refine lv_iload hF.1 hF.2.1 dX2_layAway_38 (lv_at hl 0 rfl) ?_
            refine lv_bipush (v := nI 8) hF.1 hF.2.1 dX2_layAway_40 (by decide) ?_
            refine n_ge (tgt := 210) hF.1 hF.2.1 dX2_layAway_42 (by decide) (by omega) (by omega) (fun c2 => ?_) (fun c2 => ?_)
            · skip
              exact hret _ _ _ _ _ dX2_layAway_210 ⟨_, by subst e_w38_z11; subst e_w3_z11; rfl, rfl⟩ hH hS
            · exact absurd (by omega) c2
          | succ d38 ih =>
            intro i38 w38_z11 H locs ls hi38 hS38 hH hS hl
            refine lv_iload hF.1 hF.2.1 dX2_layAway_38 (lv_at hl 0 rfl) ?_
            refine lv_bipush (v := nI 8) hF.1 hF.2.1 dX2_layAway_40 (by decide) ?_
            refine n_ge (tgt := 210) hF.1 hF.2.1 dX2_layAway_42 (by decide) (by omega) (by omega) (fun c3 => ?_) (fun c3 => ?_)
            · exact absurd c3 (by omega)
            · skip
              refine lv_iconst (v := nI 0) hF.1 hF.2.1 dX2_layAway_45 (by decide) ?_
              refine lv_istore (lv' := [(6, .int (nI 0)), (5, .int (nI i38)), (0, .ref (ω.2.1 0 99)), (1, .int (nI pn)), (2, .int td), (4, .int set)]) hF.1 hF.2.1 dX2_layAway_46 hl (by decide) rfl (fun ls hl => ?_)
              have lp48_32 : ∀ (d48 i48 : Nat) (w48_z11 : Nat → Int32) (H : Heap) (locs : List Loc) (ls : Array Slot), i48 + d48 = g 4 → w48_z11 = it (fX2_layAway_b48 g a pn td set) i48 w38_z11 → mH ω (g, y, a, va_up z 11 w48_z11, kt, hs) H → va_S ω.2.2.1 s.heap H locs → lv_has ls 10 [(6, .int (nI i48)), (5, .int (nI i38)), (0, .ref (ω.2.1 0 99)), (1, .int (nI pn)), (2, .int td), (4, .int set)] → W p l e rmX2_layAway s m args below meth c H locs 0 0 QQ (F0 m 48 ls []) := by
                intro d48
                induction d48 with
                | zero =>
                  intro i48 w48_z11 H locs ls hi48 hS48 hH hS hl
                  have hj48 : g 4 = i48 := by omega
                  subst hj48
                  have e_w48_z11 := hS48
                  refine lv_iload hF.1 hF.2.1 dX2_layAway_48 (lv_at hl 0 rfl) ?_
                  refine lv_aload_n hF.1 hF.2.1 dX2_layAway_50 rfl (lv_at hl 2 rfl) ?_
                  refine mg_4 hF hK hH q975 dX2_layAway_51 (v := g 4) rfl ?_
                  refine n_ge (tgt := 204) hF.1 hF.2.1 dX2_layAway_54 (by decide) (by omega) (by omega) (fun c4 => ?_) (fun c4 => ?_)
                  · skip
                    refine n_iinc (lv' := [(5, .int (nI (i38 + 1))), (6, .int (nI (g 4))), (0, .ref (ω.2.1 0 99)), (1, .int (nI pn)), (2, .int td), (4, .int set)]) hF.1 hF.2.1 dX2_layAway_204 hl (k := 1) rfl (by decide) rfl (fun ls hl => ?_)
                    refine lv_goto (tgt := 38) hF.1 hF.2.1 dX2_layAway_207 (by decide) ?_
                    exact ih (i38 + 1) _ _ _ _ (by omega) (by subst e_w48_z11; rw [it_succ (fX2_layAway_b38 g a pn td set) i38 _, ← hS38]; try rfl) hH hS (lv_sub hl [0, 2, 3, 4, 5] rfl)
                  · exact absurd (by omega) c4
                | succ d48 ih =>
                  intro i48 w48_z11 H locs ls hi48 hS48 hH hS hl
                  refine lv_iload hF.1 hF.2.1 dX2_layAway_48 (lv_at hl 0 rfl) ?_
                  refine lv_aload_n hF.1 hF.2.1 dX2_layAway_50 rfl (lv_at hl 2 rfl) ?_
                  refine mg_4 hF hK hH q975 dX2_layAway_51 (v := g 4) rfl ?_
                  refine n_ge (tgt := 204) hF.1 hF.2.1 dX2_layAway_54 (by decide) (by omega) (by omega) (fun c5 => ?_) (fun c5 => ?_)
                  · exact absurd c5 (by omega)
                  · skip
                    refine lv_iload hF.1 hF.2.1 dX2_layAway_57 (lv_at hl 5 rfl) ?_
                    refine lv_iload hF.1 hF.2.1 dX2_layAway_59 (lv_at hl 0 rfl) ?_
                    refine lv_ishr hF.1 hF.2.1 dX2_layAway_61 ?_
                    refine lv_iconst (v := nI 1) hF.1 hF.2.1 dX2_layAway_62 (by decide) ?_
                    refine lv_iand hF.1 hF.2.1 dX2_layAway_63 ?_
                    refine lv_iconst (v := nI 1) hF.1 hF.2.1 dX2_layAway_64 (by decide) ?_
                    refine lv_icmp_ne (tgt := 198) hF.1 hF.2.1 dX2_layAway_65 (by decide) (fun c6 => ?_) (fun c6 => ?_)
                    · skip
                      refine n_iinc (lv' := [(6, .int (nI (i48 + 1))), (5, .int (nI i38)), (0, .ref (ω.2.1 0 99)), (1, .int (nI pn)), (2, .int td), (4, .int set)]) hF.1 hF.2.1 dX2_layAway_198 hl (k := 0) rfl (by decide) rfl (fun ls hl => ?_)
                      refine lv_goto (tgt := 48) hF.1 hF.2.1 dX2_layAway_201 (by decide) ?_
                      exact ih (i48 + 1) _ _ _ _ (by omega) (by rw [it_succ (fX2_layAway_b48 g a pn td set) i48 _, ← hS48]; unfold fX2_layAway_b48; first | (rw [if_neg c6]; done) | (simp only [if_neg c6])) hH hS (lv_sub hl [0, 1, 2, 3, 4, 5] rfl)
                    · skip
                      refine lv_aload_n hF.1 hF.2.1 dX2_layAway_68 rfl (lv_at hl 2 rfl) ?_
                      refine lv_iload_n hF.1 hF.2.1 dX2_layAway_69 rfl (lv_at hl 3 rfl) ?_
                      refine lv_iload_n hF.1 hF.2.1 dX2_layAway_70 rfl (lv_at hl 4 rfl) ?_
                      refine lv_iload hF.1 hF.2.1 dX2_layAway_71 (lv_at hl 0 rfl) ?_
                      refine g_vPi (As := [.int (nI pn), .int td, .int (nI i48)]) (rest := []) hF (kX2_costBy l ω g y a (va_up z 11 w48_z11) kt hs pn td i48 (by omega) (by omega)) (lw_V q1131 q1133 qs56 q97 q1134) 3 hdX2_costBy rfl rfl ⟨Nat.le_of_ble_eq_true rfl, Nat.le_of_ble_eq_true rfl⟩ (m_preV hK hH) rfl hl.1 rfl (Nat.le_of_ble_eq_true rfl) dX2_layAway_73 ⟨Nat.zero_le _, Nat.zero_le _⟩ (fun r7 e_r7 => ?_)
                      refine lv_istore (lv' := [(7, .int r7), (6, .int (nI i48)), (5, .int (nI i38)), (0, .ref (ω.2.1 0 99)), (1, .int (nI pn)), (2, .int td), (4, .int set)]) hF.1 hF.2.1 dX2_layAway_76 hl (by decide) rfl (fun ls hl => ?_)
                      refine lv_aload_n hF.1 hF.2.1 dX2_layAway_78 rfl (lv_at hl 3 rfl) ?_
                      refine mg_7 hF hK hH q978 dX2_layAway_79 ?_
                      refine lv_iconst (v := nI 4) hF.1 hF.2.1 dX2_layAway_82 (by decide) ?_
                      refine lv_iload hF.1 hF.2.1 dX2_layAway_83 (lv_at hl 1 rfl) ?_
                      refine n_imul hF.1 hF.2.1 dX2_layAway_85 ?_
                      refine lv_iconst (v := nI 1) hF.1 hF.2.1 dX2_layAway_86 (by decide) ?_
                      refine n_iadd hF.1 hF.2.1 dX2_layAway_87 ?_
                      refine m_ald hF hK hH 7 (n := 36) rfl rfl (by decide) rfl (f := a 7) rfl (i := (4 * i48) + 1) (by omega) (by decide) dX2_layAway_88 ?_
                      obtain ⟨b8e, b8l⟩ := g_lift (r := a 7 ((4 * i48) + 1)) (n := 8) (hr.e1 (by omega) (by omega) (by omega)) (by omega)
                      refine n_top b8e ?_
                      refine lv_istore (lv' := [(8, .int (nI (toN (a 7 ((4 * i48) + 1))))), (7, .int r7), (6, .int (nI i48)), (5, .int (nI i38)), (0, .ref (ω.2.1 0 99)), (1, .int (nI pn)), (2, .int td), (4, .int set)]) hF.1 hF.2.1 dX2_layAway_89 hl (by decide) rfl (fun ls hl => ?_)
                      refine lv_aload_n hF.1 hF.2.1 dX2_layAway_91 rfl (lv_at hl 4 rfl) ?_
                      refine mg_7 hF hK hH q978 dX2_layAway_92 ?_
                      refine lv_iconst (v := nI 4) hF.1 hF.2.1 dX2_layAway_95 (by decide) ?_
                      refine lv_iload hF.1 hF.2.1 dX2_layAway_96 (lv_at hl 2 rfl) ?_
                      refine n_imul hF.1 hF.2.1 dX2_layAway_98 ?_
                      refine lv_iconst (v := nI 2) hF.1 hF.2.1 dX2_layAway_99 (by decide) ?_
                      refine n_iadd hF.1 hF.2.1 dX2_layAway_100 ?_
                      refine m_ald hF hK hH 7 (n := 36) rfl rfl (by decide) rfl (f := a 7) rfl (i := (4 * i48) + 2) (by omega) (by decide) dX2_layAway_101 ?_
                      obtain ⟨b9e, b9l⟩ := g_lift (r := a 7 ((4 * i48) + 2)) (n := 8) (hr.e1 (by omega) (by omega) (by omega)) (by omega)
                      refine n_top b9e ?_
                      refine lv_istore (lv' := [(9, .int (nI (toN (a 7 ((4 * i48) + 2))))), (8, .int (nI (toN (a 7 ((4 * i48) + 1))))), (7, .int r7), (6, .int (nI i48)), (5, .int (nI i38)), (0, .ref (ω.2.1 0 99)), (1, .int (nI pn)), (2, .int td), (4, .int set)]) hF.1 hF.2.1 dX2_layAway_102 hl (by decide) rfl (fun ls hl => ?_)
                      refine lv_aload_n hF.1 hF.2.1 dX2_layAway_104 rfl (lv_at hl 5 rfl) ?_
                      refine mg_11 hF hK hH q982 dX2_layAway_105 ?_
                      refine lv_iload hF.1 hF.2.1 dX2_layAway_108 (lv_at hl 1 rfl) ?_
                      refine lv_aload_n hF.1 hF.2.1 dX2_layAway_110 rfl (lv_at hl 5 rfl) ?_
                      refine mg_11 hF hK hH q982 dX2_layAway_111 ?_
                      refine lv_iload hF.1 hF.2.1 dX2_layAway_114 (lv_at hl 0 rfl) ?_
                      refine m_zld hF hK hH 11 (n := 8) rfl rfl (by decide) rfl (f := w48_z11) rfl (i := toN (a 7 ((4 * i48) + 2))) (by omega) (by decide) dX2_layAway_116 ?_
                      refine lv_iload hF.1 hF.2.1 dX2_layAway_117 (lv_at hl 2 rfl) ?_
                      refine lv_iadd hF.1 hF.2.1 dX2_layAway_119 ?_
                      refine lv_aload_n hF.1 hF.2.1 dX2_layAway_120 rfl (lv_at hl 5 rfl) ?_
                      refine mg_11 hF hK hH q982 dX2_layAway_121 ?_
                      refine lv_iload hF.1 hF.2.1 dX2_layAway_124 (lv_at hl 1 rfl) ?_
                      refine m_zld hF hK hH 11 (n := 8) rfl rfl (by decide) rfl (f := w48_z11) rfl (i := toN (a 7 ((4 * i48) + 1))) (by omega) (by decide) dX2_layAway_126 ?_
                      have k150_12 : ∀ (v11 : Int32) (ls : Array Slot), v11 = (if (w48_z11 (toN (a 7 ((4 * i48) + 1)))) ≤ ((w48_z11 (toN (a 7 ((4 * i48) + 2)))) + r7) then w48_z11 (toN (a 7 ((4 * i48) + 1))) else (w48_z11 (toN (a 7 ((4 * i48) + 2)))) + r7) → lv_has ls 10 [(9, .int (nI (toN (a 7 ((4 * i48) + 2))))), (8, .int (nI (toN (a 7 ((4 * i48) + 1))))), (7, .int r7), (6, .int (nI i48)), (5, .int (nI i38)), (0, .ref (ω.2.1 0 99)), (1, .int (nI pn)), (2, .int td), (4, .int set)] → W p l e rmX2_layAway s m args below meth c H locs 0 0 QQ (F0 m 150 ls [.int v11, .int (nI (toN (a 7 ((4 * i48) + 1)))), .ref (ω.2.1 0 11)]) := by
                        intro v11 ls e_v11 hl
                        refine m_zst (z' := va_up z 11 (upd w48_z11 (toN (a 7 ((4 * i48) + 1))) v11)) hF hK hH hS 11 (n := 8) rfl rfl (by decide) rfl (f := w48_z11) rfl (i := toN (a 7 ((4 * i48) + 1))) (by omega) (by decide) dX2_layAway_150 rfl (by intro j hj; simp only [va_up, if_neg hj]) (fun H locs hH hS => ?_)
                        refine lv_aload_n hF.1 hF.2.1 dX2_layAway_151 rfl (lv_at hl 5 rfl) ?_
                        refine mg_11 hF hK hH q982 dX2_layAway_152 ?_
                        refine lv_iload hF.1 hF.2.1 dX2_layAway_155 (lv_at hl 0 rfl) ?_
                        refine lv_aload_n hF.1 hF.2.1 dX2_layAway_157 rfl (lv_at hl 5 rfl) ?_
                        refine mg_11 hF hK hH q982 dX2_layAway_158 ?_
                        refine lv_iload hF.1 hF.2.1 dX2_layAway_161 (lv_at hl 1 rfl) ?_
                        refine m_zld hF hK hH 11 (n := 8) rfl rfl (by decide) rfl (f := upd w48_z11 (toN (a 7 ((4 * i48) + 1))) v11) rfl (i := toN (a 7 ((4 * i48) + 1))) (by omega) (by decide) dX2_layAway_163 ?_
                        refine lv_iload hF.1 hF.2.1 dX2_layAway_164 (lv_at hl 2 rfl) ?_
                        refine lv_iadd hF.1 hF.2.1 dX2_layAway_166 ?_
                        refine lv_aload_n hF.1 hF.2.1 dX2_layAway_167 rfl (lv_at hl 5 rfl) ?_
                        refine mg_11 hF hK hH q982 dX2_layAway_168 ?_
                        refine lv_iload hF.1 hF.2.1 dX2_layAway_171 (lv_at hl 0 rfl) ?_
                        refine m_zld hF hK hH 11 (n := 8) rfl rfl (by decide) rfl (f := upd w48_z11 (toN (a 7 ((4 * i48) + 1))) v11) rfl (i := toN (a 7 ((4 * i48) + 2))) (by omega) (by decide) dX2_layAway_173 ?_
                        refine lv_icmp_ge (tgt := 190) hF.1 hF.2.1 dX2_layAway_174 (by decide) (fun c13 => ?_) (fun c13 => ?_)
                        · skip
                          refine lv_aload_n hF.1 hF.2.1 dX2_layAway_190 rfl (lv_at hl 5 rfl) ?_
                          refine mg_11 hF hK hH q982 dX2_layAway_191 ?_
                          refine lv_iload hF.1 hF.2.1 dX2_layAway_194 (lv_at hl 0 rfl) ?_
                          refine m_zld hF hK hH 11 (n := 8) rfl rfl (by decide) rfl (f := upd w48_z11 (toN (a 7 ((4 * i48) + 1))) v11) rfl (i := toN (a 7 ((4 * i48) + 2))) (by omega) (by decide) dX2_layAway_196 ?_
                          refine m_zst (z' := va_up z 11 (upd (upd w48_z11 (toN (a 7 ((4 * i48) + 1))) v11) (toN (a 7 ((4 * i48) + 2))) ((upd w48_z11 (toN (a 7 ((4 * i48) + 1))) v11) (toN (a 7 ((4 * i48) + 2)))))) hF hK hH hS 11 (n := 8) rfl rfl (by decide) rfl (f := upd w48_z11 (toN (a 7 ((4 * i48) + 1))) v11) rfl (i := toN (a 7 ((4 * i48) + 2))) (by omega) (by decide) dX2_layAway_197 rfl (by intro j hj; simp only [va_up, if_neg hj]) (fun H locs hH hS => ?_)
                          refine n_iinc (lv' := [(6, .int (nI (i48 + 1))), (9, .int (nI (toN (a 7 ((4 * i48) + 2))))), (8, .int (nI (toN (a 7 ((4 * i48) + 1))))), (7, .int r7), (5, .int (nI i38)), (0, .ref (ω.2.1 0 99)), (1, .int (nI pn)), (2, .int td), (4, .int set)]) hF.1 hF.2.1 dX2_layAway_198 hl (k := 3) rfl (by decide) rfl (fun ls hl => ?_)
                          refine lv_goto (tgt := 48) hF.1 hF.2.1 dX2_layAway_201 (by decide) ?_
                          exact ih (i48 + 1) _ _ _ _ (by omega) (by subst e_v11; subst e_r7; rw [it_succ (fX2_layAway_b48 g a pn td set) i48 _, ← hS48]; unfold fX2_layAway_b48; first | (rw [if_pos c6, if_pos c13]; done) | (simp only [if_pos c6, if_pos c13])) hH hS (lv_sub hl [0, 4, 5, 6, 7, 8] rfl)
                        · skip
                          refine lv_aload_n hF.1 hF.2.1 dX2_layAway_177 rfl (lv_at hl 5 rfl) ?_
                          refine mg_11 hF hK hH q982 dX2_layAway_178 ?_
                          refine lv_iload hF.1 hF.2.1 dX2_layAway_181 (lv_at hl 1 rfl) ?_
                          refine m_zld hF hK hH 11 (n := 8) rfl rfl (by decide) rfl (f := upd w48_z11 (toN (a 7 ((4 * i48) + 1))) v11) rfl (i := toN (a 7 ((4 * i48) + 1))) (by omega) (by decide) dX2_layAway_183 ?_
                          refine lv_iload hF.1 hF.2.1 dX2_layAway_184 (lv_at hl 2 rfl) ?_
                          refine lv_iadd hF.1 hF.2.1 dX2_layAway_186 ?_
                          refine lv_goto (tgt := 197) hF.1 hF.2.1 dX2_layAway_187 (by decide) ?_
                          refine m_zst (z' := va_up z 11 (upd (upd w48_z11 (toN (a 7 ((4 * i48) + 1))) v11) (toN (a 7 ((4 * i48) + 2))) (((upd w48_z11 (toN (a 7 ((4 * i48) + 1))) v11) (toN (a 7 ((4 * i48) + 1)))) + r7))) hF hK hH hS 11 (n := 8) rfl rfl (by decide) rfl (f := upd w48_z11 (toN (a 7 ((4 * i48) + 1))) v11) rfl (i := toN (a 7 ((4 * i48) + 2))) (by omega) (by decide) dX2_layAway_197 rfl (by intro j hj; simp only [va_up, if_neg hj]) (fun H locs hH hS => ?_)
                          refine n_iinc (lv' := [(6, .int (nI (i48 + 1))), (9, .int (nI (toN (a 7 ((4 * i48) + 2))))), (8, .int (nI (toN (a 7 ((4 * i48) + 1))))), (7, .int r7), (5, .int (nI i38)), (0, .ref (ω.2.1 0 99)), (1, .int (nI pn)), (2, .int td), (4, .int set)]) hF.1 hF.2.1 dX2_layAway_198 hl (k := 3) rfl (by decide) rfl (fun ls hl => ?_)
                          refine lv_goto (tgt := 48) hF.1 hF.2.1 dX2_layAway_201 (by decide) ?_
                          exact ih (i48 + 1) _ _ _ _ (by omega) (by subst e_v11; subst e_r7; rw [it_succ (fX2_layAway_b48 g a pn td set) i48 _, ← hS48]; unfold fX2_layAway_b48; first | (rw [if_pos c6, if_neg c13]; done) | (simp only [if_pos c6, if_neg c13])) hH hS (lv_sub hl [0, 4, 5, 6, 7, 8] rfl)
                      refine lv_icmp_ge (tgt := 143) hF.1 hF.2.1 dX2_layAway_127 (by decide) (fun c10 => ?_) (fun c10 => ?_)
                      · skip
                        refine lv_aload_n hF.1 hF.2.1 dX2_layAway_143 rfl (lv_at hl 5 rfl) ?_
                        refine mg_11 hF hK hH q982 dX2_layAway_144 ?_
                        refine lv_iload hF.1 hF.2.1 dX2_layAway_147 (lv_at hl 1 rfl) ?_
                        refine m_zld hF hK hH 11 (n := 8) rfl rfl (by decide) rfl (f := w48_z11) rfl (i := toN (a 7 ((4 * i48) + 1))) (by omega) (by decide) dX2_layAway_149 ?_
                        exact k150_12 _ _ (by first | (rw [if_pos c10]; done) | (simp only [if_pos c10])) (lv_sub hl [0, 1, 2, 3, 4, 5, 6, 7, 8] rfl)
                      · skip
                        refine lv_aload_n hF.1 hF.2.1 dX2_layAway_130 rfl (lv_at hl 5 rfl) ?_
                        refine mg_11 hF hK hH q982 dX2_layAway_131 ?_
                        refine lv_iload hF.1 hF.2.1 dX2_layAway_134 (lv_at hl 0 rfl) ?_
                        refine m_zld hF hK hH 11 (n := 8) rfl rfl (by decide) rfl (f := w48_z11) rfl (i := toN (a 7 ((4 * i48) + 2))) (by omega) (by decide) dX2_layAway_136 ?_
                        refine lv_iload hF.1 hF.2.1 dX2_layAway_137 (lv_at hl 2 rfl) ?_
                        refine lv_iadd hF.1 hF.2.1 dX2_layAway_139 ?_
                        refine lv_goto (tgt := 150) hF.1 hF.2.1 dX2_layAway_140 (by decide) ?_
                        exact k150_12 _ _ (by first | (rw [if_neg c10]; done) | (simp only [if_neg c10])) (lv_sub hl [0, 1, 2, 3, 4, 5, 6, 7, 8] rfl)
              exact lp48_32 (g 4) 0 _ _ _ _ (by omega) rfl hH hS (lv_sub hl [0, 1, 2, 3, 4, 5] rfl)
        exact lp38_30 8 0 _ _ _ _ (by omega) rfl hH hS (lv_sub hl [0, 1, 2, 3, 5] rfl)
      · exact absurd (by omega) c1
    | succ d3 ih =>
      intro i3 w3_z11 H locs ls hi3 hS3 hH hS hl
      refine lv_iload hF.1 hF.2.1 dX2_layAway_3 (lv_at hl 0 rfl) ?_
      refine lv_bipush (v := nI 8) hF.1 hF.2.1 dX2_layAway_5 (by decide) ?_
      refine n_ge (tgt := 35) hF.1 hF.2.1 dX2_layAway_7 (by decide) (by omega) (by omega) (fun c14 => ?_) (fun c14 => ?_)
      · exact absurd c14 (by omega)
      · skip
        refine lv_aload_n hF.1 hF.2.1 dX2_layAway_10 rfl (lv_at hl 1 rfl) ?_
        refine mg_11 hF hK hH q982 dX2_layAway_11 ?_
        refine lv_iload hF.1 hF.2.1 dX2_layAway_14 (lv_at hl 0 rfl) ?_
        refine lv_iload hF.1 hF.2.1 dX2_layAway_16 (lv_at hl 0 rfl) ?_
        refine lv_iload_n hF.1 hF.2.1 dX2_layAway_18 rfl (lv_at hl 4 rfl) ?_
        refine n_ne (tgt := 26) hF.1 hF.2.1 dX2_layAway_19 (by decide) (by omega) (by omega) (fun c15 => ?_) (fun c15 => ?_)
        · skip
          refine lv_ldc (v := nI 1000000000) hF.1 hF.2.1 hF.2.2.2.1 (hF.2.2.2.2 _ q1130) dX2_layAway_26 ?_
          refine m_zst (z' := va_up z 11 (upd w3_z11 i3 (nI 1000000000))) hF hK hH hS 11 (n := 8) rfl rfl (by decide) rfl (f := w3_z11) rfl (i := i3) (by omega) (by decide) dX2_layAway_28 rfl (by intro j hj; simp only [va_up, if_neg hj]) (fun H locs hH hS => ?_)
          refine n_iinc (lv' := [(5, .int (nI (i3 + 1))), (0, .ref (ω.2.1 0 99)), (1, .int (nI pn)), (2, .int td), (3, .int (nI to)), (4, .int set)]) hF.1 hF.2.1 dX2_layAway_29 hl (k := 0) rfl (by decide) rfl (fun ls hl => ?_)
          refine lv_goto (tgt := 3) hF.1 hF.2.1 dX2_layAway_32 (by decide) ?_
          exact ih (i3 + 1) _ _ _ _ (by omega) (by rw [it_succ (fX2_layAway_b3 to) i3 _, ← hS3]; unfold fX2_layAway_b3; first | (rw [if_neg c15]; done) | (simp only [if_neg c15])) hH hS (lv_sub hl [0, 1, 2, 3, 4, 5] rfl)
        · skip
          refine lv_iconst (v := nI 0) hF.1 hF.2.1 dX2_layAway_22 (by decide) ?_
          refine lv_goto (tgt := 28) hF.1 hF.2.1 dX2_layAway_23 (by decide) ?_
          refine m_zst (z' := va_up z 11 (upd w3_z11 i3 (nI 0))) hF hK hH hS 11 (n := 8) rfl rfl (by decide) rfl (f := w3_z11) rfl (i := i3) (by omega) (by decide) dX2_layAway_28 rfl (by intro j hj; simp only [va_up, if_neg hj]) (fun H locs hH hS => ?_)
          refine n_iinc (lv' := [(5, .int (nI (i3 + 1))), (0, .ref (ω.2.1 0 99)), (1, .int (nI pn)), (2, .int td), (3, .int (nI to)), (4, .int set)]) hF.1 hF.2.1 dX2_layAway_29 hl (k := 0) rfl (by decide) rfl (fun ls hl => ?_)
          refine lv_goto (tgt := 3) hF.1 hF.2.1 dX2_layAway_32 (by decide) ?_
          exact ih (i3 + 1) _ _ _ _ (by omega) (by rw [it_succ (fX2_layAway_b3 to) i3 _, ← hS3]; unfold fX2_layAway_b3; first | (rw [if_pos c15]; done) | (simp only [if_pos c15])) hH hS (lv_sub hl [0, 1, 2, 3, 4, 5] rfl)
  have hH : mH ω (g, y, a, va_up z 11 (z 11), kt, hs) H := m_ext (fun _ => rfl) (fun _ => rfl) (fun _ => rfl) (by intro k; by_cases h0 : k = 11; (subst h0; simp [va_up]); simp only [va_up, if_neg h0]) hH
  exact lp3_24 8 0 _ _ _ _ (by omega) rfl hH hS (lv_sub hl [0, 1, 2, 3, 4, 5] rfl)

def fX2_firstStreet_b11 (g : Nat → Nat) (a : Nat → Nat → Int32) (z : Nat → Nat → Int32) (pn : Nat) (td : Int32) (cn : Nat) (set : Int32) (i11 : Nat) (S : Int32) : Int32 := if ((set >>> ((nI (g 4 - i11 - 1)) &&& 31)) &&& (nI 1)) = (nI 1) then if (fX2_beyond a (g 4 - i11 - 1) (nI cn)) = (-1) then S else if (nI 1000000000) ≤ (z 11 cn) then S else if ((z 11 (toN (fX2_beyond a (g 4 - i11 - 1) (nI cn)))) + (fX2_costBy g a pn td (g 4 - i11 - 1))) = (z 11 cn) then nI (g 4 - i11 - 1) else S else S
theorem fX2_beyond_lift {n : Nat} {a : Nat → Nat → Int32} (hr : mRows n (a 7)) {sn : Nat} (hs : sn < n) {cn : Int32} (h : ¬ fX2_beyond a sn cn = (-1)) : ∃ j, j < 8 ∧ fX2_beyond a sn cn = nI j := by
  unfold fX2_beyond at *
  split at h
  · rw [if_pos (by assumption)]; exact hr.e1 hs (by omega) (by omega)
  · rw [if_neg (by assumption)]
    split at h
    · rw [if_pos (by assumption)]; exact hr.e1 hs (by omega) (by omega)
    · exact absurd rfl h
def fX2_firstStreet (g : Nat → Nat) (a : Nat → Nat → Int32) (z : Nat → Nat → Int32) (pn : Nat) (td : Int32) (cn : Nat) (set : Int32) : Int32 := (it (fX2_firstStreet_b11 g a z pn td cn set) (g 4) (-1))
def rmX2_firstStreet : Room := { frames := 3, cells := 0, slots := 0, locals := 71 }
theorem hdX2_firstStreet : yX2_firstStreet.cls = RX2 ∧ yX2_firstStreet.cls ≠ "java/lang/invoke/MethodHandle" ∧ yX2_firstStreet.cls ≠ "java/lang/invoke/VarHandle" ∧ (parseMethodDescriptor yX2_firstStreet.desc).map (fun d => d.parameters.length) = some 4 := by decide +kernel
set_option maxHeartbeats 4000000 in
theorem kX2_firstStreet (l : Launch) (ω : OM) (g : Nat → Nat) (y : Nat → Int32) (a z : Nat → Nat → Int32) (kt : Int32) (hs : Int64) (pn : Nat) (td : Int32) (cn : Nat) (set : Int32) (hpn : pn < 3) (hcn : cn < 8) (hr : mRows (g 4) (a 7)) : Met l yX2_firstStreet (ws_ yX2_firstStreet cX2_firstStreet 8 (some .int)) rmX2_firstStreet (va_Pc [.ref (ω.2.1 0 99), .int (nI pn), .int td, .int (nI cn), .int set] (fun U => mK ω U ∧ mH ω (g, y, a, z, kt, hs) U.heap)) (vp_Si (fun r => r = (fX2_firstStreet g a z pn td cn set))) 0 0 (fun _ => False) := by
  refine g_entPi (C := RX2) rfl (by decide) (Nat.le_of_ble_eq_true rfl) ?_
  intro p e s m args below meth c QQ ls hF hKH hl hret
  have hl : lv_has ls 8 [(0, .ref (ω.2.1 0 99)), (1, .int (nI pn)), (2, .int td), (3, .int (nI cn)), (4, .int set)] := hl
  obtain ⟨hK, hH⟩ := hKH
  have hn := hr.1
  refine lv_iconst (v := (-1)) hF.1 hF.2.1 dX2_firstStreet_0 (by decide) ?_
  refine lv_istore (lv' := [(5, .int (-1)), (0, .ref (ω.2.1 0 99)), (1, .int (nI pn)), (2, .int td), (3, .int (nI cn)), (4, .int set)]) hF.1 hF.2.1 dX2_firstStreet_1 hl (by decide) rfl (fun ls hl => ?_)
  refine lv_aload_n hF.1 hF.2.1 dX2_firstStreet_3 rfl (lv_at hl 1 rfl) ?_
  refine mg_4 hF hK hH q975 dX2_firstStreet_4 (v := g 4) rfl ?_
  refine lv_iconst (v := nI 1) hF.1 hF.2.1 dX2_firstStreet_7 (by decide) ?_
  refine lv_isub hF.1 hF.2.1 dX2_firstStreet_8 ?_
  refine lv_istore (lv' := [(6, .int ((nI (g 4)) - (nI 1))), (5, .int (-1)), (0, .ref (ω.2.1 0 99)), (1, .int (nI pn)), (2, .int td), (3, .int (nI cn)), (4, .int set)]) hF.1 hF.2.1 dX2_firstStreet_9 hl (by decide) rfl (fun ls hl => ?_)
  have lp11_34 : ∀ (d11 i11 : Nat) (x11_5 : Int32) (ls : Array Slot), i11 + d11 = g 4 → x11_5 = it (fX2_firstStreet_b11 g a z pn td cn set) i11 (-1) → lv_has ls 8 [(6, .int (nI (g 4 - i11) - nI 1)), (5, .int x11_5), (0, .ref (ω.2.1 0 99)), (1, .int (nI pn)), (2, .int td), (3, .int (nI cn)), (4, .int set)] → W p l e rmX2_firstStreet s m args below meth c s.heap [] 0 0 QQ (F0 m 11 ls []) := by
    intro d11
    induction d11 with
    | zero =>
      intro i11 x11_5 ls hi11 hS11 hl
      have hj11 : g 4 = i11 := by omega
      subst hj11
      have e_x11_5 := hS11
      refine lv_iload hF.1 hF.2.1 dX2_firstStreet_11 (lv_at hl 0 rfl) ?_
      refine lv_if_lt (tgt := 93) hF.1 hF.2.1 dX2_firstStreet_13 (by decide) (fun c1 => ?_) (fun c1 => ?_)
      · skip
        refine lv_iload hF.1 hF.2.1 dX2_firstStreet_93 (lv_at hl 1 rfl) ?_
        exact hret _ _ _ dX2_firstStreet_95 (by subst e_x11_5; rfl)
      · exact absurd dn_end c1
    | succ d11 ih =>
      intro i11 x11_5 ls hi11 hS11 hl
      refine lv_iload hF.1 hF.2.1 dX2_firstStreet_11 (lv_at hl 0 rfl) ?_
      refine lv_if_lt (tgt := 93) hF.1 hF.2.1 dX2_firstStreet_13 (by decide) (fun c2 => ?_) (fun c2 => ?_)
      · exact absurd c2 (dn_not (by omega) (by omega))
      · skip
        have b3 : nI (g 4 - i11) - nI 1 = nI (g 4 - i11 - 1) := dn_eq (by omega)
        refine lv_aload_n hF.1 hF.2.1 dX2_firstStreet_16 rfl (lv_at hl 2 rfl) ?_
        refine lv_iload hF.1 hF.2.1 dX2_firstStreet_17 (lv_at hl 0 rfl) ?_
        refine n_top b3 ?_
        refine lv_iload_n hF.1 hF.2.1 dX2_firstStreet_19 rfl (lv_at hl 5 rfl) ?_
        refine g_vPi (As := [.int (nI (g 4 - i11 - 1)), .int (nI cn)]) (rest := []) hF (kX2_beyond l ω g y a z kt hs (g 4 - i11 - 1) (nI cn) (by omega)) (lw_V q1143 q1145 qs59 q97 q1146) 2 hdX2_beyond rfl rfl ⟨Nat.le_of_ble_eq_true rfl, Nat.le_of_ble_eq_true rfl⟩ (m_preV hK hH) rfl hl.1 rfl (Nat.le_of_ble_eq_true rfl) dX2_firstStreet_20 ⟨Nat.zero_le _, Nat.zero_le _⟩ (fun r4 e_r4 => ?_)
        refine lv_istore (lv' := [(7, .int r4), (6, .int (nI (g 4 - i11) - nI 1)), (5, .int x11_5), (0, .ref (ω.2.1 0 99)), (1, .int (nI pn)), (2, .int td), (3, .int (nI cn)), (4, .int set)]) hF.1 hF.2.1 dX2_firstStreet_23 hl (by decide) rfl (fun ls hl => ?_)
        refine lv_iload hF.1 hF.2.1 dX2_firstStreet_25 (lv_at hl 7 rfl) ?_
        refine lv_iload hF.1 hF.2.1 dX2_firstStreet_27 (lv_at hl 1 rfl) ?_
        refine n_top b3 ?_
        refine lv_ishr hF.1 hF.2.1 dX2_firstStreet_29 ?_
        refine lv_iconst (v := nI 1) hF.1 hF.2.1 dX2_firstStreet_30 (by decide) ?_
        refine lv_iand hF.1 hF.2.1 dX2_firstStreet_31 ?_
        refine lv_iconst (v := nI 1) hF.1 hF.2.1 dX2_firstStreet_32 (by decide) ?_
        refine lv_icmp_ne (tgt := 87) hF.1 hF.2.1 dX2_firstStreet_33 (by decide) (fun c5 => ?_) (fun c5 => ?_)
        · skip
          refine lv_iinc (v := nI (g 4 - (i11 + 1)) - nI 1) (lv' := [(6, .int (nI (g 4 - (i11 + 1)) - nI 1)), (7, .int r4), (5, .int x11_5), (0, .ref (ω.2.1 0 99)), (1, .int (nI pn)), (2, .int td), (3, .int (nI cn)), (4, .int set)]) hF.1 hF.2.1 dX2_firstStreet_87 hl (k := 1) rfl (dn_step (by omega)) (by decide) rfl (fun ls hl => ?_)
          refine lv_goto (tgt := 11) hF.1 hF.2.1 dX2_firstStreet_90 (by decide) ?_
          exact ih (i11 + 1) _ _ (by omega) (by subst e_r4; rw [it_succ (fX2_firstStreet_b11 g a z pn td cn set) i11 _, ← hS11]; unfold fX2_firstStreet_b11; first | (rw [if_neg c5]; done) | (simp only [if_neg c5])) (lv_sub hl [0, 2, 3, 4, 5, 6, 7] rfl)
        · skip
          refine lv_iload hF.1 hF.2.1 dX2_firstStreet_36 (lv_at hl 0 rfl) ?_
          refine lv_iconst (v := (-1)) hF.1 hF.2.1 dX2_firstStreet_38 (by decide) ?_
          refine lv_icmp_eq (tgt := 87) hF.1 hF.2.1 dX2_firstStreet_39 (by decide) (fun c6 => ?_) (fun c6 => ?_)
          · skip
            refine lv_iinc (v := nI (g 4 - (i11 + 1)) - nI 1) (lv' := [(6, .int (nI (g 4 - (i11 + 1)) - nI 1)), (7, .int r4), (5, .int x11_5), (0, .ref (ω.2.1 0 99)), (1, .int (nI pn)), (2, .int td), (3, .int (nI cn)), (4, .int set)]) hF.1 hF.2.1 dX2_firstStreet_87 hl (k := 1) rfl (dn_step (by omega)) (by decide) rfl (fun ls hl => ?_)
            refine lv_goto (tgt := 11) hF.1 hF.2.1 dX2_firstStreet_90 (by decide) ?_
            exact ih (i11 + 1) _ _ (by omega) (by subst e_r4; rw [it_succ (fX2_firstStreet_b11 g a z pn td cn set) i11 _, ← hS11]; unfold fX2_firstStreet_b11; first | (rw [if_pos c5, if_pos c6]; done) | (simp only [if_pos c5, if_pos c6])) (lv_sub hl [0, 2, 3, 4, 5, 6, 7] rfl)
          · skip
            refine lv_aload_n hF.1 hF.2.1 dX2_firstStreet_42 rfl (lv_at hl 3 rfl) ?_
            refine mg_11 hF hK hH q982 dX2_firstStreet_43 ?_
            refine lv_iload_n hF.1 hF.2.1 dX2_firstStreet_46 rfl (lv_at hl 6 rfl) ?_
            refine m_zld hF hK hH 11 (n := 8) rfl rfl (by decide) rfl (f := z 11) rfl (i := cn) (by omega) (by decide) dX2_firstStreet_47 ?_
            refine lv_ldc (v := nI 1000000000) hF.1 hF.2.1 hF.2.2.2.1 (hF.2.2.2.2 _ q1130) dX2_firstStreet_48 ?_
            refine lv_icmp_ge (tgt := 87) hF.1 hF.2.1 dX2_firstStreet_50 (by decide) (fun c7 => ?_) (fun c7 => ?_)
            · skip
              refine lv_iinc (v := nI (g 4 - (i11 + 1)) - nI 1) (lv' := [(6, .int (nI (g 4 - (i11 + 1)) - nI 1)), (7, .int r4), (5, .int x11_5), (0, .ref (ω.2.1 0 99)), (1, .int (nI pn)), (2, .int td), (3, .int (nI cn)), (4, .int set)]) hF.1 hF.2.1 dX2_firstStreet_87 hl (k := 1) rfl (dn_step (by omega)) (by decide) rfl (fun ls hl => ?_)
              refine lv_goto (tgt := 11) hF.1 hF.2.1 dX2_firstStreet_90 (by decide) ?_
              exact ih (i11 + 1) _ _ (by omega) (by subst e_r4; rw [it_succ (fX2_firstStreet_b11 g a z pn td cn set) i11 _, ← hS11]; unfold fX2_firstStreet_b11; first | (rw [if_pos c5, if_neg c6, if_pos c7]; done) | (simp only [if_pos c5, if_neg c6, if_pos c7])) (lv_sub hl [0, 2, 3, 4, 5, 6, 7] rfl)
            · skip
              obtain ⟨b8e, b8l⟩ := g_lift (r := r4) (n := 8) (by rw [e_r4] at *; exact fX2_beyond_lift hr (by omega) c6) (by omega)
              refine lv_aload_n hF.1 hF.2.1 dX2_firstStreet_53 rfl (lv_at hl 3 rfl) ?_
              refine mg_11 hF hK hH q982 dX2_firstStreet_54 ?_
              refine lv_iload hF.1 hF.2.1 dX2_firstStreet_57 (lv_at hl 0 rfl) ?_
              refine n_top b8e ?_
              refine m_zld hF hK hH 11 (n := 8) rfl rfl (by decide) rfl (f := z 11) rfl (i := toN r4) (by omega) (by decide) dX2_firstStreet_59 ?_
              refine lv_aload_n hF.1 hF.2.1 dX2_firstStreet_60 rfl (lv_at hl 3 rfl) ?_
              refine lv_iload_n hF.1 hF.2.1 dX2_firstStreet_61 rfl (lv_at hl 4 rfl) ?_
              refine lv_iload_n hF.1 hF.2.1 dX2_firstStreet_62 rfl (lv_at hl 5 rfl) ?_
              refine lv_iload hF.1 hF.2.1 dX2_firstStreet_63 (lv_at hl 1 rfl) ?_
              refine n_top b3 ?_
              refine g_vPi (As := [.int (nI pn), .int td, .int (nI (g 4 - i11 - 1))]) (rest := [.int (z 11 (toN r4))]) hF (kX2_costBy l ω g y a z kt hs pn td (g 4 - i11 - 1) (by omega) (by omega)) (lw_V q1131 q1133 qs56 q97 q1134) 3 hdX2_costBy rfl rfl ⟨Nat.le_of_ble_eq_true rfl, Nat.le_of_ble_eq_true rfl⟩ (m_preV hK hH) rfl hl.1 rfl (Nat.le_of_ble_eq_true rfl) dX2_firstStreet_65 ⟨Nat.zero_le _, Nat.zero_le _⟩ (fun r9 e_r9 => ?_)
              refine lv_iadd hF.1 hF.2.1 dX2_firstStreet_68 ?_
              refine lv_aload_n hF.1 hF.2.1 dX2_firstStreet_69 rfl (lv_at hl 3 rfl) ?_
              refine mg_11 hF hK hH q982 dX2_firstStreet_70 ?_
              refine lv_iload_n hF.1 hF.2.1 dX2_firstStreet_73 rfl (lv_at hl 6 rfl) ?_
              refine m_zld hF hK hH 11 (n := 8) rfl rfl (by decide) rfl (f := z 11) rfl (i := cn) (by omega) (by decide) dX2_firstStreet_74 ?_
              refine lv_icmp_ne (tgt := 83) hF.1 hF.2.1 dX2_firstStreet_75 (by decide) (fun c10 => ?_) (fun c10 => ?_)
              · skip
                refine lv_iload hF.1 hF.2.1 dX2_firstStreet_83 (lv_at hl 2 rfl) ?_
                refine lv_istore (lv' := [(5, .int x11_5), (7, .int r4), (6, .int (nI (g 4 - i11) - nI 1)), (0, .ref (ω.2.1 0 99)), (1, .int (nI pn)), (2, .int td), (3, .int (nI cn)), (4, .int set)]) hF.1 hF.2.1 dX2_firstStreet_85 hl (by decide) rfl (fun ls hl => ?_)
                refine lv_iinc (v := nI (g 4 - (i11 + 1)) - nI 1) (lv' := [(6, .int (nI (g 4 - (i11 + 1)) - nI 1)), (5, .int x11_5), (7, .int r4), (0, .ref (ω.2.1 0 99)), (1, .int (nI pn)), (2, .int td), (3, .int (nI cn)), (4, .int set)]) hF.1 hF.2.1 dX2_firstStreet_87 hl (k := 2) rfl (dn_step (by omega)) (by decide) rfl (fun ls hl => ?_)
                refine lv_goto (tgt := 11) hF.1 hF.2.1 dX2_firstStreet_90 (by decide) ?_
                exact ih (i11 + 1) _ _ (by omega) (by subst e_r9; subst e_r4; rw [it_succ (fX2_firstStreet_b11 g a z pn td cn set) i11 _, ← hS11]; unfold fX2_firstStreet_b11; first | (rw [if_pos c5, if_neg c6, if_neg c7, if_neg c10]; done) | (simp only [if_pos c5, if_neg c6, if_neg c7, if_neg c10])) (lv_sub hl [0, 1, 3, 4, 5, 6, 7] rfl)
              · skip
                refine lv_iload hF.1 hF.2.1 dX2_firstStreet_78 (lv_at hl 1 rfl) ?_
                refine n_top b3 ?_
                refine lv_goto (tgt := 85) hF.1 hF.2.1 dX2_firstStreet_80 (by decide) ?_
                refine lv_istore (lv' := [(5, .int (nI (g 4 - i11 - 1))), (7, .int r4), (6, .int (nI (g 4 - i11) - nI 1)), (0, .ref (ω.2.1 0 99)), (1, .int (nI pn)), (2, .int td), (3, .int (nI cn)), (4, .int set)]) hF.1 hF.2.1 dX2_firstStreet_85 hl (by decide) rfl (fun ls hl => ?_)
                refine lv_iinc (v := nI (g 4 - (i11 + 1)) - nI 1) (lv' := [(6, .int (nI (g 4 - (i11 + 1)) - nI 1)), (5, .int (nI (g 4 - i11 - 1))), (7, .int r4), (0, .ref (ω.2.1 0 99)), (1, .int (nI pn)), (2, .int td), (3, .int (nI cn)), (4, .int set)]) hF.1 hF.2.1 dX2_firstStreet_87 hl (k := 2) rfl (dn_step (by omega)) (by decide) rfl (fun ls hl => ?_)
                refine lv_goto (tgt := 11) hF.1 hF.2.1 dX2_firstStreet_90 (by decide) ?_
                exact ih (i11 + 1) _ _ (by omega) (by subst e_r9; subst e_r4; rw [it_succ (fX2_firstStreet_b11 g a z pn td cn set) i11 _, ← hS11]; unfold fX2_firstStreet_b11; first | (rw [if_pos c5, if_neg c6, if_neg c7, if_pos c10]; done) | (simp only [if_pos c5, if_neg c6, if_neg c7, if_pos c10])) (lv_sub hl [0, 1, 3, 4, 5, 6, 7] rfl)
  exact lp11_34 (g 4) 0 _ _ (by omega) rfl (lv_sub hl [0, 1, 2, 3, 4, 5, 6] rfl)

