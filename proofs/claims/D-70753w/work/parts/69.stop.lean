/-! CONSTRUCTORS of a Stop (gen/ctor.py) -/
set_option maxRecDepth 100000
/-- Throwable's statics -/
def zT (v1 v2 : Value) (A : Nat → Prop) (U : State) : Prop := va_Z "java/lang/Throwable" "UNASSIGNED_STACK" "[Ljava/lang/StackTraceElement;" v1 A U U.heap ∧ va_Z "java/lang/Throwable" "SUPPRESSED_SENTINEL" "Ljava/util/List;" v2 A U U.heap ∧ narrow (.array (.object "java/lang/StackTraceElement")) v1 = v1 ∧ fits (.array (.object "java/lang/StackTraceElement")) v1 = true ∧ narrow (.object "java/util/List") v2 = v2 ∧ fits (.object "java/util/List") v2 = true
theorem zT.call {v1 v2 : Value} {A : Nat → Prop} {U : State} {g : JFrame} {mk : MethodId} {a : Array Value} (h : zT v1 v2 A U) : zT v1 v2 A (U.calling g mk a) := ⟨va_Z.moved (u := U) (U := U.calling g mk a) (Vm.Alike.refl U.vm) h.1, va_Z.moved (u := U) (U := U.calling g mk a) (Vm.Alike.refl U.vm) h.2.1, h.2.2⟩
theorem zT.to {v1 v2 : Value} {A B : Nat → Prop} {s U : State} {locs : List Loc} (h : zT v1 v2 A s) (hS : va_S A s.heap U.heap locs) (hW : s.WarmedH U.vm) (hAB : ∀ q, B q → A q) : zT v1 v2 B U := ⟨((va_Z.moved (U := U) hW.alike h.1).kept hS.2.1).narrow hAB, ((va_Z.moved (U := U) hW.alike h.2.1).kept hS.2.1).narrow hAB, h.2.2⟩

def rmJ3_init_2 : Room := { frames := 1, cells := 0, slots := 0, locals := 24 }
def wJ3_init_2 (ω : OM) (v1 v2 : Value) (q : Nat) (w : Nat → Nat) : va_W := [(q, .inr (4, [.null, .null, .null, .null, .null, .int 0, .int 0]))]
set_option maxHeartbeats 4000000 in
theorem kJ3_init_2 (l : Launch) (ω : OM) (v1 v2 : Value) (sz q : Nat) : Met l yJ3_init_2 (ws_ yJ3_init_2 cJ3_init_2 5 none) rmJ3_init_2 (cPc ω [.ref q, .null, .null, .int (nI 0), .int (nI 0)] (fun U => mK ω U ∧ zT v1 v2 (va_A [(q, .inr (4, [.null, .null, .null, .null, .null, .int 0, .int 0]))] sz) U) sz [(q, .inr (4, [.null, .null, .null, .null, .null, .int 0, .int 0]))]) (cQc ω sz [(q, .inr (4, [.null, .null, .null, .null, .null, .int 0, .int 0]))] (wJ3_init_2 ω v1 v2 q)) 0 0 (va_A [(q, .inr (4, [.null, .null, .null, .null, .null, .int 0, .int 0]))] sz) := by
  refine g_entC (C := RJ3) rfl (by decide) rfl (Nat.le_of_ble_eq_true rfl) ?_
  intro p e s m args below meth c QQ ls H locs hF hin hKp hsz hP hS hl hret
  have hl : lv_has ls 5 [(0, .ref q), (1, .null), (2, .null), (3, .int (nI 0)), (4, .int (nI 0))] := hl
  obtain ⟨hK, hz⟩ := hKp
  have hA : ∀ x, s.heap.size ≤ x → va_A [(q, .inr (4, [.null, .null, .null, .null, .null, .int 0, .int 0]))] sz x := fun x h => Or.inr (by rw [hsz] at h; exact h)
  have hD : va_D (va_A [(q, .inr (4, [.null, .null, .null, .null, .null, .int 0, .int 0]))] sz) [(q, .inr (4, [.null, .null, .null, .null, .null, .int 0, .int 0]))] := va_D_one
  refine lv_aload_n hF.1 hF.2.1 dJ3_init_2_0 rfl (lv_at hl 0 rfl) ?_
  refine W.objInit hF.1 hF.2.1 hF.2.2.2.1 (hF.2.2.2.2 _ q380) (hF.2.2.2.2 _ q120) (hF.2.2.2.2 _ q121) rfl (hl.1.trans hF.2.2.1.symm) rfl dJ3_init_2_1 (Nat.le_of_ble_eq_true rfl) (Nat.le_of_ble_eq_true rfl) ?_
  refine lv_aload_n hF.1 hF.2.1 dJ3_init_2_4 rfl (lv_at hl 0 rfl) ?_
  refine lv_aload_n hF.1 hF.2.1 dJ3_init_2_5 rfl (lv_at hl 0 rfl) ?_
  refine va_put (v := .ref q) (ty := (.object "java/lang/Throwable")) hF.1 hF.2.1 hF.2.2.2.2 in_X4 tyX4 tyX4_ok nmX4 hF.2.2.2.1 hK hP hD hS 0 rfl rfl 0 (by decide) (hF.2.2.2.2 _ q407) (fun _ h => h) rfl (by decide +kernel) rfl rfl (Nat.le_of_ble_eq_true rfl) dJ3_init_2_6 (fun H locs hP hD hS => ?_)
  have hP : va_P ω.1 vwCl [(q, .inr (4, [.ref q, .null, .null, .null, .null, .int 0, .int 0]))] H := hP
  have hD : va_D (va_A [(q, .inr (4, [.null, .null, .null, .null, .null, .int 0, .int 0]))] sz) [(q, .inr (4, [.ref q, .null, .null, .null, .null, .int 0, .int 0]))] := hD
  refine lv_aload_n hF.1 hF.2.1 dJ3_init_2_9 rfl (lv_at hl 0 rfl) ?_
  refine va_gets hF.1 hF.2.1 hz.1 hS hF.2.2.2.1 (hF.2.2.2.2 _ q381) (fun _ h => h) dJ3_init_2_10 ?_
  refine va_put (v := v1) (ty := (.array (.object "java/lang/StackTraceElement"))) hF.1 hF.2.1 hF.2.2.2.2 in_X4 tyX4 tyX4_ok nmX4 hF.2.2.2.1 hK hP hD hS 0 rfl rfl 1 (by decide) (hF.2.2.2.2 _ q408) (fun _ h => h) rfl (by decide +kernel) hz.2.2.1 hz.2.2.2.1 (Nat.le_of_ble_eq_true rfl) dJ3_init_2_13 (fun H locs hP hD hS => ?_)
  have hP : va_P ω.1 vwCl [(q, .inr (4, [.ref q, v1, .null, .null, .null, .int 0, .int 0]))] H := hP
  have hD : va_D (va_A [(q, .inr (4, [.null, .null, .null, .null, .null, .int 0, .int 0]))] sz) [(q, .inr (4, [.ref q, v1, .null, .null, .null, .int 0, .int 0]))] := hD
  refine lv_aload_n hF.1 hF.2.1 dJ3_init_2_16 rfl (lv_at hl 0 rfl) ?_
  refine va_gets hF.1 hF.2.1 hz.2.1 hS hF.2.2.2.1 (hF.2.2.2.2 _ q383) (fun _ h => h) dJ3_init_2_17 ?_
  refine va_put (v := v2) (ty := (.object "java/util/List")) hF.1 hF.2.1 hF.2.2.2.2 in_X4 tyX4 tyX4_ok nmX4 hF.2.2.2.1 hK hP hD hS 0 rfl rfl 2 (by decide) (hF.2.2.2.2 _ q409) (fun _ h => h) rfl (by decide +kernel) hz.2.2.2.2.1 hz.2.2.2.2.2 (Nat.le_of_ble_eq_true rfl) dJ3_init_2_20 (fun H locs hP hD hS => ?_)
  have hP : va_P ω.1 vwCl [(q, .inr (4, [.ref q, v1, v2, .null, .null, .int 0, .int 0]))] H := hP
  have hD : va_D (va_A [(q, .inr (4, [.null, .null, .null, .null, .null, .int 0, .int 0]))] sz) [(q, .inr (4, [.ref q, v1, v2, .null, .null, .int 0, .int 0]))] := hD
  refine lv_iload hF.1 hF.2.1 dJ3_init_2_23 (lv_at hl 4 rfl) ?_
  refine lv_if_eq (tgt := 36) hF.1 hF.2.1 dJ3_init_2_25 (by rfl) (fun h => ?_) (fun h => absurd nI_0 h)
  refine lv_aload_n hF.1 hF.2.1 dJ3_init_2_36 rfl (lv_at hl 0 rfl) ?_
  refine lv_null hF.1 hF.2.1 dJ3_init_2_37 ?_
  refine va_put (v := .null) (ty := (.array (.object "java/lang/StackTraceElement"))) hF.1 hF.2.1 hF.2.2.2.2 in_X4 tyX4 tyX4_ok nmX4 hF.2.2.2.1 hK hP hD hS 0 rfl rfl 1 (by decide) (hF.2.2.2.2 _ q408) (fun _ h => h) rfl (by decide +kernel) rfl rfl (Nat.le_of_ble_eq_true rfl) dJ3_init_2_38 (fun H locs hP hD hS => ?_)
  have hP : va_P ω.1 vwCl [(q, .inr (4, [.ref q, .null, v2, .null, .null, .int 0, .int 0]))] H := hP
  have hD : va_D (va_A [(q, .inr (4, [.null, .null, .null, .null, .null, .int 0, .int 0]))] sz) [(q, .inr (4, [.ref q, .null, v2, .null, .null, .int 0, .int 0]))] := hD
  refine lv_aload_n hF.1 hF.2.1 dJ3_init_2_41 rfl (lv_at hl 0 rfl) ?_
  refine lv_aload_nN hF.1 hF.2.1 dJ3_init_2_42 rfl (lv_at hl 1 rfl) ?_
  refine va_put (v := .null) (ty := (.object "java/lang/String")) hF.1 hF.2.1 hF.2.2.2.2 in_X4 tyX4 tyX4_ok nmX4 hF.2.2.2.1 hK hP hD hS 0 rfl rfl 3 (by decide) (hF.2.2.2.2 _ q406) (fun _ h => h) rfl (by decide +kernel) rfl rfl (Nat.le_of_ble_eq_true rfl) dJ3_init_2_43 (fun H locs hP hD hS => ?_)
  have hP : va_P ω.1 vwCl [(q, .inr (4, [.ref q, .null, v2, .null, .null, .int 0, .int 0]))] H := hP
  have hD : va_D (va_A [(q, .inr (4, [.null, .null, .null, .null, .null, .int 0, .int 0]))] sz) [(q, .inr (4, [.ref q, .null, v2, .null, .null, .int 0, .int 0]))] := hD
  refine lv_aload_n hF.1 hF.2.1 dJ3_init_2_46 rfl (lv_at hl 0 rfl) ?_
  refine lv_aload_nN hF.1 hF.2.1 dJ3_init_2_47 rfl (lv_at hl 2 rfl) ?_
  refine va_put (v := .null) (ty := (.object "java/lang/Throwable")) hF.1 hF.2.1 hF.2.2.2.2 in_X4 tyX4 tyX4_ok nmX4 hF.2.2.2.1 hK hP hD hS 0 rfl rfl 0 (by decide) (hF.2.2.2.2 _ q407) (fun _ h => h) rfl (by decide +kernel) rfl rfl (Nat.le_of_ble_eq_true rfl) dJ3_init_2_48 (fun H locs hP hD hS => ?_)
  have hP : va_P ω.1 vwCl [(q, .inr (4, [.null, .null, v2, .null, .null, .int 0, .int 0]))] H := hP
  have hD : va_D (va_A [(q, .inr (4, [.null, .null, .null, .null, .null, .int 0, .int 0]))] sz) [(q, .inr (4, [.null, .null, v2, .null, .null, .int 0, .int 0]))] := hD
  refine lv_iload_n hF.1 hF.2.1 dJ3_init_2_51 rfl (lv_at hl 3 rfl) ?_
  refine lv_if_ne (tgt := 60) hF.1 hF.2.1 dJ3_init_2_52 (by rfl) (fun h => absurd nI_0 h) (fun h => ?_)
  refine lv_aload_n hF.1 hF.2.1 dJ3_init_2_55 rfl (lv_at hl 0 rfl) ?_
  refine lv_null hF.1 hF.2.1 dJ3_init_2_56 ?_
  refine va_put (v := .null) (ty := (.object "java/util/List")) hF.1 hF.2.1 hF.2.2.2.2 in_X4 tyX4 tyX4_ok nmX4 hF.2.2.2.1 hK hP hD hS 0 rfl rfl 2 (by decide) (hF.2.2.2.2 _ q409) (fun _ h => h) rfl (by decide +kernel) rfl rfl (Nat.le_of_ble_eq_true rfl) dJ3_init_2_57 (fun H locs hP hD hS => ?_)
  have hP : va_P ω.1 vwCl [(q, .inr (4, [.null, .null, .null, .null, .null, .int 0, .int 0]))] H := hP
  have hD : va_D (va_A [(q, .inr (4, [.null, .null, .null, .null, .null, .int 0, .int 0]))] sz) [(q, .inr (4, [.null, .null, .null, .null, .null, .int 0, .int 0]))] := hD
  exact hret _ _ (fun _ => 0) _ _ dJ3_init_2_60 hP hD hS

def rmJ4_init : Room := { frames := 2, cells := 0, slots := 0, locals := 48 }
def wJ4_init (ω : OM) (v1 v2 : Value) (q : Nat) (w : Nat → Nat) : va_W := [(q, .inr (4, [.null, .null, .null, .null, .null, .int 0, .int 0]))]
set_option maxHeartbeats 4000000 in
theorem kJ4_init (l : Launch) (ω : OM) (v1 v2 : Value) (sz q : Nat) : Met l yJ4_init (ws_ yJ4_init cJ4_init 5 none) rmJ4_init (cPc ω [.ref q, .null, .null, .int (nI 0), .int (nI 0)] (fun U => mK ω U ∧ zT v1 v2 (va_A [(q, .inr (4, [.null, .null, .null, .null, .null, .int 0, .int 0]))] sz) U) sz [(q, .inr (4, [.null, .null, .null, .null, .null, .int 0, .int 0]))]) (cQc ω sz [(q, .inr (4, [.null, .null, .null, .null, .null, .int 0, .int 0]))] (wJ4_init ω v1 v2 q)) 0 0 (va_A [(q, .inr (4, [.null, .null, .null, .null, .null, .int 0, .int 0]))] sz) := by
  refine g_entC (C := RJ4) rfl (by decide) rfl (Nat.le_of_ble_eq_true rfl) ?_
  intro p e s m args below meth c QQ ls H locs hF hin hKp hsz hP hS hl hret
  have hl : lv_has ls 5 [(0, .ref q), (1, .null), (2, .null), (3, .int (nI 0)), (4, .int (nI 0))] := hl
  obtain ⟨hK, hz⟩ := hKp
  have hA : ∀ x, s.heap.size ≤ x → va_A [(q, .inr (4, [.null, .null, .null, .null, .null, .int 0, .int 0]))] sz x := fun x h => Or.inr (by rw [hsz] at h; exact h)
  have hD : va_D (va_A [(q, .inr (4, [.null, .null, .null, .null, .null, .int 0, .int 0]))] sz) [(q, .inr (4, [.null, .null, .null, .null, .null, .int 0, .int 0]))] := va_D_one
  refine lv_aload_n hF.1 hF.2.1 dJ4_init_0 rfl (lv_at hl 0 rfl) ?_
  refine lv_aload_nN hF.1 hF.2.1 dJ4_init_1 rfl (lv_at hl 1 rfl) ?_
  refine lv_aload_nN hF.1 hF.2.1 dJ4_init_2 rfl (lv_at hl 2 rfl) ?_
  refine lv_iload_n hF.1 hF.2.1 dJ4_init_3 rfl (lv_at hl 3 rfl) ?_
  refine lv_iload hF.1 hF.2.1 dJ4_init_4 (lv_at hl 4 rfl) ?_
  refine g_iC (As := [.null, .null, .int (nI 0), .int (nI 0)]) (rest := []) (wr := []) hF (kJ3_init_2 l ω v1 v2 _ q) (lw_meth q402) q400 q99 q401 4 (by decide +kernel) rfl rfl ⟨Nat.le_of_ble_eq_true rfl, Nat.le_of_ble_eq_true rfl⟩ (fun a U g mk h => ⟨va_K.moved (u := U) (U := U.calling g mk a) (Vm.Alike.refl U.vm) h.1, h.2.call⟩) (fun U hU hW => ⟨hK.warm hW, hz.to (U := U) (by rw [hU]; exact hS) hW (va_free hD hS hA [0] rfl)⟩) hP hD hS hA [0] [] rfl rfl rfl rfl (by decide) rfl hl.1 rfl (Nat.le_of_ble_eq_true rfl) dJ4_init_6 ⟨Nat.le_of_ble_eq_true rfl, Nat.le_of_ble_eq_true rfl⟩ (fun v0 H locs hP hD hS => ?_)
  have hP : va_P ω.1 vwCl [(q, .inr (4, [.null, .null, .null, .null, .null, .int 0, .int 0]))] H := hP
  have hD : va_D (va_A [(q, .inr (4, [.null, .null, .null, .null, .null, .int 0, .int 0]))] sz) [(q, .inr (4, [.null, .null, .null, .null, .null, .int 0, .int 0]))] := hD
  exact hret _ _ (fun _ => 0) _ _ dJ4_init_9 hP hD hS

def rmX4_init : Room := { frames := 3, cells := 0, slots := 0, locals := 72 }
def wX4_init (ω : OM) (v1 v2 : Value) (q : Nat) (n : Nat) (w : Nat → Nat) : va_W := [(q, .inr (4, [.null, .null, .null, .null, .null, .int 0, .int (nI n)]))]
set_option maxHeartbeats 4000000 in
theorem kX4_init (l : Launch) (ω : OM) (v1 v2 : Value) (sz q : Nat) (n : Nat) : Met l yX4_init (ws_ yX4_init cX4_init 2 none) rmX4_init (cPc ω [.ref q, .int (nI n)] (fun U => mK ω U ∧ zT v1 v2 (va_A [(q, .inr (4, [.null, .null, .null, .null, .null, .int 0, .int 0]))] sz) U) sz [(q, .inr (4, [.null, .null, .null, .null, .null, .int 0, .int 0]))]) (cQc ω sz [(q, .inr (4, [.null, .null, .null, .null, .null, .int 0, .int 0]))] (wX4_init ω v1 v2 q n)) 0 0 (va_A [(q, .inr (4, [.null, .null, .null, .null, .null, .int 0, .int 0]))] sz) := by
  refine g_entC (C := RX4) rfl (by decide) rfl (Nat.le_of_ble_eq_true rfl) ?_
  intro p e s m args below meth c QQ ls H locs hF hin hKp hsz hP hS hl hret
  have hl : lv_has ls 2 [(0, .ref q), (1, .int (nI n))] := hl
  obtain ⟨hK, hz⟩ := hKp
  have hA : ∀ x, s.heap.size ≤ x → va_A [(q, .inr (4, [.null, .null, .null, .null, .null, .int 0, .int 0]))] sz x := fun x h => Or.inr (by rw [hsz] at h; exact h)
  have hD : va_D (va_A [(q, .inr (4, [.null, .null, .null, .null, .null, .int 0, .int 0]))] sz) [(q, .inr (4, [.null, .null, .null, .null, .null, .int 0, .int 0]))] := va_D_one
  refine lv_aload_n hF.1 hF.2.1 dX4_init_0 rfl (lv_at hl 0 rfl) ?_
  refine lv_null hF.1 hF.2.1 dX4_init_1 ?_
  refine lv_null hF.1 hF.2.1 dX4_init_2 ?_
  refine lv_iconst (v := nI 0) hF.1 hF.2.1 dX4_init_3 (by decide) ?_
  refine lv_iconst (v := nI 0) hF.1 hF.2.1 dX4_init_4 (by decide) ?_
  refine g_iC (As := [.null, .null, .int (nI 0), .int (nI 0)]) (rest := []) (wr := []) hF (kJ4_init l ω v1 v2 _ q) (lw_meth q399) q397 q100 q398 4 (by decide +kernel) rfl rfl ⟨Nat.le_of_ble_eq_true rfl, Nat.le_of_ble_eq_true rfl⟩ (fun a U g mk h => ⟨va_K.moved (u := U) (U := U.calling g mk a) (Vm.Alike.refl U.vm) h.1, h.2.call⟩) (fun U hU hW => ⟨hK.warm hW, hz.to (U := U) (by rw [hU]; exact hS) hW (va_free hD hS hA [0] rfl)⟩) hP hD hS hA [0] [] rfl rfl rfl rfl (by decide) rfl hl.1 rfl (Nat.le_of_ble_eq_true rfl) dX4_init_5 ⟨Nat.le_of_ble_eq_true rfl, Nat.le_of_ble_eq_true rfl⟩ (fun v0 H locs hP hD hS => ?_)
  have hP : va_P ω.1 vwCl [(q, .inr (4, [.null, .null, .null, .null, .null, .int 0, .int 0]))] H := hP
  have hD : va_D (va_A [(q, .inr (4, [.null, .null, .null, .null, .null, .int 0, .int 0]))] sz) [(q, .inr (4, [.null, .null, .null, .null, .null, .int 0, .int 0]))] := hD
  refine lv_aload_n hF.1 hF.2.1 dX4_init_8 rfl (lv_at hl 0 rfl) ?_
  refine lv_iload_n hF.1 hF.2.1 dX4_init_9 rfl (lv_at hl 1 rfl) ?_
  refine va_putF (v := .int (nI n)) (ty := .int) hF.1 hF.2.1 hF.2.2.2.2 in_X4 tyX4 tyX4_ok nmX4 hF.2.2.2.1 hK hP hD hS 0 rfl rfl 6 (by decide) (hF.2.2.2.2 _ q403) (fun _ h => h) rfl hin rfl (by decide +kernel) rfl rfl (Nat.le_of_ble_eq_true rfl) dX4_init_10 (fun H locs hP hD hS => ?_)
  have hP : va_P ω.1 vwCl [(q, .inr (4, [.null, .null, .null, .null, .null, .int 0, .int (nI n)]))] H := hP
  have hD : va_D (va_A [(q, .inr (4, [.null, .null, .null, .null, .null, .int 0, .int 0]))] sz) [(q, .inr (4, [.null, .null, .null, .null, .null, .int 0, .int (nI n)]))] := hD
  exact hret _ _ (fun _ => 0) _ _ dX4_init_13 hP hD hS

