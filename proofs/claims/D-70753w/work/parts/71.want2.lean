/-! THE READER: want -/
set_option maxRecDepth 100000
/-- a Stop was thrown at a place -/
def thr (n : Nat) (oc : Outcome) (ρ : RD) : Prop := ∃ q, oc = .threw q ∧ ρ.2.2.2.2.2 = (true, q, n)
def rmX3_want : Room := { frames := 4, cells := 1, slots := 7, locals := 93 }
theorem hdX3_want : yX3_want.cls = RX3 ∧ yX3_want.cls ≠ "java/lang/invoke/MethodHandle" ∧ yX3_want.cls ≠ "java/lang/invoke/VarHandle" ∧ (parseMethodDescriptor yX3_want.desc).map (fun d => d.parameters.length) = some 1 := by decide +kernel
theorem kX3_want (l : Launch) (ω : OM) (σ : RA) (e0 : Nat) (v1 v2 : Value) (u : XS) (pl pp : Nat) (tf : Nat → Int32) (rt : TW) (cu : CU) (b2 b3 : Nat) (b : Int32) : MetT l yX3_want (ws_ yX3_want cX3_want 2 none) rmX3_want (va_Pc [.ref σ.1, .int b] (fun U => yK ω e0 v1 v2 U ∧ yH ω σ u (pl, pp, tf, rt, cu, (false, b2, b3)) U.heap)) (va_QT (fun oc (ρ : RD) => (¬ b = 0 ∧ oc = .returned none ∧ ρ = (pl, pp, tf, rt, cu, (false, b2, b3))) ∨ (b = 0 ∧ thr pl oc ρ)) (fun ρ t => yH ω σ u ρ t.heap) ω.2.2.1) 1 7 ω.2.2.1 := by
  refine g_entT (C := RX3) rfl (by decide) (Nat.le_of_ble_eq_true rfl) ?_
  intro p e s m args below meth c QQ ls H locs hF hK hH hS hl hE
  have hl : lv_has ls 2 [(0, .ref σ.1), (1, .int b)] := hl
  refine lv_iload_n hF.1 hF.2.1 dX3_want_0 rfl (lv_at hl 1 rfl) ?_
  refine lv_if_ne (tgt := 16) hF.1 hF.2.1 dX3_want_1 (by decide) (fun h => ?_) (fun h => ?_)
  · refine W.widen (k := 1) (n := 7) (Nat.zero_le _) (Nat.zero_le _) ?_
    exact hE.2.1 _ _ _ _ _ rfl dX3_want_16 (Or.inl ⟨h, rfl, rfl⟩) hH hS
  · have hS0 := hS
    have hq : ω.2.2.1 H.size := hK.2.2.2.2.2 _ hS.1
    refine g_new (ci := 4) (fs := [.null, .null, .null, .null, .null, .int 0, .int 0]) hF in_X4 tyX4 tyX4_ok q357 q358 q101 hK.1.1 hS rfl (by decide) (Nat.le_of_ble_eq_true rfl) (Nat.le_of_ble_eq_true rfl) dX3_want_4 (fun H1 z1 o1 hP hS => ?_)
    have hH1 := hH.kept o1
    refine lv_dup hF.1 hF.2.1 dX3_want_7 rfl ?_
    refine lv_aload_n hF.1 hF.2.1 dX3_want_8 rfl (lv_at hl 0 rfl) ?_
    refine yg_place hF hK.1 hH1 q321 dX3_want_9 ?_
    have hAB : ∀ x, va_A [(H.size, .inr (4, [.null, .null, .null, .null, .null, .int 0, .int 0]))] H1.size x → ω.2.2.1 x := by
      intro x hx
      rcases hx with ⟨k, e1, h⟩ | h
      · have hz : k < 1 := (List.getElem?_eq_some_iff.mp h).1
        rw [show k = 0 by omega] at h
        cases h
        exact hq
      · exact hK.2.2.2.2.2 x (Nat.le_trans hS.1 h)
    refine g_iCf (As := [.int (nI pl)]) (rest := [.ref H.size]) (Kp := fun U => mK ω U ∧ zT v1 v2 (va_A [(H.size, .inr (4, [.null, .null, .null, .null, .null, .int 0, .int 0]))] H1.size) U) (ee := .inr (4, [.null, .null, .null, .null, .null, .int 0, .int 0])) (Wf := wX4_init ω v1 v2 H.size pl) hF (kX4_init l ω v1 v2 _ H.size pl) (lw_meth q396) q394 q101 q395 1 (by decide +kernel) rfl rfl ⟨Nat.le_of_ble_eq_true rfl, Nat.le_of_ble_eq_true rfl⟩ (fun a U g mk h => ⟨va_K.moved (u := U) (U := U.calling g mk a) (Vm.Alike.refl U.vm) h.1, h.2.call⟩) (fun U hU hW => ⟨(hK.1.warm hW).1, hK.2.2.2.1.to (U := U) (by rw [hU]; exact hS) hW hAB⟩) hP hS hq hK.2.2.2.2.2 rfl hl.1 rfl (Nat.le_of_ble_eq_true rfl) dX3_want_12 ⟨Nat.le_of_ble_eq_true rfl, Nat.le_of_ble_eq_true rfl⟩ (fun w H2 locs hP2 _ z2 o2 hS => ?_)
    refine hE.2.2.2.1 _ _ H.size _ (pl, pp, tf, rt, cu, (true, H.size, pl)) _ _ dX3_want_15 (Or.inr ⟨h, H.size, rfl, rfl⟩) ?_ hS
    have hH2 : yH ω σ u (pl, pp, tf, rt, cu, (false, b2, b3)) H2 := hH.kept (fun x hx => (o2 x (by omega) (by omega)).trans (o1 x hx))
    exact hH2.stop hP2 hq (fun o k hi => Nat.ne_of_lt (hH.1.lt hi))
