/-! THE LIST: size, elementData, get over its own cells -/
set_option maxRecDepth 100000
theorem l_preV {ω : OM} {ws : va_W} {s : State} {H : Heap} {la : Nat} {fs : List Value} (hK : mK ω s) (hP : va_P ω.1 vwCl ws H) (he : ws[0]? = some (la, .inr (10, fs))) {As : List Value} : PreV s H RJ2 la (va_Pc (.ref la :: As) (fun U => mK ω U ∧ va_P ω.1 vwCl ws U.heap)) As :=
  ⟨fun a U g mk q => ⟨q.1, va_K.moved (u := U) (U := U.calling g mk a) (Vm.Alike.refl U.vm) q.2.1, q.2.2⟩, l_recv hK hP he, fun U hU hW => ⟨rfl, hK.warm hW, by rw [hU]; exact hP⟩⟩
theorem kL_size (l : Launch) (ω : OM) (la ed n : Nat) (mo : Int32) : Met l yJ2_size (ws_ yJ2_size cJ2_size 1 (some .int)) rmJ2_size (va_Pc [.ref la] (fun U => mK ω U ∧ va_P ω.1 vwCl (lw0 la ed mo n) U.heap)) (vp_Si (fun r => r = nI n)) 0 0 (fun _ => False) := by
  refine g_entPi (C := RJ2) rfl (by decide) (Nat.le_of_ble_eq_true rfl) ?_
  intro p e s m args below meth c QQ ls hF hKH hl hret
  have hl : lv_has ls 1 [(0, .ref la)] := hl
  obtain ⟨hK, hP⟩ := hKH
  refine lv_aload_n hF.1 hF.2.1 dJ2_size_0 rfl (lv_at hl 0 rfl) ?_
  refine va_get hF.1 hF.2.1 hF.2.2.2.2 in_J2 hF.2.2.2.1 hK hP 0 rfl rfl 2 (by decide) (hF.2.2.2.2 _ q137) (fun _ h => h) rfl dJ2_size_1 ?_
  exact hret _ _ _ dJ2_size_4 rfl
theorem kL_elementData (l : Launch) (ω : OM) (la ed n i v : Nat) (mo : Int32) (f : Nat → Option Nat) (hi : i < 10) (hv : f i = some v) : Met l yJ2_elementData (ws_ yJ2_elementData cJ2_elementData 2 (some (.object "java/lang/Object"))) rmJ2_elementData (va_Pc [.ref la, .int (nI i)] (fun U => mK ω U ∧ va_P ω.1 vwCl (lw1 ω la ed mo n f) U.heap)) (va_Sq (fun r => r = some v)) 0 0 (fun _ => False) := by
  refine g_entPr (C := RJ2) rfl (by decide) (Nat.le_of_ble_eq_true rfl) ?_
  intro p e s m args below meth c QQ ls hF hKH hl hret
  have hl : lv_has ls 2 [(0, .ref la), (1, .int (nI i))] := hl
  obtain ⟨hK, hP⟩ := hKH
  refine lv_aload_n hF.1 hF.2.1 dJ2_elementData_0 rfl (lv_at hl 0 rfl) ?_
  refine va_get hF.1 hF.2.1 hF.2.2.2.2 in_J2 hF.2.2.2.1 hK hP 0 rfl rfl 1 (by decide) (hF.2.2.2.2 _ q136) (fun _ h => h) rfl dJ2_elementData_1 ?_
  refine lv_iload_n hF.1 hF.2.1 dJ2_elementData_4 rfl (lv_at hl 1 rfl) ?_
  refine va_aldq (a := ed) hF.1 hF.2.1 hK hP 1 2 rfl rfl (nI_in (N := 10) (by omega) (by omega)) dJ2_elementData_5 ?_
  have e1 : (nI i).toNatClampNeg = i := nI_clamp (by omega)
  rw [e1, hv]
  exact hret _ _ dJ2_elementData_6
theorem kL_get (l : Launch) (ω : OM) (la ed n i v : Nat) (mo : Int32) (f : Nat → Option Nat) (hi : i < n) (hn : n ≤ 9) (hv : f i = some v) : Met l yJ2_get (ws_ yJ2_get cJ2_get 2 (some (.object "java/lang/Object"))) rmJ2_get (va_Pc [.ref la, .int (nI i)] (fun U => mK ω U ∧ va_P ω.1 vwCl (lw1 ω la ed mo n f) U.heap)) (va_Sq (fun r => r = some v)) 0 0 (fun _ => False) := by
  refine g_entPr (C := RJ2) rfl (by decide) (Nat.le_of_ble_eq_true rfl) ?_
  intro p e s m args below meth c QQ ls hF hKH hl hret
  have hl : lv_has ls 2 [(0, .ref la), (1, .int (nI i))] := hl
  obtain ⟨hK, hP⟩ := hKH
  refine lv_iload_n hF.1 hF.2.1 dJ2_get_0 rfl (lv_at hl 1 rfl) ?_
  refine lv_aload_n hF.1 hF.2.1 dJ2_get_1 rfl (lv_at hl 0 rfl) ?_
  refine va_get hF.1 hF.2.1 hF.2.2.2.2 in_J2 hF.2.2.2.1 hK hP 0 rfl rfl 2 (by decide) (hF.2.2.2.2 _ q137) (fun _ h => h) rfl dJ2_get_2 ?_
  refine g_sPi (As := [.int (nI i), .int (nI n)]) (rest := []) hF (kJ8_checkIndex l i n (by omega) (by omega)) (lw_S q574 q575 q111 q576) 2 hdJ8_checkIndex.2 rfl rfl ⟨Nat.le_of_ble_eq_true rfl, Nat.le_of_ble_eq_true rfl⟩ g_pre0 rfl hl.1 rfl (Nat.le_of_ble_eq_true rfl) dJ2_get_5 ⟨Nat.zero_le _, Nat.zero_le _⟩ (fun r1 e_r1 => ?_)
  refine lv_pop hF.1 hF.2.1 dJ2_get_8 rfl ?_
  refine lv_aload_n hF.1 hF.2.1 dJ2_get_9 rfl (lv_at hl 0 rfl) ?_
  refine lv_iload_n hF.1 hF.2.1 dJ2_get_10 rfl (lv_at hl 1 rfl) ?_
  refine g_vPr (As := [.int (nI i)]) (rest := []) hF (kL_elementData l ω la ed n i v mo f (by omega) hv) (lw_V q580 q581 q582 q95 q583) 1 hdJ2_elementData rfl rfl ⟨Nat.le_of_ble_eq_true rfl, Nat.le_of_ble_eq_true rfl⟩ (l_preV hK hP rfl) rfl hl.1 rfl (Nat.le_of_ble_eq_true rfl) dJ2_get_11 ⟨Nat.zero_le _, Nat.zero_le _⟩ ?_
  exact hret _ _ dJ2_get_14
/-- the reader's list -/
theorem y_l0 {ω : OM} {σ : RA} {u : XS} {pl pp : Nat} {tf : Nat → Int32} {rt : TW} {cu : CU} {so : SO} {H : Heap} (hH : yH ω σ u (pl, pp, tf, rt, cu, so) H) : va_P ω.1 vwCl (lw0 σ.2.2 (ted rt) (tmod rt) (tn rt)) H := gw_one (o := 4) (k := 99) hH.1 rfl rfl
