/-! X0.fault, X0.town -/
set_option maxRecDepth 100000
def rmX0_fault : Room := { frames := 8, cells := 80, slots := 541, locals := 190 }
theorem hdX0_fault : yX0_fault.cls = RX0 ∧ yX0_fault.cls ≠ "java/lang/invoke/MethodHandle" ∧ yX0_fault.cls ≠ "java/lang/invoke/VarHandle" ∧ (parseMethodDescriptor yX0_fault.desc).map (fun d => d.parameters.length) = some 0 := by decide +kernel
/-- what fault answers -/
def fAns (g : Nat → Nat → Nat) (pg : Nat → Int32) (n : Nat) : Prop := (n = g 0 7 ∧ ∃ np j, prex g pg np j ∧ 2 ≤ j ∧ j ≤ 9 ∧ g 0 7 = np + 5 * j) ∨ tBad g pg n
theorem kX0_fault (l : Launch) (ω : OM) (e0 : Nat) (v1 v2 : Value) (g : Nat → Nat → Nat) (y : Nat → Nat → Int32) (a z : Nat → Nat → Nat → Int32) (dr : Int64) (pg : Nat → Int32) (t : TW) (hp50 : g 0 7 ≤ 50) : Met l yX0_fault (wsW_ yX0_fault cX0_fault 2 (some .int) [(0, 16, 17, 117)]) rmX0_fault (va_Pc [.ref (ω.2.1 0 99)] (fun U => yK ω e0 v1 v2 U ∧ xH ω (g, y, a, z, dr, pg, t) U.heap)) (va_Qi (fun r (u : XS) => (∃ n, r = nI n ∧ fAns g pg n) ∧ u = (g, y, a, z, dr, pg, t)) (fun u t => xH ω u t.heap) ω.2.2.1) 80 541 ω.2.2.1 := by
  refine g_entWWi (C := RX0) (Hp := xH ω) rfl (by decide) (Nat.le_of_ble_eq_true rfl) ?_
  intro p e s m args below meth c QQ ls hF hhh hKH hl hret
  obtain ⟨hK, hX⟩ := hKH
  have hl : lv_has ls 2 [(0, .ref (ω.2.1 0 99))] := hl
  refine rd_new (pc := 0) hF hK hX hp50 hl (k0 := 0) rfl ⟨Nat.le_of_ble_eq_true rfl, Nat.le_of_ble_eq_true rfl, Nat.le_of_ble_eq_true rfl, Nat.le_of_ble_eq_true rfl⟩ (Nat.le_of_ble_eq_true rfl) (fun _ => Nat.le_of_ble_eq_true rfl) dX0_fault_0 dX0_fault_3 dX0_fault_4 dX0_fault_5 dX0_fault_8 ?_ ?_
  · intro σ np j rt tf H locs hI h2 hN htf hH hS
    refine lv_pop hF.1 hF.2.1 dX0_fault_11 rfl ?_
    refine lv_aload_n hF.1 hF.2.1 dX0_fault_12 rfl (lv_at hl 0 rfl) ?_
    refine xg0_7 hF hK.1 hH.x q227 dX0_fault_13 (v := g 0 7) rfl ?_
    have h9 : tn rt ≤ 9 := hH.2.2.2.1.1
    have hnj := hI.n
    exact hret _ _ _ (g, y, a, z, dr, pg, t) _ _ dX0_fault_16 ⟨⟨g 0 7, rfl, Or.inl ⟨rfl, np, j, hI.x, h2, by omega, hN⟩⟩, rfl⟩ hH.x hS
  · intro σ n qq pl pp tf rt cu H locs hbad hH hS
    refine rd_caught hF hK hH hhh ⟨Nat.le_of_ble_eq_true rfl, Nat.le_of_ble_eq_true rfl⟩ (fun hc => ?_)
    refine lv_astore_n (lv' := [(1, .ref qq), (0, .ref (ω.2.1 0 99))]) hF.1 hF.2.1 dX0_fault_17 rfl hl (by decide) rfl (fun ls hl => ?_)
    refine lv_aload_n hF.1 hF.2.1 dX0_fault_18 rfl (lv_at hl 0 rfl) ?_
    refine va_getN hF.1 hF.2.1 hF.2.2.2.2 in_X4 hF.2.2.2.1 hK.1.1 hc 0 rfl rfl 6 (by decide) ((xn_q404 hK.1.2).use rfl) (fun _ h => h) rfl dX0_fault_19 ?_
    exact hret _ _ _ (g, y, a, z, dr, pg, t) _ _ dX0_fault_22 ⟨⟨n, rfl, Or.inr hbad⟩, rfl⟩ hH.x hS
def rmX0_town : Room := { frames := 8, cells := 89, slots := 631, locals := 190 }
theorem hdX0_town : yX0_town.cls = RX0 ∧ yX0_town.cls ≠ "java/lang/invoke/MethodHandle" ∧ yX0_town.cls ≠ "java/lang/invoke/VarHandle" ∧ (parseMethodDescriptor yX0_town.desc).map (fun d => d.parameters.length) = some 0 := by decide +kernel
/-- the class's world behind a town -/
def tWorld (g : Nat → Nat → Nat) (y : Nat → Nat → Int32) (a z : Nat → Nat → Nat → Int32) (dr : Int64) (pg : Nat → Int32) (np : Nat) (tf : Nat → Int32) (rt : TW) (ed : Nat) (mo : Int32) : XS := (up2 (up2 (up2 (up2 (up2 g 0 1 np) (0 + 6) 9 0) 0 2 (g 0 2 + 1)) 0 12 0) 0 7 0, y, up2 (bgA a) (0 + 6) 0 (layT tf np (a (0 + 6) 0)), z, dr, pg, tnew rt ed mo)
theorem kX0_town (l : Launch) (ω : OM) (e0 : Nat) (v1 v2 : Value) (g : Nat → Nat → Nat) (y : Nat → Nat → Int32) (a z : Nat → Nat → Nat → Int32) (dr : Int64) (pg : Nat → Int32) (t : TW) (hp50 : g 0 7 ≤ 50) (hte : town t = false → ted t = e0) : Met l yX0_town (wsW_ yX0_town cX0_town 2 (some .int) [(0, 42, 43, 117)]) rmX0_town (va_Pc [.ref (ω.2.1 0 99)] (fun U => yK ω e0 v1 v2 U ∧ xH ω (g, y, a, z, dr, pg, t) U.heap)) (va_Qi (fun r (u : XS) => (∃ np j rt tf ed mo, pre g pg np j rt ∧ 2 ≤ j ∧ j ≤ 9 ∧ g 0 7 = np + 5 * j ∧ (∀ i, i < np → tf i = pg i - nI 48) ∧ r = nI j ∧ u = tWorld g y a z dr pg np tf rt ed mo) ∨ (∃ n, tBad g pg n ∧ r = (-103) ∧ u = (g, y, a, z, dr, pg, t))) (fun u t => xH ω u t.heap) ω.2.2.1) 89 631 ω.2.2.1 := by
  refine g_entWWi (C := RX0) (Hp := xH ω) rfl (by decide) (Nat.le_of_ble_eq_true rfl) ?_
  intro p e s m args below meth c QQ ls hF hhh hKH hl hret
  obtain ⟨hK, hX⟩ := hKH
  have hl : lv_has ls 2 [(0, .ref (ω.2.1 0 99))] := hl
  refine lv_aload_n hF.1 hF.2.1 dX0_town_0 rfl (lv_at hl 0 rfl) ?_
  refine rd_new (pc := 1) hF hK hX hp50 hl (k0 := 0) rfl ⟨Nat.le_of_ble_eq_true rfl, Nat.le_of_ble_eq_true rfl, Nat.le_of_ble_eq_true rfl, Nat.le_of_ble_eq_true rfl⟩ (Nat.le_of_ble_eq_true rfl) (fun _ => Nat.le_of_ble_eq_true rfl) dX0_town_1 dX0_town_4 dX0_town_5 dX0_town_6 dX0_town_9 ?_ ?_
  · intro σ np j rt tf H locs hI h2 hN htf hH hS
    have h9 : tn rt ≤ 9 := hH.2.2.2.1.1
    have hnj := hI.n
    have hnp := hI.np
    refine va_callv (va_runV (As := [.ref σ.1]) (rest := []) hF (kX0_lay l ω σ e0 v1 v2 g y a z dr pg t (np + 5 * j) np tf rt 0 0 hnp.2 (by omega) hte) (cwV 1 hF.2.2.2.2 (lw_V q561 q563 qs9 q92 q564) rfl rfl rfl hdX0_lay ⟨Nat.le_of_ble_eq_true rfl, Nat.le_of_ble_eq_true rfl⟩) ⟨fun a U g mk q => ⟨q.1, q.2.1.call, q.2.2⟩, (x_preV0 (As := []) hK.1 hH.x).2.1, fun U hU hW => ⟨rfl, hK.to (U := U) (by rw [hU]; exact hS) hW, by rw [hU]; exact hH⟩⟩ rfl rfl hl.1 rfl (lv_room (Nat.le_of_ble_eq_true rfl)) dX0_town_12 ⟨Nat.le_of_ble_eq_true rfl, Nat.le_of_ble_eq_true rfl⟩) hS (fun q _ h => h.1) (fun q h => h.1) (fun u t' H locs ht _ hpost hB _ _ hS => ?_)
    obtain ⟨ed, mo, rfl⟩ := hpost
    have hX : xH ω (up2 (up2 g 0 1 np) (0 + 6) 9 0, y, up2 (bgA a) (0 + 6) 0 (layT tf np (a (0 + 6) 0)), z, dr, pg, tnew rt ed mo) H := by rw [← ht]; exact xH.wide hB
    refine lv_aload_n hF.1 hF.2.1 dX0_town_15 rfl (lv_at hl 0 rfl) ?_
    refine lv_dup hF.1 hF.2.1 dX0_town_16 rfl ?_
    refine xg0_2 hF hK.1 hX q220 dX0_town_17 (v := g 0 2) (by simp [up2]) ?_
    refine lv_iconst (v := nI 1) hF.1 hF.2.1 dX0_town_20 (by decide) ?_
    refine n_iadd hF.1 hF.2.1 dX0_town_21 ?_
    refine xp0_2 (g' := up2 (up2 (up2 g 0 1 np) (0 + 6) 9 0) 0 2 (g 0 2 + 1)) hF hK.1 hX hS q220 dX0_town_22 (by simp [up2]) (by intro i q hq; simp only [up2, if_neg hq]) (fun H locs hX hS => ?_)
    refine lv_aload_n hF.1 hF.2.1 dX0_town_25 rfl (lv_at hl 0 rfl) ?_
    refine lv_iconst (v := nI 0) hF.1 hF.2.1 dX0_town_26 (by decide) ?_
    refine xp0_12 (g' := up2 (up2 (up2 (up2 g 0 1 np) (0 + 6) 9 0) 0 2 (g 0 2 + 1)) 0 12 0) hF hK.1 hX hS q232 dX0_town_27 (by simp [up2]) (by intro i q hq; simp only [up2, if_neg hq]) (fun H locs hX hS => ?_)
    refine lv_aload_n hF.1 hF.2.1 dX0_town_30 rfl (lv_at hl 0 rfl) ?_
    refine lv_iconst (v := nI 0) hF.1 hF.2.1 dX0_town_31 (by decide) ?_
    refine xp0_7 (g' := up2 (up2 (up2 (up2 (up2 g 0 1 np) (0 + 6) 9 0) 0 2 (g 0 2 + 1)) 0 12 0) 0 7 0) hF hK.1 hX hS q227 dX0_town_32 (by simp [up2]) (by intro i q hq; simp only [up2, if_neg hq]) (fun H locs hX hS => ?_)
    refine lv_aload_n hF.1 hF.2.1 dX0_town_35 rfl (lv_at hl 0 rfl) ?_
    refine xg0_0 hF hK.1 hX q218 dX0_town_36 ?_
    refine g_vPi (As := []) (rest := []) hF (kJ2_size l ω _ _ _ _ _ _ _) (lw_V q569 q554 q555 q95 q556) 0 hdJ2_size rfl rfl ⟨Nat.le_of_ble_eq_true rfl, Nat.le_of_ble_eq_true rfl⟩ (x_preVL hK.1 hX) rfl hl.1 rfl (Nat.le_of_ble_eq_true rfl) dX0_town_39 ⟨Nat.le_of_ble_eq_true rfl, Nat.le_of_ble_eq_true rfl⟩ (fun r e_r => ?_)
    subst e_r
    exact hret _ _ _ (tWorld g y a z dr pg np tf rt ed mo) _ _ dX0_town_42 (Or.inl ⟨np, j, rt, tf, ed, mo, hI, h2, by omega, hN, htf, by show nI (tn rt) = nI j; rw [hnj], rfl⟩) hX hS
  · intro σ n qq pl pp tf rt cu H locs hbad hH hS
    refine rd_caught hF hK hH hhh ⟨Nat.le_of_ble_eq_true rfl, Nat.le_of_ble_eq_true rfl⟩ (fun hc => ?_)
    refine lv_astore_n (lv' := [(1, .ref qq), (0, .ref (ω.2.1 0 99))]) hF.1 hF.2.1 dX0_town_43 rfl hl (by decide) rfl (fun ls hl => ?_)
    refine lv_bipush (v := (-103)) hF.1 hF.2.1 dX0_town_44 (by decide) ?_
    refine W.widen (k := 89) (n := 631) (by omega) (by omega) ?_
    exact hret _ _ _ (g, y, a, z, dr, pg, t) _ _ dX0_town_46 (Or.inr ⟨n, hbad, rfl, rfl⟩) hH.x hS
