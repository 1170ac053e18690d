/-! MODEL: years, digests -/
def fX2_copyS_9_19 (f h : Nat → Int32) : Nat → Int32 := it (fun i S => upd S i (f i)) 27 h
theorem kX2_copyS_9_19 (l : Launch) (ω : OM) (g : Nat → Nat) (y : Nat → Int32) (a z : Nat → Nat → Int32) (kt : Int32) (hs : Int64) : Met l yX2_copy (ws_ yX2_copy cX2_copy 3 none) rmX2_copy_9_19 (va_Pc [.ref (ω.2.1 0 9), .ref (ω.2.1 0 19)] (fun U => mK ω U ∧ mH ω (g, y, a, z, kt, hs) U.heap)) (va_Qv (fun (u : MS) => ∃ (o0 : Nat → Int32), o0 = (fX2_copyS_9_19 (a 9) (z 19)) ∧ u = (g, y, a, va_up z 19 o0, kt, hs)) (fun u t => mH ω u t.heap) ω.2.2.1) 0 0 ω.2.2.1 := kX2_copy_9_19 l ω g y a z kt hs
theorem hdX2_copyS_9_19 : yX2_copy.cls = RX2 ∧ yX2_copy.cls ≠ "java/lang/invoke/MethodHandle" ∧ yX2_copy.cls ≠ "java/lang/invoke/VarHandle" ∧ (parseMethodDescriptor yX2_copy.desc).map (fun d => d.parameters.length) = some 2 := hdX2_copy_9_19
def fX2_copyS_19_9 (f h : Nat → Int32) : Nat → Int32 := it (fun i S => upd S i (f i)) 27 h
theorem kX2_copyS_19_9 (l : Launch) (ω : OM) (g : Nat → Nat) (y : Nat → Int32) (a z : Nat → Nat → Int32) (kt : Int32) (hs : Int64) : Met l yX2_copy (ws_ yX2_copy cX2_copy 3 none) rmX2_copy_19_9 (va_Pc [.ref (ω.2.1 0 19), .ref (ω.2.1 0 9)] (fun U => mK ω U ∧ mH ω (g, y, a, z, kt, hs) U.heap)) (va_Qv (fun (u : MS) => ∃ (o0 : Nat → Int32), o0 = (fX2_copyS_19_9 (z 19) (a 9)) ∧ u = (g, y, va_up a 9 o0, z, kt, hs)) (fun u t => mH ω u t.heap) ω.2.2.1) 0 0 ω.2.2.1 := kX2_copy_19_9 l ω g y a z kt hs
theorem hdX2_copyS_19_9 : yX2_copy.cls = RX2 ∧ yX2_copy.cls ≠ "java/lang/invoke/MethodHandle" ∧ yX2_copy.cls ≠ "java/lang/invoke/VarHandle" ∧ (parseMethodDescriptor yX2_copy.desc).map (fun d => d.parameters.length) = some 2 := hdX2_copy_19_9
set_option maxRecDepth 100000
def fX2_years_b66 (g : Nat → Nat) (y : Nat → Int32) (a : Nat → Nat → Int32) (t : TW) (td : Nat → Nat) (i66 : Nat) (S : Int32 × Int32 × Int32 × (Nat → Int32)) : Int32 × Int32 × Int32 × (Nat → Int32) := if (toN ((fX2_draw (va_up y 18 ((fX2_draw (va_up y 18 S.2.2.1) (g 3)).2)) 8).1)) = (toN ((fX2_draw (va_up y 18 ((fX2_draw (va_up y 18 ((fX2_draw (va_up y 18 S.2.2.1) (g 3)).2)) 8).2)) 8).1)) then (S.1, S.2.1, ((fX2_draw (va_up y 18 ((fX2_draw (va_up y 18 ((fX2_draw (va_up y 18 S.2.2.1) (g 3)).2)) 8).2)) 8).2), S.2.2.2) else if (fX2_layWayS g t td (fun p s => toN (S.2.2.2 (9 * p + s))) (toN ((fX2_draw (va_up y 18 S.2.2.1) (g 3)).1)) (toN ((fX2_draw (va_up y 18 ((fX2_draw (va_up y 18 S.2.2.1) (g 3)).2)) 8).1)) (toN ((fX2_draw (va_up y 18 ((fX2_draw (va_up y 18 ((fX2_draw (va_up y 18 S.2.2.1) (g 3)).2)) 8).2)) 8).1)) (fX2_everyStreet g)) = (-1) then (S.1, S.2.1, ((fX2_draw (va_up y 18 ((fX2_draw (va_up y 18 ((fX2_draw (va_up y 18 S.2.2.1) (g 3)).2)) 8).2)) 8).2), S.2.2.2) else (S.1 + (nI ((cds t (g 5) (td (toN ((fX2_draw (va_up y 18 S.2.2.1) (g 3)).1))) (fun s => toN (S.2.2.2 (9 * (toN ((fX2_draw (va_up y 18 S.2.2.1) (g 3)).1)) + s))) (fX2_everyStreet g) (toN ((fX2_draw (va_up y 18 ((fX2_draw (va_up y 18 ((fX2_draw (va_up y 18 S.2.2.1) (g 3)).2)) 8).2)) 8).1)) (toN ((fX2_draw (va_up y 18 ((fX2_draw (va_up y 18 S.2.2.1) (g 3)).2)) 8).1))) / 1000)), S.2.1 + 1, ((fX2_draw (va_up y 18 ((fX2_draw (va_up y 18 ((fX2_draw (va_up y 18 S.2.2.1) (g 3)).2)) 8).2)) 8).2), (fX2_takeThroughS (va_up a 9 S.2.2.2) (toN ((fX2_draw (va_up y 18 S.2.2.1) (g 3)).1)) (cwl t (g 5) (td (toN ((fX2_draw (va_up y 18 S.2.2.1) (g 3)).1))) (fun s => toN (S.2.2.2 (9 * (toN ((fX2_draw (va_up y 18 S.2.2.1) (g 3)).1)) + s))) (fX2_everyStreet g) (toN ((fX2_draw (va_up y 18 ((fX2_draw (va_up y 18 S.2.2.1) (g 3)).2)) 8).1)) (toN ((fX2_draw (va_up y 18 ((fX2_draw (va_up y 18 ((fX2_draw (va_up y 18 S.2.2.1) (g 3)).2)) 8).2)) 8).1))) (cws t (g 5) (td (toN ((fX2_draw (va_up y 18 S.2.2.1) (g 3)).1))) (fun s => toN (S.2.2.2 (9 * (toN ((fX2_draw (va_up y 18 S.2.2.1) (g 3)).1)) + s))) (fX2_everyStreet g) (toN ((fX2_draw (va_up y 18 ((fX2_draw (va_up y 18 S.2.2.1) (g 3)).2)) 8).1)) (toN ((fX2_draw (va_up y 18 ((fX2_draw (va_up y 18 ((fX2_draw (va_up y 18 S.2.2.1) (g 3)).2)) 8).2)) 8).1)))))
theorem fX2_years_inv {g : Nat → Nat} {y : Nat → Int32} {a : Nat → Nat → Int32} {t : TW} {td : Nat → Nat} {seed : Int32} (hb : ofLe t (a 9) 600) : ∀ i, ofLe t (it (fX2_years_b66 g y a t td) i (nI 0, nI 0, seed, a 9)).2.2.2 (600 + 8 * i) := by
  intro i
  induction i with
  | zero => exact hb
  | succ i ih =>
    rw [it_succ]
    generalize it (fX2_years_b66 g y a t td) i (nI 0, nI 0, seed, a 9) = S at ih
    unfold fX2_years_b66
    split
    · exact ih.mono (by omega)
    · split
      · exact ih.mono (by omega)
      · rw [show (600 + 8 * (i + 1)) = 600 + 8 * i + 8 by omega]
        dsimp only
        unfold fX2_takeThroughS
        rw [va_up_self]
        exact (ofLe.take ih _ _ _).mono (Nat.add_le_add_left (cwl_le8 ..) _)
def fX2_years (g : Nat → Nat) (y : Nat → Int32) (a : Nat → Nat → Int32) (t : TW) (td : Nat → Nat) (times : Int32) (seed : Int32) (wh : Int32) (z_19 : Nat → Int32) : Int32 × (Nat → Int32) × Int32 × (Nat → Int32) := if (fX2_in times.toInt64 1 40) = 0 then ((-102), a 9, y 18, z_19) else if seed < 0 then ((-102), a 9, y 18, z_19) else if (fX2_in wh.toInt64 0 2) = 0 then ((-102), a 9, y 18, z_19) else if (fX2_lacks g) = 0 then if wh = 0 then (((it (fX2_years_b66 g y a t td) (toN times) (nI 0, nI 0, seed, a 9)).2.1), (fX2_copyS_19_9 (fX2_copyS_9_19 (a 9) (z_19)) ((it (fX2_years_b66 g y a t td) (toN times) (nI 0, nI 0, seed, a 9)).2.2.2)), ((it (fX2_years_b66 g y a t td) (toN times) (nI 0, nI 0, seed, a 9)).2.2.1), (fX2_copyS_9_19 (a 9) (z_19))) else if wh = (nI 1) then (((it (fX2_years_b66 g y a t td) (toN times) (nI 0, nI 0, seed, a 9)).1), (fX2_copyS_19_9 (fX2_copyS_9_19 (a 9) (z_19)) ((it (fX2_years_b66 g y a t td) (toN times) (nI 0, nI 0, seed, a 9)).2.2.2)), ((it (fX2_years_b66 g y a t td) (toN times) (nI 0, nI 0, seed, a 9)).2.2.1), (fX2_copyS_9_19 (a 9) (z_19))) else (((it (fX2_years_b66 g y a t td) (toN times) (nI 0, nI 0, seed, a 9)).2.2.1), (fX2_copyS_19_9 (fX2_copyS_9_19 (a 9) (z_19)) ((it (fX2_years_b66 g y a t td) (toN times) (nI 0, nI 0, seed, a 9)).2.2.2)), ((it (fX2_years_b66 g y a t td) (toN times) (nI 0, nI 0, seed, a 9)).2.2.1), (fX2_copyS_9_19 (a 9) (z_19))) else ((-103), a 9, y 18, z_19)
def rmX2_years : Room := { frames := 5, cells := 0, slots := 0, locals := 127 }
theorem hdX2_years : yX2_years.cls = RX2 ∧ yX2_years.cls ≠ "java/lang/invoke/MethodHandle" ∧ yX2_years.cls ≠ "java/lang/invoke/VarHandle" ∧ (parseMethodDescriptor yX2_years.desc).map (fun d => d.parameters.length) = some 3 := by decide +kernel
set_option maxHeartbeats 4000000 in
theorem kX2_years (l : Launch) (ω : OM) (g : Nat → Nat) (y : Nat → Int32) (a z : Nat → Nat → Int32) (kt : Int32) (hs : Int64) (t : TW) (td : Nat → Nat) (of : Nat → Nat → Nat) (hc : mCore g a t td of) (times : Int32) (seed : Int32) (wh : Int32) (hb : ofLe t (a 9) 600) (hsd : mSide g a) : Met l yX2_years (ws_ yX2_years cX2_years 11 (some .int)) rmX2_years (va_Pc [.ref (ω.2.1 0 99), .int times, .int seed, .int wh] (fun U => mK ω U ∧ mH ω (g, y, a, z, kt, hs) U.heap)) (va_Qi (fun (r : Int32) (u : MS) => ∃ (o0 : Nat → Int32) (o1 : Int32) (o2 : Nat → Int32) (q0 : Nat → Int32) (q1 : Nat → Int32), (r, o0, o1, o2) = (fX2_years g y a t td times seed wh (z 19)) ∧ u = (g, va_up y 18 o1, va_up a 9 o0, va_up (va_up (va_up z 11 q0) 12 q1) 19 o2, kt, hs)) (fun u t => mH ω u t.heap) ω.2.2.1) 0 0 ω.2.2.1 := by
  refine g_entWi (C := RX2) rfl (by decide) (Nat.le_of_ble_eq_true rfl) ?_
  intro p e s m args below meth c QQ ls H locs hF hK hH hS hl hret
  have hl : lv_has ls 11 [(0, .ref (ω.2.1 0 99)), (1, .int times), (2, .int seed), (3, .int wh)] := hl
  have hok := hc.ok
  have hr := hc.rows
  have hn := hr.1
  have hp3 := hsd.1
  have hs6 := hsd.2.1
  refine lv_iload_n hF.1 hF.2.1 dX2_years_0 rfl (lv_at hl 1 rfl) ?_
  refine lv_i2l (v := times.toInt64) hF.1 hF.2.1 dX2_years_1 rfl ?_
  refine lv_lconst (v := 1) hF.1 hF.2.1 dX2_years_2 (by decide) ?_
  refine lv_ldc2 (v := 40) hF.1 hF.2.1 hF.2.2.2.1 (hF.2.2.2.2 _ q1328) dX2_years_3 ?_
  refine g_sPi (As := [.long times.toInt64, .long 1, .long 40]) (rest := []) hF (kX2_in l times.toInt64 1 40) (lw_S q1061 q1062 q97 q1063) 3 hdX2_in.2 rfl rfl ⟨Nat.le_of_ble_eq_true rfl, Nat.le_of_ble_eq_true rfl⟩ g_pre0 rfl hl.1 rfl (Nat.le_of_ble_eq_true rfl) dX2_years_6 ⟨Nat.zero_le _, Nat.zero_le _⟩ (fun r1 e_r1 => ?_)
  refine lv_if_eq (tgt := 28) hF.1 hF.2.1 dX2_years_9 (by decide) (fun c2 => ?_) (fun c2 => ?_)
  · skip
    refine lv_bipush (v := (-102)) hF.1 hF.2.1 dX2_years_28 (by decide) ?_
    have hH : mH ω (g, va_up y 18 (y 18), va_up a 9 (a 9), va_up (va_up (va_up z 11 (z 11)) 12 (z 12)) 19 (z 19), kt, hs) H := m_ext (fun _ => rfl) (by intro k; by_cases h0 : k = 18; (subst h0; simp [va_up]); simp only [va_up, if_neg h0]) (by intro k; by_cases h0 : k = 9; (subst h0; simp [va_up]); simp only [va_up, if_neg h0]) (by intro k; by_cases h0 : k = 11; (subst h0; simp [va_up]); by_cases h1 : k = 12; (subst h1; simp [va_up]); by_cases h2 : k = 19; (subst h2; simp [va_up]); simp only [va_up, if_neg h0, if_neg h1, if_neg h2]) hH
    exact hret _ _ _ _ _ _ dX2_years_30 ⟨_, _, _, _, _, by subst e_r1; unfold fX2_years; first | (rw [if_pos c2]; done) | (simp only [if_pos c2]), rfl⟩ hH hS
  · skip
    refine lv_iload_n hF.1 hF.2.1 dX2_years_12 rfl (lv_at hl 2 rfl) ?_
    refine lv_if_lt (tgt := 28) hF.1 hF.2.1 dX2_years_13 (by decide) (fun c3 => ?_) (fun c3 => ?_)
    · skip
      refine lv_bipush (v := (-102)) hF.1 hF.2.1 dX2_years_28 (by decide) ?_
      have hH : mH ω (g, va_up y 18 (y 18), va_up a 9 (a 9), va_up (va_up (va_up z 11 (z 11)) 12 (z 12)) 19 (z 19), kt, hs) H := m_ext (fun _ => rfl) (by intro k; by_cases h0 : k = 18; (subst h0; simp [va_up]); simp only [va_up, if_neg h0]) (by intro k; by_cases h0 : k = 9; (subst h0; simp [va_up]); simp only [va_up, if_neg h0]) (by intro k; by_cases h0 : k = 11; (subst h0; simp [va_up]); by_cases h1 : k = 12; (subst h1; simp [va_up]); by_cases h2 : k = 19; (subst h2; simp [va_up]); simp only [va_up, if_neg h0, if_neg h1, if_neg h2]) hH
      exact hret _ _ _ _ _ _ dX2_years_30 ⟨_, _, _, _, _, by subst e_r1; unfold fX2_years; first | (rw [if_neg c2, if_pos c3]; done) | (simp only [if_neg c2, if_pos c3]), rfl⟩ hH hS
    · skip
      refine lv_iload_n hF.1 hF.2.1 dX2_years_16 rfl (lv_at hl 3 rfl) ?_
      refine lv_i2l (v := wh.toInt64) hF.1 hF.2.1 dX2_years_17 rfl ?_
      refine lv_lconst (v := 0) hF.1 hF.2.1 dX2_years_18 (by decide) ?_
      refine lv_ldc2 (v := 2) hF.1 hF.2.1 hF.2.2.2.1 (hF.2.2.2.2 _ q1111) dX2_years_19 ?_
      refine g_sPi (As := [.long wh.toInt64, .long 0, .long 2]) (rest := []) hF (kX2_in l wh.toInt64 0 2) (lw_S q1061 q1062 q97 q1063) 3 hdX2_in.2 rfl rfl ⟨Nat.le_of_ble_eq_true rfl, Nat.le_of_ble_eq_true rfl⟩ g_pre0 rfl hl.1 rfl (Nat.le_of_ble_eq_true rfl) dX2_years_22 ⟨Nat.zero_le _, Nat.zero_le _⟩ (fun r4 e_r4 => ?_)
      refine lv_if_ne (tgt := 31) hF.1 hF.2.1 dX2_years_25 (by decide) (fun c5 => ?_) (fun c5 => ?_)
      · skip
        refine lv_aload_n hF.1 hF.2.1 dX2_years_31 rfl (lv_at hl 0 rfl) ?_
        refine g_vPi (As := []) (rest := []) hF (kX2_lacks l ω g y a z kt hs (by omega)) (lw_V q1232 q1234 qs71 q97 q1235) 0 hdX2_lacks rfl rfl ⟨Nat.le_of_ble_eq_true rfl, Nat.le_of_ble_eq_true rfl⟩ (m_preV hK hH) rfl hl.1 rfl (Nat.le_of_ble_eq_true rfl) dX2_years_32 ⟨Nat.zero_le _, Nat.zero_le _⟩ (fun r6 e_r6 => ?_)
        refine lv_if_eq (tgt := 41) hF.1 hF.2.1 dX2_years_35 (by decide) (fun c7 => ?_) (fun c7 => ?_)
        · skip
          have hlk := fX2_lacks_no (by rw [← e_r6]; exact c7)
          have hg3 := hsd.2.2.1 hlk
          obtain ⟨b8e, b8l⟩ := g_lift (r := times) (n := 41) (in64_lift2 (m := 1) rfl rfl (by omega) (by rw [← e_r1]; exact c2)) (by omega)
          refine lv_aload_n hF.1 hF.2.1 dX2_years_41 rfl (lv_at hl 0 rfl) ?_
          refine mg_9 hF hK hH q980 dX2_years_42 ?_
          refine lv_aload_n hF.1 hF.2.1 dX2_years_45 rfl (lv_at hl 0 rfl) ?_
          refine mg_19 hF hK hH q990 dX2_years_46 ?_
          refine g_sWv (As := [.ref (ω.2.1 0 9), .ref (ω.2.1 0 19)]) (rest := []) hF (kX2_copyS_9_19 l ω g y a z kt hs) (lw_S q1329 q1330 q97 q1331) 2 hdX2_copyS_9_19.2 rfl rfl ⟨Nat.le_of_ble_eq_true rfl, Nat.le_of_ble_eq_true rfl⟩ (m_pre hK hH) rfl hl.1 rfl (Nat.le_of_ble_eq_true rfl) dX2_years_49 ⟨Nat.le_of_ble_eq_true rfl, Nat.le_of_ble_eq_true rfl⟩ hS (fun ur9 H locs hqr9 hH hS => ?_)
          obtain ⟨r9o0, hr9, rfl⟩ := hqr9
          have e_r9o0 := hr9
          refine lv_aload_n hF.1 hF.2.1 dX2_years_52 rfl (lv_at hl 0 rfl) ?_
          refine lv_iload_n hF.1 hF.2.1 dX2_years_53 rfl (lv_at hl 2 rfl) ?_
          refine mp_18 hF hK hH hS q989 dX2_years_54 (y' := va_up y 18 seed) rfl (by intro j hj; simp only [va_up, if_neg hj]) (fun H locs hH hS => ?_)
          refine lv_iconst (v := nI 0) hF.1 hF.2.1 dX2_years_57 (by decide) ?_
          refine lv_istore (lv' := [(4, .int (nI 0)), (0, .ref (ω.2.1 0 99)), (1, .int times), (2, .int seed), (3, .int wh)]) hF.1 hF.2.1 dX2_years_58 hl (by decide) rfl (fun ls hl => ?_)
          refine lv_iconst (v := nI 0) hF.1 hF.2.1 dX2_years_60 (by decide) ?_
          refine lv_istore (lv' := [(5, .int (nI 0)), (4, .int (nI 0)), (0, .ref (ω.2.1 0 99)), (1, .int times), (2, .int seed), (3, .int wh)]) hF.1 hF.2.1 dX2_years_61 hl (by decide) rfl (fun ls hl => ?_)
          refine lv_iconst (v := nI 0) hF.1 hF.2.1 dX2_years_63 (by decide) ?_
          refine lv_istore (lv' := [(6, .int (nI 0)), (5, .int (nI 0)), (4, .int (nI 0)), (0, .ref (ω.2.1 0 99)), (1, .int times), (2, .int seed), (3, .int wh)]) hF.1 hF.2.1 dX2_years_64 hl (by decide) rfl (fun ls hl => ?_)
          have lp66_177 : ∀ (d66 i66 : Nat) (x66_5 : Int32) (x66_4 : Int32) (w66_y18 : Int32) (w66_a9 : Nat → Int32) (h66_z11 : Nat → Int32) (h66_z12 : Nat → Int32) (H : Heap) (locs : List Loc) (ls : Array Slot), i66 + d66 = toN times → (x66_5, x66_4, w66_y18, w66_a9) = it (fX2_years_b66 g y a t td) i66 (nI 0, nI 0, seed, a 9) → mH ω (g, va_up y 18 w66_y18, va_up a 9 w66_a9, va_up (va_up (va_up z 11 h66_z11) 12 h66_z12) 19 r9o0, kt, hs) H → va_S ω.2.2.1 s.heap H locs → lv_has ls 11 [(6, .int (nI i66)), (5, .int x66_5), (4, .int x66_4), (0, .ref (ω.2.1 0 99)), (1, .int times), (3, .int wh)] → W p l e rmX2_years s m args below meth c H locs 0 0 QQ (F0 m 66 ls []) := by
            intro d66
            induction d66 with
            | zero =>
              intro i66 x66_5 x66_4 w66_y18 w66_a9 h66_z11 h66_z12 H locs ls hi66 hS66 hH hS hl
              have hj66 : toN times = i66 := by omega
              subst hj66
              have e_x66_5 : x66_5 = (it (fX2_years_b66 g y a t td) (toN times) (nI 0, nI 0, seed, a 9)).1 := by rw [← hS66]
              have e_x66_4 : x66_4 = (it (fX2_years_b66 g y a t td) (toN times) (nI 0, nI 0, seed, a 9)).2.1 := by rw [← hS66]
              have e_w66_y18 : w66_y18 = (it (fX2_years_b66 g y a t td) (toN times) (nI 0, nI 0, seed, a 9)).2.2.1 := by rw [← hS66]
              have e_w66_a9 : w66_a9 = (it (fX2_years_b66 g y a t td) (toN times) (nI 0, nI 0, seed, a 9)).2.2.2 := by rw [← hS66]
              refine lv_iload hF.1 hF.2.1 dX2_years_66 (lv_at hl 0 rfl) ?_
              refine lv_iload_n hF.1 hF.2.1 dX2_years_68 rfl (lv_at hl 4 rfl) ?_
              refine n_top b8e ?_
              refine n_ge (tgt := 164) hF.1 hF.2.1 dX2_years_69 (by decide) (by omega) (by omega) (fun c10 => ?_) (fun c10 => ?_)
              · skip
                refine lv_aload_n hF.1 hF.2.1 dX2_years_164 rfl (lv_at hl 3 rfl) ?_
                refine mg_19 hF hK hH q990 dX2_years_165 ?_
                refine lv_aload_n hF.1 hF.2.1 dX2_years_168 rfl (lv_at hl 3 rfl) ?_
                refine mg_9 hF hK hH q980 dX2_years_169 ?_
                refine g_sWv (As := [.ref (ω.2.1 0 19), .ref (ω.2.1 0 9)]) (rest := []) hF (kX2_copyS_19_9 l ω g (va_up y 18 w66_y18) (va_up a 9 w66_a9) (va_up (va_up (va_up z 11 h66_z11) 12 h66_z12) 19 r9o0) kt hs) (lw_S q1329 q1330 q97 q1331) 2 hdX2_copyS_19_9.2 rfl rfl ⟨Nat.le_of_ble_eq_true rfl, Nat.le_of_ble_eq_true rfl⟩ (m_pre hK hH) rfl hl.1 rfl (Nat.le_of_ble_eq_true rfl) dX2_years_172 ⟨Nat.le_of_ble_eq_true rfl, Nat.le_of_ble_eq_true rfl⟩ hS (fun ur11 H locs hqr11 hH hS => ?_)
                obtain ⟨r11o0, hr11, rfl⟩ := hqr11
                have e_r11o0 : r11o0 = fX2_copyS_19_9 r9o0 w66_a9 := hr11.trans (by simp only [va_up_self])
                have hH : mH ω (g, va_up y 18 w66_y18, va_up a 9 r11o0, va_up (va_up (va_up z 11 h66_z11) 12 h66_z12) 19 r9o0, kt, hs) H := m_ext (fun _ => rfl) (fun _ => rfl) (by intro k; by_cases h0 : k = 9; (subst h0; simp [va_up]); simp only [va_up, if_neg h0]) (fun _ => rfl) hH
                refine lv_iload_n hF.1 hF.2.1 dX2_years_175 rfl (lv_at hl 5 rfl) ?_
                refine lv_if_ne (tgt := 184) hF.1 hF.2.1 dX2_years_176 (by decide) (fun c12 => ?_) (fun c12 => ?_)
                · skip
                  refine lv_iload_n hF.1 hF.2.1 dX2_years_184 rfl (lv_at hl 5 rfl) ?_
                  refine lv_iconst (v := nI 1) hF.1 hF.2.1 dX2_years_185 (by decide) ?_
                  refine lv_icmp_ne (tgt := 194) hF.1 hF.2.1 dX2_years_186 (by decide) (fun c13 => ?_) (fun c13 => ?_)
                  · skip
                    refine lv_aload_n hF.1 hF.2.1 dX2_years_194 rfl (lv_at hl 3 rfl) ?_
                    refine mg_18 hF hK hH q989 dX2_years_195 (v := w66_y18) rfl ?_
                    exact hret _ _ _ _ _ _ dX2_years_198 ⟨_, _, _, _, _, by subst e_r11o0; subst e_w66_a9; subst e_w66_y18; subst e_x66_4; subst e_x66_5; subst e_r9o0; subst e_r6; subst e_r4; subst e_r1; unfold fX2_years; first | (rw [if_neg c2, if_neg c3, if_neg c5, if_pos c7, if_neg c12, if_neg c13]; done) | (simp only [if_neg c2, if_neg c3, if_neg c5, if_pos c7, if_neg c12, if_neg c13]), rfl⟩ hH hS
                  · skip
                    refine lv_iload hF.1 hF.2.1 dX2_years_189 (lv_at hl 1 rfl) ?_
                    refine lv_goto (tgt := 198) hF.1 hF.2.1 dX2_years_191 (by decide) ?_
                    exact hret _ _ _ _ _ _ dX2_years_198 ⟨_, _, _, _, _, by subst e_r11o0; subst e_w66_a9; subst e_w66_y18; subst e_x66_4; subst e_x66_5; subst e_r9o0; subst e_r6; subst e_r4; subst e_r1; unfold fX2_years; first | (rw [if_neg c2, if_neg c3, if_neg c5, if_pos c7, if_neg c12, if_pos c13]; done) | (simp only [if_neg c2, if_neg c3, if_neg c5, if_pos c7, if_neg c12, if_pos c13]), rfl⟩ hH hS
                · skip
                  refine lv_iload hF.1 hF.2.1 dX2_years_179 (lv_at hl 2 rfl) ?_
                  refine lv_goto (tgt := 198) hF.1 hF.2.1 dX2_years_181 (by decide) ?_
                  exact hret _ _ _ _ _ _ dX2_years_198 ⟨_, _, _, _, _, by subst e_r11o0; subst e_w66_a9; subst e_w66_y18; subst e_x66_4; subst e_x66_5; subst e_r9o0; subst e_r6; subst e_r4; subst e_r1; unfold fX2_years; first | (rw [if_neg c2, if_neg c3, if_neg c5, if_pos c7, if_pos c12]; done) | (simp only [if_neg c2, if_neg c3, if_neg c5, if_pos c7, if_pos c12]), rfl⟩ hH hS
              · exact absurd (by omega) c10
            | succ d66 ih =>
              intro i66 x66_5 x66_4 w66_y18 w66_a9 h66_z11 h66_z12 H locs ls hi66 hS66 hH hS hl
              have hcI : mCore g (va_up a 9 w66_a9) t td (fun p s => toN (w66_a9 (9 * p + s))) := hc.at9 (ofLe.mono (b := 600 + 8 * i66) (by have q := fX2_years_inv (g := g) (y := y) (td := td) (seed := seed) hb i66; rw [← hS66] at q; exact q) (by omega))
              refine lv_iload hF.1 hF.2.1 dX2_years_66 (lv_at hl 0 rfl) ?_
              refine lv_iload_n hF.1 hF.2.1 dX2_years_68 rfl (lv_at hl 4 rfl) ?_
              refine n_top b8e ?_
              refine n_ge (tgt := 164) hF.1 hF.2.1 dX2_years_69 (by decide) (by omega) (by omega) (fun c14 => ?_) (fun c14 => ?_)
              · exact absurd c14 (by omega)
              · skip
                refine lv_aload_n hF.1 hF.2.1 dX2_years_72 rfl (lv_at hl 3 rfl) ?_
                refine lv_aload_n hF.1 hF.2.1 dX2_years_73 rfl (lv_at hl 3 rfl) ?_
                refine mg_3 hF hK hH q974 dX2_years_74 (v := g 3) rfl ?_
                refine g_vWi (As := [.int (nI (g 3))]) (rest := []) hF (kX2_draw l ω g (va_up y 18 w66_y18) (va_up a 9 w66_a9) (va_up (va_up (va_up z 11 h66_z11) 12 h66_z12) 19 r9o0) kt hs (g 3) (by omega) (by omega)) (lw_V q1332 q1334 qs83 q97 q1335) 1 hdX2_draw rfl rfl ⟨Nat.le_of_ble_eq_true rfl, Nat.le_of_ble_eq_true rfl⟩ (m_preV hK hH) rfl hl.1 rfl (Nat.le_of_ble_eq_true rfl) dX2_years_77 ⟨Nat.le_of_ble_eq_true rfl, Nat.le_of_ble_eq_true rfl⟩ hS (fun r15 ur15 H locs hqr15 hH hS => ?_)
                obtain ⟨r15o0, hr15, rfl⟩ := hqr15
                have e_r15 : r15 = (fX2_draw (va_up y 18 w66_y18) (g 3)).1 := by rw [← hr15]
                have e_r15o0 : r15o0 = (fX2_draw (va_up y 18 w66_y18) (g 3)).2 := by rw [← hr15]
                have hH : mH ω (g, va_up y 18 r15o0, va_up a 9 w66_a9, va_up (va_up (va_up z 11 h66_z11) 12 h66_z12) 19 r9o0, kt, hs) H := m_ext (fun _ => rfl) (by intro k; by_cases h0 : k = 18; (subst h0; simp [va_up]); simp only [va_up, if_neg h0]) (fun _ => rfl) (fun _ => rfl) hH
                obtain ⟨b16e, b16l⟩ := g_lift (r := r15) (n := g 3) (by rw [e_r15]; exact fX2_draw_lift _ (by omega) (by omega)) (by omega)
                refine n_top b16e ?_
                refine lv_istore (lv' := [(7, .int (nI (toN r15))), (6, .int (nI i66)), (5, .int x66_5), (4, .int x66_4), (0, .ref (ω.2.1 0 99)), (1, .int times), (3, .int wh)]) hF.1 hF.2.1 dX2_years_80 hl (by decide) rfl (fun ls hl => ?_)
                refine lv_aload_n hF.1 hF.2.1 dX2_years_82 rfl (lv_at hl 4 rfl) ?_
                refine lv_bipush (v := nI 8) hF.1 hF.2.1 dX2_years_83 (by decide) ?_
                refine g_vWi (As := [.int (nI 8)]) (rest := []) hF (kX2_draw l ω g (va_up y 18 r15o0) (va_up a 9 w66_a9) (va_up (va_up (va_up z 11 h66_z11) 12 h66_z12) 19 r9o0) kt hs 8 (by omega) (by omega)) (lw_V q1332 q1334 qs83 q97 q1335) 1 hdX2_draw rfl rfl ⟨Nat.le_of_ble_eq_true rfl, Nat.le_of_ble_eq_true rfl⟩ (m_preV hK hH) rfl hl.1 rfl (Nat.le_of_ble_eq_true rfl) dX2_years_85 ⟨Nat.le_of_ble_eq_true rfl, Nat.le_of_ble_eq_true rfl⟩ hS (fun r17 ur17 H locs hqr17 hH hS => ?_)
                obtain ⟨r17o0, hr17, rfl⟩ := hqr17
                have e_r17 : r17 = (fX2_draw (va_up y 18 r15o0) 8).1 := by rw [← hr17]
                have e_r17o0 : r17o0 = (fX2_draw (va_up y 18 r15o0) 8).2 := by rw [← hr17]
                have hH : mH ω (g, va_up y 18 r17o0, va_up a 9 w66_a9, va_up (va_up (va_up z 11 h66_z11) 12 h66_z12) 19 r9o0, kt, hs) H := m_ext (fun _ => rfl) (by intro k; by_cases h0 : k = 18; (subst h0; simp [va_up]); simp only [va_up, if_neg h0]) (fun _ => rfl) (fun _ => rfl) hH
                obtain ⟨b18e, b18l⟩ := g_lift (r := r17) (n := 8) (by rw [e_r17]; exact fX2_draw_lift _ (by omega) (by omega)) (by omega)
                refine n_top b18e ?_
                refine lv_istore (lv' := [(8, .int (nI (toN r17))), (7, .int (nI (toN r15))), (6, .int (nI i66)), (5, .int x66_5), (4, .int x66_4), (0, .ref (ω.2.1 0 99)), (1, .int times), (3, .int wh)]) hF.1 hF.2.1 dX2_years_88 hl (by decide) rfl (fun ls hl => ?_)
                refine lv_aload_n hF.1 hF.2.1 dX2_years_90 rfl (lv_at hl 5 rfl) ?_
                refine lv_bipush (v := nI 8) hF.1 hF.2.1 dX2_years_91 (by decide) ?_
                refine g_vWi (As := [.int (nI 8)]) (rest := []) hF (kX2_draw l ω g (va_up y 18 r17o0) (va_up a 9 w66_a9) (va_up (va_up (va_up z 11 h66_z11) 12 h66_z12) 19 r9o0) kt hs 8 (by omega) (by omega)) (lw_V q1332 q1334 qs83 q97 q1335) 1 hdX2_draw rfl rfl ⟨Nat.le_of_ble_eq_true rfl, Nat.le_of_ble_eq_true rfl⟩ (m_preV hK hH) rfl hl.1 rfl (Nat.le_of_ble_eq_true rfl) dX2_years_93 ⟨Nat.le_of_ble_eq_true rfl, Nat.le_of_ble_eq_true rfl⟩ hS (fun r19 ur19 H locs hqr19 hH hS => ?_)
                obtain ⟨r19o0, hr19, rfl⟩ := hqr19
                have e_r19 : r19 = (fX2_draw (va_up y 18 r17o0) 8).1 := by rw [← hr19]
                have e_r19o0 : r19o0 = (fX2_draw (va_up y 18 r17o0) 8).2 := by rw [← hr19]
                have hH : mH ω (g, va_up y 18 r19o0, va_up a 9 w66_a9, va_up (va_up (va_up z 11 h66_z11) 12 h66_z12) 19 r9o0, kt, hs) H := m_ext (fun _ => rfl) (by intro k; by_cases h0 : k = 18; (subst h0; simp [va_up]); simp only [va_up, if_neg h0]) (fun _ => rfl) (fun _ => rfl) hH
                obtain ⟨b20e, b20l⟩ := g_lift (r := r19) (n := 8) (by rw [e_r19]; exact fX2_draw_lift _ (by omega) (by omega)) (by omega)
                refine n_top b20e ?_
                refine lv_istore (lv' := [(9, .int (nI (toN r19))), (8, .int (nI (toN r17))), (7, .int (nI (toN r15))), (6, .int (nI i66)), (5, .int x66_5), (4, .int x66_4), (0, .ref (ω.2.1 0 99)), (1, .int times), (3, .int wh)]) hF.1 hF.2.1 dX2_years_96 hl (by decide) rfl (fun ls hl => ?_)
                refine lv_iload hF.1 hF.2.1 dX2_years_98 (lv_at hl 1 rfl) ?_
                refine lv_iload hF.1 hF.2.1 dX2_years_100 (lv_at hl 0 rfl) ?_
                refine n_ne (tgt := 109) hF.1 hF.2.1 dX2_years_102 (by decide) (by omega) (by omega) (fun c21 => ?_) (fun c21 => ?_)
                · skip
                  refine lv_aload_n hF.1 hF.2.1 dX2_years_109 rfl (lv_at hl 6 rfl) ?_
                  refine lv_iload hF.1 hF.2.1 dX2_years_110 (lv_at hl 2 rfl) ?_
                  refine lv_iload hF.1 hF.2.1 dX2_years_112 (lv_at hl 1 rfl) ?_
                  refine lv_iload hF.1 hF.2.1 dX2_years_114 (lv_at hl 0 rfl) ?_
                  refine lv_aload_n hF.1 hF.2.1 dX2_years_116 rfl (lv_at hl 6 rfl) ?_
                  refine g_vPi (As := []) (rest := [.int (nI (toN r19)), .int (nI (toN r17)), .int (nI (toN r15)), .ref (ω.2.1 0 99)]) hF (kX2_everyStreet l ω g (va_up y 18 r19o0) (va_up a 9 w66_a9) (va_up (va_up (va_up z 11 h66_z11) 12 h66_z12) 19 r9o0) kt hs) (lw_V q1118 q1120 qs53 q97 q1121) 0 hdX2_everyStreet rfl rfl ⟨Nat.le_of_ble_eq_true rfl, Nat.le_of_ble_eq_true rfl⟩ (m_preV hK hH) rfl hl.1 rfl (Nat.le_of_ble_eq_true rfl) dX2_years_117 ⟨Nat.zero_le _, Nat.zero_le _⟩ (fun r22 e_r22 => ?_)
                  refine g_vWi (As := [.int (nI (toN r15)), .int (nI (toN r17)), .int (nI (toN r19)), .int r22]) (rest := []) hF (kX2_layWayS l ω g (va_up y 18 r19o0) (va_up a 9 w66_a9) (va_up (va_up (va_up z 11 h66_z11) 12 h66_z12) 19 r9o0) kt hs t td (fun p s => toN (w66_a9 (9 * p + s))) hcI (toN r15) (toN r17) (toN r19) r22 (by omega) (by omega) (by omega)) (lw_V q1122 q1124 qs54 q97 q1125) 4 hdX2_layWayS rfl rfl ⟨Nat.le_of_ble_eq_true rfl, Nat.le_of_ble_eq_true rfl⟩ (m_preV hK hH) rfl hl.1 rfl (Nat.le_of_ble_eq_true rfl) dX2_years_120 ⟨Nat.le_of_ble_eq_true rfl, Nat.le_of_ble_eq_true rfl⟩ hS (fun r23 ur23 H locs hqr23 hH hS => ?_)
                  obtain ⟨r23h0, r23h1, hr23, hr23_0, hr23_1, rfl⟩ := hqr23
                  have e_r23 := hr23
                  have hH : mH ω (g, va_up y 18 r19o0, va_up a 9 w66_a9, va_up (va_up (va_up z 11 r23h0) 12 r23h1) 19 r9o0, kt, hs) H := m_ext (fun _ => rfl) (fun _ => rfl) (fun _ => rfl) (by intro k; by_cases h0 : k = 11; (subst h0; simp [va_up]); by_cases h1 : k = 12; (subst h1; simp [va_up]); simp only [va_up, if_neg h0, if_neg h1]) hH
                  have hfarr23 := mds_far hcI (show toN r15 < 3 by omega) r22 (show toN r19 < 8 by omega) (toN r17)
                  refine lv_istore (lv' := [(10, .int r23), (9, .int (nI (toN r19))), (8, .int (nI (toN r17))), (7, .int (nI (toN r15))), (6, .int (nI i66)), (5, .int x66_5), (4, .int x66_4), (0, .ref (ω.2.1 0 99)), (1, .int times), (3, .int wh)]) hF.1 hF.2.1 dX2_years_123 hl (by decide) rfl (fun ls hl => ?_)
                  refine lv_iload hF.1 hF.2.1 dX2_years_125 (lv_at hl 0 rfl) ?_
                  refine lv_iconst (v := (-1)) hF.1 hF.2.1 dX2_years_127 (by decide) ?_
                  refine lv_icmp_eq (tgt := 158) hF.1 hF.2.1 dX2_years_128 (by decide) (fun c24 => ?_) (fun c24 => ?_)
                  · skip
                    refine n_iinc (lv' := [(6, .int (nI (i66 + 1))), (10, .int r23), (9, .int (nI (toN r19))), (8, .int (nI (toN r17))), (7, .int (nI (toN r15))), (5, .int x66_5), (4, .int x66_4), (0, .ref (ω.2.1 0 99)), (1, .int times), (3, .int wh)]) hF.1 hF.2.1 dX2_years_158 hl (k := 4) rfl (by decide) rfl (fun ls hl => ?_)
                    refine lv_goto (tgt := 66) hF.1 hF.2.1 dX2_years_161 (by decide) ?_
                    exact ih (i66 + 1) _ _ _ _ _ _ _ _ _ (by omega) (by subst e_r23; subst e_r22; subst e_r19o0; subst e_r19; subst e_r17o0; subst e_r17; subst e_r15o0; subst e_r15; rw [it_succ (fX2_years_b66 g y a t td) i66 _, ← hS66]; unfold fX2_years_b66; dsimp only; first | (rw [if_neg c21, if_pos c24]; done) | (simp only [if_neg c21, if_pos c24])) hH hS (lv_sub hl [0, 5, 6, 7, 8, 9] rfl)
                  · skip
                    have hwd := fX2_layWayS_lift (by rw [← e_r23]; exact c24)
                    have hwl := mwl_lt hcI (show toN r15 < 3 by omega) (show toN r19 < 8 by omega) (show toN r17 < 8 by omega) hwd.1
                    have b25 : r23 = nI (cwl t (g 5) (td (toN r15)) (fun s => toN (w66_a9 (9 * (toN r15) + s))) r22 (toN r17) (toN r19)) := e_r23.trans hwd.2
                    refine lv_iinc (v := x66_4 + 1) (lv' := [(4, .int (x66_4 + 1)), (10, .int r23), (9, .int (nI (toN r19))), (8, .int (nI (toN r17))), (7, .int (nI (toN r15))), (6, .int (nI i66)), (5, .int x66_5), (0, .ref (ω.2.1 0 99)), (1, .int times), (3, .int wh)]) hF.1 hF.2.1 dX2_years_131 hl (k := 6) rfl (by rfl) (by decide) rfl (fun ls hl => ?_)
                    refine lv_iload hF.1 hF.2.1 dX2_years_134 (lv_at hl 6 rfl) ?_
                    refine lv_aload_n hF.1 hF.2.1 dX2_years_136 rfl (lv_at hl 7 rfl) ?_
                    refine mg_11 hF hK hH q982 dX2_years_137 ?_
                    refine lv_iload hF.1 hF.2.1 dX2_years_140 (lv_at hl 3 rfl) ?_
                    refine m_zld hF hK hH 11 (n := 8) rfl rfl (by decide) rfl (f := r23h0) rfl (i := toN r17) (by omega) (by decide) dX2_years_142 ?_
                    refine n_top (y := nI (cds t (g 5) (td (toN r15)) (fun s => toN (w66_a9 (9 * (toN r15) + s))) r22 (toN r19) (toN r17))) (hr23_0 _ (by omega)) ?_
                    refine lv_sipush (v := nI 1000) hF.1 hF.2.1 dX2_years_143 (by decide) ?_
                    refine n_idiv hF.1 hF.2.1 dX2_years_146 (by omega) (by omega) (by omega) ?_
                    refine lv_iadd hF.1 hF.2.1 dX2_years_147 ?_
                    refine lv_istore (lv' := [(5, .int (x66_5 + (nI ((cds t (g 5) (td (toN r15)) (fun s => toN (w66_a9 (9 * (toN r15) + s))) r22 (toN r19) (toN r17)) / 1000)))), (4, .int (x66_4 + 1)), (10, .int r23), (9, .int (nI (toN r19))), (8, .int (nI (toN r17))), (7, .int (nI (toN r15))), (6, .int (nI i66)), (0, .ref (ω.2.1 0 99)), (1, .int times), (3, .int wh)]) hF.1 hF.2.1 dX2_years_148 hl (by decide) rfl (fun ls hl => ?_)
                    refine lv_aload_n hF.1 hF.2.1 dX2_years_150 rfl (lv_at hl 7 rfl) ?_
                    refine lv_iload hF.1 hF.2.1 dX2_years_151 (lv_at hl 5 rfl) ?_
                    refine lv_iload hF.1 hF.2.1 dX2_years_153 (lv_at hl 2 rfl) ?_
                    refine n_top b25 ?_
                    refine g_vWv (As := [.int (nI (toN r15)), .int (nI (cwl t (g 5) (td (toN r15)) (fun s => toN (w66_a9 (9 * (toN r15) + s))) r22 (toN r17) (toN r19)))]) (rest := []) hF (kX2_takeThroughS l ω g (va_up y 18 r19o0) (va_up a 9 w66_a9) (va_up (va_up (va_up z 11 r23h0) 12 r23h1) 19 r9o0) kt hs t td (fun p s => toN (w66_a9 (9 * p + s))) hcI (toN r15) (cwl t (g 5) (td (toN r15)) (fun s => toN (w66_a9 (9 * (toN r15) + s))) r22 (toN r17) (toN r19)) (cws t (g 5) (td (toN r15)) (fun s => toN (w66_a9 (9 * (toN r15) + s))) r22 (toN r17) (toN r19)) (by omega) (by omega) (hr23_1 hwd.1) hwl.2) (lw_V q1287 q1289 qs79 q97 q1290) 2 hdX2_takeThroughS rfl rfl ⟨Nat.le_of_ble_eq_true rfl, Nat.le_of_ble_eq_true rfl⟩ (m_preV hK hH) rfl hl.1 rfl (Nat.le_of_ble_eq_true rfl) dX2_years_155 ⟨Nat.le_of_ble_eq_true rfl, Nat.le_of_ble_eq_true rfl⟩ hS (fun ur26 H locs hqr26 hH hS => ?_)
                    obtain ⟨r26o0, hr26, rfl⟩ := hqr26
                    have e_r26o0 := hr26
                    have hH : mH ω (g, va_up y 18 r19o0, va_up a 9 r26o0, va_up (va_up (va_up z 11 r23h0) 12 r23h1) 19 r9o0, kt, hs) H := m_ext (fun _ => rfl) (fun _ => rfl) (by intro k; by_cases h0 : k = 9; (subst h0; simp [va_up]); simp only [va_up, if_neg h0]) (fun _ => rfl) hH
                    refine n_iinc (lv' := [(6, .int (nI (i66 + 1))), (5, .int (x66_5 + (nI ((cds t (g 5) (td (toN r15)) (fun s => toN (w66_a9 (9 * (toN r15) + s))) r22 (toN r19) (toN r17)) / 1000)))), (4, .int (x66_4 + 1)), (10, .int r23), (9, .int (nI (toN r19))), (8, .int (nI (toN r17))), (7, .int (nI (toN r15))), (0, .ref (ω.2.1 0 99)), (1, .int times), (3, .int wh)]) hF.1 hF.2.1 dX2_years_158 hl (k := 6) rfl (by decide) rfl (fun ls hl => ?_)
                    refine lv_goto (tgt := 66) hF.1 hF.2.1 dX2_years_161 (by decide) ?_
                    exact ih (i66 + 1) _ _ _ _ _ _ _ _ _ (by omega) (by subst e_r26o0; subst e_r23; subst e_r22; subst e_r19o0; subst e_r19; subst e_r17o0; subst e_r17; subst e_r15o0; subst e_r15; rw [it_succ (fX2_years_b66 g y a t td) i66 _, ← hS66]; unfold fX2_years_b66; dsimp only; first | (rw [if_neg c21, if_neg c24]; done) | (simp only [if_neg c21, if_neg c24])) hH hS (lv_sub hl [0, 1, 2, 7, 8, 9] rfl)
                · skip
                  refine lv_iconst (v := (-1)) hF.1 hF.2.1 dX2_years_105 (by decide) ?_
                  refine lv_goto (tgt := 123) hF.1 hF.2.1 dX2_years_106 (by decide) ?_
                  refine lv_istore (lv' := [(10, .int (-1)), (9, .int (nI (toN r19))), (8, .int (nI (toN r17))), (7, .int (nI (toN r15))), (6, .int (nI i66)), (5, .int x66_5), (4, .int x66_4), (0, .ref (ω.2.1 0 99)), (1, .int times), (3, .int wh)]) hF.1 hF.2.1 dX2_years_123 hl (by decide) rfl (fun ls hl => ?_)
                  refine lv_iload hF.1 hF.2.1 dX2_years_125 (lv_at hl 0 rfl) ?_
                  refine lv_iconst (v := (-1)) hF.1 hF.2.1 dX2_years_127 (by decide) ?_
                  refine lv_icmp_eq (tgt := 158) hF.1 hF.2.1 dX2_years_128 (by decide) (fun c27 => ?_) (fun c27 => ?_)
                  · skip
                    refine n_iinc (lv' := [(6, .int (nI (i66 + 1))), (10, .int (-1)), (9, .int (nI (toN r19))), (8, .int (nI (toN r17))), (7, .int (nI (toN r15))), (5, .int x66_5), (4, .int x66_4), (0, .ref (ω.2.1 0 99)), (1, .int times), (3, .int wh)]) hF.1 hF.2.1 dX2_years_158 hl (k := 4) rfl (by decide) rfl (fun ls hl => ?_)
                    refine lv_goto (tgt := 66) hF.1 hF.2.1 dX2_years_161 (by decide) ?_
                    exact ih (i66 + 1) _ _ _ _ _ _ _ _ _ (by omega) (by subst e_r19o0; subst e_r19; subst e_r17o0; subst e_r17; subst e_r15o0; subst e_r15; rw [it_succ (fX2_years_b66 g y a t td) i66 _, ← hS66]; unfold fX2_years_b66; dsimp only; first | (rw [if_pos c21]; done) | (simp only [if_pos c21])) hH hS (lv_sub hl [0, 5, 6, 7, 8, 9] rfl)
                  · exact absurd rfl c27
          have hH : mH ω (g, va_up y 18 seed, va_up a 9 (a 9), va_up (va_up (va_up z 11 (z 11)) 12 (z 12)) 19 r9o0, kt, hs) H := m_ext (fun _ => rfl) (fun _ => rfl) (by intro k; by_cases h0 : k = 9; (subst h0; simp [va_up]); simp only [va_up, if_neg h0]) (by intro k; by_cases h0 : k = 11; (subst h0; simp [va_up]); by_cases h1 : k = 12; (subst h1; simp [va_up]); simp only [va_up, if_neg h0, if_neg h1]) hH
          exact lp66_177 (toN times) 0 _ _ _ _ _ _ _ _ _ (by omega) rfl hH hS (lv_sub hl [0, 1, 2, 3, 4, 6] rfl)
        · skip
          refine lv_bipush (v := (-103)) hF.1 hF.2.1 dX2_years_38 (by decide) ?_
          have hH : mH ω (g, va_up y 18 (y 18), va_up a 9 (a 9), va_up (va_up (va_up z 11 (z 11)) 12 (z 12)) 19 (z 19), kt, hs) H := m_ext (fun _ => rfl) (by intro k; by_cases h0 : k = 18; (subst h0; simp [va_up]); simp only [va_up, if_neg h0]) (by intro k; by_cases h0 : k = 9; (subst h0; simp [va_up]); simp only [va_up, if_neg h0]) (by intro k; by_cases h0 : k = 11; (subst h0; simp [va_up]); by_cases h1 : k = 12; (subst h1; simp [va_up]); by_cases h2 : k = 19; (subst h2; simp [va_up]); simp only [va_up, if_neg h0, if_neg h1, if_neg h2]) hH
          exact hret _ _ _ _ _ _ dX2_years_40 ⟨_, _, _, _, _, by subst e_r6; subst e_r4; subst e_r1; unfold fX2_years; first | (rw [if_neg c2, if_neg c3, if_neg c5, if_neg c7]; done) | (simp only [if_neg c2, if_neg c3, if_neg c5, if_neg c7]), rfl⟩ hH hS
      · skip
        refine lv_bipush (v := (-102)) hF.1 hF.2.1 dX2_years_28 (by decide) ?_
        have hH : mH ω (g, va_up y 18 (y 18), va_up a 9 (a 9), va_up (va_up (va_up z 11 (z 11)) 12 (z 12)) 19 (z 19), kt, hs) H := m_ext (fun _ => rfl) (by intro k; by_cases h0 : k = 18; (subst h0; simp [va_up]); simp only [va_up, if_neg h0]) (by intro k; by_cases h0 : k = 9; (subst h0; simp [va_up]); simp only [va_up, if_neg h0]) (by intro k; by_cases h0 : k = 11; (subst h0; simp [va_up]); by_cases h1 : k = 12; (subst h1; simp [va_up]); by_cases h2 : k = 19; (subst h2; simp [va_up]); simp only [va_up, if_neg h0, if_neg h1, if_neg h2]) hH
        exact hret _ _ _ _ _ _ dX2_years_30 ⟨_, _, _, _, _, by subst e_r4; subst e_r1; unfold fX2_years; first | (rw [if_neg c2, if_neg c3, if_pos c5]; done) | (simp only [if_neg c2, if_neg c3, if_pos c5]), rfl⟩ hH hS

def fX2_sayPerson_b54 (g : Nat → Nat) (t : TW) (td : Nat → Nat) (of : Nat → Nat → Nat) (pn : Nat) (i54 : Nat) (S : Int64) : Int64 := (fX2_say (fX2_say (fX2_say (fX2_say (fX2_say S (fX2_tellWay g t td of pn 0 (i54 + 1) 0).toInt64) (fX2_tellWay g t td of pn 0 (i54 + 1) 1).toInt64) (fX2_tellWay g t td of pn 0 (i54 + 1) 2).toInt64) (fX2_edgeOf g t td of pn 0 (i54 + 1) (nI 0)).toInt64) (fX2_railOfS g t td of pn 0 (i54 + 1)).toInt64)
def fX2_sayPerson_b27 (g : Nat → Nat) (a : Nat → Nat → Int32) (pn : Nat) (i27 : Nat) (S : Int64) : Int64 := (fX2_say S (fX2_hurtsOf g a pn i27).toInt64)
def fX2_sayPerson_b2 (g : Nat → Nat) (a : Nat → Nat → Int32) (t : TW) (of : Nat → Nat → Nat) (pn : Nat) (i2 : Nat) (S : Int64) : Int64 := (fX2_say S (fX2_tellPerson g a t of pn (nI i2)).toInt64)
def fX2_sayPerson (g : Nat → Nat) (a : Nat → Nat → Int32) (hs : Int64) (t : TW) (td : Nat → Nat) (of : Nat → Nat → Nat) (pn : Nat) : Int64 := (it (fX2_sayPerson_b54 g t td of pn) 7 (it (fX2_sayPerson_b27 g a pn) (g 4) (it (fX2_sayPerson_b2 g a t of pn) 6 hs)))
def rmX2_sayPerson : Room := { frames := 7, cells := 0, slots := 0, locals := 171 }
theorem hdX2_sayPerson : yX2_sayPerson.cls = RX2 ∧ yX2_sayPerson.cls ≠ "java/lang/invoke/MethodHandle" ∧ yX2_sayPerson.cls ≠ "java/lang/invoke/VarHandle" ∧ (parseMethodDescriptor yX2_sayPerson.desc).map (fun d => d.parameters.length) = some 1 := by decide +kernel
set_option maxHeartbeats 4000000 in
theorem kX2_sayPerson (l : Launch) (ω : OM) (g : Nat → Nat) (y : Nat → Int32) (a z : Nat → Nat → Int32) (kt : Int32) (hs : Int64) (t : TW) (td : Nat → Nat) (of : Nat → Nat → Nat) (hc : mCore g a t td of) (pn : Nat) (hpn : pn < 3) (hsd : mSide g a) : Met l yX2_sayPerson (ws_ yX2_sayPerson cX2_sayPerson 3 none) rmX2_sayPerson (va_Pc [.ref (ω.2.1 0 99), .int (nI pn)] (fun U => mK ω U ∧ mH ω (g, y, a, z, kt, hs) U.heap)) (va_Qv (fun (u : MS) => ∃ (o0 : Int64) (q0 : Nat → Int32) (q1 : Nat → Int32) (q2 : Nat → Int32) (q3 : Nat → Int32), o0 = (fX2_sayPerson g a hs t td of pn) ∧ u = (g, y, a, va_up (va_up (va_up (va_up z 11 q0) 12 q1) 13 q2) 14 q3, kt, o0)) (fun u t => mH ω u t.heap) ω.2.2.1) 0 0 ω.2.2.1 := by
  refine g_entWv (C := RX2) rfl (by decide) (Nat.le_of_ble_eq_true rfl) ?_
  intro p e s m args below meth c QQ ls H locs hF hK hH hS hl hret
  have hl : lv_has ls 3 [(0, .ref (ω.2.1 0 99)), (1, .int (nI pn))] := hl
  have hok := hc.ok
  have hr := hc.rows
  have hn := hr.1
  have hp3 := hsd.1
  have hs6 := hsd.2.1
  refine lv_iconst (v := nI 0) hF.1 hF.2.1 dX2_sayPerson_0 (by decide) ?_
  refine lv_istore_n (lv' := [(2, .int (nI 0)), (0, .ref (ω.2.1 0 99)), (1, .int (nI pn))]) hF.1 hF.2.1 dX2_sayPerson_1 rfl hl (by decide) rfl (fun ls hl => ?_)
  have lp2_179 : ∀ (d2 i2 : Nat) (w2_hs : Int64) (h2_z11 : Nat → Int32) (H : Heap) (locs : List Loc) (ls : Array Slot), i2 + d2 = 6 → w2_hs = it (fX2_sayPerson_b2 g a t of pn) i2 hs → mH ω (g, y, a, va_up z 11 h2_z11, kt, w2_hs) H → va_S ω.2.2.1 s.heap H locs → lv_has ls 3 [(2, .int (nI i2)), (0, .ref (ω.2.1 0 99)), (1, .int (nI pn))] → W p l e rmX2_sayPerson s m args below meth c H locs 0 0 QQ (F0 m 2 ls []) := by
    intro d2
    induction d2 with
    | zero =>
      intro i2 w2_hs h2_z11 H locs ls hi2 hS2 hH hS hl
      have hj2 : 6 = i2 := by omega
      subst hj2
      have e_w2_hs := hS2
      refine lv_iload_n hF.1 hF.2.1 dX2_sayPerson_2 rfl (lv_at hl 0 rfl) ?_
      refine lv_bipush (v := nI 6) hF.1 hF.2.1 dX2_sayPerson_3 (by decide) ?_
      refine n_ge (tgt := 25) hF.1 hF.2.1 dX2_sayPerson_5 (by decide) (by omega) (by omega) (fun c1 => ?_) (fun c1 => ?_)
      · skip
        refine lv_iconst (v := nI 0) hF.1 hF.2.1 dX2_sayPerson_25 (by decide) ?_
        refine lv_istore_n (lv' := [(2, .int (nI 0)), (0, .ref (ω.2.1 0 99)), (1, .int (nI pn))]) hF.1 hF.2.1 dX2_sayPerson_26 rfl hl (by decide) rfl (fun ls hl => ?_)
        have lp27_181 : ∀ (d27 i27 : Nat) (w27_hs : Int64) (H : Heap) (locs : List Loc) (ls : Array Slot), i27 + d27 = g 4 → w27_hs = it (fX2_sayPerson_b27 g a pn) i27 w2_hs → mH ω (g, y, a, va_up z 11 h2_z11, kt, w27_hs) H → va_S ω.2.2.1 s.heap H locs → lv_has ls 3 [(2, .int (nI i27)), (0, .ref (ω.2.1 0 99)), (1, .int (nI pn))] → W p l e rmX2_sayPerson s m args below meth c H locs 0 0 QQ (F0 m 27 ls []) := by
          intro d27
          induction d27 with
          | zero =>
            intro i27 w27_hs H locs ls hi27 hS27 hH hS hl
            have hj27 : g 4 = i27 := by omega
            subst hj27
            have e_w27_hs := hS27
            refine lv_iload_n hF.1 hF.2.1 dX2_sayPerson_27 rfl (lv_at hl 0 rfl) ?_
            refine lv_aload_n hF.1 hF.2.1 dX2_sayPerson_28 rfl (lv_at hl 1 rfl) ?_
            refine mg_4 hF hK hH q975 dX2_sayPerson_29 (v := g 4) rfl ?_
            refine n_ge (tgt := 52) hF.1 hF.2.1 dX2_sayPerson_32 (by decide) (by omega) (by omega) (fun c2 => ?_) (fun c2 => ?_)
            · skip
              refine lv_iconst (v := nI 1) hF.1 hF.2.1 dX2_sayPerson_52 (by decide) ?_
              refine lv_istore_n (lv' := [(2, .int (nI 1)), (0, .ref (ω.2.1 0 99)), (1, .int (nI pn))]) hF.1 hF.2.1 dX2_sayPerson_53 rfl hl (by decide) rfl (fun ls hl => ?_)
              have lp54_183 : ∀ (d54 i54 : Nat) (w54_hs : Int64) (h54_z11 : Nat → Int32) (h54_z12 : Nat → Int32) (h54_z13 : Nat → Int32) (h54_z14 : Nat → Int32) (H : Heap) (locs : List Loc) (ls : Array Slot), i54 + d54 = 7 → w54_hs = it (fX2_sayPerson_b54 g t td of pn) i54 w27_hs → mH ω (g, y, a, va_up (va_up (va_up (va_up z 11 h54_z11) 12 h54_z12) 13 h54_z13) 14 h54_z14, kt, w54_hs) H → va_S ω.2.2.1 s.heap H locs → lv_has ls 3 [(2, .int (nI (i54 + 1))), (0, .ref (ω.2.1 0 99)), (1, .int (nI pn))] → W p l e rmX2_sayPerson s m args below meth c H locs 0 0 QQ (F0 m 54 ls []) := by
                intro d54
                induction d54 with
                | zero =>
                  intro i54 w54_hs h54_z11 h54_z12 h54_z13 h54_z14 H locs ls hi54 hS54 hH hS hl
                  have hj54 : 7 = i54 := by omega
                  subst hj54
                  have e_w54_hs := hS54
                  refine lv_iload_n hF.1 hF.2.1 dX2_sayPerson_54 rfl (lv_at hl 0 rfl) ?_
                  refine lv_bipush (v := nI 8) hF.1 hF.2.1 dX2_sayPerson_55 (by decide) ?_
                  refine n_ge (tgt := 130) hF.1 hF.2.1 dX2_sayPerson_57 (by decide) (by omega) (by omega) (fun c3 => ?_) (fun c3 => ?_)
                  · skip
                    exact hret _ _ _ _ _ dX2_sayPerson_130 ⟨_, _, _, _, _, by subst e_w54_hs; subst e_w27_hs; subst e_w2_hs; rfl, rfl⟩ hH hS
                  · exact absurd (by omega) c3
                | succ d54 ih =>
                  intro i54 w54_hs h54_z11 h54_z12 h54_z13 h54_z14 H locs ls hi54 hS54 hH hS hl
                  refine lv_iload_n hF.1 hF.2.1 dX2_sayPerson_54 rfl (lv_at hl 0 rfl) ?_
                  refine lv_bipush (v := nI 8) hF.1 hF.2.1 dX2_sayPerson_55 (by decide) ?_
                  refine n_ge (tgt := 130) hF.1 hF.2.1 dX2_sayPerson_57 (by decide) (by omega) (by omega) (fun c4 => ?_) (fun c4 => ?_)
                  · exact absurd c4 (by omega)
                  · skip
                    refine lv_aload_n hF.1 hF.2.1 dX2_sayPerson_60 rfl (lv_at hl 1 rfl) ?_
                    refine lv_aload_n hF.1 hF.2.1 dX2_sayPerson_61 rfl (lv_at hl 1 rfl) ?_
                    refine lv_iload_n hF.1 hF.2.1 dX2_sayPerson_62 rfl (lv_at hl 2 rfl) ?_
                    refine lv_iconst (v := nI 0) hF.1 hF.2.1 dX2_sayPerson_63 (by decide) ?_
                    refine lv_iload_n hF.1 hF.2.1 dX2_sayPerson_64 rfl (lv_at hl 0 rfl) ?_
                    refine lv_iconst (v := nI 0) hF.1 hF.2.1 dX2_sayPerson_65 (by decide) ?_
                    refine g_vWi (As := [.int (nI pn), .int (nI 0), .int (nI (i54 + 1)), .int (nI 0)]) (rest := [.ref (ω.2.1 0 99)]) hF (kX2_tellWay l ω g y a (va_up (va_up (va_up (va_up z 11 h54_z11) 12 h54_z12) 13 h54_z13) 14 h54_z14) kt w54_hs t td of hc pn 0 (i54 + 1) 0 (by omega) (by omega) (by omega) (by omega) hsd) (lw_V q1114 q1116 qs52 q97 q1117) 4 hdX2_tellWay rfl rfl ⟨Nat.le_of_ble_eq_true rfl, Nat.le_of_ble_eq_true rfl⟩ (m_preV hK hH) rfl hl.1 rfl (Nat.le_of_ble_eq_true rfl) dX2_sayPerson_66 ⟨Nat.le_of_ble_eq_true rfl, Nat.le_of_ble_eq_true rfl⟩ hS (fun r5 ur5 H locs hqr5 hH hS => ?_)
                    obtain ⟨r5h0, r5h1, hr5, rfl⟩ := hqr5
                    have e_r5 := hr5
                    have hH : mH ω (g, y, a, va_up (va_up (va_up (va_up z 11 r5h0) 12 r5h1) 13 h54_z13) 14 h54_z14, kt, w54_hs) H := m_ext (fun _ => rfl) (fun _ => rfl) (fun _ => rfl) (by intro k; by_cases h0 : k = 11; (subst h0; simp [va_up]); by_cases h1 : k = 12; (subst h1; simp [va_up]); simp only [va_up, if_neg h0, if_neg h1]) hH
                    refine lv_i2l (v := r5.toInt64) hF.1 hF.2.1 dX2_sayPerson_69 rfl ?_
                    refine g_vWv (As := [.long r5.toInt64]) (rest := []) hF (kX2_say l ω g y a (va_up (va_up (va_up (va_up z 11 r5h0) 12 r5h1) 13 h54_z13) 14 h54_z14) kt w54_hs r5.toInt64) (lw_V q1377 q1379 qs89 q97 q1380) 1 hdX2_say rfl rfl ⟨Nat.le_of_ble_eq_true rfl, Nat.le_of_ble_eq_true rfl⟩ (m_preV hK hH) rfl hl.1 rfl (Nat.le_of_ble_eq_true rfl) dX2_sayPerson_70 ⟨Nat.le_of_ble_eq_true rfl, Nat.le_of_ble_eq_true rfl⟩ hS (fun ur6 H locs hqr6 hH hS => ?_)
                    obtain ⟨r6o0, hr6, rfl⟩ := hqr6
                    have e_r6o0 := hr6
                    refine lv_aload_n hF.1 hF.2.1 dX2_sayPerson_73 rfl (lv_at hl 1 rfl) ?_
                    refine lv_aload_n hF.1 hF.2.1 dX2_sayPerson_74 rfl (lv_at hl 1 rfl) ?_
                    refine lv_iload_n hF.1 hF.2.1 dX2_sayPerson_75 rfl (lv_at hl 2 rfl) ?_
                    refine lv_iconst (v := nI 0) hF.1 hF.2.1 dX2_sayPerson_76 (by decide) ?_
                    refine lv_iload_n hF.1 hF.2.1 dX2_sayPerson_77 rfl (lv_at hl 0 rfl) ?_
                    refine lv_iconst (v := nI 1) hF.1 hF.2.1 dX2_sayPerson_78 (by decide) ?_
                    refine g_vWi (As := [.int (nI pn), .int (nI 0), .int (nI (i54 + 1)), .int (nI 1)]) (rest := [.ref (ω.2.1 0 99)]) hF (kX2_tellWay l ω g y a (va_up (va_up (va_up (va_up z 11 r5h0) 12 r5h1) 13 h54_z13) 14 h54_z14) kt r6o0 t td of hc pn 0 (i54 + 1) 1 (by omega) (by omega) (by omega) (by omega) hsd) (lw_V q1114 q1116 qs52 q97 q1117) 4 hdX2_tellWay rfl rfl ⟨Nat.le_of_ble_eq_true rfl, Nat.le_of_ble_eq_true rfl⟩ (m_preV hK hH) rfl hl.1 rfl (Nat.le_of_ble_eq_true rfl) dX2_sayPerson_79 ⟨Nat.le_of_ble_eq_true rfl, Nat.le_of_ble_eq_true rfl⟩ hS (fun r7 ur7 H locs hqr7 hH hS => ?_)
                    obtain ⟨r7h0, r7h1, hr7, rfl⟩ := hqr7
                    have e_r7 := hr7
                    have hH : mH ω (g, y, a, va_up (va_up (va_up (va_up z 11 r7h0) 12 r7h1) 13 h54_z13) 14 h54_z14, kt, r6o0) H := m_ext (fun _ => rfl) (fun _ => rfl) (fun _ => rfl) (by intro k; by_cases h0 : k = 11; (subst h0; simp [va_up]); by_cases h1 : k = 12; (subst h1; simp [va_up]); simp only [va_up, if_neg h0, if_neg h1]) hH
                    refine lv_i2l (v := r7.toInt64) hF.1 hF.2.1 dX2_sayPerson_82 rfl ?_
                    refine g_vWv (As := [.long r7.toInt64]) (rest := []) hF (kX2_say l ω g y a (va_up (va_up (va_up (va_up z 11 r7h0) 12 r7h1) 13 h54_z13) 14 h54_z14) kt r6o0 r7.toInt64) (lw_V q1377 q1379 qs89 q97 q1380) 1 hdX2_say rfl rfl ⟨Nat.le_of_ble_eq_true rfl, Nat.le_of_ble_eq_true rfl⟩ (m_preV hK hH) rfl hl.1 rfl (Nat.le_of_ble_eq_true rfl) dX2_sayPerson_83 ⟨Nat.le_of_ble_eq_true rfl, Nat.le_of_ble_eq_true rfl⟩ hS (fun ur8 H locs hqr8 hH hS => ?_)
                    obtain ⟨r8o0, hr8, rfl⟩ := hqr8
                    have e_r8o0 := hr8
                    refine lv_aload_n hF.1 hF.2.1 dX2_sayPerson_86 rfl (lv_at hl 1 rfl) ?_
                    refine lv_aload_n hF.1 hF.2.1 dX2_sayPerson_87 rfl (lv_at hl 1 rfl) ?_
                    refine lv_iload_n hF.1 hF.2.1 dX2_sayPerson_88 rfl (lv_at hl 2 rfl) ?_
                    refine lv_iconst (v := nI 0) hF.1 hF.2.1 dX2_sayPerson_89 (by decide) ?_
                    refine lv_iload_n hF.1 hF.2.1 dX2_sayPerson_90 rfl (lv_at hl 0 rfl) ?_
                    refine lv_iconst (v := nI 2) hF.1 hF.2.1 dX2_sayPerson_91 (by decide) ?_
                    refine g_vWi (As := [.int (nI pn), .int (nI 0), .int (nI (i54 + 1)), .int (nI 2)]) (rest := [.ref (ω.2.1 0 99)]) hF (kX2_tellWay l ω g y a (va_up (va_up (va_up (va_up z 11 r7h0) 12 r7h1) 13 h54_z13) 14 h54_z14) kt r8o0 t td of hc pn 0 (i54 + 1) 2 (by omega) (by omega) (by omega) (by omega) hsd) (lw_V q1114 q1116 qs52 q97 q1117) 4 hdX2_tellWay rfl rfl ⟨Nat.le_of_ble_eq_true rfl, Nat.le_of_ble_eq_true rfl⟩ (m_preV hK hH) rfl hl.1 rfl (Nat.le_of_ble_eq_true rfl) dX2_sayPerson_92 ⟨Nat.le_of_ble_eq_true rfl, Nat.le_of_ble_eq_true rfl⟩ hS (fun r9 ur9 H locs hqr9 hH hS => ?_)
                    obtain ⟨r9h0, r9h1, hr9, rfl⟩ := hqr9
                    have e_r9 := hr9
                    have hH : mH ω (g, y, a, va_up (va_up (va_up (va_up z 11 r9h0) 12 r9h1) 13 h54_z13) 14 h54_z14, kt, r8o0) H := m_ext (fun _ => rfl) (fun _ => rfl) (fun _ => rfl) (by intro k; by_cases h0 : k = 11; (subst h0; simp [va_up]); by_cases h1 : k = 12; (subst h1; simp [va_up]); simp only [va_up, if_neg h0, if_neg h1]) hH
                    refine lv_i2l (v := r9.toInt64) hF.1 hF.2.1 dX2_sayPerson_95 rfl ?_
                    refine g_vWv (As := [.long r9.toInt64]) (rest := []) hF (kX2_say l ω g y a (va_up (va_up (va_up (va_up z 11 r9h0) 12 r9h1) 13 h54_z13) 14 h54_z14) kt r8o0 r9.toInt64) (lw_V q1377 q1379 qs89 q97 q1380) 1 hdX2_say rfl rfl ⟨Nat.le_of_ble_eq_true rfl, Nat.le_of_ble_eq_true rfl⟩ (m_preV hK hH) rfl hl.1 rfl (Nat.le_of_ble_eq_true rfl) dX2_sayPerson_96 ⟨Nat.le_of_ble_eq_true rfl, Nat.le_of_ble_eq_true rfl⟩ hS (fun ur10 H locs hqr10 hH hS => ?_)
                    obtain ⟨r10o0, hr10, rfl⟩ := hqr10
                    have e_r10o0 := hr10
                    refine lv_aload_n hF.1 hF.2.1 dX2_sayPerson_99 rfl (lv_at hl 1 rfl) ?_
                    refine lv_aload_n hF.1 hF.2.1 dX2_sayPerson_100 rfl (lv_at hl 1 rfl) ?_
                    refine lv_iload_n hF.1 hF.2.1 dX2_sayPerson_101 rfl (lv_at hl 2 rfl) ?_
                    refine lv_iconst (v := nI 0) hF.1 hF.2.1 dX2_sayPerson_102 (by decide) ?_
                    refine lv_iload_n hF.1 hF.2.1 dX2_sayPerson_103 rfl (lv_at hl 0 rfl) ?_
                    refine lv_iconst (v := nI 0) hF.1 hF.2.1 dX2_sayPerson_104 (by decide) ?_
                    refine g_vWi (As := [.int (nI pn), .int (nI 0), .int (nI (i54 + 1)), .int (nI 0)]) (rest := [.ref (ω.2.1 0 99)]) hF (kX2_edgeOf l ω g y a (va_up (va_up (va_up (va_up z 11 r9h0) 12 r9h1) 13 h54_z13) 14 h54_z14) kt r10o0 t td of hc pn 0 (i54 + 1) (nI 0) (by omega) (by omega) (by omega) hsd) (lw_V q1169 q1171 qs63 q97 q1172) 4 hdX2_edgeOf rfl rfl ⟨Nat.le_of_ble_eq_true rfl, Nat.le_of_ble_eq_true rfl⟩ (m_preV hK hH) rfl hl.1 rfl (Nat.le_of_ble_eq_true rfl) dX2_sayPerson_105 ⟨Nat.le_of_ble_eq_true rfl, Nat.le_of_ble_eq_true rfl⟩ hS (fun r11 ur11 H locs hqr11 hH hS => ?_)
                    obtain ⟨r11h0, hr11, rfl⟩ := hqr11
                    have e_r11 := hr11
                    have hH : mH ω (g, y, a, va_up (va_up (va_up (va_up z 11 r9h0) 12 r9h1) 13 r11h0) 14 h54_z14, kt, r10o0) H := m_ext (fun _ => rfl) (fun _ => rfl) (fun _ => rfl) (by intro k; by_cases h0 : k = 13; (subst h0; simp [va_up]); simp only [va_up, if_neg h0]) hH
                    refine lv_i2l (v := r11.toInt64) hF.1 hF.2.1 dX2_sayPerson_108 rfl ?_
                    refine g_vWv (As := [.long r11.toInt64]) (rest := []) hF (kX2_say l ω g y a (va_up (va_up (va_up (va_up z 11 r9h0) 12 r9h1) 13 r11h0) 14 h54_z14) kt r10o0 r11.toInt64) (lw_V q1377 q1379 qs89 q97 q1380) 1 hdX2_say rfl rfl ⟨Nat.le_of_ble_eq_true rfl, Nat.le_of_ble_eq_true rfl⟩ (m_preV hK hH) rfl hl.1 rfl (Nat.le_of_ble_eq_true rfl) dX2_sayPerson_109 ⟨Nat.le_of_ble_eq_true rfl, Nat.le_of_ble_eq_true rfl⟩ hS (fun ur12 H locs hqr12 hH hS => ?_)
                    obtain ⟨r12o0, hr12, rfl⟩ := hqr12
                    have e_r12o0 := hr12
                    refine lv_aload_n hF.1 hF.2.1 dX2_sayPerson_112 rfl (lv_at hl 1 rfl) ?_
                    refine lv_aload_n hF.1 hF.2.1 dX2_sayPerson_113 rfl (lv_at hl 1 rfl) ?_
                    refine lv_iload_n hF.1 hF.2.1 dX2_sayPerson_114 rfl (lv_at hl 2 rfl) ?_
                    refine lv_iconst (v := nI 0) hF.1 hF.2.1 dX2_sayPerson_115 (by decide) ?_
                    refine lv_iload_n hF.1 hF.2.1 dX2_sayPerson_116 rfl (lv_at hl 0 rfl) ?_
                    refine g_vWi (As := [.int (nI pn), .int (nI 0), .int (nI (i54 + 1))]) (rest := [.ref (ω.2.1 0 99)]) hF (kX2_railOfS l ω g y a (va_up (va_up (va_up (va_up z 11 r9h0) 12 r9h1) 13 r11h0) 14 h54_z14) kt r12o0 t td of hc pn 0 (i54 + 1) (by omega) (by omega) (by omega)) (lw_V q1177 q1179 qs64 q97 q1180) 3 hdX2_railOfS rfl rfl ⟨Nat.le_of_ble_eq_true rfl, Nat.le_of_ble_eq_true rfl⟩ (m_preV hK hH) rfl hl.1 rfl (Nat.le_of_ble_eq_true rfl) dX2_sayPerson_117 ⟨Nat.le_of_ble_eq_true rfl, Nat.le_of_ble_eq_true rfl⟩ hS (fun r13 ur13 H locs hqr13 hH hS => ?_)
                    obtain ⟨r13h0, hr13, rfl⟩ := hqr13
                    have e_r13 := hr13
                    have hH : mH ω (g, y, a, va_up (va_up (va_up (va_up z 11 r9h0) 12 r9h1) 13 r11h0) 14 r13h0, kt, r12o0) H := m_ext (fun _ => rfl) (fun _ => rfl) (fun _ => rfl) (by intro k; by_cases h0 : k = 14; (subst h0; simp [va_up]); simp only [va_up, if_neg h0]) hH
                    refine lv_i2l (v := r13.toInt64) hF.1 hF.2.1 dX2_sayPerson_120 rfl ?_
                    refine g_vWv (As := [.long r13.toInt64]) (rest := []) hF (kX2_say l ω g y a (va_up (va_up (va_up (va_up z 11 r9h0) 12 r9h1) 13 r11h0) 14 r13h0) kt r12o0 r13.toInt64) (lw_V q1377 q1379 qs89 q97 q1380) 1 hdX2_say rfl rfl ⟨Nat.le_of_ble_eq_true rfl, Nat.le_of_ble_eq_true rfl⟩ (m_preV hK hH) rfl hl.1 rfl (Nat.le_of_ble_eq_true rfl) dX2_sayPerson_121 ⟨Nat.le_of_ble_eq_true rfl, Nat.le_of_ble_eq_true rfl⟩ hS (fun ur14 H locs hqr14 hH hS => ?_)
                    obtain ⟨r14o0, hr14, rfl⟩ := hqr14
                    have e_r14o0 := hr14
                    refine n_iinc (lv' := [(2, .int (nI (i54 + 1 + 1))), (0, .ref (ω.2.1 0 99)), (1, .int (nI pn))]) hF.1 hF.2.1 dX2_sayPerson_124 hl (k := 0) rfl (by decide) rfl (fun ls hl => ?_)
                    refine lv_goto (tgt := 54) hF.1 hF.2.1 dX2_sayPerson_127 (by decide) ?_
                    exact ih (i54 + 1) _ _ _ _ _ _ _ _ (by omega) (by subst e_r14o0; subst e_r13; subst e_r12o0; subst e_r11; subst e_r10o0; subst e_r9; subst e_r8o0; subst e_r7; subst e_r6o0; subst e_r5; rw [it_succ (fX2_sayPerson_b54 g t td of pn) i54 _, ← hS54]; try rfl) hH hS (lv_sub hl [0, 1, 2] rfl)
              have hH : mH ω (g, y, a, va_up (va_up (va_up (va_up z 11 h2_z11) 12 (z 12)) 13 (z 13)) 14 (z 14), kt, w27_hs) H := m_ext (fun _ => rfl) (fun _ => rfl) (fun _ => rfl) (by intro k; by_cases h0 : k = 12; (subst h0; simp [va_up]); by_cases h1 : k = 13; (subst h1; simp [va_up]); by_cases h2 : k = 14; (subst h2; simp [va_up]); simp only [va_up, if_neg h0, if_neg h1, if_neg h2]) hH
              exact lp54_183 7 0 _ _ _ _ _ _ _ _ (by omega) rfl hH hS (lv_sub hl [0, 1, 2] rfl)
            · exact absurd (by omega) c2
          | succ d27 ih =>
            intro i27 w27_hs H locs ls hi27 hS27 hH hS hl
            refine lv_iload_n hF.1 hF.2.1 dX2_sayPerson_27 rfl (lv_at hl 0 rfl) ?_
            refine lv_aload_n hF.1 hF.2.1 dX2_sayPerson_28 rfl (lv_at hl 1 rfl) ?_
            refine mg_4 hF hK hH q975 dX2_sayPerson_29 (v := g 4) rfl ?_
            refine n_ge (tgt := 52) hF.1 hF.2.1 dX2_sayPerson_32 (by decide) (by omega) (by omega) (fun c15 => ?_) (fun c15 => ?_)
            · exact absurd c15 (by omega)
            · skip
              refine lv_aload_n hF.1 hF.2.1 dX2_sayPerson_35 rfl (lv_at hl 1 rfl) ?_
              refine lv_aload_n hF.1 hF.2.1 dX2_sayPerson_36 rfl (lv_at hl 1 rfl) ?_
              refine lv_iload_n hF.1 hF.2.1 dX2_sayPerson_37 rfl (lv_at hl 2 rfl) ?_
              refine lv_iload_n hF.1 hF.2.1 dX2_sayPerson_38 rfl (lv_at hl 0 rfl) ?_
              refine g_vPi (As := [.int (nI pn), .int (nI i27)]) (rest := [.ref (ω.2.1 0 99)]) hF (kX2_hurtsOf l ω g y a (va_up z 11 h2_z11) kt w27_hs pn i27 (by omega) (by omega)) (lw_V q1160 q1162 qs62 q97 q1163) 2 hdX2_hurtsOf rfl rfl ⟨Nat.le_of_ble_eq_true rfl, Nat.le_of_ble_eq_true rfl⟩ (m_preV hK hH) rfl hl.1 rfl (Nat.le_of_ble_eq_true rfl) dX2_sayPerson_39 ⟨Nat.zero_le _, Nat.zero_le _⟩ (fun r16 e_r16 => ?_)
              refine lv_i2l (v := r16.toInt64) hF.1 hF.2.1 dX2_sayPerson_42 rfl ?_
              refine g_vWv (As := [.long r16.toInt64]) (rest := []) hF (kX2_say l ω g y a (va_up z 11 h2_z11) kt w27_hs r16.toInt64) (lw_V q1377 q1379 qs89 q97 q1380) 1 hdX2_say rfl rfl ⟨Nat.le_of_ble_eq_true rfl, Nat.le_of_ble_eq_true rfl⟩ (m_preV hK hH) rfl hl.1 rfl (Nat.le_of_ble_eq_true rfl) dX2_sayPerson_43 ⟨Nat.le_of_ble_eq_true rfl, Nat.le_of_ble_eq_true rfl⟩ hS (fun ur17 H locs hqr17 hH hS => ?_)
              obtain ⟨r17o0, hr17, rfl⟩ := hqr17
              have e_r17o0 := hr17
              refine n_iinc (lv' := [(2, .int (nI (i27 + 1))), (0, .ref (ω.2.1 0 99)), (1, .int (nI pn))]) hF.1 hF.2.1 dX2_sayPerson_46 hl (k := 0) rfl (by decide) rfl (fun ls hl => ?_)
              refine lv_goto (tgt := 27) hF.1 hF.2.1 dX2_sayPerson_49 (by decide) ?_
              exact ih (i27 + 1) _ _ _ _ (by omega) (by subst e_r17o0; subst e_r16; rw [it_succ (fX2_sayPerson_b27 g a pn) i27 _, ← hS27]; try rfl) hH hS (lv_sub hl [0, 1, 2] rfl)
        exact lp27_181 (g 4) 0 _ _ _ _ (by omega) rfl hH hS (lv_sub hl [0, 1, 2] rfl)
      · exact absurd (by omega) c1
    | succ d2 ih =>
      intro i2 w2_hs h2_z11 H locs ls hi2 hS2 hH hS hl
      refine lv_iload_n hF.1 hF.2.1 dX2_sayPerson_2 rfl (lv_at hl 0 rfl) ?_
      refine lv_bipush (v := nI 6) hF.1 hF.2.1 dX2_sayPerson_3 (by decide) ?_
      refine n_ge (tgt := 25) hF.1 hF.2.1 dX2_sayPerson_5 (by decide) (by omega) (by omega) (fun c18 => ?_) (fun c18 => ?_)
      · exact absurd c18 (by omega)
      · skip
        refine lv_aload_n hF.1 hF.2.1 dX2_sayPerson_8 rfl (lv_at hl 1 rfl) ?_
        refine lv_aload_n hF.1 hF.2.1 dX2_sayPerson_9 rfl (lv_at hl 1 rfl) ?_
        refine lv_iload_n hF.1 hF.2.1 dX2_sayPerson_10 rfl (lv_at hl 2 rfl) ?_
        refine lv_iload_n hF.1 hF.2.1 dX2_sayPerson_11 rfl (lv_at hl 0 rfl) ?_
        refine g_vWi (As := [.int (nI pn), .int (nI i2)]) (rest := [.ref (ω.2.1 0 99)]) hF (kX2_tellPerson l ω g y a (va_up z 11 h2_z11) kt w2_hs t td of hc pn (nI i2) (by omega) hsd) (lw_V q1185 q1187 qs65 q97 q1188) 2 hdX2_tellPerson rfl rfl ⟨Nat.le_of_ble_eq_true rfl, Nat.le_of_ble_eq_true rfl⟩ (m_preV hK hH) rfl hl.1 rfl (Nat.le_of_ble_eq_true rfl) dX2_sayPerson_12 ⟨Nat.le_of_ble_eq_true rfl, Nat.le_of_ble_eq_true rfl⟩ hS (fun r19 ur19 H locs hqr19 hH hS => ?_)
        obtain ⟨r19h0, hr19, rfl⟩ := hqr19
        have e_r19 := hr19
        have hH : mH ω (g, y, a, va_up z 11 r19h0, kt, w2_hs) H := m_ext (fun _ => rfl) (fun _ => rfl) (fun _ => rfl) (by intro k; by_cases h0 : k = 11; (subst h0; simp [va_up]); simp only [va_up, if_neg h0]) hH
        refine lv_i2l (v := r19.toInt64) hF.1 hF.2.1 dX2_sayPerson_15 rfl ?_
        refine g_vWv (As := [.long r19.toInt64]) (rest := []) hF (kX2_say l ω g y a (va_up z 11 r19h0) kt w2_hs r19.toInt64) (lw_V q1377 q1379 qs89 q97 q1380) 1 hdX2_say rfl rfl ⟨Nat.le_of_ble_eq_true rfl, Nat.le_of_ble_eq_true rfl⟩ (m_preV hK hH) rfl hl.1 rfl (Nat.le_of_ble_eq_true rfl) dX2_sayPerson_16 ⟨Nat.le_of_ble_eq_true rfl, Nat.le_of_ble_eq_true rfl⟩ hS (fun ur20 H locs hqr20 hH hS => ?_)
        obtain ⟨r20o0, hr20, rfl⟩ := hqr20
        have e_r20o0 := hr20
        refine n_iinc (lv' := [(2, .int (nI (i2 + 1))), (0, .ref (ω.2.1 0 99)), (1, .int (nI pn))]) hF.1 hF.2.1 dX2_sayPerson_19 hl (k := 0) rfl (by decide) rfl (fun ls hl => ?_)
        refine lv_goto (tgt := 2) hF.1 hF.2.1 dX2_sayPerson_22 (by decide) ?_
        exact ih (i2 + 1) _ _ _ _ _ (by omega) (by subst e_r20o0; subst e_r19; rw [it_succ (fX2_sayPerson_b2 g a t of pn) i2 _, ← hS2]; try rfl) hH hS (lv_sub hl [0, 1, 2] rfl)
  have hH : mH ω (g, y, a, va_up z 11 (z 11), kt, hs) H := m_ext (fun _ => rfl) (fun _ => rfl) (fun _ => rfl) (by intro k; by_cases h0 : k = 11; (subst h0; simp [va_up]); simp only [va_up, if_neg h0]) hH
  exact lp2_179 6 0 _ _ _ _ _ (by omega) rfl hH hS (lv_sub hl [0, 1, 2] rfl)

def fX2_sayTown_b9 (g : Nat → Nat) (a : Nat → Nat → Int32) (i2 : Nat) (i9 : Nat) (S : Int64) : Int64 := (fX2_say S (fX2_tellDriver g a i2 (nI i9)).toInt64)
def fX2_sayTown_b2 (g : Nat → Nat) (a : Nat → Nat → Int32) (i2 : Nat) (S : Int64) : Int64 := (it (fX2_sayTown_b9 g a i2) 6 S)
def fX2_sayTown (g : Nat → Nat) (a : Nat → Nat → Int32) (hs : Int64) (t : TW) (td : Nat → Nat) (of : Nat → Nat → Nat) : Int64 := (fX2_say (fX2_say (fX2_say (fX2_say (it (fX2_sayTown_b2 g a) 2 hs) (fX2_matchOf g a t td of (nI 0)).toInt64) (fX2_matchOf g a t td of (nI 1)).toInt64) (fX2_matchOf g a t td of (nI 10)).toInt64) (fX2_matchOf g a t td of (nI 11)).toInt64)
def rmX2_sayTown : Room := { frames := 7, cells := 0, slots := 0, locals := 181 }
theorem hdX2_sayTown : yX2_sayTown.cls = RX2 ∧ yX2_sayTown.cls ≠ "java/lang/invoke/MethodHandle" ∧ yX2_sayTown.cls ≠ "java/lang/invoke/VarHandle" ∧ (parseMethodDescriptor yX2_sayTown.desc).map (fun d => d.parameters.length) = some 0 := by decide +kernel
set_option maxHeartbeats 4000000 in
theorem kX2_sayTown (l : Launch) (ω : OM) (g : Nat → Nat) (y : Nat → Int32) (a z : Nat → Nat → Int32) (kt : Int32) (hs : Int64) (t : TW) (td : Nat → Nat) (of : Nat → Nat → Nat) (hc : mCore g a t td of) (hsd : mSide g a) : Met l yX2_sayTown (ws_ yX2_sayTown cX2_sayTown 3 none) rmX2_sayTown (va_Pc [.ref (ω.2.1 0 99)] (fun U => mK ω U ∧ mH ω (g, y, a, z, kt, hs) U.heap)) (va_Qv (fun (u : MS) => ∃ (o0 : Int64) (q0 : Nat → Int32) (q1 : Nat → Int32), o0 = (fX2_sayTown g a hs t td of) ∧ u = (g, y, a, va_up (va_up z 11 q0) 12 q1, kt, o0)) (fun u t => mH ω u t.heap) ω.2.2.1) 0 0 ω.2.2.1 := by
  refine g_entWv (C := RX2) rfl (by decide) (Nat.le_of_ble_eq_true rfl) ?_
  intro p e s m args below meth c QQ ls H locs hF hK hH hS hl hret
  have hl : lv_has ls 3 [(0, .ref (ω.2.1 0 99))] := hl
  have hok := hc.ok
  have hr := hc.rows
  have hn := hr.1
  have hp3 := hsd.1
  have hs6 := hsd.2.1
  refine lv_iconst (v := nI 0) hF.1 hF.2.1 dX2_sayTown_0 (by decide) ?_
  refine lv_istore_n (lv' := [(1, .int (nI 0)), (0, .ref (ω.2.1 0 99))]) hF.1 hF.2.1 dX2_sayTown_1 rfl hl (by decide) rfl (fun ls hl => ?_)
  have lp2_189 : ∀ (d2 i2 : Nat) (w2_hs : Int64) (H : Heap) (locs : List Loc) (ls : Array Slot), i2 + d2 = 2 → w2_hs = it (fX2_sayTown_b2 g a) i2 hs → mH ω (g, y, a, z, kt, w2_hs) H → va_S ω.2.2.1 s.heap H locs → lv_has ls 3 [(1, .int (nI i2)), (0, .ref (ω.2.1 0 99))] → W p l e rmX2_sayTown s m args below meth c H locs 0 0 QQ (F0 m 2 ls []) := by
    intro d2
    induction d2 with
    | zero =>
      intro i2 w2_hs H locs ls hi2 hS2 hH hS hl
      have hj2 : 2 = i2 := by omega
      subst hj2
      have e_w2_hs := hS2
      refine lv_iload_n hF.1 hF.2.1 dX2_sayTown_2 rfl (lv_at hl 0 rfl) ?_
      refine lv_iconst (v := nI 2) hF.1 hF.2.1 dX2_sayTown_3 (by decide) ?_
      refine n_ge (tgt := 38) hF.1 hF.2.1 dX2_sayTown_4 (by decide) (by omega) (by omega) (fun c1 => ?_) (fun c1 => ?_)
      · skip
        refine lv_aload_n hF.1 hF.2.1 dX2_sayTown_38 rfl (lv_at hl 1 rfl) ?_
        refine lv_aload_n hF.1 hF.2.1 dX2_sayTown_39 rfl (lv_at hl 1 rfl) ?_
        refine lv_iconst (v := nI 0) hF.1 hF.2.1 dX2_sayTown_40 (by decide) ?_
        refine g_vWi (As := [.int (nI 0)]) (rest := [.ref (ω.2.1 0 99)]) hF (kX2_matchOf l ω g y a z kt w2_hs t td of hc (nI 0) hsd) (lw_V q1300 q1302 qs80 q97 q1303) 1 hdX2_matchOf rfl rfl ⟨Nat.le_of_ble_eq_true rfl, Nat.le_of_ble_eq_true rfl⟩ (m_preV hK hH) rfl hl.1 rfl (Nat.le_of_ble_eq_true rfl) dX2_sayTown_41 ⟨Nat.le_of_ble_eq_true rfl, Nat.le_of_ble_eq_true rfl⟩ hS (fun r2 ur2 H locs hqr2 hH hS => ?_)
        obtain ⟨r2h0, r2h1, hr2, rfl⟩ := hqr2
        have e_r2 := hr2
        refine lv_i2l (v := r2.toInt64) hF.1 hF.2.1 dX2_sayTown_44 rfl ?_
        refine g_vWv (As := [.long r2.toInt64]) (rest := []) hF (kX2_say l ω g y a (va_up (va_up z 11 r2h0) 12 r2h1) kt w2_hs r2.toInt64) (lw_V q1377 q1379 qs89 q97 q1380) 1 hdX2_say rfl rfl ⟨Nat.le_of_ble_eq_true rfl, Nat.le_of_ble_eq_true rfl⟩ (m_preV hK hH) rfl hl.1 rfl (Nat.le_of_ble_eq_true rfl) dX2_sayTown_45 ⟨Nat.le_of_ble_eq_true rfl, Nat.le_of_ble_eq_true rfl⟩ hS (fun ur3 H locs hqr3 hH hS => ?_)
        obtain ⟨r3o0, hr3, rfl⟩ := hqr3
        have e_r3o0 := hr3
        refine lv_aload_n hF.1 hF.2.1 dX2_sayTown_48 rfl (lv_at hl 1 rfl) ?_
        refine lv_aload_n hF.1 hF.2.1 dX2_sayTown_49 rfl (lv_at hl 1 rfl) ?_
        refine lv_iconst (v := nI 1) hF.1 hF.2.1 dX2_sayTown_50 (by decide) ?_
        refine g_vWi (As := [.int (nI 1)]) (rest := [.ref (ω.2.1 0 99)]) hF (kX2_matchOf l ω g y a (va_up (va_up z 11 r2h0) 12 r2h1) kt r3o0 t td of hc (nI 1) hsd) (lw_V q1300 q1302 qs80 q97 q1303) 1 hdX2_matchOf rfl rfl ⟨Nat.le_of_ble_eq_true rfl, Nat.le_of_ble_eq_true rfl⟩ (m_preV hK hH) rfl hl.1 rfl (Nat.le_of_ble_eq_true rfl) dX2_sayTown_51 ⟨Nat.le_of_ble_eq_true rfl, Nat.le_of_ble_eq_true rfl⟩ hS (fun r4 ur4 H locs hqr4 hH hS => ?_)
        obtain ⟨r4h0, r4h1, hr4, rfl⟩ := hqr4
        have e_r4 := hr4
        have hH : mH ω (g, y, a, va_up (va_up z 11 r4h0) 12 r4h1, kt, r3o0) H := m_ext (fun _ => rfl) (fun _ => rfl) (fun _ => rfl) (by intro k; by_cases h0 : k = 11; (subst h0; simp [va_up]); by_cases h1 : k = 12; (subst h1; simp [va_up]); simp only [va_up, if_neg h0, if_neg h1]) hH
        refine lv_i2l (v := r4.toInt64) hF.1 hF.2.1 dX2_sayTown_54 rfl ?_
        refine g_vWv (As := [.long r4.toInt64]) (rest := []) hF (kX2_say l ω g y a (va_up (va_up z 11 r4h0) 12 r4h1) kt r3o0 r4.toInt64) (lw_V q1377 q1379 qs89 q97 q1380) 1 hdX2_say rfl rfl ⟨Nat.le_of_ble_eq_true rfl, Nat.le_of_ble_eq_true rfl⟩ (m_preV hK hH) rfl hl.1 rfl (Nat.le_of_ble_eq_true rfl) dX2_sayTown_55 ⟨Nat.le_of_ble_eq_true rfl, Nat.le_of_ble_eq_true rfl⟩ hS (fun ur5 H locs hqr5 hH hS => ?_)
        obtain ⟨r5o0, hr5, rfl⟩ := hqr5
        have e_r5o0 := hr5
        refine lv_aload_n hF.1 hF.2.1 dX2_sayTown_58 rfl (lv_at hl 1 rfl) ?_
        refine lv_aload_n hF.1 hF.2.1 dX2_sayTown_59 rfl (lv_at hl 1 rfl) ?_
        refine lv_bipush (v := nI 10) hF.1 hF.2.1 dX2_sayTown_60 (by decide) ?_
        refine g_vWi (As := [.int (nI 10)]) (rest := [.ref (ω.2.1 0 99)]) hF (kX2_matchOf l ω g y a (va_up (va_up z 11 r4h0) 12 r4h1) kt r5o0 t td of hc (nI 10) hsd) (lw_V q1300 q1302 qs80 q97 q1303) 1 hdX2_matchOf rfl rfl ⟨Nat.le_of_ble_eq_true rfl, Nat.le_of_ble_eq_true rfl⟩ (m_preV hK hH) rfl hl.1 rfl (Nat.le_of_ble_eq_true rfl) dX2_sayTown_62 ⟨Nat.le_of_ble_eq_true rfl, Nat.le_of_ble_eq_true rfl⟩ hS (fun r6 ur6 H locs hqr6 hH hS => ?_)
        obtain ⟨r6h0, r6h1, hr6, rfl⟩ := hqr6
        have e_r6 := hr6
        have hH : mH ω (g, y, a, va_up (va_up z 11 r6h0) 12 r6h1, kt, r5o0) H := m_ext (fun _ => rfl) (fun _ => rfl) (fun _ => rfl) (by intro k; by_cases h0 : k = 11; (subst h0; simp [va_up]); by_cases h1 : k = 12; (subst h1; simp [va_up]); simp only [va_up, if_neg h0, if_neg h1]) hH
        refine lv_i2l (v := r6.toInt64) hF.1 hF.2.1 dX2_sayTown_65 rfl ?_
        refine g_vWv (As := [.long r6.toInt64]) (rest := []) hF (kX2_say l ω g y a (va_up (va_up z 11 r6h0) 12 r6h1) kt r5o0 r6.toInt64) (lw_V q1377 q1379 qs89 q97 q1380) 1 hdX2_say rfl rfl ⟨Nat.le_of_ble_eq_true rfl, Nat.le_of_ble_eq_true rfl⟩ (m_preV hK hH) rfl hl.1 rfl (Nat.le_of_ble_eq_true rfl) dX2_sayTown_66 ⟨Nat.le_of_ble_eq_true rfl, Nat.le_of_ble_eq_true rfl⟩ hS (fun ur7 H locs hqr7 hH hS => ?_)
        obtain ⟨r7o0, hr7, rfl⟩ := hqr7
        have e_r7o0 := hr7
        refine lv_aload_n hF.1 hF.2.1 dX2_sayTown_69 rfl (lv_at hl 1 rfl) ?_
        refine lv_aload_n hF.1 hF.2.1 dX2_sayTown_70 rfl (lv_at hl 1 rfl) ?_
        refine lv_bipush (v := nI 11) hF.1 hF.2.1 dX2_sayTown_71 (by decide) ?_
        refine g_vWi (As := [.int (nI 11)]) (rest := [.ref (ω.2.1 0 99)]) hF (kX2_matchOf l ω g y a (va_up (va_up z 11 r6h0) 12 r6h1) kt r7o0 t td of hc (nI 11) hsd) (lw_V q1300 q1302 qs80 q97 q1303) 1 hdX2_matchOf rfl rfl ⟨Nat.le_of_ble_eq_true rfl, Nat.le_of_ble_eq_true rfl⟩ (m_preV hK hH) rfl hl.1 rfl (Nat.le_of_ble_eq_true rfl) dX2_sayTown_73 ⟨Nat.le_of_ble_eq_true rfl, Nat.le_of_ble_eq_true rfl⟩ hS (fun r8 ur8 H locs hqr8 hH hS => ?_)
        obtain ⟨r8h0, r8h1, hr8, rfl⟩ := hqr8
        have e_r8 := hr8
        have hH : mH ω (g, y, a, va_up (va_up z 11 r8h0) 12 r8h1, kt, r7o0) H := m_ext (fun _ => rfl) (fun _ => rfl) (fun _ => rfl) (by intro k; by_cases h0 : k = 11; (subst h0; simp [va_up]); by_cases h1 : k = 12; (subst h1; simp [va_up]); simp only [va_up, if_neg h0, if_neg h1]) hH
        refine lv_i2l (v := r8.toInt64) hF.1 hF.2.1 dX2_sayTown_76 rfl ?_
        refine g_vWv (As := [.long r8.toInt64]) (rest := []) hF (kX2_say l ω g y a (va_up (va_up z 11 r8h0) 12 r8h1) kt r7o0 r8.toInt64) (lw_V q1377 q1379 qs89 q97 q1380) 1 hdX2_say rfl rfl ⟨Nat.le_of_ble_eq_true rfl, Nat.le_of_ble_eq_true rfl⟩ (m_preV hK hH) rfl hl.1 rfl (Nat.le_of_ble_eq_true rfl) dX2_sayTown_77 ⟨Nat.le_of_ble_eq_true rfl, Nat.le_of_ble_eq_true rfl⟩ hS (fun ur9 H locs hqr9 hH hS => ?_)
        obtain ⟨r9o0, hr9, rfl⟩ := hqr9
        have e_r9o0 := hr9
        exact hret _ _ _ _ _ dX2_sayTown_80 ⟨_, _, _, by subst e_r9o0; subst e_r8; subst e_r7o0; subst e_r6; subst e_r5o0; subst e_r4; subst e_r3o0; subst e_r2; subst e_w2_hs; rfl, rfl⟩ hH hS
      · exact absurd (by omega) c1
    | succ d2 ih =>
      intro i2 w2_hs H locs ls hi2 hS2 hH hS hl
      refine lv_iload_n hF.1 hF.2.1 dX2_sayTown_2 rfl (lv_at hl 0 rfl) ?_
      refine lv_iconst (v := nI 2) hF.1 hF.2.1 dX2_sayTown_3 (by decide) ?_
      refine n_ge (tgt := 38) hF.1 hF.2.1 dX2_sayTown_4 (by decide) (by omega) (by omega) (fun c10 => ?_) (fun c10 => ?_)
      · exact absurd c10 (by omega)
      · skip
        refine lv_iconst (v := nI 0) hF.1 hF.2.1 dX2_sayTown_7 (by decide) ?_
        refine lv_istore_n (lv' := [(2, .int (nI 0)), (1, .int (nI i2)), (0, .ref (ω.2.1 0 99))]) hF.1 hF.2.1 dX2_sayTown_8 rfl hl (by decide) rfl (fun ls hl => ?_)
        have lp9_191 : ∀ (d9 i9 : Nat) (w9_hs : Int64) (H : Heap) (locs : List Loc) (ls : Array Slot), i9 + d9 = 6 → w9_hs = it (fX2_sayTown_b9 g a i2) i9 w2_hs → mH ω (g, y, a, z, kt, w9_hs) H → va_S ω.2.2.1 s.heap H locs → lv_has ls 3 [(2, .int (nI i9)), (1, .int (nI i2)), (0, .ref (ω.2.1 0 99))] → W p l e rmX2_sayTown s m args below meth c H locs 0 0 QQ (F0 m 9 ls []) := by
          intro d9
          induction d9 with
          | zero =>
            intro i9 w9_hs H locs ls hi9 hS9 hH hS hl
            have hj9 : 6 = i9 := by omega
            subst hj9
            have e_w9_hs := hS9
            refine lv_iload_n hF.1 hF.2.1 dX2_sayTown_9 rfl (lv_at hl 0 rfl) ?_
            refine lv_bipush (v := nI 6) hF.1 hF.2.1 dX2_sayTown_10 (by decide) ?_
            refine n_ge (tgt := 32) hF.1 hF.2.1 dX2_sayTown_12 (by decide) (by omega) (by omega) (fun c11 => ?_) (fun c11 => ?_)
            · skip
              refine n_iinc (lv' := [(1, .int (nI (i2 + 1))), (2, .int (nI 6)), (0, .ref (ω.2.1 0 99))]) hF.1 hF.2.1 dX2_sayTown_32 hl (k := 1) rfl (by decide) rfl (fun ls hl => ?_)
              refine lv_goto (tgt := 2) hF.1 hF.2.1 dX2_sayTown_35 (by decide) ?_
              exact ih (i2 + 1) _ _ _ _ (by omega) (by subst e_w9_hs; rw [it_succ (fX2_sayTown_b2 g a) i2 _, ← hS2]; try rfl) hH hS (lv_sub hl [0, 2] rfl)
            · exact absurd (by omega) c11
          | succ d9 ih =>
            intro i9 w9_hs H locs ls hi9 hS9 hH hS hl
            refine lv_iload_n hF.1 hF.2.1 dX2_sayTown_9 rfl (lv_at hl 0 rfl) ?_
            refine lv_bipush (v := nI 6) hF.1 hF.2.1 dX2_sayTown_10 (by decide) ?_
            refine n_ge (tgt := 32) hF.1 hF.2.1 dX2_sayTown_12 (by decide) (by omega) (by omega) (fun c12 => ?_) (fun c12 => ?_)
            · exact absurd c12 (by omega)
            · skip
              refine lv_aload_n hF.1 hF.2.1 dX2_sayTown_15 rfl (lv_at hl 2 rfl) ?_
              refine lv_aload_n hF.1 hF.2.1 dX2_sayTown_16 rfl (lv_at hl 2 rfl) ?_
              refine lv_iload_n hF.1 hF.2.1 dX2_sayTown_17 rfl (lv_at hl 1 rfl) ?_
              refine lv_iload_n hF.1 hF.2.1 dX2_sayTown_18 rfl (lv_at hl 0 rfl) ?_
              refine g_vPi (As := [.int (nI i2), .int (nI i9)]) (rest := [.ref (ω.2.1 0 99)]) hF (kX2_tellDriver l ω g y a z kt w9_hs i2 (nI i9) (by omega) hr) (lw_V q1244 q1246 qs73 q97 q1247) 2 hdX2_tellDriver rfl rfl ⟨Nat.le_of_ble_eq_true rfl, Nat.le_of_ble_eq_true rfl⟩ (m_preV hK hH) rfl hl.1 rfl (Nat.le_of_ble_eq_true rfl) dX2_sayTown_19 ⟨Nat.zero_le _, Nat.zero_le _⟩ (fun r13 e_r13 => ?_)
              refine lv_i2l (v := r13.toInt64) hF.1 hF.2.1 dX2_sayTown_22 rfl ?_
              refine g_vWv (As := [.long r13.toInt64]) (rest := []) hF (kX2_say l ω g y a z kt w9_hs r13.toInt64) (lw_V q1377 q1379 qs89 q97 q1380) 1 hdX2_say rfl rfl ⟨Nat.le_of_ble_eq_true rfl, Nat.le_of_ble_eq_true rfl⟩ (m_preV hK hH) rfl hl.1 rfl (Nat.le_of_ble_eq_true rfl) dX2_sayTown_23 ⟨Nat.le_of_ble_eq_true rfl, Nat.le_of_ble_eq_true rfl⟩ hS (fun ur14 H locs hqr14 hH hS => ?_)
              obtain ⟨r14o0, hr14, rfl⟩ := hqr14
              have e_r14o0 := hr14
              refine n_iinc (lv' := [(2, .int (nI (i9 + 1))), (1, .int (nI i2)), (0, .ref (ω.2.1 0 99))]) hF.1 hF.2.1 dX2_sayTown_26 hl (k := 0) rfl (by decide) rfl (fun ls hl => ?_)
              refine lv_goto (tgt := 9) hF.1 hF.2.1 dX2_sayTown_29 (by decide) ?_
              exact ih (i9 + 1) _ _ _ _ (by omega) (by subst e_r14o0; subst e_r13; rw [it_succ (fX2_sayTown_b9 g a i2) i9 _, ← hS9]; try rfl) hH hS (lv_sub hl [0, 1, 2] rfl)
        exact lp9_191 6 0 _ _ _ _ (by omega) rfl hH hS (lv_sub hl [0, 1, 2] rfl)
  exact lp2_189 2 0 _ _ _ _ (by omega) rfl hH hS (lv_sub hl [0, 1] rfl)

def fX2_digest_b108 (g : Nat → Nat) (a : Nat → Nat → Int32) (i108 : Nat) (S : Int64) : Int64 := (fX2_say S (fX2_countOf g a (nI i108)).toInt64)
def fX2_digest_b81 (a : Nat → Nat → Int32) (i81 : Nat) (S : Int64) : Int64 := (fX2_say S ((a 0 i81).toInt64))
def fX2_digest_b40 (a : Nat → Nat → Int32) (i30 : Nat) (i40 : Nat) (S : Int64) : Int64 := (fX2_say S (fX2_tellStreet a i30 (nI i40)).toInt64)
def fX2_digest_b30 (a : Nat → Nat → Int32) (i30 : Nat) (S : Int64) : Int64 := (it (fX2_digest_b40 a i30) 5 S)
def fX2_digest_b9 (g : Nat → Nat) (a : Nat → Nat → Int32) (t : TW) (td : Nat → Nat) (of : Nat → Nat → Nat) (i9 : Nat) (S : Int64) : Int64 := (fX2_sayPerson g a S t td of i9)
def fX2_digest (g : Nat → Nat) (a : Nat → Nat → Int32) (t : TW) (td : Nat → Nat) (of : Nat → Nat → Nat) : Int64 × Int64 := ((it (fX2_digest_b108 g a) 12 (it (fX2_digest_b81 a) (g 1) (if (fX2_lacks g) = 0 then (fX2_sayTown g a (it (fX2_digest_b30 a) (g 4) (it (fX2_digest_b9 g a t td of) (g 3) 1109)) t td of) else (it (fX2_digest_b30 a) (g 4) (it (fX2_digest_b9 g a t td of) (g 3) 1109))))), (it (fX2_digest_b108 g a) 12 (it (fX2_digest_b81 a) (g 1) (if (fX2_lacks g) = 0 then (fX2_sayTown g a (it (fX2_digest_b30 a) (g 4) (it (fX2_digest_b9 g a t td of) (g 3) 1109)) t td of) else (it (fX2_digest_b30 a) (g 4) (it (fX2_digest_b9 g a t td of) (g 3) 1109))))))
def rmX2_digest : Room := { frames := 8, cells := 0, slots := 0, locals := 203 }
theorem hdX2_digest : yX2_digest.cls = RX2 ∧ yX2_digest.cls ≠ "java/lang/invoke/MethodHandle" ∧ yX2_digest.cls ≠ "java/lang/invoke/VarHandle" ∧ (parseMethodDescriptor yX2_digest.desc).map (fun d => d.parameters.length) = some 0 := by decide +kernel
set_option maxHeartbeats 4000000 in
theorem kX2_digest (l : Launch) (ω : OM) (g : Nat → Nat) (y : Nat → Int32) (a z : Nat → Nat → Int32) (kt : Int32) (hs : Int64) (t : TW) (td : Nat → Nat) (of : Nat → Nat → Nat) (hc : mCore g a t td of) (hp50 : g 1 ≤ 50) (hsd : mSide g a) : Met l yX2_digest (ws_ yX2_digest cX2_digest 3 (some .long)) rmX2_digest (va_Pc [.ref (ω.2.1 0 99)] (fun U => mK ω U ∧ mH ω (g, y, a, z, kt, hs) U.heap)) (va_Ql (fun (r : Int64) (u : MS) => ∃ (o0 : Int64) (q0 : Nat → Int32) (q1 : Nat → Int32) (q2 : Nat → Int32) (q3 : Nat → Int32), (r, o0) = (fX2_digest g a t td of) ∧ u = (g, y, a, va_up (va_up (va_up (va_up z 11 q0) 12 q1) 13 q2) 14 q3, kt, o0)) (fun u t => mH ω u t.heap) ω.2.2.1) 0 0 ω.2.2.1 := by
  refine g_entWl (C := RX2) rfl (by decide) (Nat.le_of_ble_eq_true rfl) ?_
  intro p e s m args below meth c QQ ls H locs hF hK hH hS hl hret
  have hl : lv_has ls 3 [(0, .ref (ω.2.1 0 99))] := hl
  have hok := hc.ok
  have hr := hc.rows
  have hn := hr.1
  have hp3 := hsd.1
  have hs6 := hsd.2.1
  refine lv_aload_n hF.1 hF.2.1 dX2_digest_0 rfl (lv_at hl 0 rfl) ?_
  refine lv_ldc2 (v := 1109) hF.1 hF.2.1 hF.2.2.2.1 (hF.2.2.2.2 _ q1372) dX2_digest_1 ?_
  refine mp_27 hF hK hH hS q998 dX2_digest_4 (hs' := 1109) (fun H locs hH hS => ?_)
  refine lv_iconst (v := nI 0) hF.1 hF.2.1 dX2_digest_7 (by decide) ?_
  refine lv_istore_n (lv' := [(1, .int (nI 0)), (0, .ref (ω.2.1 0 99))]) hF.1 hF.2.1 dX2_digest_8 rfl hl (by decide) rfl (fun ls hl => ?_)
  have lp9_193 : ∀ (d9 i9 : Nat) (w9_hs : Int64) (h9_z11 : Nat → Int32) (h9_z12 : Nat → Int32) (h9_z13 : Nat → Int32) (h9_z14 : Nat → Int32) (H : Heap) (locs : List Loc) (ls : Array Slot), i9 + d9 = g 3 → w9_hs = it (fX2_digest_b9 g a t td of) i9 1109 → mH ω (g, y, a, va_up (va_up (va_up (va_up z 11 h9_z11) 12 h9_z12) 13 h9_z13) 14 h9_z14, kt, w9_hs) H → va_S ω.2.2.1 s.heap H locs → lv_has ls 3 [(1, .int (nI i9)), (0, .ref (ω.2.1 0 99))] → W p l e rmX2_digest s m args below meth c H locs 0 0 QQ (F0 m 9 ls []) := by
    intro d9
    induction d9 with
    | zero =>
      intro i9 w9_hs h9_z11 h9_z12 h9_z13 h9_z14 H locs ls hi9 hS9 hH hS hl
      have hj9 : g 3 = i9 := by omega
      subst hj9
      have e_w9_hs := hS9
      refine lv_iload_n hF.1 hF.2.1 dX2_digest_9 rfl (lv_at hl 0 rfl) ?_
      refine lv_aload_n hF.1 hF.2.1 dX2_digest_10 rfl (lv_at hl 1 rfl) ?_
      refine mg_3 hF hK hH q974 dX2_digest_11 (v := g 3) rfl ?_
      refine n_ge (tgt := 28) hF.1 hF.2.1 dX2_digest_14 (by decide) (by omega) (by omega) (fun c1 => ?_) (fun c1 => ?_)
      · skip
        refine lv_iconst (v := nI 0) hF.1 hF.2.1 dX2_digest_28 (by decide) ?_
        refine lv_istore_n (lv' := [(1, .int (nI 0)), (0, .ref (ω.2.1 0 99))]) hF.1 hF.2.1 dX2_digest_29 rfl hl (by decide) rfl (fun ls hl => ?_)
        have lp30_199 : ∀ (d30 i30 : Nat) (w30_hs : Int64) (H : Heap) (locs : List Loc) (ls : Array Slot), i30 + d30 = g 4 → w30_hs = it (fX2_digest_b30 a) i30 w9_hs → mH ω (g, y, a, va_up (va_up (va_up (va_up z 11 h9_z11) 12 h9_z12) 13 h9_z13) 14 h9_z14, kt, w30_hs) H → va_S ω.2.2.1 s.heap H locs → lv_has ls 3 [(1, .int (nI i30)), (0, .ref (ω.2.1 0 99))] → W p l e rmX2_digest s m args below meth c H locs 0 0 QQ (F0 m 30 ls []) := by
          intro d30
          induction d30 with
          | zero =>
            intro i30 w30_hs H locs ls hi30 hS30 hH hS hl
            have hj30 : g 4 = i30 := by omega
            subst hj30
            have e_w30_hs := hS30
            refine lv_iload_n hF.1 hF.2.1 dX2_digest_30 rfl (lv_at hl 0 rfl) ?_
            refine lv_aload_n hF.1 hF.2.1 dX2_digest_31 rfl (lv_at hl 1 rfl) ?_
            refine mg_4 hF hK hH q975 dX2_digest_32 (v := g 4) rfl ?_
            refine n_ge (tgt := 68) hF.1 hF.2.1 dX2_digest_35 (by decide) (by omega) (by omega) (fun c2 => ?_) (fun c2 => ?_)
            · skip
              refine lv_aload_n hF.1 hF.2.1 dX2_digest_68 rfl (lv_at hl 1 rfl) ?_
              refine g_vPi (As := []) (rest := []) hF (kX2_lacks l ω g y a (va_up (va_up (va_up (va_up z 11 h9_z11) 12 h9_z12) 13 h9_z13) 14 h9_z14) kt w30_hs (by omega)) (lw_V q1232 q1234 qs71 q97 q1235) 0 hdX2_lacks rfl rfl ⟨Nat.le_of_ble_eq_true rfl, Nat.le_of_ble_eq_true rfl⟩ (m_preV hK hH) rfl hl.1 rfl (Nat.le_of_ble_eq_true rfl) dX2_digest_69 ⟨Nat.zero_le _, Nat.zero_le _⟩ (fun r3 e_r3 => ?_)
              have k79_9 : ∀ (u8 : Int64) (u6 : Nat → Int32) (u7 : Nat → Int32) (H : Heap) (locs : List Loc) (ls : Array Slot), u8 = (if r3 = 0 then (fX2_sayTown g a w30_hs t td of) else w30_hs) → mH ω (g, y, a, va_up (va_up (va_up (va_up z 11 u6) 12 u7) 13 h9_z13) 14 h9_z14, kt, u8) H → va_S ω.2.2.1 s.heap H locs → lv_has ls 3 [(0, .ref (ω.2.1 0 99))] → W p l e rmX2_digest s m args below meth c H locs 0 0 QQ (F0 m 79 ls []) := by
                intro u8 u6 u7 H locs ls e_u8 hH hS hl
                refine lv_iconst (v := nI 0) hF.1 hF.2.1 dX2_digest_79 (by decide) ?_
                refine lv_istore_n (lv' := [(1, .int (nI 0)), (0, .ref (ω.2.1 0 99))]) hF.1 hF.2.1 dX2_digest_80 rfl hl (by decide) rfl (fun ls hl => ?_)
                have lp81_201 : ∀ (d81 i81 : Nat) (w81_hs : Int64) (H : Heap) (locs : List Loc) (ls : Array Slot), i81 + d81 = g 1 → w81_hs = it (fX2_digest_b81 a) i81 u8 → mH ω (g, y, a, va_up (va_up (va_up (va_up z 11 u6) 12 u7) 13 h9_z13) 14 h9_z14, kt, w81_hs) H → va_S ω.2.2.1 s.heap H locs → lv_has ls 3 [(1, .int (nI i81)), (0, .ref (ω.2.1 0 99))] → W p l e rmX2_digest s m args below meth c H locs 0 0 QQ (F0 m 81 ls []) := by
                  intro d81
                  induction d81 with
                  | zero =>
                    intro i81 w81_hs H locs ls hi81 hS81 hH hS hl
                    have hj81 : g 1 = i81 := by omega
                    subst hj81
                    have e_w81_hs := hS81
                    refine lv_iload_n hF.1 hF.2.1 dX2_digest_81 rfl (lv_at hl 0 rfl) ?_
                    refine lv_aload_n hF.1 hF.2.1 dX2_digest_82 rfl (lv_at hl 1 rfl) ?_
                    refine mg_1 hF hK hH q972 dX2_digest_83 (v := g 1) rfl ?_
                    refine n_ge (tgt := 106) hF.1 hF.2.1 dX2_digest_86 (by decide) (by omega) (by omega) (fun c10 => ?_) (fun c10 => ?_)
                    · skip
                      refine lv_iconst (v := nI 0) hF.1 hF.2.1 dX2_digest_106 (by decide) ?_
                      refine lv_istore_n (lv' := [(1, .int (nI 0)), (0, .ref (ω.2.1 0 99))]) hF.1 hF.2.1 dX2_digest_107 rfl hl (by decide) rfl (fun ls hl => ?_)
                      have lp108_203 : ∀ (d108 i108 : Nat) (w108_hs : Int64) (H : Heap) (locs : List Loc) (ls : Array Slot), i108 + d108 = 12 → w108_hs = it (fX2_digest_b108 g a) i108 w81_hs → mH ω (g, y, a, va_up (va_up (va_up (va_up z 11 u6) 12 u7) 13 h9_z13) 14 h9_z14, kt, w108_hs) H → va_S ω.2.2.1 s.heap H locs → lv_has ls 3 [(1, .int (nI i108)), (0, .ref (ω.2.1 0 99))] → W p l e rmX2_digest s m args below meth c H locs 0 0 QQ (F0 m 108 ls []) := by
                        intro d108
                        induction d108 with
                        | zero =>
                          intro i108 w108_hs H locs ls hi108 hS108 hH hS hl
                          have hj108 : 12 = i108 := by omega
                          subst hj108
                          have e_w108_hs := hS108
                          refine lv_iload_n hF.1 hF.2.1 dX2_digest_108 rfl (lv_at hl 0 rfl) ?_
                          refine lv_bipush (v := nI 12) hF.1 hF.2.1 dX2_digest_109 (by decide) ?_
                          refine n_ge (tgt := 130) hF.1 hF.2.1 dX2_digest_111 (by decide) (by omega) (by omega) (fun c11 => ?_) (fun c11 => ?_)
                          · skip
                            refine lv_aload_n hF.1 hF.2.1 dX2_digest_130 rfl (lv_at hl 1 rfl) ?_
                            refine mg_27 hF hK hH q998 dX2_digest_131 ?_
                            exact hret _ _ _ _ _ _ dX2_digest_134 ⟨_, _, _, _, _, by subst e_w108_hs; subst e_w81_hs; subst e_u8; subst e_r3; subst e_w30_hs; subst e_w9_hs; rfl, rfl⟩ hH hS
                          · exact absurd (by omega) c11
                        | succ d108 ih =>
                          intro i108 w108_hs H locs ls hi108 hS108 hH hS hl
                          refine lv_iload_n hF.1 hF.2.1 dX2_digest_108 rfl (lv_at hl 0 rfl) ?_
                          refine lv_bipush (v := nI 12) hF.1 hF.2.1 dX2_digest_109 (by decide) ?_
                          refine n_ge (tgt := 130) hF.1 hF.2.1 dX2_digest_111 (by decide) (by omega) (by omega) (fun c12 => ?_) (fun c12 => ?_)
                          · exact absurd c12 (by omega)
                          · skip
                            refine lv_aload_n hF.1 hF.2.1 dX2_digest_114 rfl (lv_at hl 1 rfl) ?_
                            refine lv_aload_n hF.1 hF.2.1 dX2_digest_115 rfl (lv_at hl 1 rfl) ?_
                            refine lv_iload_n hF.1 hF.2.1 dX2_digest_116 rfl (lv_at hl 0 rfl) ?_
                            refine g_vPi (As := [.int (nI i108)]) (rest := [.ref (ω.2.1 0 99)]) hF (kX2_countOf l ω g y a (va_up (va_up (va_up (va_up z 11 u6) 12 u7) 13 h9_z13) 14 h9_z14) kt w108_hs (nI i108) (by omega) hr) (lw_V q1352 q1354 qs84 q97 q1355) 1 hdX2_countOf rfl rfl ⟨Nat.le_of_ble_eq_true rfl, Nat.le_of_ble_eq_true rfl⟩ (m_preV hK hH) rfl hl.1 rfl (Nat.le_of_ble_eq_true rfl) dX2_digest_117 ⟨Nat.zero_le _, Nat.zero_le _⟩ (fun r13 e_r13 => ?_)
                            refine lv_i2l (v := r13.toInt64) hF.1 hF.2.1 dX2_digest_120 rfl ?_
                            refine g_vWv (As := [.long r13.toInt64]) (rest := []) hF (kX2_say l ω g y a (va_up (va_up (va_up (va_up z 11 u6) 12 u7) 13 h9_z13) 14 h9_z14) kt w108_hs r13.toInt64) (lw_V q1377 q1379 qs89 q97 q1380) 1 hdX2_say rfl rfl ⟨Nat.le_of_ble_eq_true rfl, Nat.le_of_ble_eq_true rfl⟩ (m_preV hK hH) rfl hl.1 rfl (Nat.le_of_ble_eq_true rfl) dX2_digest_121 ⟨Nat.le_of_ble_eq_true rfl, Nat.le_of_ble_eq_true rfl⟩ hS (fun ur14 H locs hqr14 hH hS => ?_)
                            obtain ⟨r14o0, hr14, rfl⟩ := hqr14
                            have e_r14o0 := hr14
                            refine n_iinc (lv' := [(1, .int (nI (i108 + 1))), (0, .ref (ω.2.1 0 99))]) hF.1 hF.2.1 dX2_digest_124 hl (k := 0) rfl (by decide) rfl (fun ls hl => ?_)
                            refine lv_goto (tgt := 108) hF.1 hF.2.1 dX2_digest_127 (by decide) ?_
                            exact ih (i108 + 1) _ _ _ _ (by omega) (by subst e_r14o0; subst e_r13; rw [it_succ (fX2_digest_b108 g a) i108 _, ← hS108]; try rfl) hH hS (lv_sub hl [0, 1] rfl)
                      exact lp108_203 12 0 _ _ _ _ (by omega) rfl hH hS (lv_sub hl [0, 1] rfl)
                    · exact absurd (by omega) c10
                  | succ d81 ih =>
                    intro i81 w81_hs H locs ls hi81 hS81 hH hS hl
                    refine lv_iload_n hF.1 hF.2.1 dX2_digest_81 rfl (lv_at hl 0 rfl) ?_
                    refine lv_aload_n hF.1 hF.2.1 dX2_digest_82 rfl (lv_at hl 1 rfl) ?_
                    refine mg_1 hF hK hH q972 dX2_digest_83 (v := g 1) rfl ?_
                    refine n_ge (tgt := 106) hF.1 hF.2.1 dX2_digest_86 (by decide) (by omega) (by omega) (fun c15 => ?_) (fun c15 => ?_)
                    · exact absurd c15 (by omega)
                    · skip
                      refine lv_aload_n hF.1 hF.2.1 dX2_digest_89 rfl (lv_at hl 1 rfl) ?_
                      refine lv_aload_n hF.1 hF.2.1 dX2_digest_90 rfl (lv_at hl 1 rfl) ?_
                      refine mg_0 hF hK hH q971 dX2_digest_91 ?_
                      refine lv_iload_n hF.1 hF.2.1 dX2_digest_94 rfl (lv_at hl 0 rfl) ?_
                      refine m_ald hF hK hH 0 (n := 50) rfl rfl (by decide) rfl (f := a 0) rfl (i := i81) (by omega) (by decide) dX2_digest_95 ?_
                      refine lv_i2l (v := (a 0 i81).toInt64) hF.1 hF.2.1 dX2_digest_96 rfl ?_
                      refine g_vWv (As := [.long ((a 0 i81).toInt64)]) (rest := []) hF (kX2_say l ω g y a (va_up (va_up (va_up (va_up z 11 u6) 12 u7) 13 h9_z13) 14 h9_z14) kt w81_hs ((a 0 i81).toInt64)) (lw_V q1377 q1379 qs89 q97 q1380) 1 hdX2_say rfl rfl ⟨Nat.le_of_ble_eq_true rfl, Nat.le_of_ble_eq_true rfl⟩ (m_preV hK hH) rfl hl.1 rfl (Nat.le_of_ble_eq_true rfl) dX2_digest_97 ⟨Nat.le_of_ble_eq_true rfl, Nat.le_of_ble_eq_true rfl⟩ hS (fun ur16 H locs hqr16 hH hS => ?_)
                      obtain ⟨r16o0, hr16, rfl⟩ := hqr16
                      have e_r16o0 := hr16
                      refine n_iinc (lv' := [(1, .int (nI (i81 + 1))), (0, .ref (ω.2.1 0 99))]) hF.1 hF.2.1 dX2_digest_100 hl (k := 0) rfl (by decide) rfl (fun ls hl => ?_)
                      refine lv_goto (tgt := 81) hF.1 hF.2.1 dX2_digest_103 (by decide) ?_
                      exact ih (i81 + 1) _ _ _ _ (by omega) (by subst e_r16o0; rw [it_succ (fX2_digest_b81 a) i81 _, ← hS81]; try rfl) hH hS (lv_sub hl [0, 1] rfl)
                exact lp81_201 (g 1) 0 _ _ _ _ (by omega) rfl hH hS (lv_sub hl [0, 1] rfl)
              refine lv_if_ne (tgt := 79) hF.1 hF.2.1 dX2_digest_72 (by decide) (fun c4 => ?_) (fun c4 => ?_)
              · skip
                exact k79_9 _ _ _ _ _ _ (by first | (rw [if_neg c4]; done) | (simp only [if_neg c4])) hH hS (lv_sub hl [1] rfl)
              · skip
                refine lv_aload_n hF.1 hF.2.1 dX2_digest_75 rfl (lv_at hl 1 rfl) ?_
                refine g_vWv (As := []) (rest := []) hF (kX2_sayTown l ω g y a (va_up (va_up (va_up (va_up z 11 h9_z11) 12 h9_z12) 13 h9_z13) 14 h9_z14) kt w30_hs t td of hc hsd) (lw_V q1382 q1384 qs90 q97 q1385) 0 hdX2_sayTown rfl rfl ⟨Nat.le_of_ble_eq_true rfl, Nat.le_of_ble_eq_true rfl⟩ (m_preV hK hH) rfl hl.1 rfl (Nat.le_of_ble_eq_true rfl) dX2_digest_76 ⟨Nat.le_of_ble_eq_true rfl, Nat.le_of_ble_eq_true rfl⟩ hS (fun ur5 H locs hqr5 hH hS => ?_)
                obtain ⟨r5o0, r5h0, r5h1, hr5, rfl⟩ := hqr5
                have e_r5o0 := hr5
                have hH : mH ω (g, y, a, va_up (va_up (va_up (va_up z 11 r5h0) 12 r5h1) 13 h9_z13) 14 h9_z14, kt, r5o0) H := m_ext (fun _ => rfl) (fun _ => rfl) (fun _ => rfl) (by intro k; by_cases h0 : k = 11; (subst h0; simp [va_up]); by_cases h1 : k = 12; (subst h1; simp [va_up]); simp only [va_up, if_neg h0, if_neg h1]) hH
                exact k79_9 _ _ _ _ _ _ (by subst e_r5o0; first | (rw [if_pos c4]; done) | (simp only [if_pos c4])) hH hS (lv_sub hl [1] rfl)
            · exact absurd (by omega) c2
          | succ d30 ih =>
            intro i30 w30_hs H locs ls hi30 hS30 hH hS hl
            refine lv_iload_n hF.1 hF.2.1 dX2_digest_30 rfl (lv_at hl 0 rfl) ?_
            refine lv_aload_n hF.1 hF.2.1 dX2_digest_31 rfl (lv_at hl 1 rfl) ?_
            refine mg_4 hF hK hH q975 dX2_digest_32 (v := g 4) rfl ?_
            refine n_ge (tgt := 68) hF.1 hF.2.1 dX2_digest_35 (by decide) (by omega) (by omega) (fun c17 => ?_) (fun c17 => ?_)
            · exact absurd c17 (by omega)
            · skip
              refine lv_iconst (v := nI 0) hF.1 hF.2.1 dX2_digest_38 (by decide) ?_
              refine lv_istore_n (lv' := [(2, .int (nI 0)), (1, .int (nI i30)), (0, .ref (ω.2.1 0 99))]) hF.1 hF.2.1 dX2_digest_39 rfl hl (by decide) rfl (fun ls hl => ?_)
              have lp40_205 : ∀ (d40 i40 : Nat) (w40_hs : Int64) (H : Heap) (locs : List Loc) (ls : Array Slot), i40 + d40 = 5 → w40_hs = it (fX2_digest_b40 a i30) i40 w30_hs → mH ω (g, y, a, va_up (va_up (va_up (va_up z 11 h9_z11) 12 h9_z12) 13 h9_z13) 14 h9_z14, kt, w40_hs) H → va_S ω.2.2.1 s.heap H locs → lv_has ls 3 [(2, .int (nI i40)), (1, .int (nI i30)), (0, .ref (ω.2.1 0 99))] → W p l e rmX2_digest s m args below meth c H locs 0 0 QQ (F0 m 40 ls []) := by
                intro d40
                induction d40 with
                | zero =>
                  intro i40 w40_hs H locs ls hi40 hS40 hH hS hl
                  have hj40 : 5 = i40 := by omega
                  subst hj40
                  have e_w40_hs := hS40
                  refine lv_iload_n hF.1 hF.2.1 dX2_digest_40 rfl (lv_at hl 0 rfl) ?_
                  refine lv_iconst (v := nI 5) hF.1 hF.2.1 dX2_digest_41 (by decide) ?_
                  refine n_ge (tgt := 62) hF.1 hF.2.1 dX2_digest_42 (by decide) (by omega) (by omega) (fun c18 => ?_) (fun c18 => ?_)
                  · skip
                    refine n_iinc (lv' := [(1, .int (nI (i30 + 1))), (2, .int (nI 5)), (0, .ref (ω.2.1 0 99))]) hF.1 hF.2.1 dX2_digest_62 hl (k := 1) rfl (by decide) rfl (fun ls hl => ?_)
                    refine lv_goto (tgt := 30) hF.1 hF.2.1 dX2_digest_65 (by decide) ?_
                    exact ih (i30 + 1) _ _ _ _ (by omega) (by subst e_w40_hs; rw [it_succ (fX2_digest_b30 a) i30 _, ← hS30]; try rfl) hH hS (lv_sub hl [0, 2] rfl)
                  · exact absurd (by omega) c18
                | succ d40 ih =>
                  intro i40 w40_hs H locs ls hi40 hS40 hH hS hl
                  refine lv_iload_n hF.1 hF.2.1 dX2_digest_40 rfl (lv_at hl 0 rfl) ?_
                  refine lv_iconst (v := nI 5) hF.1 hF.2.1 dX2_digest_41 (by decide) ?_
                  refine n_ge (tgt := 62) hF.1 hF.2.1 dX2_digest_42 (by decide) (by omega) (by omega) (fun c19 => ?_) (fun c19 => ?_)
                  · exact absurd c19 (by omega)
                  · skip
                    refine lv_aload_n hF.1 hF.2.1 dX2_digest_45 rfl (lv_at hl 2 rfl) ?_
                    refine lv_aload_n hF.1 hF.2.1 dX2_digest_46 rfl (lv_at hl 2 rfl) ?_
                    refine lv_iload_n hF.1 hF.2.1 dX2_digest_47 rfl (lv_at hl 1 rfl) ?_
                    refine lv_iload_n hF.1 hF.2.1 dX2_digest_48 rfl (lv_at hl 0 rfl) ?_
                    refine g_vPi (As := [.int (nI i30), .int (nI i40)]) (rest := [.ref (ω.2.1 0 99)]) hF (kX2_tellStreet l ω g y a (va_up (va_up (va_up (va_up z 11 h9_z11) 12 h9_z12) 13 h9_z13) 14 h9_z14) kt w40_hs i30 (nI i40) (by omega)) (lw_V q1205 q1207 qs69 q97 q1208) 2 hdX2_tellStreet rfl rfl ⟨Nat.le_of_ble_eq_true rfl, Nat.le_of_ble_eq_true rfl⟩ (m_preV hK hH) rfl hl.1 rfl (Nat.le_of_ble_eq_true rfl) dX2_digest_49 ⟨Nat.zero_le _, Nat.zero_le _⟩ (fun r20 e_r20 => ?_)
                    refine lv_i2l (v := r20.toInt64) hF.1 hF.2.1 dX2_digest_52 rfl ?_
                    refine g_vWv (As := [.long r20.toInt64]) (rest := []) hF (kX2_say l ω g y a (va_up (va_up (va_up (va_up z 11 h9_z11) 12 h9_z12) 13 h9_z13) 14 h9_z14) kt w40_hs r20.toInt64) (lw_V q1377 q1379 qs89 q97 q1380) 1 hdX2_say rfl rfl ⟨Nat.le_of_ble_eq_true rfl, Nat.le_of_ble_eq_true rfl⟩ (m_preV hK hH) rfl hl.1 rfl (Nat.le_of_ble_eq_true rfl) dX2_digest_53 ⟨Nat.le_of_ble_eq_true rfl, Nat.le_of_ble_eq_true rfl⟩ hS (fun ur21 H locs hqr21 hH hS => ?_)
                    obtain ⟨r21o0, hr21, rfl⟩ := hqr21
                    have e_r21o0 := hr21
                    refine n_iinc (lv' := [(2, .int (nI (i40 + 1))), (1, .int (nI i30)), (0, .ref (ω.2.1 0 99))]) hF.1 hF.2.1 dX2_digest_56 hl (k := 0) rfl (by decide) rfl (fun ls hl => ?_)
                    refine lv_goto (tgt := 40) hF.1 hF.2.1 dX2_digest_59 (by decide) ?_
                    exact ih (i40 + 1) _ _ _ _ (by omega) (by subst e_r21o0; subst e_r20; rw [it_succ (fX2_digest_b40 a i30) i40 _, ← hS40]; try rfl) hH hS (lv_sub hl [0, 1, 2] rfl)
              exact lp40_205 5 0 _ _ _ _ (by omega) rfl hH hS (lv_sub hl [0, 1, 2] rfl)
        exact lp30_199 (g 4) 0 _ _ _ _ (by omega) rfl hH hS (lv_sub hl [0, 1] rfl)
      · exact absurd (by omega) c1
    | succ d9 ih =>
      intro i9 w9_hs h9_z11 h9_z12 h9_z13 h9_z14 H locs ls hi9 hS9 hH hS hl
      refine lv_iload_n hF.1 hF.2.1 dX2_digest_9 rfl (lv_at hl 0 rfl) ?_
      refine lv_aload_n hF.1 hF.2.1 dX2_digest_10 rfl (lv_at hl 1 rfl) ?_
      refine mg_3 hF hK hH q974 dX2_digest_11 (v := g 3) rfl ?_
      refine n_ge (tgt := 28) hF.1 hF.2.1 dX2_digest_14 (by decide) (by omega) (by omega) (fun c22 => ?_) (fun c22 => ?_)
      · exact absurd c22 (by omega)
      · skip
        refine lv_aload_n hF.1 hF.2.1 dX2_digest_17 rfl (lv_at hl 1 rfl) ?_
        refine lv_iload_n hF.1 hF.2.1 dX2_digest_18 rfl (lv_at hl 0 rfl) ?_
        refine g_vWv (As := [.int (nI i9)]) (rest := []) hF (kX2_sayPerson l ω g y a (va_up (va_up (va_up (va_up z 11 h9_z11) 12 h9_z12) 13 h9_z13) 14 h9_z14) kt w9_hs t td of hc i9 (by omega) hsd) (lw_V q1373 q1375 qs88 q97 q1376) 1 hdX2_sayPerson rfl rfl ⟨Nat.le_of_ble_eq_true rfl, Nat.le_of_ble_eq_true rfl⟩ (m_preV hK hH) rfl hl.1 rfl (Nat.le_of_ble_eq_true rfl) dX2_digest_19 ⟨Nat.le_of_ble_eq_true rfl, Nat.le_of_ble_eq_true rfl⟩ hS (fun ur23 H locs hqr23 hH hS => ?_)
        obtain ⟨r23o0, r23h0, r23h1, r23h2, r23h3, hr23, rfl⟩ := hqr23
        have e_r23o0 := hr23
        have hH : mH ω (g, y, a, va_up (va_up (va_up (va_up z 11 r23h0) 12 r23h1) 13 r23h2) 14 r23h3, kt, r23o0) H := m_ext (fun _ => rfl) (fun _ => rfl) (fun _ => rfl) (by intro k; by_cases h0 : k = 11; (subst h0; simp [va_up]); by_cases h1 : k = 12; (subst h1; simp [va_up]); by_cases h2 : k = 13; (subst h2; simp [va_up]); by_cases h3 : k = 14; (subst h3; simp [va_up]); simp only [va_up, if_neg h0, if_neg h1, if_neg h2, if_neg h3]) hH
        refine n_iinc (lv' := [(1, .int (nI (i9 + 1))), (0, .ref (ω.2.1 0 99))]) hF.1 hF.2.1 dX2_digest_22 hl (k := 0) rfl (by decide) rfl (fun ls hl => ?_)
        refine lv_goto (tgt := 9) hF.1 hF.2.1 dX2_digest_25 (by decide) ?_
        exact ih (i9 + 1) _ _ _ _ _ _ _ _ (by omega) (by subst e_r23o0; rw [it_succ (fX2_digest_b9 g a t td of) i9 _, ← hS9]; try rfl) hH hS (lv_sub hl [0, 1] rfl)
  have hH : mH ω (g, y, a, va_up (va_up (va_up (va_up z 11 (z 11)) 12 (z 12)) 13 (z 13)) 14 (z 14), kt, 1109) H := m_ext (fun _ => rfl) (fun _ => rfl) (fun _ => rfl) (by intro k; by_cases h0 : k = 11; (subst h0; simp [va_up]); by_cases h1 : k = 12; (subst h1; simp [va_up]); by_cases h2 : k = 13; (subst h2; simp [va_up]); by_cases h3 : k = 14; (subst h3; simp [va_up]); simp only [va_up, if_neg h0, if_neg h1, if_neg h2, if_neg h3]) hH
  exact lp9_193 (g 3) 0 _ _ _ _ _ _ _ _ (by omega) rfl hH hS (lv_sub hl [0, 1] rfl)

