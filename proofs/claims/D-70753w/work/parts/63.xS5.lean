/-! CLASS: years, digests -/
set_option maxRecDepth 100000
def fX0_yearsTold_b26 (g : Nat → Nat → Nat) (t : TW) (td : Nat → Nat) (r1o9 : Nat) (i26 : Nat) (S : Int32 × Int32 × Int64 × (Nat → Int32)) : Int32 × Int32 × Int64 × (Nat → Int32) := if (toN ((fX0_draw ((fX0_draw S.2.2.1 (g 0 1)).2) 8).1)) = (toN ((fX0_draw ((fX0_draw ((fX0_draw S.2.2.1 (g 0 1)).2) 8).2) 8).1)) then (S.1, S.2.1, ((fX0_draw ((fX0_draw ((fX0_draw S.2.2.1 (g 0 1)).2) 8).2) 8).2), S.2.2.2) else if (fX1_layWayS t r1o9 (td (toN ((fX0_draw S.2.2.1 (g 0 1)).1))) (fun s => toN (S.2.2.2 (9 * (toN ((fX0_draw S.2.2.1 (g 0 1)).1)) + s))) (toN ((fX0_draw ((fX0_draw S.2.2.1 (g 0 1)).2) 8).1)) (toN ((fX0_draw ((fX0_draw ((fX0_draw S.2.2.1 (g 0 1)).2) 8).2) 8).1)) (fX0_all t)) = 0 then (S.1, S.2.1, ((fX0_draw ((fX0_draw ((fX0_draw S.2.2.1 (g 0 1)).2) 8).2) 8).2), S.2.2.2) else (S.1 + (nI ((cds t r1o9 (td (toN ((fX0_draw S.2.2.1 (g 0 1)).1))) (fun s => toN (S.2.2.2 (9 * (toN ((fX0_draw S.2.2.1 (g 0 1)).1)) + s))) (fX0_all t) (toN ((fX0_draw ((fX0_draw ((fX0_draw S.2.2.1 (g 0 1)).2) 8).2) 8).1)) (toN ((fX0_draw ((fX0_draw S.2.2.1 (g 0 1)).2) 8).1))) / 1000)), S.2.1 + 1, ((fX0_draw ((fX0_draw ((fX0_draw S.2.2.1 (g 0 1)).2) 8).2) 8).2), (fX1_takeS S.2.2.2 (toN ((fX0_draw S.2.2.1 (g 0 1)).1)) (cwl t r1o9 (td (toN ((fX0_draw S.2.2.1 (g 0 1)).1))) (fun s => toN (S.2.2.2 (9 * (toN ((fX0_draw S.2.2.1 (g 0 1)).1)) + s))) (fX0_all t) (toN ((fX0_draw ((fX0_draw S.2.2.1 (g 0 1)).2) 8).1)) (toN ((fX0_draw ((fX0_draw ((fX0_draw S.2.2.1 (g 0 1)).2) 8).2) 8).1))) (cws t r1o9 (td (toN ((fX0_draw S.2.2.1 (g 0 1)).1))) (fun s => toN (S.2.2.2 (9 * (toN ((fX0_draw S.2.2.1 (g 0 1)).1)) + s))) (fX0_all t) (toN ((fX0_draw ((fX0_draw S.2.2.1 (g 0 1)).2) 8).1)) (toN ((fX0_draw ((fX0_draw ((fX0_draw S.2.2.1 (g 0 1)).2) 8).2) 8).1)))))
theorem fX0_yearsTold_inv {g : Nat → Nat → Nat} {t : TW} {td : Nat → Nat} {dy : Nat} {seed : Int64} {w : Nat → Int32} (hb : ofLe t w 600) : ∀ i, ofLe t (it (fX0_yearsTold_b26 g t td dy) i (nI 0, nI 0, seed, w)).2.2.2 (600 + 8 * i) := by
  intro i
  induction i with
  | zero => exact hb
  | succ i ih =>
    rw [it_succ]
    generalize it (fX0_yearsTold_b26 g t td dy) i (nI 0, nI 0, seed, w) = S at ih
    unfold fX0_yearsTold_b26
    split
    · exact ih.mono (by omega)
    · split
      · exact ih.mono (by omega)
      · rw [show (600 + 8 * (i + 1)) = 600 + 8 * i + 8 by omega]
        dsimp only
        unfold fX1_takeS
        exact (ofLe.take ih _ _ _).mono (Nat.add_le_add_left (cwl_le8 ..) _)
def fX0_yearsTold (g : Nat → Nat → Nat) (a : Nat → Nat → Nat → Int32) (t : TW) (td : Nat → Nat) (many : Nat) (seed : Int32) (wh : Int32) : Int32 × (Nat → Int32) × (Nat → Int32) × (Nat → Int32) × (Nat → Int32) × (Nat → Int32) × (Nat → Int32) × (Nat → Int32) × (Nat → Int32) × (Nat → Int32) × Int64 × Nat := if wh = 0 then (((it (fX0_yearsTold_b26 g t td ((fX1_become_1_0 g a).2.2.2.2.2.2.2.2.2)) many (nI 0, nI 0, seed.toInt64, ((fX1_become_1_0 g a).2.1))).2.1), ((fX1_become_1_0 g a).1), ((it (fX0_yearsTold_b26 g t td ((fX1_become_1_0 g a).2.2.2.2.2.2.2.2.2)) many (nI 0, nI 0, seed.toInt64, ((fX1_become_1_0 g a).2.1))).2.2.2), ((fX1_become_1_0 g a).2.2.1), ((fX1_become_1_0 g a).2.2.2.1), ((fX1_become_1_0 g a).2.2.2.2.1), ((fX1_become_1_0 g a).2.2.2.2.2.1), ((fX1_become_1_0 g a).2.2.2.2.2.2.1), ((fX1_become_1_0 g a).2.2.2.2.2.2.2.1), ((fX1_become_1_0 g a).2.2.2.2.2.2.2.2.1), ((it (fX0_yearsTold_b26 g t td ((fX1_become_1_0 g a).2.2.2.2.2.2.2.2.2)) many (nI 0, nI 0, seed.toInt64, ((fX1_become_1_0 g a).2.1))).2.2.1), ((fX1_become_1_0 g a).2.2.2.2.2.2.2.2.2)) else if wh = (nI 1) then (((it (fX0_yearsTold_b26 g t td ((fX1_become_1_0 g a).2.2.2.2.2.2.2.2.2)) many (nI 0, nI 0, seed.toInt64, ((fX1_become_1_0 g a).2.1))).1), ((fX1_become_1_0 g a).1), ((it (fX0_yearsTold_b26 g t td ((fX1_become_1_0 g a).2.2.2.2.2.2.2.2.2)) many (nI 0, nI 0, seed.toInt64, ((fX1_become_1_0 g a).2.1))).2.2.2), ((fX1_become_1_0 g a).2.2.1), ((fX1_become_1_0 g a).2.2.2.1), ((fX1_become_1_0 g a).2.2.2.2.1), ((fX1_become_1_0 g a).2.2.2.2.2.1), ((fX1_become_1_0 g a).2.2.2.2.2.2.1), ((fX1_become_1_0 g a).2.2.2.2.2.2.2.1), ((fX1_become_1_0 g a).2.2.2.2.2.2.2.2.1), ((it (fX0_yearsTold_b26 g t td ((fX1_become_1_0 g a).2.2.2.2.2.2.2.2.2)) many (nI 0, nI 0, seed.toInt64, ((fX1_become_1_0 g a).2.1))).2.2.1), ((fX1_become_1_0 g a).2.2.2.2.2.2.2.2.2)) else (((it (fX0_yearsTold_b26 g t td ((fX1_become_1_0 g a).2.2.2.2.2.2.2.2.2)) many (nI 0, nI 0, seed.toInt64, ((fX1_become_1_0 g a).2.1))).2.2.1).toInt32, ((fX1_become_1_0 g a).1), ((it (fX0_yearsTold_b26 g t td ((fX1_become_1_0 g a).2.2.2.2.2.2.2.2.2)) many (nI 0, nI 0, seed.toInt64, ((fX1_become_1_0 g a).2.1))).2.2.2), ((fX1_become_1_0 g a).2.2.1), ((fX1_become_1_0 g a).2.2.2.1), ((fX1_become_1_0 g a).2.2.2.2.1), ((fX1_become_1_0 g a).2.2.2.2.2.1), ((fX1_become_1_0 g a).2.2.2.2.2.2.1), ((fX1_become_1_0 g a).2.2.2.2.2.2.2.1), ((fX1_become_1_0 g a).2.2.2.2.2.2.2.2.1), ((it (fX0_yearsTold_b26 g t td ((fX1_become_1_0 g a).2.2.2.2.2.2.2.2.2)) many (nI 0, nI 0, seed.toInt64, ((fX1_become_1_0 g a).2.1))).2.2.1), ((fX1_become_1_0 g a).2.2.2.2.2.2.2.2.2))
def rmX0_yearsTold : Room := { frames := 8, cells := 0, slots := 0, locals := 190 }
theorem hdX0_yearsTold : yX0_yearsTold.cls = RX0 ∧ yX0_yearsTold.cls ≠ "java/lang/invoke/MethodHandle" ∧ yX0_yearsTold.cls ≠ "java/lang/invoke/VarHandle" ∧ (parseMethodDescriptor yX0_yearsTold.desc).map (fun d => d.parameters.length) = some 3 := by decide +kernel
set_option maxHeartbeats 4000000 in
theorem kX0_yearsTold (l : Launch) (ω : OM) (g : Nat → Nat → Nat) (y : Nat → Nat → Int32) (a z : Nat → Nat → Nat → Int32) (dr : Int64) (pg : Nat → Int32) (t : TW) (td : Nat → Nat) (of : Nat → Nat → Nat) (hc : xCore g a t 0 td of) (many : Nat) (seed : Int32) (wh : Int32) (hmany : many < 41) (hg1 : 0 < g 0 1) (hb : ofLe t (a (0 + 6) 1) 600) (hsd : xSide g a) : Met l yX0_yearsTold (ws_ yX0_yearsTold cX0_yearsTold 10 (some .int)) rmX0_yearsTold (va_Pc [.ref (ω.2.1 0 99), .int (nI many), .int seed, .int wh] (fun U => xK ω U ∧ xH ω (g, y, a, z, dr, pg, t) U.heap)) (va_Qi (fun (r : Int32) (u : XS) => ∃ (o0 : Nat → Int32) (o1 : Nat → Int32) (o2 : Nat → Int32) (o3 : Nat → Int32) (o4 : Nat → Int32) (o5 : Nat → Int32) (o6 : Nat → Int32) (o7 : Nat → Int32) (o8 : Nat → Int32) (o9 : Int64) (o10 : Nat) (q0 : Int32) (q1 : Int32) (q2 : Int32) (q3 : Nat → Int32) (q4 : Nat → Int32), (r, o0, o1, o2, o3, o4, o5, o6, o7, o8, o9, o10) = (fX0_yearsTold g a t td many seed wh) ∧ u = (up2 g (1 + 6) 9 o10, up2 (up2 (up2 y (1 + 6) 12 q0) (1 + 6) 13 q1) (1 + 6) 14 q2, up2 (up2 (up2 (up2 (up2 (up2 (up2 (up2 (up2 a (1 + 6) 0 o0) (1 + 6) 1 o1) (1 + 6) 2 o2) (1 + 6) 3 o3) (1 + 6) 4 o4) (1 + 6) 5 o5) (1 + 6) 6 o6) (1 + 6) 7 o7) (1 + 6) 8 o8, up2 (up2 z (1 + 6) 10 q3) (1 + 6) 11 q4, o9, pg, t)) (fun u t => xH ω u t.heap) ω.2.2.1) 0 0 ω.2.2.1 := by
  refine g_entWi (C := RX0) rfl (by decide) (Nat.le_of_ble_eq_true rfl) ?_
  intro p e s m args below meth c QQ ls H locs hF hK hH hS hl hret
  have hl : lv_has ls 10 [(0, .ref (ω.2.1 0 99)), (1, .int (nI many)), (2, .int seed), (3, .int wh)] := hl
  have hn9 : tn t ≤ 9 := hH.2.2.1
  have hok := hc.ok
  have hp3 := hsd.1
  have hs6 := hsd.2.1
  have hp50 := hsd.2.2.1
  refine lv_aload_n hF.1 hF.2.1 dX0_yearsTold_0 rfl (lv_at hl 0 rfl) ?_
  refine xg0_4 hF hK hH q222 dX0_yearsTold_1 ?_
  refine lv_aload_n hF.1 hF.2.1 dX0_yearsTold_4 rfl (lv_at hl 0 rfl) ?_
  refine xg0_3 hF hK hH q221 dX0_yearsTold_5 ?_
  refine g_vWv (As := [.ref (ω.2.1 (0 + 6) 99)]) (rest := []) hF (kX1_become_1_0 l ω g y a z dr pg t) (lw_V q912 q913 q914 q96 q915) 1 hdX1_become_1_0 rfl rfl ⟨Nat.le_of_ble_eq_true rfl, Nat.le_of_ble_eq_true rfl⟩ (x_preV1 (by decide) hK hH) rfl hl.1 rfl (Nat.le_of_ble_eq_true rfl) dX0_yearsTold_8 ⟨Nat.le_of_ble_eq_true rfl, Nat.le_of_ble_eq_true rfl⟩ hS (fun ur1 H locs hqr1 hH hS => ?_)
  obtain ⟨r1o0, r1o1, r1o2, r1o3, r1o4, r1o5, r1o6, r1o7, r1o8, r1o9, hr1, rfl⟩ := hqr1
  have e_r1o0 : r1o0 = (fX1_become_1_0 g a).1 := by rw [← hr1]
  have e_r1o1 : r1o1 = (fX1_become_1_0 g a).2.1 := by rw [← hr1]
  have e_r1o2 : r1o2 = (fX1_become_1_0 g a).2.2.1 := by rw [← hr1]
  have e_r1o3 : r1o3 = (fX1_become_1_0 g a).2.2.2.1 := by rw [← hr1]
  have e_r1o4 : r1o4 = (fX1_become_1_0 g a).2.2.2.2.1 := by rw [← hr1]
  have e_r1o5 : r1o5 = (fX1_become_1_0 g a).2.2.2.2.2.1 := by rw [← hr1]
  have e_r1o6 : r1o6 = (fX1_become_1_0 g a).2.2.2.2.2.2.1 := by rw [← hr1]
  have e_r1o7 : r1o7 = (fX1_become_1_0 g a).2.2.2.2.2.2.2.1 := by rw [← hr1]
  have e_r1o8 : r1o8 = (fX1_become_1_0 g a).2.2.2.2.2.2.2.2.1 := by rw [← hr1]
  have e_r1o9 : r1o9 = (fX1_become_1_0 g a).2.2.2.2.2.2.2.2.2 := by rw [← hr1]
  have hb0 : ofLe t r1o1 600 := by rw [e_r1o1]; exact fun p hp s hs => by rw [fX1_become10_1 g a (9 * p + s) (by have := hok.1; omega)]; exact hb p hp s hs
  refine lv_aload_n hF.1 hF.2.1 dX0_yearsTold_11 rfl (lv_at hl 0 rfl) ?_
  refine lv_iload_n hF.1 hF.2.1 dX0_yearsTold_12 rfl (lv_at hl 2 rfl) ?_
  refine lv_i2l (v := seed.toInt64) hF.1 hF.2.1 dX0_yearsTold_13 rfl ?_
  refine xp0_18 hF hK hH hS q238 dX0_yearsTold_14 (dr' := seed.toInt64) (fun H locs hH hS => ?_)
  refine lv_iconst (v := nI 0) hF.1 hF.2.1 dX0_yearsTold_17 (by decide) ?_
  refine lv_istore (lv' := [(4, .int (nI 0)), (0, .ref (ω.2.1 0 99)), (1, .int (nI many)), (2, .int seed), (3, .int wh)]) hF.1 hF.2.1 dX0_yearsTold_18 hl (by decide) rfl (fun ls hl => ?_)
  refine lv_iconst (v := nI 0) hF.1 hF.2.1 dX0_yearsTold_20 (by decide) ?_
  refine lv_istore (lv' := [(5, .int (nI 0)), (4, .int (nI 0)), (0, .ref (ω.2.1 0 99)), (1, .int (nI many)), (2, .int seed), (3, .int wh)]) hF.1 hF.2.1 dX0_yearsTold_21 hl (by decide) rfl (fun ls hl => ?_)
  refine lv_iconst (v := nI 0) hF.1 hF.2.1 dX0_yearsTold_23 (by decide) ?_
  refine lv_istore (lv' := [(6, .int (nI 0)), (5, .int (nI 0)), (4, .int (nI 0)), (0, .ref (ω.2.1 0 99)), (1, .int (nI many)), (2, .int seed), (3, .int wh)]) hF.1 hF.2.1 dX0_yearsTold_24 hl (by decide) rfl (fun ls hl => ?_)
  have lp26_111 : ∀ (d26 i26 : Nat) (x26_5 : Int32) (x26_4 : Int32) (w26_dr : Int64) (w26_a_1_6_1 : Nat → Int32) (h26_y_1_6_12 : Int32) (h26_y_1_6_13 : Int32) (h26_y_1_6_14 : Int32) (h26_z_1_6_10 : Nat → Int32) (h26_z_1_6_11 : Nat → Int32) (H : Heap) (locs : List Loc) (ls : Array Slot), i26 + d26 = many → (x26_5, x26_4, w26_dr, w26_a_1_6_1) = it (fX0_yearsTold_b26 g t td r1o9) i26 (nI 0, nI 0, seed.toInt64, r1o1) → xH ω (up2 g (1 + 6) 9 r1o9, up2 (up2 (up2 y (1 + 6) 12 h26_y_1_6_12) (1 + 6) 13 h26_y_1_6_13) (1 + 6) 14 h26_y_1_6_14, up2 (up2 (up2 (up2 (up2 (up2 (up2 (up2 (up2 a (1 + 6) 0 r1o0) (1 + 6) 1 w26_a_1_6_1) (1 + 6) 2 r1o2) (1 + 6) 3 r1o3) (1 + 6) 4 r1o4) (1 + 6) 5 r1o5) (1 + 6) 6 r1o6) (1 + 6) 7 r1o7) (1 + 6) 8 r1o8, up2 (up2 z (1 + 6) 10 h26_z_1_6_10) (1 + 6) 11 h26_z_1_6_11, w26_dr, pg, t) H → va_S ω.2.2.1 s.heap H locs → lv_has ls 10 [(6, .int (nI i26)), (5, .int x26_5), (4, .int x26_4), (0, .ref (ω.2.1 0 99)), (1, .int (nI many)), (3, .int wh)] → W p l e rmX0_yearsTold s m args below meth c H locs 0 0 QQ (F0 m 26 ls []) := by
    intro d26
    induction d26 with
    | zero =>
      intro i26 x26_5 x26_4 w26_dr w26_a_1_6_1 h26_y_1_6_12 h26_y_1_6_13 h26_y_1_6_14 h26_z_1_6_10 h26_z_1_6_11 H locs ls hi26 hS26 hH hS hl
      have hj26 : many = i26 := by omega
      subst hj26
      have e_x26_5 : x26_5 = (it (fX0_yearsTold_b26 g t td r1o9) many (nI 0, nI 0, seed.toInt64, r1o1)).1 := by rw [← hS26]
      have e_x26_4 : x26_4 = (it (fX0_yearsTold_b26 g t td r1o9) many (nI 0, nI 0, seed.toInt64, r1o1)).2.1 := by rw [← hS26]
      have e_w26_dr : w26_dr = (it (fX0_yearsTold_b26 g t td r1o9) many (nI 0, nI 0, seed.toInt64, r1o1)).2.2.1 := by rw [← hS26]
      have e_w26_a_1_6_1 : w26_a_1_6_1 = (it (fX0_yearsTold_b26 g t td r1o9) many (nI 0, nI 0, seed.toInt64, r1o1)).2.2.2 := by rw [← hS26]
      refine lv_iload hF.1 hF.2.1 dX0_yearsTold_26 (lv_at hl 0 rfl) ?_
      refine lv_iload_n hF.1 hF.2.1 dX0_yearsTold_28 rfl (lv_at hl 4 rfl) ?_
      refine n_ge (tgt := 115) hF.1 hF.2.1 dX0_yearsTold_29 (by decide) (by omega) (by omega) (fun c2 => ?_) (fun c2 => ?_)
      · skip
        refine lv_iload_n hF.1 hF.2.1 dX0_yearsTold_115 rfl (lv_at hl 5 rfl) ?_
        refine lv_if_ne (tgt := 124) hF.1 hF.2.1 dX0_yearsTold_116 (by decide) (fun c3 => ?_) (fun c3 => ?_)
        · skip
          refine lv_iload_n hF.1 hF.2.1 dX0_yearsTold_124 rfl (lv_at hl 5 rfl) ?_
          refine lv_iconst (v := nI 1) hF.1 hF.2.1 dX0_yearsTold_125 (by decide) ?_
          refine lv_icmp_ne (tgt := 134) hF.1 hF.2.1 dX0_yearsTold_126 (by decide) (fun c4 => ?_) (fun c4 => ?_)
          · skip
            refine lv_aload_n hF.1 hF.2.1 dX0_yearsTold_134 rfl (lv_at hl 3 rfl) ?_
            refine xg0_18 hF hK hH q238 dX0_yearsTold_135 ?_
            refine lv_l2i (v := w26_dr.toInt32) hF.1 hF.2.1 dX0_yearsTold_138 rfl ?_
            exact hret _ _ _ _ _ _ dX0_yearsTold_139 ⟨_, _, _, _, _, _, _, _, _, _, _, _, _, _, _, _, by subst e_w26_a_1_6_1; subst e_w26_dr; subst e_x26_4; subst e_x26_5; subst e_r1o9; subst e_r1o8; subst e_r1o7; subst e_r1o6; subst e_r1o5; subst e_r1o4; subst e_r1o3; subst e_r1o2; subst e_r1o1; subst e_r1o0; unfold fX0_yearsTold; first | (rw [if_neg c3, if_neg c4]; done) | (simp only [if_neg c3, if_neg c4]), rfl⟩ hH hS
          · skip
            refine lv_iload hF.1 hF.2.1 dX0_yearsTold_129 (lv_at hl 1 rfl) ?_
            refine lv_goto (tgt := 139) hF.1 hF.2.1 dX0_yearsTold_131 (by decide) ?_
            exact hret _ _ _ _ _ _ dX0_yearsTold_139 ⟨_, _, _, _, _, _, _, _, _, _, _, _, _, _, _, _, by subst e_w26_a_1_6_1; subst e_w26_dr; subst e_x26_4; subst e_x26_5; subst e_r1o9; subst e_r1o8; subst e_r1o7; subst e_r1o6; subst e_r1o5; subst e_r1o4; subst e_r1o3; subst e_r1o2; subst e_r1o1; subst e_r1o0; unfold fX0_yearsTold; first | (rw [if_neg c3, if_pos c4]; done) | (simp only [if_neg c3, if_pos c4]), rfl⟩ hH hS
        · skip
          refine lv_iload hF.1 hF.2.1 dX0_yearsTold_119 (lv_at hl 2 rfl) ?_
          refine lv_goto (tgt := 139) hF.1 hF.2.1 dX0_yearsTold_121 (by decide) ?_
          exact hret _ _ _ _ _ _ dX0_yearsTold_139 ⟨_, _, _, _, _, _, _, _, _, _, _, _, _, _, _, _, by subst e_w26_a_1_6_1; subst e_w26_dr; subst e_x26_4; subst e_x26_5; subst e_r1o9; subst e_r1o8; subst e_r1o7; subst e_r1o6; subst e_r1o5; subst e_r1o4; subst e_r1o3; subst e_r1o2; subst e_r1o1; subst e_r1o0; unfold fX0_yearsTold; first | (rw [if_pos c3]; done) | (simp only [if_pos c3]), rfl⟩ hH hS
      · exact absurd (by omega) c2
    | succ d26 ih =>
      intro i26 x26_5 x26_4 w26_dr w26_a_1_6_1 h26_y_1_6_12 h26_y_1_6_13 h26_y_1_6_14 h26_z_1_6_10 h26_z_1_6_11 H locs ls hi26 hS26 hH hS hl
      have hcI : xCore (up2 g (1 + 6) 9 r1o9) (up2 (up2 (up2 (up2 (up2 (up2 (up2 (up2 (up2 a (1 + 6) 0 r1o0) (1 + 6) 1 w26_a_1_6_1) (1 + 6) 2 r1o2) (1 + 6) 3 r1o3) (1 + 6) 4 r1o4) (1 + 6) 5 r1o5) (1 + 6) 6 r1o6) (1 + 6) 7 r1o7) (1 + 6) 8 r1o8) t 1 td (fun p s => toN (w26_a_1_6_1 (9 * p + s))) := hc.at1 (by rw [show (up2 g (1 + 6) 9 r1o9) (1 + 6) 9 = r1o9 from by simp [up2], e_r1o9]; exact hc.2.1) (fun p hp => by rw [show (up2 (up2 (up2 (up2 (up2 (up2 (up2 (up2 (up2 a (1 + 6) 0 r1o0) (1 + 6) 1 w26_a_1_6_1) (1 + 6) 2 r1o2) (1 + 6) 3 r1o3) (1 + 6) 4 r1o4) (1 + 6) 5 r1o5) (1 + 6) 6 r1o6) (1 + 6) 7 r1o7) (1 + 6) 8 r1o8) (1 + 6) 0 = r1o0 from by simp [up2], e_r1o0]; exact fX1_become10_0 g a p hp) (by simp [up2]) (ofLe.mono (b := 600 + 8 * i26) (by have q := fX0_yearsTold_inv (g := g) (td := td) (dy := r1o9) (seed := seed.toInt64) hb0 i26; rw [← hS26] at q; exact q) (by omega))
      refine lv_iload hF.1 hF.2.1 dX0_yearsTold_26 (lv_at hl 0 rfl) ?_
      refine lv_iload_n hF.1 hF.2.1 dX0_yearsTold_28 rfl (lv_at hl 4 rfl) ?_
      refine n_ge (tgt := 115) hF.1 hF.2.1 dX0_yearsTold_29 (by decide) (by omega) (by omega) (fun c5 => ?_) (fun c5 => ?_)
      · exact absurd c5 (by omega)
      · skip
        refine lv_aload_n hF.1 hF.2.1 dX0_yearsTold_32 rfl (lv_at hl 3 rfl) ?_
        refine lv_aload_n hF.1 hF.2.1 dX0_yearsTold_33 rfl (lv_at hl 3 rfl) ?_
        refine xg0_1 hF hK hH q219 dX0_yearsTold_34 (v := g 0 1) (by simp [up2]) ?_
        refine g_vWi (As := [.int (nI (g 0 1))]) (rest := []) hF (kX0_draw l ω (up2 g (1 + 6) 9 r1o9) (up2 (up2 (up2 y (1 + 6) 12 h26_y_1_6_12) (1 + 6) 13 h26_y_1_6_13) (1 + 6) 14 h26_y_1_6_14) (up2 (up2 (up2 (up2 (up2 (up2 (up2 (up2 (up2 a (1 + 6) 0 r1o0) (1 + 6) 1 w26_a_1_6_1) (1 + 6) 2 r1o2) (1 + 6) 3 r1o3) (1 + 6) 4 r1o4) (1 + 6) 5 r1o5) (1 + 6) 6 r1o6) (1 + 6) 7 r1o7) (1 + 6) 8 r1o8) (up2 (up2 z (1 + 6) 10 h26_z_1_6_10) (1 + 6) 11 h26_z_1_6_11) w26_dr pg t (g 0 1) (by omega) (by omega)) (lw_V q916 q918 qs41 q92 q919) 1 hdX0_draw rfl rfl ⟨Nat.le_of_ble_eq_true rfl, Nat.le_of_ble_eq_true rfl⟩ (x_preV0 hK hH) rfl hl.1 rfl (Nat.le_of_ble_eq_true rfl) dX0_yearsTold_37 ⟨Nat.le_of_ble_eq_true rfl, Nat.le_of_ble_eq_true rfl⟩ hS (fun r6 ur6 H locs hqr6 hH hS => ?_)
        obtain ⟨r6o0, hr6, rfl⟩ := hqr6
        have e_r6 : r6 = (fX0_draw w26_dr (g 0 1)).1 := by rw [← hr6]
        have e_r6o0 : r6o0 = (fX0_draw w26_dr (g 0 1)).2 := by rw [← hr6]
        obtain ⟨b7e, b7l⟩ := g_lift (r := r6) (n := g 0 1) (by rw [e_r6]; exact fX0_draw_lift _ (by omega) (by omega)) (by omega)
        refine n_top b7e ?_
        refine lv_istore (lv' := [(7, .int (nI (toN r6))), (6, .int (nI i26)), (5, .int x26_5), (4, .int x26_4), (0, .ref (ω.2.1 0 99)), (1, .int (nI many)), (3, .int wh)]) hF.1 hF.2.1 dX0_yearsTold_40 hl (by decide) rfl (fun ls hl => ?_)
        refine lv_aload_n hF.1 hF.2.1 dX0_yearsTold_42 rfl (lv_at hl 4 rfl) ?_
        refine lv_bipush (v := nI 8) hF.1 hF.2.1 dX0_yearsTold_43 (by decide) ?_
        refine g_vWi (As := [.int (nI 8)]) (rest := []) hF (kX0_draw l ω (up2 g (1 + 6) 9 r1o9) (up2 (up2 (up2 y (1 + 6) 12 h26_y_1_6_12) (1 + 6) 13 h26_y_1_6_13) (1 + 6) 14 h26_y_1_6_14) (up2 (up2 (up2 (up2 (up2 (up2 (up2 (up2 (up2 a (1 + 6) 0 r1o0) (1 + 6) 1 w26_a_1_6_1) (1 + 6) 2 r1o2) (1 + 6) 3 r1o3) (1 + 6) 4 r1o4) (1 + 6) 5 r1o5) (1 + 6) 6 r1o6) (1 + 6) 7 r1o7) (1 + 6) 8 r1o8) (up2 (up2 z (1 + 6) 10 h26_z_1_6_10) (1 + 6) 11 h26_z_1_6_11) r6o0 pg t 8 (by omega) (by omega)) (lw_V q916 q918 qs41 q92 q919) 1 hdX0_draw rfl rfl ⟨Nat.le_of_ble_eq_true rfl, Nat.le_of_ble_eq_true rfl⟩ (x_preV0 hK hH) rfl hl.1 rfl (Nat.le_of_ble_eq_true rfl) dX0_yearsTold_45 ⟨Nat.le_of_ble_eq_true rfl, Nat.le_of_ble_eq_true rfl⟩ hS (fun r8 ur8 H locs hqr8 hH hS => ?_)
        obtain ⟨r8o0, hr8, rfl⟩ := hqr8
        have e_r8 : r8 = (fX0_draw r6o0 8).1 := by rw [← hr8]
        have e_r8o0 : r8o0 = (fX0_draw r6o0 8).2 := by rw [← hr8]
        obtain ⟨b9e, b9l⟩ := g_lift (r := r8) (n := 8) (by rw [e_r8]; exact fX0_draw_lift _ (by omega) (by omega)) (by omega)
        refine n_top b9e ?_
        refine lv_istore (lv' := [(8, .int (nI (toN r8))), (7, .int (nI (toN r6))), (6, .int (nI i26)), (5, .int x26_5), (4, .int x26_4), (0, .ref (ω.2.1 0 99)), (1, .int (nI many)), (3, .int wh)]) hF.1 hF.2.1 dX0_yearsTold_48 hl (by decide) rfl (fun ls hl => ?_)
        refine lv_aload_n hF.1 hF.2.1 dX0_yearsTold_50 rfl (lv_at hl 5 rfl) ?_
        refine lv_bipush (v := nI 8) hF.1 hF.2.1 dX0_yearsTold_51 (by decide) ?_
        refine g_vWi (As := [.int (nI 8)]) (rest := []) hF (kX0_draw l ω (up2 g (1 + 6) 9 r1o9) (up2 (up2 (up2 y (1 + 6) 12 h26_y_1_6_12) (1 + 6) 13 h26_y_1_6_13) (1 + 6) 14 h26_y_1_6_14) (up2 (up2 (up2 (up2 (up2 (up2 (up2 (up2 (up2 a (1 + 6) 0 r1o0) (1 + 6) 1 w26_a_1_6_1) (1 + 6) 2 r1o2) (1 + 6) 3 r1o3) (1 + 6) 4 r1o4) (1 + 6) 5 r1o5) (1 + 6) 6 r1o6) (1 + 6) 7 r1o7) (1 + 6) 8 r1o8) (up2 (up2 z (1 + 6) 10 h26_z_1_6_10) (1 + 6) 11 h26_z_1_6_11) r8o0 pg t 8 (by omega) (by omega)) (lw_V q916 q918 qs41 q92 q919) 1 hdX0_draw rfl rfl ⟨Nat.le_of_ble_eq_true rfl, Nat.le_of_ble_eq_true rfl⟩ (x_preV0 hK hH) rfl hl.1 rfl (Nat.le_of_ble_eq_true rfl) dX0_yearsTold_53 ⟨Nat.le_of_ble_eq_true rfl, Nat.le_of_ble_eq_true rfl⟩ hS (fun r10 ur10 H locs hqr10 hH hS => ?_)
        obtain ⟨r10o0, hr10, rfl⟩ := hqr10
        have e_r10 : r10 = (fX0_draw r8o0 8).1 := by rw [← hr10]
        have e_r10o0 : r10o0 = (fX0_draw r8o0 8).2 := by rw [← hr10]
        obtain ⟨b11e, b11l⟩ := g_lift (r := r10) (n := 8) (by rw [e_r10]; exact fX0_draw_lift _ (by omega) (by omega)) (by omega)
        refine n_top b11e ?_
        refine lv_istore (lv' := [(9, .int (nI (toN r10))), (8, .int (nI (toN r8))), (7, .int (nI (toN r6))), (6, .int (nI i26)), (5, .int x26_5), (4, .int x26_4), (0, .ref (ω.2.1 0 99)), (1, .int (nI many)), (3, .int wh)]) hF.1 hF.2.1 dX0_yearsTold_56 hl (by decide) rfl (fun ls hl => ?_)
        refine lv_iload hF.1 hF.2.1 dX0_yearsTold_58 (lv_at hl 1 rfl) ?_
        refine lv_iload hF.1 hF.2.1 dX0_yearsTold_60 (lv_at hl 0 rfl) ?_
        refine n_eq (tgt := 109) hF.1 hF.2.1 dX0_yearsTold_62 (by decide) (by omega) (by omega) (fun c12 => ?_) (fun c12 => ?_)
        · skip
          refine n_iinc (lv' := [(6, .int (nI (i26 + 1))), (9, .int (nI (toN r10))), (8, .int (nI (toN r8))), (7, .int (nI (toN r6))), (5, .int x26_5), (4, .int x26_4), (0, .ref (ω.2.1 0 99)), (1, .int (nI many)), (3, .int wh)]) hF.1 hF.2.1 dX0_yearsTold_109 hl (k := 3) rfl (by decide) rfl (fun ls hl => ?_)
          refine lv_goto (tgt := 26) hF.1 hF.2.1 dX0_yearsTold_112 (by decide) ?_
          exact ih (i26 + 1) _ _ _ _ _ _ _ _ _ _ _ _ (by omega) (by subst e_r10o0; subst e_r10; subst e_r8o0; subst e_r8; subst e_r6o0; subst e_r6; rw [it_succ (fX0_yearsTold_b26 g t td r1o9) i26 _, ← hS26]; unfold fX0_yearsTold_b26; dsimp only; first | (rw [if_pos c12]; done) | (simp only [if_pos c12])) hH hS (lv_sub hl [0, 4, 5, 6, 7, 8] rfl)
        · skip
          refine lv_aload_n hF.1 hF.2.1 dX0_yearsTold_65 rfl (lv_at hl 6 rfl) ?_
          refine xg0_4 hF hK hH q222 dX0_yearsTold_66 ?_
          refine lv_iload hF.1 hF.2.1 dX0_yearsTold_69 (lv_at hl 2 rfl) ?_
          refine lv_iload hF.1 hF.2.1 dX0_yearsTold_71 (lv_at hl 1 rfl) ?_
          refine lv_iload hF.1 hF.2.1 dX0_yearsTold_73 (lv_at hl 0 rfl) ?_
          refine lv_aload_n hF.1 hF.2.1 dX0_yearsTold_75 rfl (lv_at hl 6 rfl) ?_
          refine g_vPi (As := []) (rest := [.int (nI (toN r10)), .int (nI (toN r8)), .int (nI (toN r6)), .ref (ω.2.1 (1 + 6) 99)]) hF (kX0_all l ω (up2 g (1 + 6) 9 r1o9) (up2 (up2 (up2 y (1 + 6) 12 h26_y_1_6_12) (1 + 6) 13 h26_y_1_6_13) (1 + 6) 14 h26_y_1_6_14) (up2 (up2 (up2 (up2 (up2 (up2 (up2 (up2 (up2 a (1 + 6) 0 r1o0) (1 + 6) 1 w26_a_1_6_1) (1 + 6) 2 r1o2) (1 + 6) 3 r1o3) (1 + 6) 4 r1o4) (1 + 6) 5 r1o5) (1 + 6) 6 r1o6) (1 + 6) 7 r1o7) (1 + 6) 8 r1o8) (up2 (up2 z (1 + 6) 10 h26_z_1_6_10) (1 + 6) 11 h26_z_1_6_11) r10o0 pg t) (lw_V q609 q611 qs14 q92 q612) 0 hdX0_all rfl rfl ⟨Nat.le_of_ble_eq_true rfl, Nat.le_of_ble_eq_true rfl⟩ (x_preV0 hK hH) rfl hl.1 rfl (Nat.le_of_ble_eq_true rfl) dX0_yearsTold_76 ⟨Nat.zero_le _, Nat.zero_le _⟩ (fun r13 e_r13 => ?_)
          refine g_vWi (As := [.int (nI (toN r6)), .int (nI (toN r8)), .int (nI (toN r10)), .int r13]) (rest := []) hF (kX1_layWayS l ω (up2 g (1 + 6) 9 r1o9) (up2 (up2 (up2 y (1 + 6) 12 h26_y_1_6_12) (1 + 6) 13 h26_y_1_6_13) (1 + 6) 14 h26_y_1_6_14) (up2 (up2 (up2 (up2 (up2 (up2 (up2 (up2 (up2 a (1 + 6) 0 r1o0) (1 + 6) 1 w26_a_1_6_1) (1 + 6) 2 r1o2) (1 + 6) 3 r1o3) (1 + 6) 4 r1o4) (1 + 6) 5 r1o5) (1 + 6) 6 r1o6) (1 + 6) 7 r1o7) (1 + 6) 8 r1o8) (up2 (up2 z (1 + 6) 10 h26_z_1_6_10) (1 + 6) 11 h26_z_1_6_11) r10o0 pg t 1 (by decide) (toN r6) (toN r8) (toN r10) r13 (td (toN r6)) (fun s => toN (w26_a_1_6_1 (9 * (toN r6) + s))) (hcI.P (pn := toN r6) (by omega)) (by omega) (by omega)) (lw_V q613 q614 q615 q96 q616) 4 hdX1_layWayS rfl rfl ⟨Nat.le_of_ble_eq_true rfl, Nat.le_of_ble_eq_true rfl⟩ (x_preV1 (by decide) hK hH) rfl hl.1 rfl (Nat.le_of_ble_eq_true rfl) dX0_yearsTold_79 ⟨Nat.le_of_ble_eq_true rfl, Nat.le_of_ble_eq_true rfl⟩ hS (fun r14 ur14 H locs hqr14 hH hS => ?_)
          obtain ⟨r14h0, r14h1, r14h2, r14h3, r14h4, hr14, hr14_0, rfl⟩ := hqr14
          have e_r14 : r14 = fX1_layWayS t r1o9 (td (toN r6)) (fun s => toN (w26_a_1_6_1 (9 * (toN r6) + s))) (toN r8) (toN r10) r13 := hr14.trans (by simp only [up2_self])
          have hH : xH ω (up2 g (1 + 6) 9 r1o9, up2 (up2 (up2 y (1 + 6) 12 r14h0) (1 + 6) 13 r14h1) (1 + 6) 14 r14h2, up2 (up2 (up2 (up2 (up2 (up2 (up2 (up2 (up2 a (1 + 6) 0 r1o0) (1 + 6) 1 w26_a_1_6_1) (1 + 6) 2 r1o2) (1 + 6) 3 r1o3) (1 + 6) 4 r1o4) (1 + 6) 5 r1o5) (1 + 6) 6 r1o6) (1 + 6) 7 r1o7) (1 + 6) 8 r1o8, up2 (up2 z (1 + 6) 10 r14h3) (1 + 6) 11 r14h4, r10o0, pg, t) H := x_ext (fun _ _ => rfl) (by intro o k; by_cases h0 : o = (1 + 6) ∧ k = 12; (obtain ⟨rfl, rfl⟩ := h0; simp [up2]); by_cases h1 : o = (1 + 6) ∧ k = 13; (obtain ⟨rfl, rfl⟩ := h1; simp [up2]); by_cases h2 : o = (1 + 6) ∧ k = 14; (obtain ⟨rfl, rfl⟩ := h2; simp [up2]); simp only [up2, if_neg h0, if_neg h1, if_neg h2]) (fun _ _ => rfl) (by intro o k; by_cases h0 : o = (1 + 6) ∧ k = 10; (obtain ⟨rfl, rfl⟩ := h0; simp [up2]); by_cases h1 : o = (1 + 6) ∧ k = 11; (obtain ⟨rfl, rfl⟩ := h1; simp [up2]); simp only [up2, if_neg h0, if_neg h1]) hH
          have hfarr14 := cds_far (dy := r1o9) hok (hcI.P (pn := toN r6) (by omega)).td9 (hcI.P (pn := toN r6) (by omega)).of5 r13 (show toN r10 < 8 by omega) (fr := toN r8)
          refine lv_if_eq (tgt := 109) hF.1 hF.2.1 dX0_yearsTold_82 (by decide) (fun c15 => ?_) (fun c15 => ?_)
          · skip
            refine n_iinc (lv' := [(6, .int (nI (i26 + 1))), (9, .int (nI (toN r10))), (8, .int (nI (toN r8))), (7, .int (nI (toN r6))), (5, .int x26_5), (4, .int x26_4), (0, .ref (ω.2.1 0 99)), (1, .int (nI many)), (3, .int wh)]) hF.1 hF.2.1 dX0_yearsTold_109 hl (k := 3) rfl (by decide) rfl (fun ls hl => ?_)
            refine lv_goto (tgt := 26) hF.1 hF.2.1 dX0_yearsTold_112 (by decide) ?_
            exact ih (i26 + 1) _ _ _ _ _ _ _ _ _ _ _ _ (by omega) (by subst e_r14; subst e_r13; subst e_r10o0; subst e_r10; subst e_r8o0; subst e_r8; subst e_r6o0; subst e_r6; rw [it_succ (fX0_yearsTold_b26 g t td r1o9) i26 _, ← hS26]; unfold fX0_yearsTold_b26; dsimp only; first | (rw [if_neg c12, if_pos c15]; done) | (simp only [if_neg c12, if_pos c15])) hH hS (lv_sub hl [0, 4, 5, 6, 7, 8] rfl)
          · skip
            have hwd := fX1_layWayS_lift (by rw [← e_r14]; exact c15)
            have hwl := cwl_lt (dy := r1o9) hok (hcI.P (pn := toN r6) (by omega)).td9 (hcI.P (pn := toN r6) (by omega)).of5 r13 (show toN r10 < 8 by omega) (show toN r8 < 8 by omega) hwd
            refine lv_aload_n hF.1 hF.2.1 dX0_yearsTold_85 rfl (lv_at hl 6 rfl) ?_
            refine xg0_4 hF hK hH q222 dX0_yearsTold_86 ?_
            refine lv_iload hF.1 hF.2.1 dX0_yearsTold_89 (lv_at hl 2 rfl) ?_
            refine g_vWv (As := [.int (nI (toN r6))]) (rest := []) hF (kX1_takeS l ω (up2 g (1 + 6) 9 r1o9) (up2 (up2 (up2 y (1 + 6) 12 r14h0) (1 + 6) 13 r14h1) (1 + 6) 14 r14h2) (up2 (up2 (up2 (up2 (up2 (up2 (up2 (up2 (up2 a (1 + 6) 0 r1o0) (1 + 6) 1 w26_a_1_6_1) (1 + 6) 2 r1o2) (1 + 6) 3 r1o3) (1 + 6) 4 r1o4) (1 + 6) 5 r1o5) (1 + 6) 6 r1o6) (1 + 6) 7 r1o7) (1 + 6) 8 r1o8) (up2 (up2 z (1 + 6) 10 r14h3) (1 + 6) 11 r14h4) r10o0 pg t 1 (by decide) (toN r6) (cwl t r1o9 (td (toN r6)) (fun s => toN (w26_a_1_6_1 (9 * (toN r6) + s))) r13 (toN r8) (toN r10)) (cws t r1o9 (td (toN r6)) (fun s => toN (w26_a_1_6_1 (9 * (toN r6) + s))) r13 (toN r8) (toN r10)) (by omega) (by omega) (by omega) ((show (up2 (up2 (up2 y (1 + 6) 12 r14h0) (1 + 6) 13 r14h1) (1 + 6) 14 r14h2) (1 + 6) 12 = r14h0 from by simp [up2]).trans (hr14_0 hwd).1) (by intro k hk; rw [show (up2 (up2 z (1 + 6) 10 r14h3) (1 + 6) 11 r14h4) (1 + 6) 11 = r14h4 from by simp [up2]]; exact (hr14_0 hwd).2.2.2 k hk) hwl.2) (lw_V q859 q860 q861 q96 q862) 1 hdX1_takeS rfl rfl ⟨Nat.le_of_ble_eq_true rfl, Nat.le_of_ble_eq_true rfl⟩ (x_preV1 (by decide) hK hH) rfl hl.1 rfl (Nat.le_of_ble_eq_true rfl) dX0_yearsTold_91 ⟨Nat.le_of_ble_eq_true rfl, Nat.le_of_ble_eq_true rfl⟩ hS (fun ur16 H locs hqr16 hH hS => ?_)
            obtain ⟨r16o0, hr16, rfl⟩ := hqr16
            have e_r16o0 : r16o0 = fX1_takeS w26_a_1_6_1 (toN r6) (cwl t r1o9 (td (toN r6)) (fun s => toN (w26_a_1_6_1 (9 * (toN r6) + s))) r13 (toN r8) (toN r10)) (cws t r1o9 (td (toN r6)) (fun s => toN (w26_a_1_6_1 (9 * (toN r6) + s))) r13 (toN r8) (toN r10)) := hr16.trans (by simp [up2])
            have hH : xH ω (up2 g (1 + 6) 9 r1o9, up2 (up2 (up2 y (1 + 6) 12 r14h0) (1 + 6) 13 r14h1) (1 + 6) 14 r14h2, up2 (up2 (up2 (up2 (up2 (up2 (up2 (up2 (up2 a (1 + 6) 0 r1o0) (1 + 6) 1 r16o0) (1 + 6) 2 r1o2) (1 + 6) 3 r1o3) (1 + 6) 4 r1o4) (1 + 6) 5 r1o5) (1 + 6) 6 r1o6) (1 + 6) 7 r1o7) (1 + 6) 8 r1o8, up2 (up2 z (1 + 6) 10 r14h3) (1 + 6) 11 r14h4, r10o0, pg, t) H := x_ext (fun _ _ => rfl) (fun _ _ => rfl) (by intro o k; by_cases h0 : o = (1 + 6) ∧ k = 1; (obtain ⟨rfl, rfl⟩ := h0; simp [up2]); simp only [up2, if_neg h0]) (fun _ _ => rfl) hH
            refine lv_iinc (v := x26_4 + 1) (lv' := [(4, .int (x26_4 + 1)), (9, .int (nI (toN r10))), (8, .int (nI (toN r8))), (7, .int (nI (toN r6))), (6, .int (nI i26)), (5, .int x26_5), (0, .ref (ω.2.1 0 99)), (1, .int (nI many)), (3, .int wh)]) hF.1 hF.2.1 dX0_yearsTold_94 hl (k := 5) rfl (by rfl) (by decide) rfl (fun ls hl => ?_)
            refine lv_iload hF.1 hF.2.1 dX0_yearsTold_97 (lv_at hl 5 rfl) ?_
            refine lv_aload_n hF.1 hF.2.1 dX0_yearsTold_99 rfl (lv_at hl 6 rfl) ?_
            refine xg0_4 hF hK hH q222 dX0_yearsTold_100 ?_
            refine xgN_q179 (j := 1) (by decide) hF hK hH dX0_yearsTold_103 (v := r14h1) (by simp [up2]) ?_
            refine n_top (y := nI ((cds t r1o9 (td (toN r6)) (fun s => toN (w26_a_1_6_1 (9 * (toN r6) + s))) r13 (toN r10) (toN r8)) / 1000)) ((hr14_0 hwd).2.1) ?_
            refine lv_iadd hF.1 hF.2.1 dX0_yearsTold_106 ?_
            refine lv_istore (lv' := [(5, .int (x26_5 + (nI ((cds t r1o9 (td (toN r6)) (fun s => toN (w26_a_1_6_1 (9 * (toN r6) + s))) r13 (toN r10) (toN r8)) / 1000)))), (4, .int (x26_4 + 1)), (9, .int (nI (toN r10))), (8, .int (nI (toN r8))), (7, .int (nI (toN r6))), (6, .int (nI i26)), (0, .ref (ω.2.1 0 99)), (1, .int (nI many)), (3, .int wh)]) hF.1 hF.2.1 dX0_yearsTold_107 hl (by decide) rfl (fun ls hl => ?_)
            refine n_iinc (lv' := [(6, .int (nI (i26 + 1))), (5, .int (x26_5 + (nI ((cds t r1o9 (td (toN r6)) (fun s => toN (w26_a_1_6_1 (9 * (toN r6) + s))) r13 (toN r10) (toN r8)) / 1000)))), (4, .int (x26_4 + 1)), (9, .int (nI (toN r10))), (8, .int (nI (toN r8))), (7, .int (nI (toN r6))), (0, .ref (ω.2.1 0 99)), (1, .int (nI many)), (3, .int wh)]) hF.1 hF.2.1 dX0_yearsTold_109 hl (k := 5) rfl (by decide) rfl (fun ls hl => ?_)
            refine lv_goto (tgt := 26) hF.1 hF.2.1 dX0_yearsTold_112 (by decide) ?_
            exact ih (i26 + 1) _ _ _ _ _ _ _ _ _ _ _ _ (by omega) (by subst e_r16o0; subst e_r14; subst e_r13; subst e_r10o0; subst e_r10; subst e_r8o0; subst e_r8; subst e_r6o0; subst e_r6; rw [it_succ (fX0_yearsTold_b26 g t td r1o9) i26 _, ← hS26]; unfold fX0_yearsTold_b26; dsimp only; first | (rw [if_neg c12, if_neg c15]; done) | (simp only [if_neg c12, if_neg c15])) hH hS (lv_sub hl [0, 1, 2, 6, 7, 8] rfl)
  have hH : xH ω (up2 g (1 + 6) 9 r1o9, up2 (up2 (up2 y (1 + 6) 12 (y (1 + 6) 12)) (1 + 6) 13 (y (1 + 6) 13)) (1 + 6) 14 (y (1 + 6) 14), up2 (up2 (up2 (up2 (up2 (up2 (up2 (up2 (up2 a (1 + 6) 0 r1o0) (1 + 6) 1 r1o1) (1 + 6) 2 r1o2) (1 + 6) 3 r1o3) (1 + 6) 4 r1o4) (1 + 6) 5 r1o5) (1 + 6) 6 r1o6) (1 + 6) 7 r1o7) (1 + 6) 8 r1o8, up2 (up2 z (1 + 6) 10 (z (1 + 6) 10)) (1 + 6) 11 (z (1 + 6) 11), seed.toInt64, pg, t) H := x_ext (fun _ _ => rfl) (by intro o k; by_cases h0 : o = (1 + 6) ∧ k = 12; (obtain ⟨rfl, rfl⟩ := h0; simp [up2]); by_cases h1 : o = (1 + 6) ∧ k = 13; (obtain ⟨rfl, rfl⟩ := h1; simp [up2]); by_cases h2 : o = (1 + 6) ∧ k = 14; (obtain ⟨rfl, rfl⟩ := h2; simp [up2]); simp only [up2, if_neg h0, if_neg h1, if_neg h2]) (fun _ _ => rfl) (by intro o k; by_cases h0 : o = (1 + 6) ∧ k = 10; (obtain ⟨rfl, rfl⟩ := h0; simp [up2]); by_cases h1 : o = (1 + 6) ∧ k = 11; (obtain ⟨rfl, rfl⟩ := h1; simp [up2]); simp only [up2, if_neg h0, if_neg h1]) hH
  exact lp26_111 many 0 _ _ _ _ _ _ _ _ _ _ _ _ (by omega) rfl hH hS (lv_sub hl [0, 1, 2, 3, 4, 6] rfl)

def fX0_years (g : Nat → Nat → Nat) (a : Nat → Nat → Nat → Int32) (dr : Int64) (t : TW) (td : Nat → Nat) (times : Int32) (seed : Int32) (wh : Int32) : Int32 × (Nat → Int32) × (Nat → Int32) × (Nat → Int32) × (Nat → Int32) × (Nat → Int32) × (Nat → Int32) × (Nat → Int32) × (Nat → Int32) × (Nat → Int32) × Int64 × Nat := if (fX0_in times (nI 1) (nI 40)) = 0 then ((-102), a (1 + 6) 0, a (1 + 6) 1, a (1 + 6) 2, a (1 + 6) 3, a (1 + 6) 4, a (1 + 6) 5, a (1 + 6) 6, a (1 + 6) 7, a (1 + 6) 8, dr, g (1 + 6) 9) else if seed < 0 then ((-102), a (1 + 6) 0, a (1 + 6) 1, a (1 + 6) 2, a (1 + 6) 3, a (1 + 6) 4, a (1 + 6) 5, a (1 + 6) 6, a (1 + 6) 7, a (1 + 6) 8, dr, g (1 + 6) 9) else if (fX0_in wh (nI 0) (nI 2)) = 0 then ((-102), a (1 + 6) 0, a (1 + 6) 1, a (1 + 6) 2, a (1 + 6) 3, a (1 + 6) 4, a (1 + 6) 5, a (1 + 6) 6, a (1 + 6) 7, a (1 + 6) 8, dr, g (1 + 6) 9) else if (fX0_isTown g) = 0 then ((-103), a (1 + 6) 0, a (1 + 6) 1, a (1 + 6) 2, a (1 + 6) 3, a (1 + 6) 4, a (1 + 6) 5, a (1 + 6) 6, a (1 + 6) 7, a (1 + 6) 8, dr, g (1 + 6) 9) else (((fX0_yearsTold g a t td (toN times) seed wh).1), ((fX0_yearsTold g a t td (toN times) seed wh).2.1), ((fX0_yearsTold g a t td (toN times) seed wh).2.2.1), ((fX0_yearsTold g a t td (toN times) seed wh).2.2.2.1), ((fX0_yearsTold g a t td (toN times) seed wh).2.2.2.2.1), ((fX0_yearsTold g a t td (toN times) seed wh).2.2.2.2.2.1), ((fX0_yearsTold g a t td (toN times) seed wh).2.2.2.2.2.2.1), ((fX0_yearsTold g a t td (toN times) seed wh).2.2.2.2.2.2.2.1), ((fX0_yearsTold g a t td (toN times) seed wh).2.2.2.2.2.2.2.2.1), ((fX0_yearsTold g a t td (toN times) seed wh).2.2.2.2.2.2.2.2.2.1), ((fX0_yearsTold g a t td (toN times) seed wh).2.2.2.2.2.2.2.2.2.2.1), ((fX0_yearsTold g a t td (toN times) seed wh).2.2.2.2.2.2.2.2.2.2.2))
def rmX0_years : Room := { frames := 9, cells := 0, slots := 0, locals := 219 }
theorem hdX0_years : yX0_years.cls = RX0 ∧ yX0_years.cls ≠ "java/lang/invoke/MethodHandle" ∧ yX0_years.cls ≠ "java/lang/invoke/VarHandle" ∧ (parseMethodDescriptor yX0_years.desc).map (fun d => d.parameters.length) = some 3 := by decide +kernel
set_option maxHeartbeats 4000000 in
theorem kX0_years (l : Launch) (ω : OM) (g : Nat → Nat → Nat) (y : Nat → Nat → Int32) (a z : Nat → Nat → Nat → Int32) (dr : Int64) (pg : Nat → Int32) (t : TW) (td : Nat → Nat) (of : Nat → Nat → Nat) (hc : xCore g a t 0 td of) (times : Int32) (seed : Int32) (wh : Int32) (hb : ofLe t (a (0 + 6) 1) 600) (hsd : xSide g a) : Met l yX0_years (ws_ yX0_years cX0_years 4 (some .int)) rmX0_years (va_Pc [.ref (ω.2.1 0 99), .int times, .int seed, .int wh] (fun U => xK ω U ∧ xH ω (g, y, a, z, dr, pg, t) U.heap)) (va_Qi (fun (r : Int32) (u : XS) => ∃ (o0 : Nat → Int32) (o1 : Nat → Int32) (o2 : Nat → Int32) (o3 : Nat → Int32) (o4 : Nat → Int32) (o5 : Nat → Int32) (o6 : Nat → Int32) (o7 : Nat → Int32) (o8 : Nat → Int32) (o9 : Int64) (o10 : Nat) (q0 : Int32) (q1 : Int32) (q2 : Int32) (q3 : Nat → Int32) (q4 : Nat → Int32), (r, o0, o1, o2, o3, o4, o5, o6, o7, o8, o9, o10) = (fX0_years g a dr t td times seed wh) ∧ u = (up2 g (1 + 6) 9 o10, up2 (up2 (up2 y (1 + 6) 12 q0) (1 + 6) 13 q1) (1 + 6) 14 q2, up2 (up2 (up2 (up2 (up2 (up2 (up2 (up2 (up2 a (1 + 6) 0 o0) (1 + 6) 1 o1) (1 + 6) 2 o2) (1 + 6) 3 o3) (1 + 6) 4 o4) (1 + 6) 5 o5) (1 + 6) 6 o6) (1 + 6) 7 o7) (1 + 6) 8 o8, up2 (up2 z (1 + 6) 10 q3) (1 + 6) 11 q4, o9, pg, t)) (fun u t => xH ω u t.heap) ω.2.2.1) 0 0 ω.2.2.1 := by
  refine g_entWi (C := RX0) rfl (by decide) (Nat.le_of_ble_eq_true rfl) ?_
  intro p e s m args below meth c QQ ls H locs hF hK hH hS hl hret
  have hl : lv_has ls 4 [(0, .ref (ω.2.1 0 99)), (1, .int times), (2, .int seed), (3, .int wh)] := hl
  have hn9 : tn t ≤ 9 := hH.2.2.1
  have hok := hc.ok
  have hp3 := hsd.1
  have hs6 := hsd.2.1
  have hp50 := hsd.2.2.1
  refine lv_iload_n hF.1 hF.2.1 dX0_years_0 rfl (lv_at hl 1 rfl) ?_
  refine lv_iconst (v := nI 1) hF.1 hF.2.1 dX0_years_1 (by decide) ?_
  refine lv_bipush (v := nI 40) hF.1 hF.2.1 dX0_years_2 (by decide) ?_
  refine g_sPi (As := [.int times, .int (nI 1), .int (nI 40)]) (rest := []) hF (kX0_in l times (nI 1) (nI 40)) (lw_S q301 q302 q92 q303) 3 hdX0_in.2 rfl rfl ⟨Nat.le_of_ble_eq_true rfl, Nat.le_of_ble_eq_true rfl⟩ g_pre0 rfl hl.1 rfl (Nat.le_of_ble_eq_true rfl) dX0_years_4 ⟨Nat.zero_le _, Nat.zero_le _⟩ (fun r1 e_r1 => ?_)
  refine lv_if_eq (tgt := 23) hF.1 hF.2.1 dX0_years_7 (by decide) (fun c2 => ?_) (fun c2 => ?_)
  · skip
    refine lv_bipush (v := (-102)) hF.1 hF.2.1 dX0_years_23 (by decide) ?_
    have hH : xH ω (up2 g (1 + 6) 9 (g (1 + 6) 9), up2 (up2 (up2 y (1 + 6) 12 (y (1 + 6) 12)) (1 + 6) 13 (y (1 + 6) 13)) (1 + 6) 14 (y (1 + 6) 14), up2 (up2 (up2 (up2 (up2 (up2 (up2 (up2 (up2 a (1 + 6) 0 (a (1 + 6) 0)) (1 + 6) 1 (a (1 + 6) 1)) (1 + 6) 2 (a (1 + 6) 2)) (1 + 6) 3 (a (1 + 6) 3)) (1 + 6) 4 (a (1 + 6) 4)) (1 + 6) 5 (a (1 + 6) 5)) (1 + 6) 6 (a (1 + 6) 6)) (1 + 6) 7 (a (1 + 6) 7)) (1 + 6) 8 (a (1 + 6) 8), up2 (up2 z (1 + 6) 10 (z (1 + 6) 10)) (1 + 6) 11 (z (1 + 6) 11), dr, pg, t) H := x_ext (by intro o k; by_cases h0 : o = (1 + 6) ∧ k = 9; (obtain ⟨rfl, rfl⟩ := h0; simp [up2]); simp only [up2, if_neg h0]) (by intro o k; by_cases h0 : o = (1 + 6) ∧ k = 12; (obtain ⟨rfl, rfl⟩ := h0; simp [up2]); by_cases h1 : o = (1 + 6) ∧ k = 13; (obtain ⟨rfl, rfl⟩ := h1; simp [up2]); by_cases h2 : o = (1 + 6) ∧ k = 14; (obtain ⟨rfl, rfl⟩ := h2; simp [up2]); simp only [up2, if_neg h0, if_neg h1, if_neg h2]) (by intro o k; by_cases h0 : o = (1 + 6) ∧ k = 0; (obtain ⟨rfl, rfl⟩ := h0; simp [up2]); by_cases h1 : o = (1 + 6) ∧ k = 1; (obtain ⟨rfl, rfl⟩ := h1; simp [up2]); by_cases h2 : o = (1 + 6) ∧ k = 2; (obtain ⟨rfl, rfl⟩ := h2; simp [up2]); by_cases h3 : o = (1 + 6) ∧ k = 3; (obtain ⟨rfl, rfl⟩ := h3; simp [up2]); by_cases h4 : o = (1 + 6) ∧ k = 4; (obtain ⟨rfl, rfl⟩ := h4; simp [up2]); by_cases h5 : o = (1 + 6) ∧ k = 5; (obtain ⟨rfl, rfl⟩ := h5; simp [up2]); by_cases h6 : o = (1 + 6) ∧ k = 6; (obtain ⟨rfl, rfl⟩ := h6; simp [up2]); by_cases h7 : o = (1 + 6) ∧ k = 7; (obtain ⟨rfl, rfl⟩ := h7; simp [up2]); by_cases h8 : o = (1 + 6) ∧ k = 8; (obtain ⟨rfl, rfl⟩ := h8; simp [up2]); simp only [up2, if_neg h0, if_neg h1, if_neg h2, if_neg h3, if_neg h4, if_neg h5, if_neg h6, if_neg h7, if_neg h8]) (by intro o k; by_cases h0 : o = (1 + 6) ∧ k = 10; (obtain ⟨rfl, rfl⟩ := h0; simp [up2]); by_cases h1 : o = (1 + 6) ∧ k = 11; (obtain ⟨rfl, rfl⟩ := h1; simp [up2]); simp only [up2, if_neg h0, if_neg h1]) hH
    exact hret _ _ _ _ _ _ dX0_years_25 ⟨_, _, _, _, _, _, _, _, _, _, _, _, _, _, _, _, by subst e_r1; unfold fX0_years; first | (rw [if_pos c2]; done) | (simp only [if_pos c2]), rfl⟩ hH hS
  · skip
    refine lv_iload_n hF.1 hF.2.1 dX0_years_10 rfl (lv_at hl 2 rfl) ?_
    refine lv_if_lt (tgt := 23) hF.1 hF.2.1 dX0_years_11 (by decide) (fun c3 => ?_) (fun c3 => ?_)
    · skip
      refine lv_bipush (v := (-102)) hF.1 hF.2.1 dX0_years_23 (by decide) ?_
      have hH : xH ω (up2 g (1 + 6) 9 (g (1 + 6) 9), up2 (up2 (up2 y (1 + 6) 12 (y (1 + 6) 12)) (1 + 6) 13 (y (1 + 6) 13)) (1 + 6) 14 (y (1 + 6) 14), up2 (up2 (up2 (up2 (up2 (up2 (up2 (up2 (up2 a (1 + 6) 0 (a (1 + 6) 0)) (1 + 6) 1 (a (1 + 6) 1)) (1 + 6) 2 (a (1 + 6) 2)) (1 + 6) 3 (a (1 + 6) 3)) (1 + 6) 4 (a (1 + 6) 4)) (1 + 6) 5 (a (1 + 6) 5)) (1 + 6) 6 (a (1 + 6) 6)) (1 + 6) 7 (a (1 + 6) 7)) (1 + 6) 8 (a (1 + 6) 8), up2 (up2 z (1 + 6) 10 (z (1 + 6) 10)) (1 + 6) 11 (z (1 + 6) 11), dr, pg, t) H := x_ext (by intro o k; by_cases h0 : o = (1 + 6) ∧ k = 9; (obtain ⟨rfl, rfl⟩ := h0; simp [up2]); simp only [up2, if_neg h0]) (by intro o k; by_cases h0 : o = (1 + 6) ∧ k = 12; (obtain ⟨rfl, rfl⟩ := h0; simp [up2]); by_cases h1 : o = (1 + 6) ∧ k = 13; (obtain ⟨rfl, rfl⟩ := h1; simp [up2]); by_cases h2 : o = (1 + 6) ∧ k = 14; (obtain ⟨rfl, rfl⟩ := h2; simp [up2]); simp only [up2, if_neg h0, if_neg h1, if_neg h2]) (by intro o k; by_cases h0 : o = (1 + 6) ∧ k = 0; (obtain ⟨rfl, rfl⟩ := h0; simp [up2]); by_cases h1 : o = (1 + 6) ∧ k = 1; (obtain ⟨rfl, rfl⟩ := h1; simp [up2]); by_cases h2 : o = (1 + 6) ∧ k = 2; (obtain ⟨rfl, rfl⟩ := h2; simp [up2]); by_cases h3 : o = (1 + 6) ∧ k = 3; (obtain ⟨rfl, rfl⟩ := h3; simp [up2]); by_cases h4 : o = (1 + 6) ∧ k = 4; (obtain ⟨rfl, rfl⟩ := h4; simp [up2]); by_cases h5 : o = (1 + 6) ∧ k = 5; (obtain ⟨rfl, rfl⟩ := h5; simp [up2]); by_cases h6 : o = (1 + 6) ∧ k = 6; (obtain ⟨rfl, rfl⟩ := h6; simp [up2]); by_cases h7 : o = (1 + 6) ∧ k = 7; (obtain ⟨rfl, rfl⟩ := h7; simp [up2]); by_cases h8 : o = (1 + 6) ∧ k = 8; (obtain ⟨rfl, rfl⟩ := h8; simp [up2]); simp only [up2, if_neg h0, if_neg h1, if_neg h2, if_neg h3, if_neg h4, if_neg h5, if_neg h6, if_neg h7, if_neg h8]) (by intro o k; by_cases h0 : o = (1 + 6) ∧ k = 10; (obtain ⟨rfl, rfl⟩ := h0; simp [up2]); by_cases h1 : o = (1 + 6) ∧ k = 11; (obtain ⟨rfl, rfl⟩ := h1; simp [up2]); simp only [up2, if_neg h0, if_neg h1]) hH
      exact hret _ _ _ _ _ _ dX0_years_25 ⟨_, _, _, _, _, _, _, _, _, _, _, _, _, _, _, _, by subst e_r1; unfold fX0_years; first | (rw [if_neg c2, if_pos c3]; done) | (simp only [if_neg c2, if_pos c3]), rfl⟩ hH hS
    · skip
      refine lv_iload_n hF.1 hF.2.1 dX0_years_14 rfl (lv_at hl 3 rfl) ?_
      refine lv_iconst (v := nI 0) hF.1 hF.2.1 dX0_years_15 (by decide) ?_
      refine lv_iconst (v := nI 2) hF.1 hF.2.1 dX0_years_16 (by decide) ?_
      refine g_sPi (As := [.int wh, .int (nI 0), .int (nI 2)]) (rest := []) hF (kX0_in l wh (nI 0) (nI 2)) (lw_S q301 q302 q92 q303) 3 hdX0_in.2 rfl rfl ⟨Nat.le_of_ble_eq_true rfl, Nat.le_of_ble_eq_true rfl⟩ g_pre0 rfl hl.1 rfl (Nat.le_of_ble_eq_true rfl) dX0_years_17 ⟨Nat.zero_le _, Nat.zero_le _⟩ (fun r4 e_r4 => ?_)
      refine lv_if_ne (tgt := 26) hF.1 hF.2.1 dX0_years_20 (by decide) (fun c5 => ?_) (fun c5 => ?_)
      · skip
        refine lv_aload_n hF.1 hF.2.1 dX0_years_26 rfl (lv_at hl 0 rfl) ?_
        refine g_vPi (As := []) (rest := []) hF (kX0_isTown l ω g y a z dr pg t (by omega)) (lw_V q752 q754 qs21 q92 q755) 0 hdX0_isTown rfl rfl ⟨Nat.le_of_ble_eq_true rfl, Nat.le_of_ble_eq_true rfl⟩ (x_preV0 hK hH) rfl hl.1 rfl (Nat.le_of_ble_eq_true rfl) dX0_years_27 ⟨Nat.zero_le _, Nat.zero_le _⟩ (fun r6 e_r6 => ?_)
        refine lv_if_eq (tgt := 43) hF.1 hF.2.1 dX0_years_30 (by decide) (fun c7 => ?_) (fun c7 => ?_)
        · skip
          refine lv_bipush (v := (-103)) hF.1 hF.2.1 dX0_years_43 (by decide) ?_
          have hH : xH ω (up2 g (1 + 6) 9 (g (1 + 6) 9), up2 (up2 (up2 y (1 + 6) 12 (y (1 + 6) 12)) (1 + 6) 13 (y (1 + 6) 13)) (1 + 6) 14 (y (1 + 6) 14), up2 (up2 (up2 (up2 (up2 (up2 (up2 (up2 (up2 a (1 + 6) 0 (a (1 + 6) 0)) (1 + 6) 1 (a (1 + 6) 1)) (1 + 6) 2 (a (1 + 6) 2)) (1 + 6) 3 (a (1 + 6) 3)) (1 + 6) 4 (a (1 + 6) 4)) (1 + 6) 5 (a (1 + 6) 5)) (1 + 6) 6 (a (1 + 6) 6)) (1 + 6) 7 (a (1 + 6) 7)) (1 + 6) 8 (a (1 + 6) 8), up2 (up2 z (1 + 6) 10 (z (1 + 6) 10)) (1 + 6) 11 (z (1 + 6) 11), dr, pg, t) H := x_ext (by intro o k; by_cases h0 : o = (1 + 6) ∧ k = 9; (obtain ⟨rfl, rfl⟩ := h0; simp [up2]); simp only [up2, if_neg h0]) (by intro o k; by_cases h0 : o = (1 + 6) ∧ k = 12; (obtain ⟨rfl, rfl⟩ := h0; simp [up2]); by_cases h1 : o = (1 + 6) ∧ k = 13; (obtain ⟨rfl, rfl⟩ := h1; simp [up2]); by_cases h2 : o = (1 + 6) ∧ k = 14; (obtain ⟨rfl, rfl⟩ := h2; simp [up2]); simp only [up2, if_neg h0, if_neg h1, if_neg h2]) (by intro o k; by_cases h0 : o = (1 + 6) ∧ k = 0; (obtain ⟨rfl, rfl⟩ := h0; simp [up2]); by_cases h1 : o = (1 + 6) ∧ k = 1; (obtain ⟨rfl, rfl⟩ := h1; simp [up2]); by_cases h2 : o = (1 + 6) ∧ k = 2; (obtain ⟨rfl, rfl⟩ := h2; simp [up2]); by_cases h3 : o = (1 + 6) ∧ k = 3; (obtain ⟨rfl, rfl⟩ := h3; simp [up2]); by_cases h4 : o = (1 + 6) ∧ k = 4; (obtain ⟨rfl, rfl⟩ := h4; simp [up2]); by_cases h5 : o = (1 + 6) ∧ k = 5; (obtain ⟨rfl, rfl⟩ := h5; simp [up2]); by_cases h6 : o = (1 + 6) ∧ k = 6; (obtain ⟨rfl, rfl⟩ := h6; simp [up2]); by_cases h7 : o = (1 + 6) ∧ k = 7; (obtain ⟨rfl, rfl⟩ := h7; simp [up2]); by_cases h8 : o = (1 + 6) ∧ k = 8; (obtain ⟨rfl, rfl⟩ := h8; simp [up2]); simp only [up2, if_neg h0, if_neg h1, if_neg h2, if_neg h3, if_neg h4, if_neg h5, if_neg h6, if_neg h7, if_neg h8]) (by intro o k; by_cases h0 : o = (1 + 6) ∧ k = 10; (obtain ⟨rfl, rfl⟩ := h0; simp [up2]); by_cases h1 : o = (1 + 6) ∧ k = 11; (obtain ⟨rfl, rfl⟩ := h1; simp [up2]); simp only [up2, if_neg h0, if_neg h1]) hH
          exact hret _ _ _ _ _ _ dX0_years_45 ⟨_, _, _, _, _, _, _, _, _, _, _, _, _, _, _, _, by subst e_r6; subst e_r4; subst e_r1; unfold fX0_years; first | (rw [if_neg c2, if_neg c3, if_neg c5, if_pos c7]; done) | (simp only [if_neg c2, if_neg c3, if_neg c5, if_pos c7]), rfl⟩ hH hS
        · skip
          have hg1 := fX0_isTown_yes (by rw [← e_r6]; exact c7)
          obtain ⟨b8e, b8l⟩ := g_lift (r := times) (n := 41) (in32_lift2 (m := 1) (k := 40) rfl (by omega) (by omega) (by rw [← e_r1]; exact c2)) (by omega)
          refine lv_aload_n hF.1 hF.2.1 dX0_years_33 rfl (lv_at hl 0 rfl) ?_
          refine lv_iload_n hF.1 hF.2.1 dX0_years_34 rfl (lv_at hl 1 rfl) ?_
          refine n_top b8e ?_
          refine lv_iload_n hF.1 hF.2.1 dX0_years_35 rfl (lv_at hl 2 rfl) ?_
          refine lv_iload_n hF.1 hF.2.1 dX0_years_36 rfl (lv_at hl 3 rfl) ?_
          refine g_vWi (As := [.int (nI (toN times)), .int seed, .int wh]) (rest := []) hF (kX0_yearsTold l ω g y a z dr pg t td of hc (toN times) seed wh (by omega) (by omega) hb hsd) (lw_V q908 q910 qs40 q92 q911) 3 hdX0_yearsTold rfl rfl ⟨Nat.le_of_ble_eq_true rfl, Nat.le_of_ble_eq_true rfl⟩ (x_preV0 hK hH) rfl hl.1 rfl (Nat.le_of_ble_eq_true rfl) dX0_years_37 ⟨Nat.le_of_ble_eq_true rfl, Nat.le_of_ble_eq_true rfl⟩ hS (fun r9 ur9 H locs hqr9 hH hS => ?_)
          obtain ⟨r9o0, r9o1, r9o2, r9o3, r9o4, r9o5, r9o6, r9o7, r9o8, r9o9, r9o10, r9h0, r9h1, r9h2, r9h3, r9h4, hr9, rfl⟩ := hqr9
          have e_r9 : r9 = (fX0_yearsTold g a t td (toN times) seed wh).1 := by rw [← hr9]
          have e_r9o0 : r9o0 = (fX0_yearsTold g a t td (toN times) seed wh).2.1 := by rw [← hr9]
          have e_r9o1 : r9o1 = (fX0_yearsTold g a t td (toN times) seed wh).2.2.1 := by rw [← hr9]
          have e_r9o2 : r9o2 = (fX0_yearsTold g a t td (toN times) seed wh).2.2.2.1 := by rw [← hr9]
          have e_r9o3 : r9o3 = (fX0_yearsTold g a t td (toN times) seed wh).2.2.2.2.1 := by rw [← hr9]
          have e_r9o4 : r9o4 = (fX0_yearsTold g a t td (toN times) seed wh).2.2.2.2.2.1 := by rw [← hr9]
          have e_r9o5 : r9o5 = (fX0_yearsTold g a t td (toN times) seed wh).2.2.2.2.2.2.1 := by rw [← hr9]
          have e_r9o6 : r9o6 = (fX0_yearsTold g a t td (toN times) seed wh).2.2.2.2.2.2.2.1 := by rw [← hr9]
          have e_r9o7 : r9o7 = (fX0_yearsTold g a t td (toN times) seed wh).2.2.2.2.2.2.2.2.1 := by rw [← hr9]
          have e_r9o8 : r9o8 = (fX0_yearsTold g a t td (toN times) seed wh).2.2.2.2.2.2.2.2.2.1 := by rw [← hr9]
          have e_r9o9 : r9o9 = (fX0_yearsTold g a t td (toN times) seed wh).2.2.2.2.2.2.2.2.2.2.1 := by rw [← hr9]
          have e_r9o10 : r9o10 = (fX0_yearsTold g a t td (toN times) seed wh).2.2.2.2.2.2.2.2.2.2.2 := by rw [← hr9]
          refine lv_goto (tgt := 45) hF.1 hF.2.1 dX0_years_40 (by decide) ?_
          exact hret _ _ _ _ _ _ dX0_years_45 ⟨_, _, _, _, _, _, _, _, _, _, _, _, _, _, _, _, by subst e_r9o10; subst e_r9o9; subst e_r9o8; subst e_r9o7; subst e_r9o6; subst e_r9o5; subst e_r9o4; subst e_r9o3; subst e_r9o2; subst e_r9o1; subst e_r9o0; subst e_r9; subst e_r6; subst e_r4; subst e_r1; unfold fX0_years; first | (rw [if_neg c2, if_neg c3, if_neg c5, if_neg c7]; done) | (simp only [if_neg c2, if_neg c3, if_neg c5, if_neg c7]), rfl⟩ hH hS
      · skip
        refine lv_bipush (v := (-102)) hF.1 hF.2.1 dX0_years_23 (by decide) ?_
        have hH : xH ω (up2 g (1 + 6) 9 (g (1 + 6) 9), up2 (up2 (up2 y (1 + 6) 12 (y (1 + 6) 12)) (1 + 6) 13 (y (1 + 6) 13)) (1 + 6) 14 (y (1 + 6) 14), up2 (up2 (up2 (up2 (up2 (up2 (up2 (up2 (up2 a (1 + 6) 0 (a (1 + 6) 0)) (1 + 6) 1 (a (1 + 6) 1)) (1 + 6) 2 (a (1 + 6) 2)) (1 + 6) 3 (a (1 + 6) 3)) (1 + 6) 4 (a (1 + 6) 4)) (1 + 6) 5 (a (1 + 6) 5)) (1 + 6) 6 (a (1 + 6) 6)) (1 + 6) 7 (a (1 + 6) 7)) (1 + 6) 8 (a (1 + 6) 8), up2 (up2 z (1 + 6) 10 (z (1 + 6) 10)) (1 + 6) 11 (z (1 + 6) 11), dr, pg, t) H := x_ext (by intro o k; by_cases h0 : o = (1 + 6) ∧ k = 9; (obtain ⟨rfl, rfl⟩ := h0; simp [up2]); simp only [up2, if_neg h0]) (by intro o k; by_cases h0 : o = (1 + 6) ∧ k = 12; (obtain ⟨rfl, rfl⟩ := h0; simp [up2]); by_cases h1 : o = (1 + 6) ∧ k = 13; (obtain ⟨rfl, rfl⟩ := h1; simp [up2]); by_cases h2 : o = (1 + 6) ∧ k = 14; (obtain ⟨rfl, rfl⟩ := h2; simp [up2]); simp only [up2, if_neg h0, if_neg h1, if_neg h2]) (by intro o k; by_cases h0 : o = (1 + 6) ∧ k = 0; (obtain ⟨rfl, rfl⟩ := h0; simp [up2]); by_cases h1 : o = (1 + 6) ∧ k = 1; (obtain ⟨rfl, rfl⟩ := h1; simp [up2]); by_cases h2 : o = (1 + 6) ∧ k = 2; (obtain ⟨rfl, rfl⟩ := h2; simp [up2]); by_cases h3 : o = (1 + 6) ∧ k = 3; (obtain ⟨rfl, rfl⟩ := h3; simp [up2]); by_cases h4 : o = (1 + 6) ∧ k = 4; (obtain ⟨rfl, rfl⟩ := h4; simp [up2]); by_cases h5 : o = (1 + 6) ∧ k = 5; (obtain ⟨rfl, rfl⟩ := h5; simp [up2]); by_cases h6 : o = (1 + 6) ∧ k = 6; (obtain ⟨rfl, rfl⟩ := h6; simp [up2]); by_cases h7 : o = (1 + 6) ∧ k = 7; (obtain ⟨rfl, rfl⟩ := h7; simp [up2]); by_cases h8 : o = (1 + 6) ∧ k = 8; (obtain ⟨rfl, rfl⟩ := h8; simp [up2]); simp only [up2, if_neg h0, if_neg h1, if_neg h2, if_neg h3, if_neg h4, if_neg h5, if_neg h6, if_neg h7, if_neg h8]) (by intro o k; by_cases h0 : o = (1 + 6) ∧ k = 10; (obtain ⟨rfl, rfl⟩ := h0; simp [up2]); by_cases h1 : o = (1 + 6) ∧ k = 11; (obtain ⟨rfl, rfl⟩ := h1; simp [up2]); simp only [up2, if_neg h0, if_neg h1]) hH
        exact hret _ _ _ _ _ _ dX0_years_25 ⟨_, _, _, _, _, _, _, _, _, _, _, _, _, _, _, _, by subst e_r4; subst e_r1; unfold fX0_years; first | (rw [if_neg c2, if_neg c3, if_pos c5]; done) | (simp only [if_neg c2, if_neg c3, if_pos c5]), rfl⟩ hH hS

def fX0_mixedPerson_b86 (g : Nat → Nat → Nat) (t : TW) (td : Nat → Nat) (of : Nat → Nat → Nat) (pn : Nat) (i76 : Nat) (i86 : Nat) (S : Int64) : Int64 := (fX0_mixed S (fX0_wayTold g t td of pn 0 (i76 + 1) i86).toInt64)
def fX0_mixedPerson_b76 (g : Nat → Nat → Nat) (a : Nat → Nat → Nat → Int32) (t : TW) (td : Nat → Nat) (of : Nat → Nat → Nat) (pn : Nat) (i76 : Nat) (S : Int64) : Int64 := (fX0_mixed (fX0_mixed (it (fX0_mixedPerson_b86 g t td of pn i76) 3 S) (fX0_edgeTold g t td of pn 0 (i76 + 1) (nI 0)).toInt64) (fX0_railTold g a t pn (nI 0) (nI (i76 + 1))).toInt64)
def fX0_mixedPerson_b37 (g : Nat → Nat → Nat) (a : Nat → Nat → Nat → Int32) (t : TW) (pn : Nat) (i37 : Nat) (S : Int64) : Int64 := (fX0_mixed S (fX1_hurts g a t 0 pn i37).toInt64)
def fX0_mixedPerson_b6 (g : Nat → Nat → Nat) (a : Nat → Nat → Nat → Int32) (t : TW) (of : Nat → Nat → Nat) (pn : Nat) (i6 : Nat) (S : Int64) : Int64 := (fX0_mixed S (fX0_personTold g a t of pn (nI i6)).toInt64)
def fX0_mixedPerson (g : Nat → Nat → Nat) (a : Nat → Nat → Nat → Int32) (t : TW) (td : Nat → Nat) (of : Nat → Nat → Nat) (hh : Int64) (pn : Nat) : Int64 := (it (fX0_mixedPerson_b76 g a t td of pn) 7 (it (fX0_mixedPerson_b37 g a t pn) (tn t) (it (fX0_mixedPerson_b6 g a t of pn) 6 hh)))
def rmX0_mixedPerson : Room := { frames := 11, cells := 0, slots := 0, locals := 263 }
theorem hdX0_mixedPerson : yX0_mixedPerson.cls = RX0 ∧ yX0_mixedPerson.cls ≠ "java/lang/invoke/MethodHandle" ∧ yX0_mixedPerson.cls ≠ "java/lang/invoke/VarHandle" ∧ (parseMethodDescriptor yX0_mixedPerson.desc).map (fun d => d.parameters.length) = some 2 := by decide +kernel
set_option maxHeartbeats 4000000 in
theorem kX0_mixedPerson (l : Launch) (ω : OM) (g : Nat → Nat → Nat) (y : Nat → Nat → Int32) (a z : Nat → Nat → Nat → Int32) (dr : Int64) (pg : Nat → Int32) (t : TW) (td : Nat → Nat) (of : Nat → Nat → Nat) (hc : xCore g a t 0 td of) (hh : Int64) (pn : Nat) (hpn : pn < 3) (hsd : xSide g a) : Met l yX0_mixedPerson (ws_ yX0_mixedPerson cX0_mixedPerson 8 (some .long)) rmX0_mixedPerson (va_Pc [.ref (ω.2.1 0 99), .long hh, .int (nI pn)] (fun U => xK ω U ∧ xH ω (g, y, a, z, dr, pg, t) U.heap)) (va_Ql (fun (r : Int64) (u : XS) => ∃ (q0 : Int32) (q1 : Int32) (q2 : Int32) (q3 : Nat → Int32) (q4 : Nat → Int32) (q5 : Nat → Int32), r = (fX0_mixedPerson g a t td of hh pn) ∧ u = (g, up2 (up2 (up2 y (0 + 6) 12 q0) (0 + 6) 13 q1) (0 + 6) 14 q2, a, up2 (up2 (up2 z 0 8 q5) (0 + 6) 10 q3) (0 + 6) 11 q4, dr, pg, t)) (fun u t => xH ω u t.heap) ω.2.2.1) 0 0 ω.2.2.1 := by
  refine g_entWl (C := RX0) rfl (by decide) (Nat.le_of_ble_eq_true rfl) ?_
  intro p e s m args below meth c QQ ls H locs hF hK hH hS hl hret
  have hl : lv_has ls 8 [(0, .ref (ω.2.1 0 99)), (1, .long hh), (3, .int (nI pn))] := hl
  have hn9 : tn t ≤ 9 := hH.2.2.1
  have hok := hc.ok
  have hp3 := hsd.1
  have hs6 := hsd.2.1
  have hp50 := hsd.2.2.1
  refine lv_lload_n hF.1 hF.2.1 dX0_mixedPerson_0 rfl (lv_at hl 1 rfl) ?_
  refine lv_lstore (lv' := [(4, .long hh), (0, .ref (ω.2.1 0 99)), (1, .long hh), (3, .int (nI pn))]) hF.1 hF.2.1 dX0_mixedPerson_1 hl (by decide) rfl (fun ls hl => ?_)
  refine lv_iconst (v := nI 0) hF.1 hF.2.1 dX0_mixedPerson_3 (by decide) ?_
  refine lv_istore (lv' := [(6, .int (nI 0)), (4, .long hh), (0, .ref (ω.2.1 0 99)), (1, .long hh), (3, .int (nI pn))]) hF.1 hF.2.1 dX0_mixedPerson_4 hl (by decide) rfl (fun ls hl => ?_)
  have lp6_113 : ∀ (d6 i6 : Nat) (x6_4 : Int64) (h6_y_0_6_12 : Int32) (h6_y_0_6_13 : Int32) (h6_y_0_6_14 : Int32) (h6_z_0_6_10 : Nat → Int32) (h6_z_0_6_11 : Nat → Int32) (H : Heap) (locs : List Loc) (ls : Array Slot), i6 + d6 = 6 → x6_4 = it (fX0_mixedPerson_b6 g a t of pn) i6 hh → xH ω (g, up2 (up2 (up2 y (0 + 6) 12 h6_y_0_6_12) (0 + 6) 13 h6_y_0_6_13) (0 + 6) 14 h6_y_0_6_14, a, up2 (up2 z (0 + 6) 10 h6_z_0_6_10) (0 + 6) 11 h6_z_0_6_11, dr, pg, t) H → va_S ω.2.2.1 s.heap H locs → lv_has ls 8 [(6, .int (nI i6)), (4, .long x6_4), (0, .ref (ω.2.1 0 99)), (3, .int (nI pn))] → W p l e rmX0_mixedPerson s m args below meth c H locs 0 0 QQ (F0 m 6 ls []) := by
    intro d6
    induction d6 with
    | zero =>
      intro i6 x6_4 h6_y_0_6_12 h6_y_0_6_13 h6_y_0_6_14 h6_z_0_6_10 h6_z_0_6_11 H locs ls hi6 hS6 hH hS hl
      have hj6 : 6 = i6 := by omega
      subst hj6
      have e_x6_4 := hS6
      refine lv_iload hF.1 hF.2.1 dX0_mixedPerson_6 (lv_at hl 0 rfl) ?_
      refine lv_bipush (v := nI 6) hF.1 hF.2.1 dX0_mixedPerson_8 (by decide) ?_
      refine n_ge (tgt := 34) hF.1 hF.2.1 dX0_mixedPerson_10 (by decide) (by omega) (by omega) (fun c1 => ?_) (fun c1 => ?_)
      · skip
        refine lv_iconst (v := nI 0) hF.1 hF.2.1 dX0_mixedPerson_34 (by decide) ?_
        refine lv_istore (lv' := [(6, .int (nI 0)), (4, .long x6_4), (0, .ref (ω.2.1 0 99)), (3, .int (nI pn))]) hF.1 hF.2.1 dX0_mixedPerson_35 hl (by decide) rfl (fun ls hl => ?_)
        have lp37_115 : ∀ (d37 i37 : Nat) (x37_4 : Int64) (ls : Array Slot), i37 + d37 = tn t → x37_4 = it (fX0_mixedPerson_b37 g a t pn) i37 x6_4 → lv_has ls 8 [(6, .int (nI i37)), (4, .long x37_4), (0, .ref (ω.2.1 0 99)), (3, .int (nI pn))] → W p l e rmX0_mixedPerson s m args below meth c H locs 0 0 QQ (F0 m 37 ls []) := by
          intro d37
          induction d37 with
          | zero =>
            intro i37 x37_4 ls hi37 hS37 hl
            have hj37 : tn t = i37 := by omega
            subst hj37
            have e_x37_4 := hS37
            refine lv_iload hF.1 hF.2.1 dX0_mixedPerson_37 (lv_at hl 0 rfl) ?_
            refine lv_aload_n hF.1 hF.2.1 dX0_mixedPerson_39 rfl (lv_at hl 2 rfl) ?_
            refine xg0_0 hF hK hH q218 dX0_mixedPerson_40 ?_
            refine g_vPi (As := []) (rest := [.int (nI (tn t))]) hF (kJ2_size l ω g (up2 (up2 (up2 y (0 + 6) 12 h6_y_0_6_12) (0 + 6) 13 h6_y_0_6_13) (0 + 6) 14 h6_y_0_6_14) a (up2 (up2 z (0 + 6) 10 h6_z_0_6_10) (0 + 6) 11 h6_z_0_6_11) dr pg t) (lw_V q569 q554 q555 q95 q556) 0 hdJ2_size rfl rfl ⟨Nat.le_of_ble_eq_true rfl, Nat.le_of_ble_eq_true rfl⟩ (x_preVL hK hH) rfl hl.1 rfl (Nat.le_of_ble_eq_true rfl) dX0_mixedPerson_43 ⟨Nat.zero_le _, Nat.zero_le _⟩ (fun r2 e_r2 => ?_)
            subst e_r2
            refine n_top (y := nI (tn t)) rfl ?_
            refine n_ge (tgt := 73) hF.1 hF.2.1 dX0_mixedPerson_46 (by decide) (by omega) (by omega) (fun c3 => ?_) (fun c3 => ?_)
            · skip
              refine lv_iconst (v := nI 1) hF.1 hF.2.1 dX0_mixedPerson_73 (by decide) ?_
              refine lv_istore (lv' := [(6, .int (nI 1)), (4, .long x37_4), (0, .ref (ω.2.1 0 99)), (3, .int (nI pn))]) hF.1 hF.2.1 dX0_mixedPerson_74 hl (by decide) rfl (fun ls hl => ?_)
              have lp76_121 : ∀ (d76 i76 : Nat) (x76_4 : Int64) (h76_y_0_6_12 : Int32) (h76_y_0_6_13 : Int32) (h76_y_0_6_14 : Int32) (h76_z_0_6_10 : Nat → Int32) (h76_z_0_6_11 : Nat → Int32) (h76_z0_8 : Nat → Int32) (H : Heap) (locs : List Loc) (ls : Array Slot), i76 + d76 = 7 → x76_4 = it (fX0_mixedPerson_b76 g a t td of pn) i76 x37_4 → xH ω (g, up2 (up2 (up2 y (0 + 6) 12 h76_y_0_6_12) (0 + 6) 13 h76_y_0_6_13) (0 + 6) 14 h76_y_0_6_14, a, up2 (up2 (up2 z 0 8 h76_z0_8) (0 + 6) 10 h76_z_0_6_10) (0 + 6) 11 h76_z_0_6_11, dr, pg, t) H → va_S ω.2.2.1 s.heap H locs → lv_has ls 8 [(6, .int (nI (i76 + 1))), (4, .long x76_4), (0, .ref (ω.2.1 0 99)), (3, .int (nI pn))] → W p l e rmX0_mixedPerson s m args below meth c H locs 0 0 QQ (F0 m 76 ls []) := by
                intro d76
                induction d76 with
                | zero =>
                  intro i76 x76_4 h76_y_0_6_12 h76_y_0_6_13 h76_y_0_6_14 h76_z_0_6_10 h76_z_0_6_11 h76_z0_8 H locs ls hi76 hS76 hH hS hl
                  have hj76 : 7 = i76 := by omega
                  subst hj76
                  have e_x76_4 := hS76
                  refine lv_iload hF.1 hF.2.1 dX0_mixedPerson_76 (lv_at hl 0 rfl) ?_
                  refine lv_bipush (v := nI 8) hF.1 hF.2.1 dX0_mixedPerson_78 (by decide) ?_
                  refine n_ge (tgt := 151) hF.1 hF.2.1 dX0_mixedPerson_80 (by decide) (by omega) (by omega) (fun c4 => ?_) (fun c4 => ?_)
                  · skip
                    refine lv_lload hF.1 hF.2.1 dX0_mixedPerson_151 (lv_at hl 1 rfl) ?_
                    exact hret _ _ _ _ _ _ dX0_mixedPerson_153 ⟨_, _, _, _, _, _, by subst e_x76_4; subst e_x37_4; subst e_x6_4; rfl, rfl⟩ hH hS
                  · exact absurd (by omega) c4
                | succ d76 ih =>
                  intro i76 x76_4 h76_y_0_6_12 h76_y_0_6_13 h76_y_0_6_14 h76_z_0_6_10 h76_z_0_6_11 h76_z0_8 H locs ls hi76 hS76 hH hS hl
                  refine lv_iload hF.1 hF.2.1 dX0_mixedPerson_76 (lv_at hl 0 rfl) ?_
                  refine lv_bipush (v := nI 8) hF.1 hF.2.1 dX0_mixedPerson_78 (by decide) ?_
                  refine n_ge (tgt := 151) hF.1 hF.2.1 dX0_mixedPerson_80 (by decide) (by omega) (by omega) (fun c5 => ?_) (fun c5 => ?_)
                  · exact absurd c5 (by omega)
                  · skip
                    refine lv_iconst (v := nI 0) hF.1 hF.2.1 dX0_mixedPerson_83 (by decide) ?_
                    refine lv_istore (lv' := [(7, .int (nI 0)), (6, .int (nI (i76 + 1))), (4, .long x76_4), (0, .ref (ω.2.1 0 99)), (3, .int (nI pn))]) hF.1 hF.2.1 dX0_mixedPerson_84 hl (by decide) rfl (fun ls hl => ?_)
                    have lp86_123 : ∀ (d86 i86 : Nat) (x86_4 : Int64) (h86_y_0_6_12 : Int32) (h86_y_0_6_13 : Int32) (h86_y_0_6_14 : Int32) (h86_z_0_6_10 : Nat → Int32) (h86_z_0_6_11 : Nat → Int32) (H : Heap) (locs : List Loc) (ls : Array Slot), i86 + d86 = 3 → x86_4 = it (fX0_mixedPerson_b86 g t td of pn i76) i86 x76_4 → xH ω (g, up2 (up2 (up2 y (0 + 6) 12 h86_y_0_6_12) (0 + 6) 13 h86_y_0_6_13) (0 + 6) 14 h86_y_0_6_14, a, up2 (up2 (up2 z 0 8 h76_z0_8) (0 + 6) 10 h86_z_0_6_10) (0 + 6) 11 h86_z_0_6_11, dr, pg, t) H → va_S ω.2.2.1 s.heap H locs → lv_has ls 8 [(7, .int (nI i86)), (6, .int (nI (i76 + 1))), (4, .long x86_4), (0, .ref (ω.2.1 0 99)), (3, .int (nI pn))] → W p l e rmX0_mixedPerson s m args below meth c H locs 0 0 QQ (F0 m 86 ls []) := by
                      intro d86
                      induction d86 with
                      | zero =>
                        intro i86 x86_4 h86_y_0_6_12 h86_y_0_6_13 h86_y_0_6_14 h86_z_0_6_10 h86_z_0_6_11 H locs ls hi86 hS86 hH hS hl
                        have hj86 : 3 = i86 := by omega
                        subst hj86
                        have e_x86_4 := hS86
                        refine lv_iload hF.1 hF.2.1 dX0_mixedPerson_86 (lv_at hl 0 rfl) ?_
                        refine lv_iconst (v := nI 3) hF.1 hF.2.1 dX0_mixedPerson_88 (by decide) ?_
                        refine n_ge (tgt := 116) hF.1 hF.2.1 dX0_mixedPerson_89 (by decide) (by omega) (by omega) (fun c6 => ?_) (fun c6 => ?_)
                        · skip
                          refine lv_lload hF.1 hF.2.1 dX0_mixedPerson_116 (lv_at hl 2 rfl) ?_
                          refine lv_aload_n hF.1 hF.2.1 dX0_mixedPerson_118 rfl (lv_at hl 3 rfl) ?_
                          refine lv_iload_n hF.1 hF.2.1 dX0_mixedPerson_119 rfl (lv_at hl 4 rfl) ?_
                          refine lv_iconst (v := nI 0) hF.1 hF.2.1 dX0_mixedPerson_120 (by decide) ?_
                          refine lv_iload hF.1 hF.2.1 dX0_mixedPerson_121 (lv_at hl 1 rfl) ?_
                          refine lv_iconst (v := nI 0) hF.1 hF.2.1 dX0_mixedPerson_123 (by decide) ?_
                          refine g_vWi (As := [.int (nI pn), .int (nI 0), .int (nI (i76 + 1)), .int (nI 0)]) (rest := [.long x86_4]) hF (kX0_edgeTold l ω g (up2 (up2 (up2 y (0 + 6) 12 h86_y_0_6_12) (0 + 6) 13 h86_y_0_6_13) (0 + 6) 14 h86_y_0_6_14) a (up2 (up2 (up2 z 0 8 h76_z0_8) (0 + 6) 10 h86_z_0_6_10) (0 + 6) 11 h86_z_0_6_11) dr pg t td of hc pn 0 (i76 + 1) (nI 0) (by omega) (by omega) (by omega) hsd) (lw_V q793 q795 qs27 q92 q796) 4 hdX0_edgeTold rfl rfl ⟨Nat.le_of_ble_eq_true rfl, Nat.le_of_ble_eq_true rfl⟩ (x_preV0 hK hH) rfl hl.1 rfl (Nat.le_of_ble_eq_true rfl) dX0_mixedPerson_124 ⟨Nat.le_of_ble_eq_true rfl, Nat.le_of_ble_eq_true rfl⟩ hS (fun r7 ur7 H locs hqr7 hH hS => ?_)
                          obtain ⟨r7h0, hr7, rfl⟩ := hqr7
                          have e_r7 := hr7
                          have hH : xH ω (g, up2 (up2 (up2 y (0 + 6) 12 h86_y_0_6_12) (0 + 6) 13 h86_y_0_6_13) (0 + 6) 14 h86_y_0_6_14, a, up2 (up2 (up2 z 0 8 r7h0) (0 + 6) 10 h86_z_0_6_10) (0 + 6) 11 h86_z_0_6_11, dr, pg, t) H := x_ext (fun _ _ => rfl) (fun _ _ => rfl) (fun _ _ => rfl) (by intro o k; by_cases h0 : o = 0 ∧ k = 8; (obtain ⟨rfl, rfl⟩ := h0; simp [up2]); simp only [up2, if_neg h0]) hH
                          refine lv_i2l (v := r7.toInt64) hF.1 hF.2.1 dX0_mixedPerson_127 rfl ?_
                          refine g_sPl (As := [.long x86_4, .long r7.toInt64]) (rest := []) hF (kX0_mixed l x86_4 r7.toInt64) (lw_S q957 q958 q92 q959) 2 hdX0_mixed.2 rfl rfl ⟨Nat.le_of_ble_eq_true rfl, Nat.le_of_ble_eq_true rfl⟩ g_pre0 rfl hl.1 rfl (Nat.le_of_ble_eq_true rfl) dX0_mixedPerson_128 ⟨Nat.zero_le _, Nat.zero_le _⟩ (fun r8 e_r8 => ?_)
                          refine lv_aload_n hF.1 hF.2.1 dX0_mixedPerson_131 rfl (lv_at hl 3 rfl) ?_
                          refine lv_iload_n hF.1 hF.2.1 dX0_mixedPerson_132 rfl (lv_at hl 4 rfl) ?_
                          refine lv_iconst (v := nI 0) hF.1 hF.2.1 dX0_mixedPerson_133 (by decide) ?_
                          refine lv_iload hF.1 hF.2.1 dX0_mixedPerson_134 (lv_at hl 1 rfl) ?_
                          refine g_vPi (As := [.int (nI pn), .int (nI 0), .int (nI (i76 + 1))]) (rest := [.long r8]) hF (kX0_railTold l ω g (up2 (up2 (up2 y (0 + 6) 12 h86_y_0_6_12) (0 + 6) 13 h86_y_0_6_13) (0 + 6) 14 h86_y_0_6_14) a (up2 (up2 (up2 z 0 8 r7h0) (0 + 6) 10 h86_z_0_6_10) (0 + 6) 11 h86_z_0_6_11) dr pg t pn (nI 0) (nI (i76 + 1)) (by omega)) (lw_V q801 q803 qs28 q92 q804) 3 hdX0_railTold rfl rfl ⟨Nat.le_of_ble_eq_true rfl, Nat.le_of_ble_eq_true rfl⟩ (x_preV0 hK hH) rfl hl.1 rfl (Nat.le_of_ble_eq_true rfl) dX0_mixedPerson_136 ⟨Nat.zero_le _, Nat.zero_le _⟩ (fun r9 e_r9 => ?_)
                          refine lv_i2l (v := r9.toInt64) hF.1 hF.2.1 dX0_mixedPerson_139 rfl ?_
                          refine g_sPl (As := [.long r8, .long r9.toInt64]) (rest := []) hF (kX0_mixed l r8 r9.toInt64) (lw_S q957 q958 q92 q959) 2 hdX0_mixed.2 rfl rfl ⟨Nat.le_of_ble_eq_true rfl, Nat.le_of_ble_eq_true rfl⟩ g_pre0 rfl hl.1 rfl (Nat.le_of_ble_eq_true rfl) dX0_mixedPerson_140 ⟨Nat.zero_le _, Nat.zero_le _⟩ (fun r10 e_r10 => ?_)
                          refine lv_lstore (lv' := [(4, .long r10), (7, .int (nI 3)), (6, .int (nI (i76 + 1))), (0, .ref (ω.2.1 0 99)), (3, .int (nI pn))]) hF.1 hF.2.1 dX0_mixedPerson_143 hl (by decide) rfl (fun ls hl => ?_)
                          refine n_iinc (lv' := [(6, .int (nI (i76 + 1 + 1))), (4, .long r10), (7, .int (nI 3)), (0, .ref (ω.2.1 0 99)), (3, .int (nI pn))]) hF.1 hF.2.1 dX0_mixedPerson_145 hl (k := 2) rfl (by decide) rfl (fun ls hl => ?_)
                          refine lv_goto (tgt := 76) hF.1 hF.2.1 dX0_mixedPerson_148 (by decide) ?_
                          exact ih (i76 + 1) _ _ _ _ _ _ _ _ _ _ (by omega) (by subst e_r10; subst e_r9; subst e_r8; subst e_r7; subst e_x86_4; rw [it_succ (fX0_mixedPerson_b76 g a t td of pn) i76 _, ← hS76]; try rfl) hH hS (lv_sub hl [0, 1, 3, 4] rfl)
                        · exact absurd (by omega) c6
                      | succ d86 ih =>
                        intro i86 x86_4 h86_y_0_6_12 h86_y_0_6_13 h86_y_0_6_14 h86_z_0_6_10 h86_z_0_6_11 H locs ls hi86 hS86 hH hS hl
                        refine lv_iload hF.1 hF.2.1 dX0_mixedPerson_86 (lv_at hl 0 rfl) ?_
                        refine lv_iconst (v := nI 3) hF.1 hF.2.1 dX0_mixedPerson_88 (by decide) ?_
                        refine n_ge (tgt := 116) hF.1 hF.2.1 dX0_mixedPerson_89 (by decide) (by omega) (by omega) (fun c11 => ?_) (fun c11 => ?_)
                        · exact absurd c11 (by omega)
                        · skip
                          refine lv_lload hF.1 hF.2.1 dX0_mixedPerson_92 (lv_at hl 2 rfl) ?_
                          refine lv_aload_n hF.1 hF.2.1 dX0_mixedPerson_94 rfl (lv_at hl 3 rfl) ?_
                          refine lv_iload_n hF.1 hF.2.1 dX0_mixedPerson_95 rfl (lv_at hl 4 rfl) ?_
                          refine lv_iconst (v := nI 0) hF.1 hF.2.1 dX0_mixedPerson_96 (by decide) ?_
                          refine lv_iload hF.1 hF.2.1 dX0_mixedPerson_97 (lv_at hl 1 rfl) ?_
                          refine lv_iload hF.1 hF.2.1 dX0_mixedPerson_99 (lv_at hl 0 rfl) ?_
                          refine g_vWi (As := [.int (nI pn), .int (nI 0), .int (nI (i76 + 1)), .int (nI i86)]) (rest := [.long x86_4]) hF (kX0_wayTold l ω g (up2 (up2 (up2 y (0 + 6) 12 h86_y_0_6_12) (0 + 6) 13 h86_y_0_6_13) (0 + 6) 14 h86_y_0_6_14) a (up2 (up2 (up2 z 0 8 h76_z0_8) (0 + 6) 10 h86_z_0_6_10) (0 + 6) 11 h86_z_0_6_11) dr pg t td of hc pn 0 (i76 + 1) i86 (by omega) (by omega) (by omega) (by omega) (by omega) hsd) (lw_V q767 q769 qs23 q92 q770) 4 hdX0_wayTold rfl rfl ⟨Nat.le_of_ble_eq_true rfl, Nat.le_of_ble_eq_true rfl⟩ (x_preV0 hK hH) rfl hl.1 rfl (Nat.le_of_ble_eq_true rfl) dX0_mixedPerson_101 ⟨Nat.le_of_ble_eq_true rfl, Nat.le_of_ble_eq_true rfl⟩ hS (fun r12 ur12 H locs hqr12 hH hS => ?_)
                          obtain ⟨r12h0, r12h1, r12h2, r12h3, r12h4, hr12, rfl⟩ := hqr12
                          have e_r12 := hr12
                          have hH : xH ω (g, up2 (up2 (up2 y (0 + 6) 12 r12h0) (0 + 6) 13 r12h1) (0 + 6) 14 r12h2, a, up2 (up2 (up2 z 0 8 h76_z0_8) (0 + 6) 10 r12h3) (0 + 6) 11 r12h4, dr, pg, t) H := x_ext (fun _ _ => rfl) (by intro o k; by_cases h0 : o = (0 + 6) ∧ k = 12; (obtain ⟨rfl, rfl⟩ := h0; simp [up2]); by_cases h1 : o = (0 + 6) ∧ k = 13; (obtain ⟨rfl, rfl⟩ := h1; simp [up2]); by_cases h2 : o = (0 + 6) ∧ k = 14; (obtain ⟨rfl, rfl⟩ := h2; simp [up2]); simp only [up2, if_neg h0, if_neg h1, if_neg h2]) (fun _ _ => rfl) (by intro o k; by_cases h0 : o = (0 + 6) ∧ k = 10; (obtain ⟨rfl, rfl⟩ := h0; simp [up2]); by_cases h1 : o = (0 + 6) ∧ k = 11; (obtain ⟨rfl, rfl⟩ := h1; simp [up2]); simp only [up2, if_neg h0, if_neg h1]) hH
                          refine lv_i2l (v := r12.toInt64) hF.1 hF.2.1 dX0_mixedPerson_104 rfl ?_
                          refine g_sPl (As := [.long x86_4, .long r12.toInt64]) (rest := []) hF (kX0_mixed l x86_4 r12.toInt64) (lw_S q957 q958 q92 q959) 2 hdX0_mixed.2 rfl rfl ⟨Nat.le_of_ble_eq_true rfl, Nat.le_of_ble_eq_true rfl⟩ g_pre0 rfl hl.1 rfl (Nat.le_of_ble_eq_true rfl) dX0_mixedPerson_105 ⟨Nat.zero_le _, Nat.zero_le _⟩ (fun r13 e_r13 => ?_)
                          refine lv_lstore (lv' := [(4, .long r13), (7, .int (nI i86)), (6, .int (nI (i76 + 1))), (0, .ref (ω.2.1 0 99)), (3, .int (nI pn))]) hF.1 hF.2.1 dX0_mixedPerson_108 hl (by decide) rfl (fun ls hl => ?_)
                          refine n_iinc (lv' := [(7, .int (nI (i86 + 1))), (4, .long r13), (6, .int (nI (i76 + 1))), (0, .ref (ω.2.1 0 99)), (3, .int (nI pn))]) hF.1 hF.2.1 dX0_mixedPerson_110 hl (k := 1) rfl (by decide) rfl (fun ls hl => ?_)
                          refine lv_goto (tgt := 86) hF.1 hF.2.1 dX0_mixedPerson_113 (by decide) ?_
                          exact ih (i86 + 1) _ _ _ _ _ _ _ _ _ (by omega) (by subst e_r13; subst e_r12; rw [it_succ (fX0_mixedPerson_b86 g t td of pn i76) i86 _, ← hS86]; try rfl) hH hS (lv_sub hl [0, 2, 1, 3, 4] rfl)
                    exact lp86_123 3 0 _ _ _ _ _ _ _ _ _ (by omega) rfl hH hS (lv_sub hl [0, 1, 2, 3, 4] rfl)
              have hH : xH ω (g, up2 (up2 (up2 y (0 + 6) 12 h6_y_0_6_12) (0 + 6) 13 h6_y_0_6_13) (0 + 6) 14 h6_y_0_6_14, a, up2 (up2 (up2 z 0 8 (z 0 8)) (0 + 6) 10 h6_z_0_6_10) (0 + 6) 11 h6_z_0_6_11, dr, pg, t) H := x_ext (fun _ _ => rfl) (fun _ _ => rfl) (fun _ _ => rfl) (by intro o k; by_cases h0 : o = 0 ∧ k = 8; (obtain ⟨rfl, rfl⟩ := h0; simp [up2]); simp only [up2, if_neg h0]) hH
              exact lp76_121 7 0 _ _ _ _ _ _ _ _ _ _ (by omega) rfl hH hS (lv_sub hl [0, 1, 2, 3] rfl)
            · exact absurd (by omega) c3
          | succ d37 ih =>
            intro i37 x37_4 ls hi37 hS37 hl
            refine lv_iload hF.1 hF.2.1 dX0_mixedPerson_37 (lv_at hl 0 rfl) ?_
            refine lv_aload_n hF.1 hF.2.1 dX0_mixedPerson_39 rfl (lv_at hl 2 rfl) ?_
            refine xg0_0 hF hK hH q218 dX0_mixedPerson_40 ?_
            refine g_vPi (As := []) (rest := [.int (nI i37)]) hF (kJ2_size l ω g (up2 (up2 (up2 y (0 + 6) 12 h6_y_0_6_12) (0 + 6) 13 h6_y_0_6_13) (0 + 6) 14 h6_y_0_6_14) a (up2 (up2 z (0 + 6) 10 h6_z_0_6_10) (0 + 6) 11 h6_z_0_6_11) dr pg t) (lw_V q569 q554 q555 q95 q556) 0 hdJ2_size rfl rfl ⟨Nat.le_of_ble_eq_true rfl, Nat.le_of_ble_eq_true rfl⟩ (x_preVL hK hH) rfl hl.1 rfl (Nat.le_of_ble_eq_true rfl) dX0_mixedPerson_43 ⟨Nat.zero_le _, Nat.zero_le _⟩ (fun r14 e_r14 => ?_)
            subst e_r14
            refine n_top (y := nI (tn t)) rfl ?_
            refine n_ge (tgt := 73) hF.1 hF.2.1 dX0_mixedPerson_46 (by decide) (by omega) (by omega) (fun c15 => ?_) (fun c15 => ?_)
            · exact absurd c15 (by omega)
            · skip
              refine lv_lload hF.1 hF.2.1 dX0_mixedPerson_49 (lv_at hl 1 rfl) ?_
              refine lv_aload_n hF.1 hF.2.1 dX0_mixedPerson_51 rfl (lv_at hl 2 rfl) ?_
              refine xg0_3 hF hK hH q221 dX0_mixedPerson_52 ?_
              refine lv_iload_n hF.1 hF.2.1 dX0_mixedPerson_55 rfl (lv_at hl 3 rfl) ?_
              refine lv_iload hF.1 hF.2.1 dX0_mixedPerson_56 (lv_at hl 0 rfl) ?_
              refine g_vPi (As := [.int (nI pn), .int (nI i37)]) (rest := [.long x37_4]) hF (kX1_hurts l ω g (up2 (up2 (up2 y (0 + 6) 12 h6_y_0_6_12) (0 + 6) 13 h6_y_0_6_13) (0 + 6) 14 h6_y_0_6_14) a (up2 (up2 z (0 + 6) 10 h6_z_0_6_10) (0 + 6) 11 h6_z_0_6_11) dr pg t 0 (by decide) pn i37 (by omega) (by omega)) (lw_V q743 q633 q634 q96 q635) 2 hdX1_hurts rfl rfl ⟨Nat.le_of_ble_eq_true rfl, Nat.le_of_ble_eq_true rfl⟩ (x_preV1 (by decide) hK hH) rfl hl.1 rfl (Nat.le_of_ble_eq_true rfl) dX0_mixedPerson_58 ⟨Nat.zero_le _, Nat.zero_le _⟩ (fun r16 e_r16 => ?_)
              refine lv_i2l (v := r16.toInt64) hF.1 hF.2.1 dX0_mixedPerson_61 rfl ?_
              refine g_sPl (As := [.long x37_4, .long r16.toInt64]) (rest := []) hF (kX0_mixed l x37_4 r16.toInt64) (lw_S q957 q958 q92 q959) 2 hdX0_mixed.2 rfl rfl ⟨Nat.le_of_ble_eq_true rfl, Nat.le_of_ble_eq_true rfl⟩ g_pre0 rfl hl.1 rfl (Nat.le_of_ble_eq_true rfl) dX0_mixedPerson_62 ⟨Nat.zero_le _, Nat.zero_le _⟩ (fun r17 e_r17 => ?_)
              refine lv_lstore (lv' := [(4, .long r17), (6, .int (nI i37)), (0, .ref (ω.2.1 0 99)), (3, .int (nI pn))]) hF.1 hF.2.1 dX0_mixedPerson_65 hl (by decide) rfl (fun ls hl => ?_)
              refine n_iinc (lv' := [(6, .int (nI (i37 + 1))), (4, .long r17), (0, .ref (ω.2.1 0 99)), (3, .int (nI pn))]) hF.1 hF.2.1 dX0_mixedPerson_67 hl (k := 1) rfl (by decide) rfl (fun ls hl => ?_)
              refine lv_goto (tgt := 37) hF.1 hF.2.1 dX0_mixedPerson_70 (by decide) ?_
              exact ih (i37 + 1) _ _ (by omega) (by subst e_r17; subst e_r16; rw [it_succ (fX0_mixedPerson_b37 g a t pn) i37 _, ← hS37]; try rfl) (lv_sub hl [0, 1, 2, 3] rfl)
        exact lp37_115 (tn t) 0 _ _ (by omega) rfl (lv_sub hl [0, 1, 2, 3] rfl)
      · exact absurd (by omega) c1
    | succ d6 ih =>
      intro i6 x6_4 h6_y_0_6_12 h6_y_0_6_13 h6_y_0_6_14 h6_z_0_6_10 h6_z_0_6_11 H locs ls hi6 hS6 hH hS hl
      refine lv_iload hF.1 hF.2.1 dX0_mixedPerson_6 (lv_at hl 0 rfl) ?_
      refine lv_bipush (v := nI 6) hF.1 hF.2.1 dX0_mixedPerson_8 (by decide) ?_
      refine n_ge (tgt := 34) hF.1 hF.2.1 dX0_mixedPerson_10 (by decide) (by omega) (by omega) (fun c18 => ?_) (fun c18 => ?_)
      · exact absurd c18 (by omega)
      · skip
        refine lv_lload hF.1 hF.2.1 dX0_mixedPerson_13 (lv_at hl 1 rfl) ?_
        refine lv_aload_n hF.1 hF.2.1 dX0_mixedPerson_15 rfl (lv_at hl 2 rfl) ?_
        refine lv_iload_n hF.1 hF.2.1 dX0_mixedPerson_16 rfl (lv_at hl 3 rfl) ?_
        refine lv_iload hF.1 hF.2.1 dX0_mixedPerson_17 (lv_at hl 0 rfl) ?_
        refine g_vWi (As := [.int (nI pn), .int (nI i6)]) (rest := [.long x6_4]) hF (kX0_personTold l ω g (up2 (up2 (up2 y (0 + 6) 12 h6_y_0_6_12) (0 + 6) 13 h6_y_0_6_13) (0 + 6) 14 h6_y_0_6_14) a (up2 (up2 z (0 + 6) 10 h6_z_0_6_10) (0 + 6) 11 h6_z_0_6_11) dr pg t td of hc pn (nI i6) (by omega) hsd) (lw_V q597 q599 qs11 q92 q600) 2 hdX0_personTold rfl rfl ⟨Nat.le_of_ble_eq_true rfl, Nat.le_of_ble_eq_true rfl⟩ (x_preV0 hK hH) rfl hl.1 rfl (Nat.le_of_ble_eq_true rfl) dX0_mixedPerson_19 ⟨Nat.le_of_ble_eq_true rfl, Nat.le_of_ble_eq_true rfl⟩ hS (fun r19 ur19 H locs hqr19 hH hS => ?_)
        obtain ⟨r19h0, r19h1, r19h2, r19h3, r19h4, hr19, rfl⟩ := hqr19
        have e_r19 := hr19
        have hH : xH ω (g, up2 (up2 (up2 y (0 + 6) 12 r19h0) (0 + 6) 13 r19h1) (0 + 6) 14 r19h2, a, up2 (up2 z (0 + 6) 10 r19h3) (0 + 6) 11 r19h4, dr, pg, t) H := x_ext (fun _ _ => rfl) (by intro o k; by_cases h0 : o = (0 + 6) ∧ k = 12; (obtain ⟨rfl, rfl⟩ := h0; simp [up2]); by_cases h1 : o = (0 + 6) ∧ k = 13; (obtain ⟨rfl, rfl⟩ := h1; simp [up2]); by_cases h2 : o = (0 + 6) ∧ k = 14; (obtain ⟨rfl, rfl⟩ := h2; simp [up2]); simp only [up2, if_neg h0, if_neg h1, if_neg h2]) (fun _ _ => rfl) (by intro o k; by_cases h0 : o = (0 + 6) ∧ k = 10; (obtain ⟨rfl, rfl⟩ := h0; simp [up2]); by_cases h1 : o = (0 + 6) ∧ k = 11; (obtain ⟨rfl, rfl⟩ := h1; simp [up2]); simp only [up2, if_neg h0, if_neg h1]) hH
        refine lv_i2l (v := r19.toInt64) hF.1 hF.2.1 dX0_mixedPerson_22 rfl ?_
        refine g_sPl (As := [.long x6_4, .long r19.toInt64]) (rest := []) hF (kX0_mixed l x6_4 r19.toInt64) (lw_S q957 q958 q92 q959) 2 hdX0_mixed.2 rfl rfl ⟨Nat.le_of_ble_eq_true rfl, Nat.le_of_ble_eq_true rfl⟩ g_pre0 rfl hl.1 rfl (Nat.le_of_ble_eq_true rfl) dX0_mixedPerson_23 ⟨Nat.zero_le _, Nat.zero_le _⟩ (fun r20 e_r20 => ?_)
        refine lv_lstore (lv' := [(4, .long r20), (6, .int (nI i6)), (0, .ref (ω.2.1 0 99)), (3, .int (nI pn))]) hF.1 hF.2.1 dX0_mixedPerson_26 hl (by decide) rfl (fun ls hl => ?_)
        refine n_iinc (lv' := [(6, .int (nI (i6 + 1))), (4, .long r20), (0, .ref (ω.2.1 0 99)), (3, .int (nI pn))]) hF.1 hF.2.1 dX0_mixedPerson_28 hl (k := 1) rfl (by decide) rfl (fun ls hl => ?_)
        refine lv_goto (tgt := 6) hF.1 hF.2.1 dX0_mixedPerson_31 (by decide) ?_
        exact ih (i6 + 1) _ _ _ _ _ _ _ _ _ (by omega) (by subst e_r20; subst e_r19; rw [it_succ (fX0_mixedPerson_b6 g a t of pn) i6 _, ← hS6]; try rfl) hH hS (lv_sub hl [0, 1, 2, 3] rfl)
  have hH : xH ω (g, up2 (up2 (up2 y (0 + 6) 12 (y (0 + 6) 12)) (0 + 6) 13 (y (0 + 6) 13)) (0 + 6) 14 (y (0 + 6) 14), a, up2 (up2 z (0 + 6) 10 (z (0 + 6) 10)) (0 + 6) 11 (z (0 + 6) 11), dr, pg, t) H := x_ext (fun _ _ => rfl) (by intro o k; by_cases h0 : o = (0 + 6) ∧ k = 12; (obtain ⟨rfl, rfl⟩ := h0; simp [up2]); by_cases h1 : o = (0 + 6) ∧ k = 13; (obtain ⟨rfl, rfl⟩ := h1; simp [up2]); by_cases h2 : o = (0 + 6) ∧ k = 14; (obtain ⟨rfl, rfl⟩ := h2; simp [up2]); simp only [up2, if_neg h0, if_neg h1, if_neg h2]) (fun _ _ => rfl) (by intro o k; by_cases h0 : o = (0 + 6) ∧ k = 10; (obtain ⟨rfl, rfl⟩ := h0; simp [up2]); by_cases h1 : o = (0 + 6) ∧ k = 11; (obtain ⟨rfl, rfl⟩ := h1; simp [up2]); simp only [up2, if_neg h0, if_neg h1]) hH
  exact lp6_113 6 0 _ _ _ _ _ _ _ _ _ (by omega) rfl hH hS (lv_sub hl [0, 1, 2, 4] rfl)

def fX0_mixedDrivers_b14 (a : Nat → Nat → Nat → Int32) (t : TW) (i5 : Nat) (i14 : Nat) (S : Int64) : Int64 := (fX0_mixed S (fX0_driverTold a t i5 (nI i14)).toInt64)
def fX0_mixedDrivers_b5 (a : Nat → Nat → Nat → Int32) (t : TW) (i5 : Nat) (S : Int64) : Int64 := (it (fX0_mixedDrivers_b14 a t i5) 6 S)
def fX0_mixedDrivers (g : Nat → Nat → Nat) (a : Nat → Nat → Nat → Int32) (t : TW) (td : Nat → Nat) (of : Nat → Nat → Nat) (hh : Int64) (z_0_11 : Nat → Int32) : Int64 × Int32 × Int32 × (Nat → Int32) := ((fX0_mixed (fX0_mixed (fX0_mixed (fX0_mixed (it (fX0_mixedDrivers_b5 a t) 2 hh) (fX0_matchToldS ((fX0_layMatch g a t td of (z_0_11)).2.1) ((fX0_layMatch g a t td of (z_0_11)).1) ((fX0_layMatch g a t td of (z_0_11)).2.2) (nI 0)).toInt64) (fX0_matchToldS ((fX0_layMatch g a t td of (z_0_11)).2.1) ((fX0_layMatch g a t td of (z_0_11)).1) ((fX0_layMatch g a t td of (z_0_11)).2.2) (nI 1)).toInt64) (fX0_matchToldS ((fX0_layMatch g a t td of (z_0_11)).2.1) ((fX0_layMatch g a t td of (z_0_11)).1) ((fX0_layMatch g a t td of (z_0_11)).2.2) (nI 10)).toInt64) (fX0_matchToldS ((fX0_layMatch g a t td of (z_0_11)).2.1) ((fX0_layMatch g a t td of (z_0_11)).1) ((fX0_layMatch g a t td of (z_0_11)).2.2) (nI 11)).toInt64), ((fX0_layMatch g a t td of (z_0_11)).1), ((fX0_layMatch g a t td of (z_0_11)).2.1), ((fX0_layMatch g a t td of (z_0_11)).2.2))
def rmX0_mixedDrivers : Room := { frames := 10, cells := 0, slots := 0, locals := 238 }
theorem hdX0_mixedDrivers : yX0_mixedDrivers.cls = RX0 ∧ yX0_mixedDrivers.cls ≠ "java/lang/invoke/MethodHandle" ∧ yX0_mixedDrivers.cls ≠ "java/lang/invoke/VarHandle" ∧ (parseMethodDescriptor yX0_mixedDrivers.desc).map (fun d => d.parameters.length) = some 1 := by decide +kernel
set_option maxHeartbeats 4000000 in
theorem kX0_mixedDrivers (l : Launch) (ω : OM) (g : Nat → Nat → Nat) (y : Nat → Nat → Int32) (a z : Nat → Nat → Nat → Int32) (dr : Int64) (pg : Nat → Int32) (t : TW) (td : Nat → Nat) (of : Nat → Nat → Nat) (hc : xCore g a t 0 td of) (hh : Int64) (hsd : xSide g a) : Met l yX0_mixedDrivers (ws_ yX0_mixedDrivers cX0_mixedDrivers 7 (some .long)) rmX0_mixedDrivers (va_Pc [.ref (ω.2.1 0 99), .long hh] (fun U => xK ω U ∧ xH ω (g, y, a, z, dr, pg, t) U.heap)) (va_Ql (fun (r : Int64) (u : XS) => ∃ (o0 : Int32) (o1 : Int32) (o2 : Nat → Int32) (q0 : Int32) (q1 : Int32) (q2 : Int32) (q3 : Nat → Int32) (q4 : Nat → Int32), (r, o0, o1, o2) = (fX0_mixedDrivers g a t td of hh (z 0 11)) ∧ u = (g, up2 (up2 (up2 (up2 (up2 y 0 9 o1) 0 10 o0) (0 + 6) 12 q0) (0 + 6) 13 q1) (0 + 6) 14 q2, a, up2 (up2 (up2 z 0 11 o2) (0 + 6) 10 q3) (0 + 6) 11 q4, dr, pg, t)) (fun u t => xH ω u t.heap) ω.2.2.1) 0 0 ω.2.2.1 := by
  refine g_entWl (C := RX0) rfl (by decide) (Nat.le_of_ble_eq_true rfl) ?_
  intro p e s m args below meth c QQ ls H locs hF hK hH hS hl hret
  have hl : lv_has ls 7 [(0, .ref (ω.2.1 0 99)), (1, .long hh)] := hl
  have hn9 : tn t ≤ 9 := hH.2.2.1
  have hok := hc.ok
  have hp3 := hsd.1
  have hs6 := hsd.2.1
  have hp50 := hsd.2.2.1
  refine lv_lload_n hF.1 hF.2.1 dX0_mixedDrivers_0 rfl (lv_at hl 1 rfl) ?_
  refine lv_lstore_n (lv' := [(3, .long hh), (0, .ref (ω.2.1 0 99)), (1, .long hh)]) hF.1 hF.2.1 dX0_mixedDrivers_1 rfl hl (by decide) rfl (fun ls hl => ?_)
  refine lv_iconst (v := nI 0) hF.1 hF.2.1 dX0_mixedDrivers_2 (by decide) ?_
  refine lv_istore (lv' := [(5, .int (nI 0)), (3, .long hh), (0, .ref (ω.2.1 0 99)), (1, .long hh)]) hF.1 hF.2.1 dX0_mixedDrivers_3 hl (by decide) rfl (fun ls hl => ?_)
  have lp5_127 : ∀ (d5 i5 : Nat) (x5_3 : Int64) (ls : Array Slot), i5 + d5 = 2 → x5_3 = it (fX0_mixedDrivers_b5 a t) i5 hh → lv_has ls 7 [(5, .int (nI i5)), (3, .long x5_3), (0, .ref (ω.2.1 0 99))] → W p l e rmX0_mixedDrivers s m args below meth c H locs 0 0 QQ (F0 m 5 ls []) := by
    intro d5
    induction d5 with
    | zero =>
      intro i5 x5_3 ls hi5 hS5 hl
      have hj5 : 2 = i5 := by omega
      subst hj5
      have e_x5_3 := hS5
      refine lv_iload hF.1 hF.2.1 dX0_mixedDrivers_5 (lv_at hl 0 rfl) ?_
      refine lv_iconst (v := nI 2) hF.1 hF.2.1 dX0_mixedDrivers_7 (by decide) ?_
      refine n_ge (tgt := 47) hF.1 hF.2.1 dX0_mixedDrivers_8 (by decide) (by omega) (by omega) (fun c1 => ?_) (fun c1 => ?_)
      · skip
        refine lv_aload_n hF.1 hF.2.1 dX0_mixedDrivers_47 rfl (lv_at hl 2 rfl) ?_
        refine g_vWv (As := []) (rest := []) hF (kX0_layMatch l ω g y a z dr pg t td of hc hsd) (lw_V q871 q873 qs35 q92 q874) 0 hdX0_layMatch rfl rfl ⟨Nat.le_of_ble_eq_true rfl, Nat.le_of_ble_eq_true rfl⟩ (x_preV0 hK hH) rfl hl.1 rfl (Nat.le_of_ble_eq_true rfl) dX0_mixedDrivers_48 ⟨Nat.le_of_ble_eq_true rfl, Nat.le_of_ble_eq_true rfl⟩ hS (fun ur2 H locs hqr2 hH hS => ?_)
        obtain ⟨r2o0, r2o1, r2o2, r2h0, r2h1, r2h2, r2h3, r2h4, hr2, rfl⟩ := hqr2
        have e_r2o0 : r2o0 = (fX0_layMatch g a t td of (z 0 11)).1 := by rw [← hr2]
        have e_r2o1 : r2o1 = (fX0_layMatch g a t td of (z 0 11)).2.1 := by rw [← hr2]
        have e_r2o2 : r2o2 = (fX0_layMatch g a t td of (z 0 11)).2.2 := by rw [← hr2]
        refine lv_lload_n hF.1 hF.2.1 dX0_mixedDrivers_51 rfl (lv_at hl 1 rfl) ?_
        refine lv_aload_n hF.1 hF.2.1 dX0_mixedDrivers_52 rfl (lv_at hl 2 rfl) ?_
        refine lv_iconst (v := nI 0) hF.1 hF.2.1 dX0_mixedDrivers_53 (by decide) ?_
        refine g_vPi (As := [.int (nI 0)]) (rest := [.long x5_3]) hF (kX0_matchToldS l ω g (up2 (up2 (up2 (up2 (up2 y 0 9 r2o1) 0 10 r2o0) (0 + 6) 12 r2h0) (0 + 6) 13 r2h1) (0 + 6) 14 r2h2) a (up2 (up2 (up2 z 0 11 r2o2) (0 + 6) 10 r2h3) (0 + 6) 11 r2h4) dr pg t (nI 0) (Or.inl rfl)) (lw_V q879 q881 qs37 q92 q882) 1 hdX0_matchToldS rfl rfl ⟨Nat.le_of_ble_eq_true rfl, Nat.le_of_ble_eq_true rfl⟩ (x_preV0 hK hH) rfl hl.1 rfl (Nat.le_of_ble_eq_true rfl) dX0_mixedDrivers_54 ⟨Nat.zero_le _, Nat.zero_le _⟩ (fun r3 e_r3 => ?_)
        have e_r3 : r3 = fX0_matchToldS r2o1 r2o0 r2o2 (nI 0) := e_r3.trans (by simp [up2])
        refine lv_i2l (v := r3.toInt64) hF.1 hF.2.1 dX0_mixedDrivers_57 rfl ?_
        refine g_sPl (As := [.long x5_3, .long r3.toInt64]) (rest := []) hF (kX0_mixed l x5_3 r3.toInt64) (lw_S q957 q958 q92 q959) 2 hdX0_mixed.2 rfl rfl ⟨Nat.le_of_ble_eq_true rfl, Nat.le_of_ble_eq_true rfl⟩ g_pre0 rfl hl.1 rfl (Nat.le_of_ble_eq_true rfl) dX0_mixedDrivers_58 ⟨Nat.zero_le _, Nat.zero_le _⟩ (fun r4 e_r4 => ?_)
        refine lv_aload_n hF.1 hF.2.1 dX0_mixedDrivers_61 rfl (lv_at hl 2 rfl) ?_
        refine lv_iconst (v := nI 1) hF.1 hF.2.1 dX0_mixedDrivers_62 (by decide) ?_
        refine g_vPi (As := [.int (nI 1)]) (rest := [.long r4]) hF (kX0_matchToldS l ω g (up2 (up2 (up2 (up2 (up2 y 0 9 r2o1) 0 10 r2o0) (0 + 6) 12 r2h0) (0 + 6) 13 r2h1) (0 + 6) 14 r2h2) a (up2 (up2 (up2 z 0 11 r2o2) (0 + 6) 10 r2h3) (0 + 6) 11 r2h4) dr pg t (nI 1) (Or.inr (Or.inl rfl))) (lw_V q879 q881 qs37 q92 q882) 1 hdX0_matchToldS rfl rfl ⟨Nat.le_of_ble_eq_true rfl, Nat.le_of_ble_eq_true rfl⟩ (x_preV0 hK hH) rfl hl.1 rfl (Nat.le_of_ble_eq_true rfl) dX0_mixedDrivers_63 ⟨Nat.zero_le _, Nat.zero_le _⟩ (fun r5 e_r5 => ?_)
        have e_r5 : r5 = fX0_matchToldS r2o1 r2o0 r2o2 (nI 1) := e_r5.trans (by simp [up2])
        refine lv_i2l (v := r5.toInt64) hF.1 hF.2.1 dX0_mixedDrivers_66 rfl ?_
        refine g_sPl (As := [.long r4, .long r5.toInt64]) (rest := []) hF (kX0_mixed l r4 r5.toInt64) (lw_S q957 q958 q92 q959) 2 hdX0_mixed.2 rfl rfl ⟨Nat.le_of_ble_eq_true rfl, Nat.le_of_ble_eq_true rfl⟩ g_pre0 rfl hl.1 rfl (Nat.le_of_ble_eq_true rfl) dX0_mixedDrivers_67 ⟨Nat.zero_le _, Nat.zero_le _⟩ (fun r6 e_r6 => ?_)
        refine lv_aload_n hF.1 hF.2.1 dX0_mixedDrivers_70 rfl (lv_at hl 2 rfl) ?_
        refine lv_bipush (v := nI 10) hF.1 hF.2.1 dX0_mixedDrivers_71 (by decide) ?_
        refine g_vPi (As := [.int (nI 10)]) (rest := [.long r6]) hF (kX0_matchToldS l ω g (up2 (up2 (up2 (up2 (up2 y 0 9 r2o1) 0 10 r2o0) (0 + 6) 12 r2h0) (0 + 6) 13 r2h1) (0 + 6) 14 r2h2) a (up2 (up2 (up2 z 0 11 r2o2) (0 + 6) 10 r2h3) (0 + 6) 11 r2h4) dr pg t (nI 10) (Or.inr (Or.inr (Or.inl rfl)))) (lw_V q879 q881 qs37 q92 q882) 1 hdX0_matchToldS rfl rfl ⟨Nat.le_of_ble_eq_true rfl, Nat.le_of_ble_eq_true rfl⟩ (x_preV0 hK hH) rfl hl.1 rfl (Nat.le_of_ble_eq_true rfl) dX0_mixedDrivers_73 ⟨Nat.zero_le _, Nat.zero_le _⟩ (fun r7 e_r7 => ?_)
        have e_r7 : r7 = fX0_matchToldS r2o1 r2o0 r2o2 (nI 10) := e_r7.trans (by simp [up2])
        refine lv_i2l (v := r7.toInt64) hF.1 hF.2.1 dX0_mixedDrivers_76 rfl ?_
        refine g_sPl (As := [.long r6, .long r7.toInt64]) (rest := []) hF (kX0_mixed l r6 r7.toInt64) (lw_S q957 q958 q92 q959) 2 hdX0_mixed.2 rfl rfl ⟨Nat.le_of_ble_eq_true rfl, Nat.le_of_ble_eq_true rfl⟩ g_pre0 rfl hl.1 rfl (Nat.le_of_ble_eq_true rfl) dX0_mixedDrivers_77 ⟨Nat.zero_le _, Nat.zero_le _⟩ (fun r8 e_r8 => ?_)
        refine lv_aload_n hF.1 hF.2.1 dX0_mixedDrivers_80 rfl (lv_at hl 2 rfl) ?_
        refine lv_bipush (v := nI 11) hF.1 hF.2.1 dX0_mixedDrivers_81 (by decide) ?_
        refine g_vPi (As := [.int (nI 11)]) (rest := [.long r8]) hF (kX0_matchToldS l ω g (up2 (up2 (up2 (up2 (up2 y 0 9 r2o1) 0 10 r2o0) (0 + 6) 12 r2h0) (0 + 6) 13 r2h1) (0 + 6) 14 r2h2) a (up2 (up2 (up2 z 0 11 r2o2) (0 + 6) 10 r2h3) (0 + 6) 11 r2h4) dr pg t (nI 11) (Or.inr (Or.inr (Or.inr rfl)))) (lw_V q879 q881 qs37 q92 q882) 1 hdX0_matchToldS rfl rfl ⟨Nat.le_of_ble_eq_true rfl, Nat.le_of_ble_eq_true rfl⟩ (x_preV0 hK hH) rfl hl.1 rfl (Nat.le_of_ble_eq_true rfl) dX0_mixedDrivers_83 ⟨Nat.zero_le _, Nat.zero_le _⟩ (fun r9 e_r9 => ?_)
        have e_r9 : r9 = fX0_matchToldS r2o1 r2o0 r2o2 (nI 11) := e_r9.trans (by simp [up2])
        refine lv_i2l (v := r9.toInt64) hF.1 hF.2.1 dX0_mixedDrivers_86 rfl ?_
        refine g_sPl (As := [.long r8, .long r9.toInt64]) (rest := []) hF (kX0_mixed l r8 r9.toInt64) (lw_S q957 q958 q92 q959) 2 hdX0_mixed.2 rfl rfl ⟨Nat.le_of_ble_eq_true rfl, Nat.le_of_ble_eq_true rfl⟩ g_pre0 rfl hl.1 rfl (Nat.le_of_ble_eq_true rfl) dX0_mixedDrivers_87 ⟨Nat.zero_le _, Nat.zero_le _⟩ (fun r10 e_r10 => ?_)
        exact hret _ _ _ _ _ _ dX0_mixedDrivers_90 ⟨_, _, _, _, _, _, _, _, by subst e_r10; subst e_r9; subst e_r8; subst e_r7; subst e_r6; subst e_r5; subst e_r4; subst e_r3; subst e_r2o2; subst e_r2o1; subst e_r2o0; subst e_x5_3; rfl, rfl⟩ hH hS
      · exact absurd (by omega) c1
    | succ d5 ih =>
      intro i5 x5_3 ls hi5 hS5 hl
      refine lv_iload hF.1 hF.2.1 dX0_mixedDrivers_5 (lv_at hl 0 rfl) ?_
      refine lv_iconst (v := nI 2) hF.1 hF.2.1 dX0_mixedDrivers_7 (by decide) ?_
      refine n_ge (tgt := 47) hF.1 hF.2.1 dX0_mixedDrivers_8 (by decide) (by omega) (by omega) (fun c11 => ?_) (fun c11 => ?_)
      · exact absurd c11 (by omega)
      · skip
        refine lv_iconst (v := nI 0) hF.1 hF.2.1 dX0_mixedDrivers_11 (by decide) ?_
        refine lv_istore (lv' := [(6, .int (nI 0)), (5, .int (nI i5)), (3, .long x5_3), (0, .ref (ω.2.1 0 99))]) hF.1 hF.2.1 dX0_mixedDrivers_12 hl (by decide) rfl (fun ls hl => ?_)
        have lp14_129 : ∀ (d14 i14 : Nat) (x14_3 : Int64) (ls : Array Slot), i14 + d14 = 6 → x14_3 = it (fX0_mixedDrivers_b14 a t i5) i14 x5_3 → lv_has ls 7 [(6, .int (nI i14)), (5, .int (nI i5)), (3, .long x14_3), (0, .ref (ω.2.1 0 99))] → W p l e rmX0_mixedDrivers s m args below meth c H locs 0 0 QQ (F0 m 14 ls []) := by
          intro d14
          induction d14 with
          | zero =>
            intro i14 x14_3 ls hi14 hS14 hl
            have hj14 : 6 = i14 := by omega
            subst hj14
            have e_x14_3 := hS14
            refine lv_iload hF.1 hF.2.1 dX0_mixedDrivers_14 (lv_at hl 0 rfl) ?_
            refine lv_bipush (v := nI 6) hF.1 hF.2.1 dX0_mixedDrivers_16 (by decide) ?_
            refine n_ge (tgt := 41) hF.1 hF.2.1 dX0_mixedDrivers_18 (by decide) (by omega) (by omega) (fun c12 => ?_) (fun c12 => ?_)
            · skip
              refine n_iinc (lv' := [(5, .int (nI (i5 + 1))), (6, .int (nI 6)), (3, .long x14_3), (0, .ref (ω.2.1 0 99))]) hF.1 hF.2.1 dX0_mixedDrivers_41 hl (k := 1) rfl (by decide) rfl (fun ls hl => ?_)
              refine lv_goto (tgt := 5) hF.1 hF.2.1 dX0_mixedDrivers_44 (by decide) ?_
              exact ih (i5 + 1) _ _ (by omega) (by subst e_x14_3; rw [it_succ (fX0_mixedDrivers_b5 a t) i5 _, ← hS5]; try rfl) (lv_sub hl [0, 2, 3] rfl)
            · exact absurd (by omega) c12
          | succ d14 ih =>
            intro i14 x14_3 ls hi14 hS14 hl
            refine lv_iload hF.1 hF.2.1 dX0_mixedDrivers_14 (lv_at hl 0 rfl) ?_
            refine lv_bipush (v := nI 6) hF.1 hF.2.1 dX0_mixedDrivers_16 (by decide) ?_
            refine n_ge (tgt := 41) hF.1 hF.2.1 dX0_mixedDrivers_18 (by decide) (by omega) (by omega) (fun c13 => ?_) (fun c13 => ?_)
            · exact absurd c13 (by omega)
            · skip
              refine lv_lload_n hF.1 hF.2.1 dX0_mixedDrivers_21 rfl (lv_at hl 2 rfl) ?_
              refine lv_aload_n hF.1 hF.2.1 dX0_mixedDrivers_22 rfl (lv_at hl 3 rfl) ?_
              refine lv_iload hF.1 hF.2.1 dX0_mixedDrivers_23 (lv_at hl 1 rfl) ?_
              refine lv_iload hF.1 hF.2.1 dX0_mixedDrivers_25 (lv_at hl 0 rfl) ?_
              refine g_vPi (As := [.int (nI i5), .int (nI i14)]) (rest := [.long x14_3]) hF (kX0_driverTold l ω g y a z dr pg t i5 (nI i14) (by omega)) (lw_V q821 q823 qs31 q92 q824) 2 hdX0_driverTold rfl rfl ⟨Nat.le_of_ble_eq_true rfl, Nat.le_of_ble_eq_true rfl⟩ (x_preV0 hK hH) rfl hl.1 rfl (Nat.le_of_ble_eq_true rfl) dX0_mixedDrivers_27 ⟨Nat.zero_le _, Nat.zero_le _⟩ (fun r14 e_r14 => ?_)
              refine lv_i2l (v := r14.toInt64) hF.1 hF.2.1 dX0_mixedDrivers_30 rfl ?_
              refine g_sPl (As := [.long x14_3, .long r14.toInt64]) (rest := []) hF (kX0_mixed l x14_3 r14.toInt64) (lw_S q957 q958 q92 q959) 2 hdX0_mixed.2 rfl rfl ⟨Nat.le_of_ble_eq_true rfl, Nat.le_of_ble_eq_true rfl⟩ g_pre0 rfl hl.1 rfl (Nat.le_of_ble_eq_true rfl) dX0_mixedDrivers_31 ⟨Nat.zero_le _, Nat.zero_le _⟩ (fun r15 e_r15 => ?_)
              refine lv_lstore_n (lv' := [(3, .long r15), (6, .int (nI i14)), (5, .int (nI i5)), (0, .ref (ω.2.1 0 99))]) hF.1 hF.2.1 dX0_mixedDrivers_34 rfl hl (by decide) rfl (fun ls hl => ?_)
              refine n_iinc (lv' := [(6, .int (nI (i14 + 1))), (3, .long r15), (5, .int (nI i5)), (0, .ref (ω.2.1 0 99))]) hF.1 hF.2.1 dX0_mixedDrivers_35 hl (k := 1) rfl (by decide) rfl (fun ls hl => ?_)
              refine lv_goto (tgt := 14) hF.1 hF.2.1 dX0_mixedDrivers_38 (by decide) ?_
              exact ih (i14 + 1) _ _ (by omega) (by subst e_r15; subst e_r14; rw [it_succ (fX0_mixedDrivers_b14 a t i5) i14 _, ← hS14]; try rfl) (lv_sub hl [0, 2, 1, 3] rfl)
        exact lp14_129 6 0 _ _ (by omega) rfl (lv_sub hl [0, 1, 2, 3] rfl)
  exact lp5_127 2 0 _ _ (by omega) rfl (lv_sub hl [0, 1, 2] rfl)

def fX0_digest_b121 (g : Nat → Nat → Nat) (a : Nat → Nat → Nat → Int32) (t : TW) (i121 : Nat) (S : Int64) : Int64 := (fX0_mixed S (fX0_countOf g a t (nI i121)).toInt64)
def fX0_digest_b93 (pg : Nat → Int32) (i93 : Nat) (S : Int64) : Int64 := (fX0_mixed S ((pg i93).toInt64))
def fX0_digest_b43 (a : Nat → Nat → Nat → Int32) (t : TW) (i29 : Nat) (i43 : Nat) (S : Int64) : Int64 := (fX0_mixed S (fX0_streetTold a t i29 (nI i43)).toInt64)
def fX0_digest_b29 (a : Nat → Nat → Nat → Int32) (t : TW) (i29 : Nat) (S : Int64) : Int64 := (it (fX0_digest_b43 a t i29) 5 S)
def fX0_digest_b6 (g : Nat → Nat → Nat) (a : Nat → Nat → Nat → Int32) (t : TW) (td : Nat → Nat) (of : Nat → Nat → Nat) (i6 : Nat) (S : Int64) : Int64 := (fX0_mixedPerson g a t td of S i6)
def fX0_digest (g : Nat → Nat → Nat) (a : Nat → Nat → Nat → Int32) (pg : Nat → Int32) (t : TW) (td : Nat → Nat) (of : Nat → Nat → Nat) (z_0_11 : Nat → Int32) (y_0_10 : Int32) (y_0_9 : Int32) : Int64 × Int32 × Int32 × (Nat → Int32) := ((it (fX0_digest_b121 g a t) 12 (it (fX0_digest_b93 pg) (g 0 7) (if (fX0_isTown g) = 0 then (it (fX0_digest_b29 a t) (tn t) (it (fX0_digest_b6 g a t td of) (g 0 1) 1109)) else ((fX0_mixedDrivers g a t td of (it (fX0_digest_b29 a t) (tn t) (it (fX0_digest_b6 g a t td of) (g 0 1) 1109)) (z_0_11)).1)))), (if (fX0_isTown g) = 0 then y_0_10 else ((fX0_mixedDrivers g a t td of (it (fX0_digest_b29 a t) (tn t) (it (fX0_digest_b6 g a t td of) (g 0 1) 1109)) (z_0_11)).2.1)), (if (fX0_isTown g) = 0 then y_0_9 else ((fX0_mixedDrivers g a t td of (it (fX0_digest_b29 a t) (tn t) (it (fX0_digest_b6 g a t td of) (g 0 1) 1109)) (z_0_11)).2.2.1)), (if (fX0_isTown g) = 0 then z_0_11 else ((fX0_mixedDrivers g a t td of (it (fX0_digest_b29 a t) (tn t) (it (fX0_digest_b6 g a t td of) (g 0 1) 1109)) (z_0_11)).2.2.2)))
def rmX0_digest : Room := { frames := 12, cells := 0, slots := 0, locals := 290 }
theorem hdX0_digest : yX0_digest.cls = RX0 ∧ yX0_digest.cls ≠ "java/lang/invoke/MethodHandle" ∧ yX0_digest.cls ≠ "java/lang/invoke/VarHandle" ∧ (parseMethodDescriptor yX0_digest.desc).map (fun d => d.parameters.length) = some 0 := by decide +kernel
set_option maxHeartbeats 4000000 in
theorem kX0_digest (l : Launch) (ω : OM) (g : Nat → Nat → Nat) (y : Nat → Nat → Int32) (a z : Nat → Nat → Nat → Int32) (dr : Int64) (pg : Nat → Int32) (t : TW) (td : Nat → Nat) (of : Nat → Nat → Nat) (hc : xCore g a t 0 td of) (hsd : xSide g a) : Met l yX0_digest (ws_ yX0_digest cX0_digest 5 (some .long)) rmX0_digest (va_Pc [.ref (ω.2.1 0 99)] (fun U => xK ω U ∧ xH ω (g, y, a, z, dr, pg, t) U.heap)) (va_Ql (fun (r : Int64) (u : XS) => ∃ (o0 : Int32) (o1 : Int32) (o2 : Nat → Int32) (q0 : Int32) (q1 : Int32) (q2 : Int32) (q3 : Nat → Int32) (q4 : Nat → Int32) (q5 : Nat → Int32), (r, o0, o1, o2) = (fX0_digest g a pg t td of (z 0 11) (y 0 10) (y 0 9)) ∧ u = (g, up2 (up2 (up2 (up2 (up2 y 0 9 o1) 0 10 o0) (0 + 6) 12 q0) (0 + 6) 13 q1) (0 + 6) 14 q2, a, up2 (up2 (up2 (up2 z 0 8 q5) 0 11 o2) (0 + 6) 10 q3) (0 + 6) 11 q4, dr, pg, t)) (fun u t => xH ω u t.heap) ω.2.2.1) 0 0 ω.2.2.1 := by
  refine g_entWl (C := RX0) rfl (by decide) (Nat.le_of_ble_eq_true rfl) ?_
  intro p e s m args below meth c QQ ls H locs hF hK hH hS hl hret
  have hl : lv_has ls 5 [(0, .ref (ω.2.1 0 99))] := hl
  have hn9 : tn t ≤ 9 := hH.2.2.1
  have hok := hc.ok
  have hp3 := hsd.1
  have hs6 := hsd.2.1
  have hp50 := hsd.2.2.1
  refine lv_ldc2 (v := 1109) hF.1 hF.2.1 hF.2.2.2.1 (hF.2.2.2.2 _ q952) dX0_digest_0 ?_
  refine lv_lstore_n (lv' := [(1, .long 1109), (0, .ref (ω.2.1 0 99))]) hF.1 hF.2.1 dX0_digest_3 rfl hl (by decide) rfl (fun ls hl => ?_)
  refine lv_iconst (v := nI 0) hF.1 hF.2.1 dX0_digest_4 (by decide) ?_
  refine lv_istore_n (lv' := [(3, .int (nI 0)), (1, .long 1109), (0, .ref (ω.2.1 0 99))]) hF.1 hF.2.1 dX0_digest_5 rfl hl (by decide) rfl (fun ls hl => ?_)
  have lp6_131 : ∀ (d6 i6 : Nat) (x6_1 : Int64) (h6_y_0_6_12 : Int32) (h6_y_0_6_13 : Int32) (h6_y_0_6_14 : Int32) (h6_z_0_6_10 : Nat → Int32) (h6_z_0_6_11 : Nat → Int32) (h6_z0_8 : Nat → Int32) (H : Heap) (locs : List Loc) (ls : Array Slot), i6 + d6 = g 0 1 → x6_1 = it (fX0_digest_b6 g a t td of) i6 1109 → xH ω (g, up2 (up2 (up2 y (0 + 6) 12 h6_y_0_6_12) (0 + 6) 13 h6_y_0_6_13) (0 + 6) 14 h6_y_0_6_14, a, up2 (up2 (up2 z 0 8 h6_z0_8) (0 + 6) 10 h6_z_0_6_10) (0 + 6) 11 h6_z_0_6_11, dr, pg, t) H → va_S ω.2.2.1 s.heap H locs → lv_has ls 5 [(3, .int (nI i6)), (1, .long x6_1), (0, .ref (ω.2.1 0 99))] → W p l e rmX0_digest s m args below meth c H locs 0 0 QQ (F0 m 6 ls []) := by
    intro d6
    induction d6 with
    | zero =>
      intro i6 x6_1 h6_y_0_6_12 h6_y_0_6_13 h6_y_0_6_14 h6_z_0_6_10 h6_z_0_6_11 h6_z0_8 H locs ls hi6 hS6 hH hS hl
      have hj6 : g 0 1 = i6 := by omega
      subst hj6
      have e_x6_1 := hS6
      refine lv_iload_n hF.1 hF.2.1 dX0_digest_6 rfl (lv_at hl 0 rfl) ?_
      refine lv_aload_n hF.1 hF.2.1 dX0_digest_7 rfl (lv_at hl 2 rfl) ?_
      refine xg0_1 hF hK hH q219 dX0_digest_8 (v := g 0 1) rfl ?_
      refine n_ge (tgt := 27) hF.1 hF.2.1 dX0_digest_11 (by decide) (by omega) (by omega) (fun c1 => ?_) (fun c1 => ?_)
      · skip
        refine lv_iconst (v := nI 0) hF.1 hF.2.1 dX0_digest_27 (by decide) ?_
        refine lv_istore_n (lv' := [(3, .int (nI 0)), (1, .long x6_1), (0, .ref (ω.2.1 0 99))]) hF.1 hF.2.1 dX0_digest_28 rfl hl (by decide) rfl (fun ls hl => ?_)
        have lp29_135 : ∀ (d29 i29 : Nat) (x29_1 : Int64) (ls : Array Slot), i29 + d29 = tn t → x29_1 = it (fX0_digest_b29 a t) i29 x6_1 → lv_has ls 5 [(3, .int (nI i29)), (1, .long x29_1), (0, .ref (ω.2.1 0 99))] → W p l e rmX0_digest s m args below meth c H locs 0 0 QQ (F0 m 29 ls []) := by
          intro d29
          induction d29 with
          | zero =>
            intro i29 x29_1 ls hi29 hS29 hl
            have hj29 : tn t = i29 := by omega
            subst hj29
            have e_x29_1 := hS29
            refine lv_iload_n hF.1 hF.2.1 dX0_digest_29 rfl (lv_at hl 0 rfl) ?_
            refine lv_aload_n hF.1 hF.2.1 dX0_digest_30 rfl (lv_at hl 2 rfl) ?_
            refine xg0_0 hF hK hH q218 dX0_digest_31 ?_
            refine g_vPi (As := []) (rest := [.int (nI (tn t))]) hF (kJ2_size l ω g (up2 (up2 (up2 y (0 + 6) 12 h6_y_0_6_12) (0 + 6) 13 h6_y_0_6_13) (0 + 6) 14 h6_y_0_6_14) a (up2 (up2 (up2 z 0 8 h6_z0_8) (0 + 6) 10 h6_z_0_6_10) (0 + 6) 11 h6_z_0_6_11) dr pg t) (lw_V q569 q554 q555 q95 q556) 0 hdJ2_size rfl rfl ⟨Nat.le_of_ble_eq_true rfl, Nat.le_of_ble_eq_true rfl⟩ (x_preVL hK hH) rfl hl.1 rfl (Nat.le_of_ble_eq_true rfl) dX0_digest_34 ⟨Nat.zero_le _, Nat.zero_le _⟩ (fun r2 e_r2 => ?_)
            subst e_r2
            refine n_top (y := nI (tn t)) rfl ?_
            refine n_ge (tgt := 74) hF.1 hF.2.1 dX0_digest_37 (by decide) (by omega) (by omega) (fun c3 => ?_) (fun c3 => ?_)
            · skip
              refine lv_aload_n hF.1 hF.2.1 dX0_digest_74 rfl (lv_at hl 2 rfl) ?_
              refine g_vPi (As := []) (rest := []) hF (kX0_isTown l ω g (up2 (up2 (up2 y (0 + 6) 12 h6_y_0_6_12) (0 + 6) 13 h6_y_0_6_13) (0 + 6) 14 h6_y_0_6_14) a (up2 (up2 (up2 z 0 8 h6_z0_8) (0 + 6) 10 h6_z_0_6_10) (0 + 6) 11 h6_z_0_6_11) dr pg t (by omega)) (lw_V q752 q754 qs21 q92 q755) 0 hdX0_isTown rfl rfl ⟨Nat.le_of_ble_eq_true rfl, Nat.le_of_ble_eq_true rfl⟩ (x_preV0 hK hH) rfl hl.1 rfl (Nat.le_of_ble_eq_true rfl) dX0_digest_75 ⟨Nat.zero_le _, Nat.zero_le _⟩ (fun r4 e_r4 => ?_)
              have k90_16 : ∀ (v7 : Int64) (u11 : Int32) (u12 : Int32) (u15 : Nat → Int32) (u8 : Int32) (u9 : Int32) (u10 : Int32) (u13 : Nat → Int32) (u14 : Nat → Int32) (H : Heap) (locs : List Loc) (ls : Array Slot), v7 = (if r4 = 0 then x29_1 else ((fX0_mixedDrivers g a t td of x29_1 (z 0 11)).1)) → u11 = (if r4 = 0 then y 0 10 else ((fX0_mixedDrivers g a t td of x29_1 (z 0 11)).2.1)) → u12 = (if r4 = 0 then y 0 9 else ((fX0_mixedDrivers g a t td of x29_1 (z 0 11)).2.2.1)) → u15 = (if r4 = 0 then z 0 11 else ((fX0_mixedDrivers g a t td of x29_1 (z 0 11)).2.2.2)) → xH ω (g, up2 (up2 (up2 (up2 (up2 y 0 9 u12) 0 10 u11) (0 + 6) 12 u8) (0 + 6) 13 u9) (0 + 6) 14 u10, a, up2 (up2 (up2 (up2 z 0 8 h6_z0_8) 0 11 u15) (0 + 6) 10 u13) (0 + 6) 11 u14, dr, pg, t) H → va_S ω.2.2.1 s.heap H locs → lv_has ls 5 [(0, .ref (ω.2.1 0 99))] → W p l e rmX0_digest s m args below meth c H locs 0 0 QQ (F0 m 90 ls [.long v7]) := by
                intro v7 u11 u12 u15 u8 u9 u10 u13 u14 H locs ls e_v7 e_u11 e_u12 e_u15 hH hS hl
                refine lv_lstore_n (lv' := [(1, .long v7), (0, .ref (ω.2.1 0 99))]) hF.1 hF.2.1 dX0_digest_90 rfl hl (by decide) rfl (fun ls hl => ?_)
                refine lv_iconst (v := nI 0) hF.1 hF.2.1 dX0_digest_91 (by decide) ?_
                refine lv_istore_n (lv' := [(3, .int (nI 0)), (1, .long v7), (0, .ref (ω.2.1 0 99))]) hF.1 hF.2.1 dX0_digest_92 rfl hl (by decide) rfl (fun ls hl => ?_)
                have lp93_137 : ∀ (d93 i93 : Nat) (x93_1 : Int64) (ls : Array Slot), i93 + d93 = g 0 7 → x93_1 = it (fX0_digest_b93 pg) i93 v7 → lv_has ls 5 [(3, .int (nI i93)), (1, .long x93_1), (0, .ref (ω.2.1 0 99))] → W p l e rmX0_digest s m args below meth c H locs 0 0 QQ (F0 m 93 ls []) := by
                  intro d93
                  induction d93 with
                  | zero =>
                    intro i93 x93_1 ls hi93 hS93 hl
                    have hj93 : g 0 7 = i93 := by omega
                    subst hj93
                    have e_x93_1 := hS93
                    refine lv_iload_n hF.1 hF.2.1 dX0_digest_93 rfl (lv_at hl 0 rfl) ?_
                    refine lv_aload_n hF.1 hF.2.1 dX0_digest_94 rfl (lv_at hl 2 rfl) ?_
                    refine xg0_7 hF hK hH q227 dX0_digest_95 (v := g 0 7) rfl ?_
                    refine n_ge (tgt := 119) hF.1 hF.2.1 dX0_digest_98 (by decide) (by omega) (by omega) (fun c17 => ?_) (fun c17 => ?_)
                    · skip
                      refine lv_iconst (v := nI 0) hF.1 hF.2.1 dX0_digest_119 (by decide) ?_
                      refine lv_istore_n (lv' := [(3, .int (nI 0)), (1, .long x93_1), (0, .ref (ω.2.1 0 99))]) hF.1 hF.2.1 dX0_digest_120 rfl hl (by decide) rfl (fun ls hl => ?_)
                      have lp121_139 : ∀ (d121 i121 : Nat) (x121_1 : Int64) (ls : Array Slot), i121 + d121 = 12 → x121_1 = it (fX0_digest_b121 g a t) i121 x93_1 → lv_has ls 5 [(3, .int (nI i121)), (1, .long x121_1), (0, .ref (ω.2.1 0 99))] → W p l e rmX0_digest s m args below meth c H locs 0 0 QQ (F0 m 121 ls []) := by
                        intro d121
                        induction d121 with
                        | zero =>
                          intro i121 x121_1 ls hi121 hS121 hl
                          have hj121 : 12 = i121 := by omega
                          subst hj121
                          have e_x121_1 := hS121
                          refine lv_iload_n hF.1 hF.2.1 dX0_digest_121 rfl (lv_at hl 0 rfl) ?_
                          refine lv_bipush (v := nI 12) hF.1 hF.2.1 dX0_digest_122 (by decide) ?_
                          refine n_ge (tgt := 144) hF.1 hF.2.1 dX0_digest_124 (by decide) (by omega) (by omega) (fun c18 => ?_) (fun c18 => ?_)
                          · skip
                            refine lv_lload_n hF.1 hF.2.1 dX0_digest_144 rfl (lv_at hl 1 rfl) ?_
                            exact hret _ _ _ _ _ _ dX0_digest_145 ⟨_, _, _, _, _, _, _, _, _, by subst e_x121_1; subst e_x93_1; subst e_u15; subst e_u12; subst e_u11; subst e_v7; subst e_r4; subst e_x29_1; subst e_x6_1; rfl, rfl⟩ hH hS
                          · exact absurd (by omega) c18
                        | succ d121 ih =>
                          intro i121 x121_1 ls hi121 hS121 hl
                          refine lv_iload_n hF.1 hF.2.1 dX0_digest_121 rfl (lv_at hl 0 rfl) ?_
                          refine lv_bipush (v := nI 12) hF.1 hF.2.1 dX0_digest_122 (by decide) ?_
                          refine n_ge (tgt := 144) hF.1 hF.2.1 dX0_digest_124 (by decide) (by omega) (by omega) (fun c19 => ?_) (fun c19 => ?_)
                          · exact absurd c19 (by omega)
                          · skip
                            refine lv_lload_n hF.1 hF.2.1 dX0_digest_127 rfl (lv_at hl 1 rfl) ?_
                            refine lv_aload_n hF.1 hF.2.1 dX0_digest_128 rfl (lv_at hl 2 rfl) ?_
                            refine lv_iload_n hF.1 hF.2.1 dX0_digest_129 rfl (lv_at hl 0 rfl) ?_
                            refine g_vPi (As := [.int (nI i121)]) (rest := [.long x121_1]) hF (kX0_countOf l ω g (up2 (up2 (up2 (up2 (up2 y 0 9 u12) 0 10 u11) (0 + 6) 12 u8) (0 + 6) 13 u9) (0 + 6) 14 u10) a (up2 (up2 (up2 (up2 z 0 8 h6_z0_8) 0 11 u15) (0 + 6) 10 u13) (0 + 6) 11 u14) dr pg t (nI i121) (by omega)) (lw_V q936 q938 qs42 q92 q939) 1 hdX0_countOf rfl rfl ⟨Nat.le_of_ble_eq_true rfl, Nat.le_of_ble_eq_true rfl⟩ (x_preV0 hK hH) rfl hl.1 rfl (Nat.le_of_ble_eq_true rfl) dX0_digest_130 ⟨Nat.zero_le _, Nat.zero_le _⟩ (fun r20 e_r20 => ?_)
                            refine lv_i2l (v := r20.toInt64) hF.1 hF.2.1 dX0_digest_133 rfl ?_
                            refine g_sPl (As := [.long x121_1, .long r20.toInt64]) (rest := []) hF (kX0_mixed l x121_1 r20.toInt64) (lw_S q957 q958 q92 q959) 2 hdX0_mixed.2 rfl rfl ⟨Nat.le_of_ble_eq_true rfl, Nat.le_of_ble_eq_true rfl⟩ g_pre0 rfl hl.1 rfl (Nat.le_of_ble_eq_true rfl) dX0_digest_134 ⟨Nat.zero_le _, Nat.zero_le _⟩ (fun r21 e_r21 => ?_)
                            refine lv_lstore_n (lv' := [(1, .long r21), (3, .int (nI i121)), (0, .ref (ω.2.1 0 99))]) hF.1 hF.2.1 dX0_digest_137 rfl hl (by decide) rfl (fun ls hl => ?_)
                            refine n_iinc (lv' := [(3, .int (nI (i121 + 1))), (1, .long r21), (0, .ref (ω.2.1 0 99))]) hF.1 hF.2.1 dX0_digest_138 hl (k := 1) rfl (by decide) rfl (fun ls hl => ?_)
                            refine lv_goto (tgt := 121) hF.1 hF.2.1 dX0_digest_141 (by decide) ?_
                            exact ih (i121 + 1) _ _ (by omega) (by subst e_r21; subst e_r20; rw [it_succ (fX0_digest_b121 g a t) i121 _, ← hS121]; try rfl) (lv_sub hl [0, 1, 2] rfl)
                      exact lp121_139 12 0 _ _ (by omega) rfl (lv_sub hl [0, 1, 2] rfl)
                    · exact absurd (by omega) c17
                  | succ d93 ih =>
                    intro i93 x93_1 ls hi93 hS93 hl
                    refine lv_iload_n hF.1 hF.2.1 dX0_digest_93 rfl (lv_at hl 0 rfl) ?_
                    refine lv_aload_n hF.1 hF.2.1 dX0_digest_94 rfl (lv_at hl 2 rfl) ?_
                    refine xg0_7 hF hK hH q227 dX0_digest_95 (v := g 0 7) rfl ?_
                    refine n_ge (tgt := 119) hF.1 hF.2.1 dX0_digest_98 (by decide) (by omega) (by omega) (fun c22 => ?_) (fun c22 => ?_)
                    · exact absurd c22 (by omega)
                    · skip
                      refine lv_lload_n hF.1 hF.2.1 dX0_digest_101 rfl (lv_at hl 1 rfl) ?_
                      refine lv_aload_n hF.1 hF.2.1 dX0_digest_102 rfl (lv_at hl 2 rfl) ?_
                      refine xg0_6 hF hK hH q225 dX0_digest_103 ?_
                      refine lv_iload_n hF.1 hF.2.1 dX0_digest_106 rfl (lv_at hl 0 rfl) ?_
                      refine x_bld hF hK hH (i := i93) (by omega) dX0_digest_107 ?_
                      refine lv_i2l (v := (pg i93).toInt64) hF.1 hF.2.1 dX0_digest_108 rfl ?_
                      refine g_sPl (As := [.long x93_1, .long ((pg i93).toInt64)]) (rest := []) hF (kX0_mixed l x93_1 ((pg i93).toInt64)) (lw_S q957 q958 q92 q959) 2 hdX0_mixed.2 rfl rfl ⟨Nat.le_of_ble_eq_true rfl, Nat.le_of_ble_eq_true rfl⟩ g_pre0 rfl hl.1 rfl (Nat.le_of_ble_eq_true rfl) dX0_digest_109 ⟨Nat.zero_le _, Nat.zero_le _⟩ (fun r23 e_r23 => ?_)
                      refine lv_lstore_n (lv' := [(1, .long r23), (3, .int (nI i93)), (0, .ref (ω.2.1 0 99))]) hF.1 hF.2.1 dX0_digest_112 rfl hl (by decide) rfl (fun ls hl => ?_)
                      refine n_iinc (lv' := [(3, .int (nI (i93 + 1))), (1, .long r23), (0, .ref (ω.2.1 0 99))]) hF.1 hF.2.1 dX0_digest_113 hl (k := 1) rfl (by decide) rfl (fun ls hl => ?_)
                      refine lv_goto (tgt := 93) hF.1 hF.2.1 dX0_digest_116 (by decide) ?_
                      exact ih (i93 + 1) _ _ (by omega) (by subst e_r23; rw [it_succ (fX0_digest_b93 pg) i93 _, ← hS93]; try rfl) (lv_sub hl [0, 1, 2] rfl)
                exact lp93_137 (g 0 7) 0 _ _ (by omega) rfl (lv_sub hl [0, 1, 2] rfl)
              refine lv_if_eq (tgt := 89) hF.1 hF.2.1 dX0_digest_78 (by decide) (fun c5 => ?_) (fun c5 => ?_)
              · skip
                refine lv_lload_n hF.1 hF.2.1 dX0_digest_89 rfl (lv_at hl 1 rfl) ?_
                have hH : xH ω (g, up2 (up2 (up2 (up2 (up2 y 0 9 (y 0 9)) 0 10 (y 0 10)) (0 + 6) 12 h6_y_0_6_12) (0 + 6) 13 h6_y_0_6_13) (0 + 6) 14 h6_y_0_6_14, a, up2 (up2 (up2 (up2 z 0 8 h6_z0_8) 0 11 (z 0 11)) (0 + 6) 10 h6_z_0_6_10) (0 + 6) 11 h6_z_0_6_11, dr, pg, t) H := x_ext (fun _ _ => rfl) (by intro o k; by_cases h0 : o = 0 ∧ k = 10; (obtain ⟨rfl, rfl⟩ := h0; simp [up2]); by_cases h1 : o = 0 ∧ k = 9; (obtain ⟨rfl, rfl⟩ := h1; simp [up2]); simp only [up2, if_neg h0, if_neg h1]) (fun _ _ => rfl) (by intro o k; by_cases h0 : o = 0 ∧ k = 11; (obtain ⟨rfl, rfl⟩ := h0; simp [up2]); simp only [up2, if_neg h0]) hH
                exact k90_16 _ _ _ _ _ _ _ _ _ _ _ _ (by first | (rw [if_pos c5]; done) | (simp only [if_pos c5])) (by first | (rw [if_pos c5]; done) | (simp only [if_pos c5])) (by first | (rw [if_pos c5]; done) | (simp only [if_pos c5])) (by first | (rw [if_pos c5]; done) | (simp only [if_pos c5])) hH hS (lv_sub hl [2] rfl)
              · skip
                refine lv_aload_n hF.1 hF.2.1 dX0_digest_81 rfl (lv_at hl 2 rfl) ?_
                refine lv_lload_n hF.1 hF.2.1 dX0_digest_82 rfl (lv_at hl 1 rfl) ?_
                refine g_vWl (As := [.long x29_1]) (rest := []) hF (kX0_mixedDrivers l ω g (up2 (up2 (up2 y (0 + 6) 12 h6_y_0_6_12) (0 + 6) 13 h6_y_0_6_13) (0 + 6) 14 h6_y_0_6_14) a (up2 (up2 (up2 z 0 8 h6_z0_8) (0 + 6) 10 h6_z_0_6_10) (0 + 6) 11 h6_z_0_6_11) dr pg t td of hc x29_1 hsd) (lw_V q961 q963 qs46 q92 q964) 1 hdX0_mixedDrivers rfl rfl ⟨Nat.le_of_ble_eq_true rfl, Nat.le_of_ble_eq_true rfl⟩ (x_preV0 hK hH) rfl hl.1 rfl (Nat.le_of_ble_eq_true rfl) dX0_digest_83 ⟨Nat.le_of_ble_eq_true rfl, Nat.le_of_ble_eq_true rfl⟩ hS (fun r6 ur6 H locs hqr6 hH hS => ?_)
                obtain ⟨r6o0, r6o1, r6o2, r6h0, r6h1, r6h2, r6h3, r6h4, hr6, rfl⟩ := hqr6
                have hr6 : (r6, r6o0, r6o1, r6o2) = fX0_mixedDrivers g a t td of x29_1 (z 0 11) := hr6.trans (by simp [up2])
                have e_r6 : r6 = (fX0_mixedDrivers g a t td of x29_1 (z 0 11)).1 := by rw [← hr6]
                have e_r6o0 : r6o0 = (fX0_mixedDrivers g a t td of x29_1 (z 0 11)).2.1 := by rw [← hr6]
                have e_r6o1 : r6o1 = (fX0_mixedDrivers g a t td of x29_1 (z 0 11)).2.2.1 := by rw [← hr6]
                have e_r6o2 : r6o2 = (fX0_mixedDrivers g a t td of x29_1 (z 0 11)).2.2.2 := by rw [← hr6]
                have hH : xH ω (g, up2 (up2 (up2 (up2 (up2 y 0 9 r6o1) 0 10 r6o0) (0 + 6) 12 r6h0) (0 + 6) 13 r6h1) (0 + 6) 14 r6h2, a, up2 (up2 (up2 (up2 z 0 8 h6_z0_8) 0 11 r6o2) (0 + 6) 10 r6h3) (0 + 6) 11 r6h4, dr, pg, t) H := x_ext (fun _ _ => rfl) (by intro o k; by_cases h0 : o = (0 + 6) ∧ k = 12; (obtain ⟨rfl, rfl⟩ := h0; simp [up2]); by_cases h1 : o = (0 + 6) ∧ k = 13; (obtain ⟨rfl, rfl⟩ := h1; simp [up2]); by_cases h2 : o = (0 + 6) ∧ k = 14; (obtain ⟨rfl, rfl⟩ := h2; simp [up2]); by_cases h3 : o = 0 ∧ k = 10; (obtain ⟨rfl, rfl⟩ := h3; simp [up2]); by_cases h4 : o = 0 ∧ k = 9; (obtain ⟨rfl, rfl⟩ := h4; simp [up2]); simp only [up2, if_neg h0, if_neg h1, if_neg h2, if_neg h3, if_neg h4]) (fun _ _ => rfl) (by intro o k; by_cases h0 : o = (0 + 6) ∧ k = 10; (obtain ⟨rfl, rfl⟩ := h0; simp [up2]); by_cases h1 : o = (0 + 6) ∧ k = 11; (obtain ⟨rfl, rfl⟩ := h1; simp [up2]); by_cases h2 : o = 0 ∧ k = 11; (obtain ⟨rfl, rfl⟩ := h2; simp [up2]); simp only [up2, if_neg h0, if_neg h1, if_neg h2]) hH
                refine lv_goto (tgt := 90) hF.1 hF.2.1 dX0_digest_86 (by decide) ?_
                exact k90_16 _ _ _ _ _ _ _ _ _ _ _ _ (by subst e_r6o2; subst e_r6o1; subst e_r6o0; subst e_r6; first | (rw [if_neg c5]; done) | (simp only [if_neg c5])) (by subst e_r6o2; subst e_r6o1; subst e_r6o0; subst e_r6; first | (rw [if_neg c5]; done) | (simp only [if_neg c5])) (by subst e_r6o2; subst e_r6o1; subst e_r6o0; subst e_r6; first | (rw [if_neg c5]; done) | (simp only [if_neg c5])) (by subst e_r6o2; subst e_r6o1; subst e_r6o0; subst e_r6; first | (rw [if_neg c5]; done) | (simp only [if_neg c5])) hH hS (lv_sub hl [2] rfl)
            · exact absurd (by omega) c3
          | succ d29 ih =>
            intro i29 x29_1 ls hi29 hS29 hl
            refine lv_iload_n hF.1 hF.2.1 dX0_digest_29 rfl (lv_at hl 0 rfl) ?_
            refine lv_aload_n hF.1 hF.2.1 dX0_digest_30 rfl (lv_at hl 2 rfl) ?_
            refine xg0_0 hF hK hH q218 dX0_digest_31 ?_
            refine g_vPi (As := []) (rest := [.int (nI i29)]) hF (kJ2_size l ω g (up2 (up2 (up2 y (0 + 6) 12 h6_y_0_6_12) (0 + 6) 13 h6_y_0_6_13) (0 + 6) 14 h6_y_0_6_14) a (up2 (up2 (up2 z 0 8 h6_z0_8) (0 + 6) 10 h6_z_0_6_10) (0 + 6) 11 h6_z_0_6_11) dr pg t) (lw_V q569 q554 q555 q95 q556) 0 hdJ2_size rfl rfl ⟨Nat.le_of_ble_eq_true rfl, Nat.le_of_ble_eq_true rfl⟩ (x_preVL hK hH) rfl hl.1 rfl (Nat.le_of_ble_eq_true rfl) dX0_digest_34 ⟨Nat.zero_le _, Nat.zero_le _⟩ (fun r24 e_r24 => ?_)
            subst e_r24
            refine n_top (y := nI (tn t)) rfl ?_
            refine n_ge (tgt := 74) hF.1 hF.2.1 dX0_digest_37 (by decide) (by omega) (by omega) (fun c25 => ?_) (fun c25 => ?_)
            · exact absurd c25 (by omega)
            · skip
              refine lv_iconst (v := nI 0) hF.1 hF.2.1 dX0_digest_40 (by decide) ?_
              refine lv_istore (lv' := [(4, .int (nI 0)), (3, .int (nI i29)), (1, .long x29_1), (0, .ref (ω.2.1 0 99))]) hF.1 hF.2.1 dX0_digest_41 hl (by decide) rfl (fun ls hl => ?_)
              have lp43_141 : ∀ (d43 i43 : Nat) (x43_1 : Int64) (ls : Array Slot), i43 + d43 = 5 → x43_1 = it (fX0_digest_b43 a t i29) i43 x29_1 → lv_has ls 5 [(4, .int (nI i43)), (3, .int (nI i29)), (1, .long x43_1), (0, .ref (ω.2.1 0 99))] → W p l e rmX0_digest s m args below meth c H locs 0 0 QQ (F0 m 43 ls []) := by
                intro d43
                induction d43 with
                | zero =>
                  intro i43 x43_1 ls hi43 hS43 hl
                  have hj43 : 5 = i43 := by omega
                  subst hj43
                  have e_x43_1 := hS43
                  refine lv_iload hF.1 hF.2.1 dX0_digest_43 (lv_at hl 0 rfl) ?_
                  refine lv_iconst (v := nI 5) hF.1 hF.2.1 dX0_digest_45 (by decide) ?_
                  refine n_ge (tgt := 68) hF.1 hF.2.1 dX0_digest_46 (by decide) (by omega) (by omega) (fun c26 => ?_) (fun c26 => ?_)
                  · skip
                    refine n_iinc (lv' := [(3, .int (nI (i29 + 1))), (4, .int (nI 5)), (1, .long x43_1), (0, .ref (ω.2.1 0 99))]) hF.1 hF.2.1 dX0_digest_68 hl (k := 1) rfl (by decide) rfl (fun ls hl => ?_)
                    refine lv_goto (tgt := 29) hF.1 hF.2.1 dX0_digest_71 (by decide) ?_
                    exact ih (i29 + 1) _ _ (by omega) (by subst e_x43_1; rw [it_succ (fX0_digest_b29 a t) i29 _, ← hS29]; try rfl) (lv_sub hl [0, 2, 3] rfl)
                  · exact absurd (by omega) c26
                | succ d43 ih =>
                  intro i43 x43_1 ls hi43 hS43 hl
                  refine lv_iload hF.1 hF.2.1 dX0_digest_43 (lv_at hl 0 rfl) ?_
                  refine lv_iconst (v := nI 5) hF.1 hF.2.1 dX0_digest_45 (by decide) ?_
                  refine n_ge (tgt := 68) hF.1 hF.2.1 dX0_digest_46 (by decide) (by omega) (by omega) (fun c27 => ?_) (fun c27 => ?_)
                  · exact absurd c27 (by omega)
                  · skip
                    refine lv_lload_n hF.1 hF.2.1 dX0_digest_49 rfl (lv_at hl 2 rfl) ?_
                    refine lv_aload_n hF.1 hF.2.1 dX0_digest_50 rfl (lv_at hl 3 rfl) ?_
                    refine lv_iload_n hF.1 hF.2.1 dX0_digest_51 rfl (lv_at hl 1 rfl) ?_
                    refine lv_iload hF.1 hF.2.1 dX0_digest_52 (lv_at hl 0 rfl) ?_
                    refine g_vPi (As := [.int (nI i29), .int (nI i43)]) (rest := [.long x43_1]) hF (kX0_streetTold l ω g (up2 (up2 (up2 y (0 + 6) 12 h6_y_0_6_12) (0 + 6) 13 h6_y_0_6_13) (0 + 6) 14 h6_y_0_6_14) a (up2 (up2 (up2 z 0 8 h6_z0_8) (0 + 6) 10 h6_z_0_6_10) (0 + 6) 11 h6_z_0_6_11) dr pg t i29 (nI i43) (by omega)) (lw_V q693 q695 qs19 q92 q696) 2 hdX0_streetTold rfl rfl ⟨Nat.le_of_ble_eq_true rfl, Nat.le_of_ble_eq_true rfl⟩ (x_preV0 hK hH) rfl hl.1 rfl (Nat.le_of_ble_eq_true rfl) dX0_digest_54 ⟨Nat.zero_le _, Nat.zero_le _⟩ (fun r28 e_r28 => ?_)
                    refine lv_i2l (v := r28.toInt64) hF.1 hF.2.1 dX0_digest_57 rfl ?_
                    refine g_sPl (As := [.long x43_1, .long r28.toInt64]) (rest := []) hF (kX0_mixed l x43_1 r28.toInt64) (lw_S q957 q958 q92 q959) 2 hdX0_mixed.2 rfl rfl ⟨Nat.le_of_ble_eq_true rfl, Nat.le_of_ble_eq_true rfl⟩ g_pre0 rfl hl.1 rfl (Nat.le_of_ble_eq_true rfl) dX0_digest_58 ⟨Nat.zero_le _, Nat.zero_le _⟩ (fun r29 e_r29 => ?_)
                    refine lv_lstore_n (lv' := [(1, .long r29), (4, .int (nI i43)), (3, .int (nI i29)), (0, .ref (ω.2.1 0 99))]) hF.1 hF.2.1 dX0_digest_61 rfl hl (by decide) rfl (fun ls hl => ?_)
                    refine n_iinc (lv' := [(4, .int (nI (i43 + 1))), (1, .long r29), (3, .int (nI i29)), (0, .ref (ω.2.1 0 99))]) hF.1 hF.2.1 dX0_digest_62 hl (k := 1) rfl (by decide) rfl (fun ls hl => ?_)
                    refine lv_goto (tgt := 43) hF.1 hF.2.1 dX0_digest_65 (by decide) ?_
                    exact ih (i43 + 1) _ _ (by omega) (by subst e_r29; subst e_r28; rw [it_succ (fX0_digest_b43 a t i29) i43 _, ← hS43]; try rfl) (lv_sub hl [0, 2, 1, 3] rfl)
              exact lp43_141 5 0 _ _ (by omega) rfl (lv_sub hl [0, 1, 2, 3] rfl)
        exact lp29_135 (tn t) 0 _ _ (by omega) rfl (lv_sub hl [0, 1, 2] rfl)
      · exact absurd (by omega) c1
    | succ d6 ih =>
      intro i6 x6_1 h6_y_0_6_12 h6_y_0_6_13 h6_y_0_6_14 h6_z_0_6_10 h6_z_0_6_11 h6_z0_8 H locs ls hi6 hS6 hH hS hl
      refine lv_iload_n hF.1 hF.2.1 dX0_digest_6 rfl (lv_at hl 0 rfl) ?_
      refine lv_aload_n hF.1 hF.2.1 dX0_digest_7 rfl (lv_at hl 2 rfl) ?_
      refine xg0_1 hF hK hH q219 dX0_digest_8 (v := g 0 1) rfl ?_
      refine n_ge (tgt := 27) hF.1 hF.2.1 dX0_digest_11 (by decide) (by omega) (by omega) (fun c30 => ?_) (fun c30 => ?_)
      · exact absurd c30 (by omega)
      · skip
        refine lv_aload_n hF.1 hF.2.1 dX0_digest_14 rfl (lv_at hl 2 rfl) ?_
        refine lv_lload_n hF.1 hF.2.1 dX0_digest_15 rfl (lv_at hl 1 rfl) ?_
        refine lv_iload_n hF.1 hF.2.1 dX0_digest_16 rfl (lv_at hl 0 rfl) ?_
        refine g_vWl (As := [.long x6_1, .int (nI i6)]) (rest := []) hF (kX0_mixedPerson l ω g (up2 (up2 (up2 y (0 + 6) 12 h6_y_0_6_12) (0 + 6) 13 h6_y_0_6_13) (0 + 6) 14 h6_y_0_6_14) a (up2 (up2 (up2 z 0 8 h6_z0_8) (0 + 6) 10 h6_z_0_6_10) (0 + 6) 11 h6_z_0_6_11) dr pg t td of hc x6_1 i6 (by omega) hsd) (lw_V q953 q955 qs45 q92 q956) 2 hdX0_mixedPerson rfl rfl ⟨Nat.le_of_ble_eq_true rfl, Nat.le_of_ble_eq_true rfl⟩ (x_preV0 hK hH) rfl hl.1 rfl (Nat.le_of_ble_eq_true rfl) dX0_digest_17 ⟨Nat.le_of_ble_eq_true rfl, Nat.le_of_ble_eq_true rfl⟩ hS (fun r31 ur31 H locs hqr31 hH hS => ?_)
        obtain ⟨r31h0, r31h1, r31h2, r31h3, r31h4, r31h5, hr31, rfl⟩ := hqr31
        have e_r31 := hr31
        have hH : xH ω (g, up2 (up2 (up2 y (0 + 6) 12 r31h0) (0 + 6) 13 r31h1) (0 + 6) 14 r31h2, a, up2 (up2 (up2 z 0 8 r31h5) (0 + 6) 10 r31h3) (0 + 6) 11 r31h4, dr, pg, t) H := x_ext (fun _ _ => rfl) (by intro o k; by_cases h0 : o = (0 + 6) ∧ k = 12; (obtain ⟨rfl, rfl⟩ := h0; simp [up2]); by_cases h1 : o = (0 + 6) ∧ k = 13; (obtain ⟨rfl, rfl⟩ := h1; simp [up2]); by_cases h2 : o = (0 + 6) ∧ k = 14; (obtain ⟨rfl, rfl⟩ := h2; simp [up2]); simp only [up2, if_neg h0, if_neg h1, if_neg h2]) (fun _ _ => rfl) (by intro o k; by_cases h0 : o = (0 + 6) ∧ k = 10; (obtain ⟨rfl, rfl⟩ := h0; simp [up2]); by_cases h1 : o = (0 + 6) ∧ k = 11; (obtain ⟨rfl, rfl⟩ := h1; simp [up2]); by_cases h2 : o = 0 ∧ k = 8; (obtain ⟨rfl, rfl⟩ := h2; simp [up2]); simp only [up2, if_neg h0, if_neg h1, if_neg h2]) hH
        refine lv_lstore_n (lv' := [(1, .long r31), (3, .int (nI i6)), (0, .ref (ω.2.1 0 99))]) hF.1 hF.2.1 dX0_digest_20 rfl hl (by decide) rfl (fun ls hl => ?_)
        refine n_iinc (lv' := [(3, .int (nI (i6 + 1))), (1, .long r31), (0, .ref (ω.2.1 0 99))]) hF.1 hF.2.1 dX0_digest_21 hl (k := 1) rfl (by decide) rfl (fun ls hl => ?_)
        refine lv_goto (tgt := 6) hF.1 hF.2.1 dX0_digest_24 (by decide) ?_
        exact ih (i6 + 1) _ _ _ _ _ _ _ _ _ _ (by omega) (by subst e_r31; rw [it_succ (fX0_digest_b6 g a t td of) i6 _, ← hS6]; try rfl) hH hS (lv_sub hl [0, 1, 2] rfl)
  have hH : xH ω (g, up2 (up2 (up2 y (0 + 6) 12 (y (0 + 6) 12)) (0 + 6) 13 (y (0 + 6) 13)) (0 + 6) 14 (y (0 + 6) 14), a, up2 (up2 (up2 z 0 8 (z 0 8)) (0 + 6) 10 (z (0 + 6) 10)) (0 + 6) 11 (z (0 + 6) 11), dr, pg, t) H := x_ext (fun _ _ => rfl) (by intro o k; by_cases h0 : o = (0 + 6) ∧ k = 12; (obtain ⟨rfl, rfl⟩ := h0; simp [up2]); by_cases h1 : o = (0 + 6) ∧ k = 13; (obtain ⟨rfl, rfl⟩ := h1; simp [up2]); by_cases h2 : o = (0 + 6) ∧ k = 14; (obtain ⟨rfl, rfl⟩ := h2; simp [up2]); simp only [up2, if_neg h0, if_neg h1, if_neg h2]) (fun _ _ => rfl) (by intro o k; by_cases h0 : o = (0 + 6) ∧ k = 10; (obtain ⟨rfl, rfl⟩ := h0; simp [up2]); by_cases h1 : o = (0 + 6) ∧ k = 11; (obtain ⟨rfl, rfl⟩ := h1; simp [up2]); by_cases h2 : o = 0 ∧ k = 8; (obtain ⟨rfl, rfl⟩ := h2; simp [up2]); simp only [up2, if_neg h0, if_neg h1, if_neg h2]) hH
  exact lp6_131 (g 0 1) 0 _ _ _ _ _ _ _ _ _ _ (by omega) rfl hH hS (lv_sub hl [0, 1, 2] rfl)

