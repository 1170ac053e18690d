/-! MODEL: a way -/
set_option maxRecDepth 100000
def fX2_layWay_b35 (g : Nat → Nat) (a : Nat → Nat → Int32) (z : Nat → Nat → Int32) (pn : Nat) (to : Nat) (set : Int32) (r1o0 : Nat → Int32) (i35 : Nat) (S : (Nat × Nat × (Nat → Int32)) × Bool) : (Nat × Nat × (Nat → Int32)) × Bool := if S.2 = true then S else if S.1.2.1 = to then ((i35, S.1.2.1, S.1.2.2), true) else ((i35 + 1, toN (fX2_beyond a (toN (fX2_firstStreet g a (va_up (va_up z 11 r1o0) 12 S.1.2.2) pn (a 8 (5 * pn)) S.1.2.1 set)) (nI S.1.2.1)), upd S.1.2.2 i35 (nI (toN (fX2_firstStreet g a (va_up (va_up z 11 r1o0) 12 S.1.2.2) pn (a 8 (5 * pn)) S.1.2.1 set)))), false)
theorem fX2_layWay_b35_s (g : Nat → Nat) (a : Nat → Nat → Int32) (z : Nat → Nat → Int32) (pn : Nat) (to : Nat) (set : Int32) (r1o0 : Nat → Int32) : ∀ (i : Nat) (S : (Nat × Nat × (Nat → Int32)) × Bool), S.2 = true → fX2_layWay_b35 g a z pn to set r1o0 i S = S := fun _ _ h => if_pos h
/-- the way that is laid ends, and each of its streets is one -/
def mWayOK (g : Nat → Nat) (a : Nat → Nat → Int32) (z : Nat → Nat → Int32) (pn fr to : Nat) (set : Int32) (aw : Nat → Int32) : Prop := aw fr < nI 1000000000 → (it (fX2_layWay_b35 g a z pn to set aw) 8 ((0, fr, z 12), false)).2 = true ∧ ∀ (i c : Nat) (w : Nat → Int32), i < 8 → ((i, c, w), false) = it (fX2_layWay_b35 g a z pn to set aw) i ((0, fr, z 12), false) → c < 8 ∧ (¬ c = to → (∃ j, j < g 4 ∧ fX2_firstStreet g a (va_up (va_up z 11 aw) 12 w) pn (a 8 (5 * pn)) c set = nI j) ∧ ∃ j, j < 8 ∧ fX2_beyond a (toN (fX2_firstStreet g a (va_up (va_up z 11 aw) 12 w) pn (a 8 (5 * pn)) c set)) (nI c) = nI j)
def fX2_layWay (g : Nat → Nat) (a : Nat → Nat → Int32) (z : Nat → Nat → Int32) (pn : Nat) (fr : Nat) (to : Nat) (set : Int32) : Int32 × (Nat → Int32) × (Nat → Int32) := if ((fX2_layAway g a z pn (a 8 (5 * pn)) to set) fr) < (nI 1000000000) then (nI ((it (fX2_layWay_b35 g a z pn to set (fX2_layAway g a z pn (a 8 (5 * pn)) to set)) 8 ((0, fr, z 12), false)).1.1), (fX2_layAway g a z pn (a 8 (5 * pn)) to set), ((it (fX2_layWay_b35 g a z pn to set (fX2_layAway g a z pn (a 8 (5 * pn)) to set)) 8 ((0, fr, z 12), false)).1.2.2)) else ((-1), (fX2_layAway g a z pn (a 8 (5 * pn)) to set), z 12)
def rmX2_layWay : Room := { frames := 4, cells := 0, slots := 0, locals := 100 }
theorem hdX2_layWay : yX2_layWay.cls = RX2 ∧ yX2_layWay.cls ≠ "java/lang/invoke/MethodHandle" ∧ yX2_layWay.cls ≠ "java/lang/invoke/VarHandle" ∧ (parseMethodDescriptor yX2_layWay.desc).map (fun d => d.parameters.length) = some 4 := by decide +kernel
set_option maxHeartbeats 4000000 in
theorem kX2_layWay (l : Launch) (ω : OM) (g : Nat → Nat) (y : Nat → Int32) (a z : Nat → Nat → Int32) (kt : Int32) (hs : Int64) (pn : Nat) (fr : Nat) (to : Nat) (set : Int32) (hpn : pn < 3) (hfr : fr < 8) (hto : to < 8) (hr : mRows (g 4) (a 7)) (hw : mWayOK g a z pn fr to set (fX2_layAway g a z pn (a 8 (5 * pn)) to set)) : Met l yX2_layWay (ws_ yX2_layWay cX2_layWay 8 (some .int)) rmX2_layWay (va_Pc [.ref (ω.2.1 0 99), .int (nI pn), .int (nI fr), .int (nI to), .int set] (fun U => mK ω U ∧ mH ω (g, y, a, z, kt, hs) U.heap)) (va_Qi (fun (r : Int32) (u : MS) => ∃ (o0 : Nat → Int32) (o1 : Nat → Int32), (r, o0, o1) = (fX2_layWay g a z pn fr to set) ∧ u = (g, y, a, va_up (va_up z 11 o0) 12 o1, kt, hs)) (fun u t => mH ω u t.heap) ω.2.2.1) 0 0 ω.2.2.1 := by
  refine g_entWi (C := RX2) rfl (by decide) (Nat.le_of_ble_eq_true rfl) ?_
  intro p e s m args below meth c QQ ls H locs hF hK hH hS hl hret
  have hl : lv_has ls 8 [(0, .ref (ω.2.1 0 99)), (1, .int (nI pn)), (2, .int (nI fr)), (3, .int (nI to)), (4, .int set)] := hl
  have hn := hr.1
  refine lv_aload_n hF.1 hF.2.1 dX2_layWay_0 rfl (lv_at hl 0 rfl) ?_
  refine lv_iload_n hF.1 hF.2.1 dX2_layWay_1 rfl (lv_at hl 1 rfl) ?_
  refine lv_aload_n hF.1 hF.2.1 dX2_layWay_2 rfl (lv_at hl 0 rfl) ?_
  refine mg_8 hF hK hH q979 dX2_layWay_3 ?_
  refine lv_iconst (v := nI 5) hF.1 hF.2.1 dX2_layWay_6 (by decide) ?_
  refine lv_iload_n hF.1 hF.2.1 dX2_layWay_7 rfl (lv_at hl 1 rfl) ?_
  refine n_imul hF.1 hF.2.1 dX2_layWay_8 ?_
  refine m_ald hF hK hH 8 (n := 15) rfl rfl (by decide) rfl (f := a 8) rfl (i := 5 * pn) (by omega) (by decide) dX2_layWay_9 ?_
  refine lv_iload_n hF.1 hF.2.1 dX2_layWay_10 rfl (lv_at hl 3 rfl) ?_
  refine lv_iload hF.1 hF.2.1 dX2_layWay_11 (lv_at hl 4 rfl) ?_
  refine g_vWv (As := [.int (nI pn), .int (a 8 (5 * pn)), .int (nI to), .int set]) (rest := []) hF (kX2_layAway l ω g y a z kt hs pn (a 8 (5 * pn)) to set (by omega) (by omega) hr) (lw_V q1126 q1128 qs55 q97 q1129) 4 hdX2_layAway rfl rfl ⟨Nat.le_of_ble_eq_true rfl, Nat.le_of_ble_eq_true rfl⟩ (m_preV hK hH) rfl hl.1 rfl (Nat.le_of_ble_eq_true rfl) dX2_layWay_13 ⟨Nat.le_of_ble_eq_true rfl, Nat.le_of_ble_eq_true rfl⟩ hS (fun ur1 H locs hqr1 hH hS => ?_)
  obtain ⟨r1o0, hr1, rfl⟩ := hqr1
  have e_r1o0 := hr1
  refine lv_aload_n hF.1 hF.2.1 dX2_layWay_16 rfl (lv_at hl 0 rfl) ?_
  refine mg_11 hF hK hH q982 dX2_layWay_17 ?_
  refine lv_iload_n hF.1 hF.2.1 dX2_layWay_20 rfl (lv_at hl 2 rfl) ?_
  refine m_zld hF hK hH 11 (n := 8) rfl rfl (by decide) rfl (f := r1o0) rfl (i := fr) (by omega) (by decide) dX2_layWay_21 ?_
  refine lv_ldc (v := nI 1000000000) hF.1 hF.2.1 hF.2.2.2.1 (hF.2.2.2.2 _ q1130) dX2_layWay_22 ?_
  refine lv_icmp_lt (tgt := 29) hF.1 hF.2.1 dX2_layWay_24 (by decide) (fun c2 => ?_) (fun c2 => ?_)
  · skip
    rw [← e_r1o0] at hw
    have hw2 := hw c2
    refine lv_iload_n hF.1 hF.2.1 dX2_layWay_29 rfl (lv_at hl 2 rfl) ?_
    refine lv_istore (lv' := [(5, .int (nI fr)), (0, .ref (ω.2.1 0 99)), (1, .int (nI pn)), (2, .int (nI fr)), (3, .int (nI to)), (4, .int set)]) hF.1 hF.2.1 dX2_layWay_30 hl (by decide) rfl (fun ls hl => ?_)
    refine lv_iconst (v := nI 0) hF.1 hF.2.1 dX2_layWay_32 (by decide) ?_
    refine lv_istore (lv' := [(6, .int (nI 0)), (5, .int (nI fr)), (0, .ref (ω.2.1 0 99)), (1, .int (nI pn)), (2, .int (nI fr)), (3, .int (nI to)), (4, .int set)]) hF.1 hF.2.1 dX2_layWay_33 hl (by decide) rfl (fun ls hl => ?_)
    have kx35_126 : ∀ (n35 : Nat) (x35_5 : Nat) (w35_z12 : Nat → Int32) (H : Heap) (locs : List Loc) (ls : Array Slot), (n35, x35_5, w35_z12) = (it (fX2_layWay_b35 g a z pn to set r1o0) 8 ((0, fr, z 12), false)).1 → n35 ≤ 8 → mH ω (g, y, a, va_up (va_up z 11 r1o0) 12 w35_z12, kt, hs) H → va_S ω.2.2.1 s.heap H locs → lv_has ls 8 [(6, .int (nI n35))] → W p l e rmX2_layWay s m args below meth c H locs 0 0 QQ (F0 m 85 ls []) := by
      intro n35 x35_5 w35_z12 H locs ls hE35 hn35 hH hS hl
      have e_n35 : n35 = (it (fX2_layWay_b35 g a z pn to set r1o0) 8 ((0, fr, z 12), false)).1.1 := by rw [← hE35]
      have e_x35_5 : x35_5 = (it (fX2_layWay_b35 g a z pn to set r1o0) 8 ((0, fr, z 12), false)).1.2.1 := by rw [← hE35]
      have e_w35_z12 : w35_z12 = (it (fX2_layWay_b35 g a z pn to set r1o0) 8 ((0, fr, z 12), false)).1.2.2 := by rw [← hE35]
      refine lv_iload hF.1 hF.2.1 dX2_layWay_85 (lv_at hl 0 rfl) ?_
      exact hret _ _ _ _ _ _ dX2_layWay_87 ⟨_, _, by subst e_w35_z12; subst e_x35_5; subst e_n35; subst e_r1o0; unfold fX2_layWay; first | (rw [if_pos c2]; done) | (simp only [if_pos c2]), rfl⟩ hH hS
    have lp35_125 : ∀ (d35 i35 : Nat) (x35_5 : Nat) (w35_z12 : Nat → Int32) (H : Heap) (locs : List Loc) (ls : Array Slot), i35 + d35 = 8 → ((i35, x35_5, w35_z12), false) = it (fX2_layWay_b35 g a z pn to set r1o0) i35 ((0, fr, z 12), false) → mH ω (g, y, a, va_up (va_up z 11 r1o0) 12 w35_z12, kt, hs) H → va_S ω.2.2.1 s.heap H locs → lv_has ls 8 [(6, .int (nI i35)), (5, .int (nI x35_5)), (0, .ref (ω.2.1 0 99)), (1, .int (nI pn)), (3, .int (nI to)), (4, .int set)] → W p l e rmX2_layWay s m args below meth c H locs 0 0 QQ (F0 m 35 ls []) := by
      intro d35
      induction d35 with
      | zero =>
        intro i35 x35_5 w35_z12 H locs ls hi35 hS35 hH hS hl
        have hj35 : 8 = i35 := by omega
        subst hj35
        exact absurd (show (it (fX2_layWay_b35 g a z pn to set r1o0) 8 ((0, fr, z 12), false)).2 = true from (hw2.1)) (by rw [← hS35]; exact Bool.false_ne_true)
      | succ d35 ih =>
        intro i35 x35_5 w35_z12 H locs ls hi35 hS35 hH hS hl
        obtain ⟨hc8, hcn⟩ := hw2.2 i35 x35_5 w35_z12 (by omega) hS35
        refine lv_iload hF.1 hF.2.1 dX2_layWay_35 (lv_at hl 1 rfl) ?_
        refine lv_iload_n hF.1 hF.2.1 dX2_layWay_37 rfl (lv_at hl 4 rfl) ?_
        refine n_eq (tgt := 85) hF.1 hF.2.1 dX2_layWay_38 (by decide) (by omega) (by omega) (fun c3 => ?_) (fun c3 => ?_)
        · skip
          exact kx35_126 _ _ _ _ _ _ (by rw [it_stop (fX2_layWay_b35_s g a z pn to set r1o0) (i := i35 + 1) (a := (i35, x35_5, w35_z12)) (by rw [it_succ (fX2_layWay_b35 g a z pn to set r1o0) i35 _, ← hS35]; unfold fX2_layWay_b35; dsimp only; first | (rw [if_neg (show ¬ (false = true) from Bool.false_ne_true), if_pos c3]; done) | (simp only [if_neg (show ¬ (false = true) from Bool.false_ne_true), if_pos c3])) 8 (by omega)]) (by omega) hH hS (lv_sub hl [0] rfl)
        · skip
          refine lv_aload_n hF.1 hF.2.1 dX2_layWay_41 rfl (lv_at hl 2 rfl) ?_
          refine lv_iload_n hF.1 hF.2.1 dX2_layWay_42 rfl (lv_at hl 3 rfl) ?_
          refine lv_aload_n hF.1 hF.2.1 dX2_layWay_43 rfl (lv_at hl 2 rfl) ?_
          refine mg_8 hF hK hH q979 dX2_layWay_44 ?_
          refine lv_iconst (v := nI 5) hF.1 hF.2.1 dX2_layWay_47 (by decide) ?_
          refine lv_iload_n hF.1 hF.2.1 dX2_layWay_48 rfl (lv_at hl 3 rfl) ?_
          refine n_imul hF.1 hF.2.1 dX2_layWay_49 ?_
          refine m_ald hF hK hH 8 (n := 15) rfl rfl (by decide) rfl (f := a 8) rfl (i := 5 * pn) (by omega) (by decide) dX2_layWay_50 ?_
          refine lv_iload hF.1 hF.2.1 dX2_layWay_51 (lv_at hl 1 rfl) ?_
          refine lv_iload hF.1 hF.2.1 dX2_layWay_53 (lv_at hl 5 rfl) ?_
          refine g_vPi (As := [.int (nI pn), .int (a 8 (5 * pn)), .int (nI x35_5), .int set]) (rest := []) hF (kX2_firstStreet l ω g y a (va_up (va_up z 11 r1o0) 12 w35_z12) kt hs pn (a 8 (5 * pn)) x35_5 set (by omega) (by omega) hr) (lw_V q1139 q1141 qs58 q97 q1142) 4 hdX2_firstStreet rfl rfl ⟨Nat.le_of_ble_eq_true rfl, Nat.le_of_ble_eq_true rfl⟩ (m_preV hK hH) rfl hl.1 rfl (Nat.le_of_ble_eq_true rfl) dX2_layWay_55 ⟨Nat.zero_le _, Nat.zero_le _⟩ (fun r4 e_r4 => ?_)
          obtain ⟨b5e, b5l⟩ := g_lift (r := r4) (n := g 4) (by rw [e_r4]; exact (hcn c3).1) (by omega)
          refine n_top b5e ?_
          refine lv_istore (lv' := [(7, .int (nI (toN r4))), (6, .int (nI i35)), (5, .int (nI x35_5)), (0, .ref (ω.2.1 0 99)), (1, .int (nI pn)), (3, .int (nI to)), (4, .int set)]) hF.1 hF.2.1 dX2_layWay_58 hl (by decide) rfl (fun ls hl => ?_)
          refine lv_aload_n hF.1 hF.2.1 dX2_layWay_60 rfl (lv_at hl 3 rfl) ?_
          refine mg_12 hF hK hH q983 dX2_layWay_61 ?_
          refine lv_iload hF.1 hF.2.1 dX2_layWay_64 (lv_at hl 1 rfl) ?_
          refine lv_iload hF.1 hF.2.1 dX2_layWay_66 (lv_at hl 0 rfl) ?_
          refine m_zst (z' := va_up (va_up z 11 r1o0) 12 (upd w35_z12 i35 (nI (toN r4)))) hF hK hH hS 12 (n := 8) rfl rfl (by decide) rfl (f := w35_z12) rfl (i := i35) (by omega) (by decide) dX2_layWay_68 rfl (by intro j hj; simp only [va_up, if_neg hj]) (fun H locs hH hS => ?_)
          refine n_iinc (lv' := [(6, .int (nI (i35 + 1))), (7, .int (nI (toN r4))), (5, .int (nI x35_5)), (0, .ref (ω.2.1 0 99)), (1, .int (nI pn)), (3, .int (nI to)), (4, .int set)]) hF.1 hF.2.1 dX2_layWay_69 hl (k := 1) rfl (by decide) rfl (fun ls hl => ?_)
          refine lv_aload_n hF.1 hF.2.1 dX2_layWay_72 rfl (lv_at hl 3 rfl) ?_
          refine lv_iload hF.1 hF.2.1 dX2_layWay_73 (lv_at hl 1 rfl) ?_
          refine lv_iload hF.1 hF.2.1 dX2_layWay_75 (lv_at hl 2 rfl) ?_
          refine g_vPi (As := [.int (nI (toN r4)), .int (nI x35_5)]) (rest := []) hF (kX2_beyond l ω g y a (va_up (va_up z 11 r1o0) 12 (upd w35_z12 i35 (nI (toN r4)))) kt hs (toN r4) (nI x35_5) (by omega)) (lw_V q1143 q1145 qs59 q97 q1146) 2 hdX2_beyond rfl rfl ⟨Nat.le_of_ble_eq_true rfl, Nat.le_of_ble_eq_true rfl⟩ (m_preV hK hH) rfl hl.1 rfl (Nat.le_of_ble_eq_true rfl) dX2_layWay_77 ⟨Nat.zero_le _, Nat.zero_le _⟩ (fun r6 e_r6 => ?_)
          obtain ⟨b7e, b7l⟩ := g_lift (r := r6) (n := 8) (by rw [e_r6, e_r4]; exact (hcn c3).2) (by omega)
          refine n_top b7e ?_
          refine lv_istore (lv' := [(5, .int (nI (toN r6))), (6, .int (nI (i35 + 1))), (7, .int (nI (toN r4))), (0, .ref (ω.2.1 0 99)), (1, .int (nI pn)), (3, .int (nI to)), (4, .int set)]) hF.1 hF.2.1 dX2_layWay_80 hl (by decide) rfl (fun ls hl => ?_)
          refine lv_goto (tgt := 35) hF.1 hF.2.1 dX2_layWay_82 (by decide) ?_
          exact ih (i35 + 1) _ _ _ _ _ (by omega) (by subst e_r6; subst e_r4; rw [it_succ (fX2_layWay_b35 g a z pn to set r1o0) i35 _, ← hS35]; unfold fX2_layWay_b35; dsimp only; first | (rw [if_neg (show ¬ (false = true) from Bool.false_ne_true), if_neg c3]; done) | (simp only [if_neg (show ¬ (false = true) from Bool.false_ne_true), if_neg c3])) hH hS (lv_sub hl [1, 0, 3, 4, 5, 6] rfl)
    have hH : mH ω (g, y, a, va_up (va_up z 11 r1o0) 12 (z 12), kt, hs) H := m_ext (fun _ => rfl) (fun _ => rfl) (fun _ => rfl) (by intro k; by_cases h0 : k = 12; (subst h0; simp [va_up]); simp only [va_up, if_neg h0]) hH
    exact lp35_125 8 0 _ _ _ _ _ (by omega) rfl hH hS (lv_sub hl [0, 1, 2, 3, 5, 6] rfl)
  · skip
    refine lv_iconst (v := (-1)) hF.1 hF.2.1 dX2_layWay_27 (by decide) ?_
    have hH : mH ω (g, y, a, va_up (va_up z 11 r1o0) 12 (z 12), kt, hs) H := m_ext (fun _ => rfl) (fun _ => rfl) (fun _ => rfl) (by intro k; by_cases h0 : k = 12; (subst h0; simp [va_up]); simp only [va_up, if_neg h0]) hH
    exact hret _ _ _ _ _ _ dX2_layWay_28 ⟨_, _, by subst e_r1o0; unfold fX2_layWay; first | (rw [if_neg c2]; done) | (simp only [if_neg c2]), rfl⟩ hH hS

