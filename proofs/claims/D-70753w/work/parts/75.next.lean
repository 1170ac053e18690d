/-! THE READER: next, takes, digit -/
set_option maxRecDepth 100000
theorem WT.widen {p : Program} {l : Launch} {e : Env} {R : Room} {s : State} {m : MethodId} {args : Array Value} {below : List Frame} {meth : Method} {c : Code} {H : Heap} {locs : List Loc} {cells slots : Nat} {Q : State → Prop} {q : Addr} {g : JFrame} {k n : Nat} (h1 : cells ≤ k) (h2 : slots ≤ n) (kk : WT p l e R s m args below meth c H locs k n Q q g) : WT p l e R s m args below meth c H locs cells slots Q q g := fun T hT X => kk T hT (stand_widen X h1 h2)
theorem y_preV {ω : OM} {σ : RA} {e0 : Nat} {v1 v2 : Value} {u : XS} {ρ : RD} {s : State} {H : Heap} {locs : List Loc} (hK : yK ω e0 v1 v2 s) (hH : yH ω σ u ρ H) (hS : va_S ω.2.2.1 s.heap H locs) {As : List Value} : PreV s H RX3 σ.1 (va_Pc (.ref σ.1 :: As) (fun U => yK ω e0 v1 v2 U ∧ yH ω σ u ρ U.heap)) As := by
  obtain ⟨pl, pp, tf, rt, cu, so⟩ := ρ
  exact ⟨fun a U g mk q => ⟨q.1, q.2.1.call, q.2.2⟩, y_recvR hK.1 hH, fun U hU hW => ⟨rfl, hK.to (U := U) (by rw [hU]; exact hS) hW, by rw [hU]; exact hH⟩⟩
/-- the letter at a place; 0 behind the page -/
def nx (g : Nat → Nat → Nat) (pg : Nat → Int32) (pl : Nat) : Int32 := if g 0 7 ≤ pl then nI 0 else pg pl
/-- a digit stands at a place -/
def isDg (g : Nat → Nat → Nat) (pg : Nat → Int32) (pl lo hi : Nat) : Prop := pl < g 0 7 ∧ ∃ d, lo ≤ d ∧ d ≤ hi ∧ pg pl = nI (48 + d)
theorem in32_intro {v lo hi : Int32} (h1 : lo ≤ v) (h2 : v ≤ hi) : ¬ fX0_in v lo hi = 0 := by
  unfold fX0_in
  rw [if_neg (Int32.not_lt.mpr h1), if_neg (Int32.not_lt.mpr h2)]
  decide
theorem in32_lift2' {x : Int32} {lo hi : Nat} (hlo : lo < 2 ^ 30) (hhi : hi < 2 ^ 29) (h : ¬ fX0_in x (nI lo) (nI hi) = 0) : ∃ j, j ≤ hi ∧ x = nI j := by
  obtain ⟨j, hj, e⟩ := in32_lift2 (n := hi + 1) (m := lo) (k := hi) rfl (by omega) hlo h
  exact ⟨j, by omega, e⟩
theorem in_dg {g : Nat → Nat → Nat} {pg : Nat → Int32} {pl lo hi : Nat} (hlo : lo < 2 ^ 30) (hhi : hi ≤ 9) : ¬ fX0_in (nx g pg pl - nI 48) (nI lo) (nI hi) = 0 ↔ isDg g pg pl lo hi := by
  unfold nx isDg
  by_cases h : g 0 7 ≤ pl
  · rw [if_pos h]
    refine ⟨fun q => ?_, fun q => absurd q.1 (by omega)⟩
    exfalso
    obtain ⟨j, hj, e⟩ := in32_lift2' hlo (by omega) q
    rw [← Int32.toInt_inj, nI_toInt (by omega)] at e
    have : (nI 0 - nI 48).toInt = -48 := by decide
    omega
  · rw [if_neg h]
    constructor
    · intro q
      obtain ⟨j, hj, e⟩ := in32_lift2' hlo (by omega) q
      refine ⟨by omega, j, ?_, by omega, ?_⟩
      · rw [e] at q
        have h1 := (in32_of q).1
        exact (nI_leI (by omega) (by omega)).mp h1
      · rw [← nI_add, Int32.add_comm, ← e]
        exact (Int32.sub_add_cancel _ _).symm
    · rintro ⟨_, d, h1, h2, h3⟩
      rw [h3, nI_sub (by omega) (by omega), Nat.add_sub_cancel_left]
      exact in32_intro ((nI_leI (by omega) (by omega)).mpr h1) ((nI_leI (by omega) (by omega)).mpr h2)
/-! (gen/y1.py) -/
def rmX3_next : Room := { frames := 1, cells := 0, slots := 0, locals := 24 }
theorem hdX3_next : yX3_next.cls = RX3 ∧ yX3_next.cls ≠ "java/lang/invoke/MethodHandle" ∧ yX3_next.cls ≠ "java/lang/invoke/VarHandle" ∧ (parseMethodDescriptor yX3_next.desc).map (fun d => d.parameters.length) = some 0 := by decide +kernel
theorem kX3_next (l : Launch) (ω : OM) (σ : RA) (e0 : Nat) (v1 v2 : Value) (g : Nat → Nat → Nat) (y : Nat → Nat → Int32) (a z : Nat → Nat → Nat → Int32) (dr : Int64) (pg : Nat → Int32) (t : TW) (pl pp : Nat) (tf : Nat → Int32) (rt : TW) (cu : CU) (b2 b3 : Nat) (hp50 : g 0 7 ≤ 50) (hpl : pl ≤ 60) : Met l yX3_next (ws_ yX3_next cX3_next 1 (some .int)) rmX3_next (va_Pc [.ref σ.1] (fun U => yK ω e0 v1 v2 U ∧ yH ω σ (g, y, a, z, dr, pg, t) (pl, pp, tf, rt, cu, (false, b2, b3)) U.heap)) (vp_Si (fun r => r = nx g pg pl)) 0 0 (fun _ => False) := by
  refine g_entPi (C := RX3) rfl (by decide) (Nat.le_of_ble_eq_true rfl) ?_
  intro p e s m args below meth c QQ ls hF hKH hl hret
  obtain ⟨hK, hH⟩ := hKH
  have hl : lv_has ls 1 [(0, .ref σ.1)] := hl
  refine lv_aload_n hF.1 hF.2.1 dX3_next_0 rfl (lv_at hl 0 rfl) ?_
  refine yg_place hF hK.1 hH q321 dX3_next_1 ?_
  refine lv_aload_n hF.1 hF.2.1 dX3_next_4 rfl (lv_at hl 0 rfl) ?_
  refine yg_this hF hK.1 hH q328 dX3_next_5 ?_
  refine xgN_q226 hF hK.1 hH.x dX3_next_8 (v := g 0 7) rfl ?_
  refine n_ge (tgt := 29) hF.1 hF.2.1 dX3_next_11 (by decide) (by omega) (by omega) (fun c1 => ?_) (fun c1 => ?_)
  · skip
    refine lv_iconst (v := nI 0) hF.1 hF.2.1 dX3_next_29 (by decide) ?_
    exact hret _ _ _ dX3_next_30 (by unfold nx; rw [if_pos c1])
  · skip
    refine lv_aload_n hF.1 hF.2.1 dX3_next_14 rfl (lv_at hl 0 rfl) ?_
    refine yg_this hF hK.1 hH q328 dX3_next_15 ?_
    refine xgN_q224 hF hK.1 hH.x dX3_next_18 ?_
    refine lv_aload_n hF.1 hF.2.1 dX3_next_21 rfl (lv_at hl 0 rfl) ?_
    refine yg_place hF hK.1 hH q321 dX3_next_22 ?_
    refine x_bld hF hK.1 hH.x (i := pl) (by omega) dX3_next_25 ?_
    refine lv_goto (tgt := 30) hF.1 hF.2.1 dX3_next_26 (by decide) ?_
    exact hret _ _ _ dX3_next_30 (by unfold nx; rw [if_neg c1])
def rmX3_takes : Room := { frames := 2, cells := 0, slots := 0, locals := 44 }
theorem hdX3_takes : yX3_takes.cls = RX3 ∧ yX3_takes.cls ≠ "java/lang/invoke/MethodHandle" ∧ yX3_takes.cls ≠ "java/lang/invoke/VarHandle" ∧ (parseMethodDescriptor yX3_takes.desc).map (fun d => d.parameters.length) = some 1 := by decide +kernel
theorem kX3_takes (l : Launch) (ω : OM) (σ : RA) (e0 : Nat) (v1 v2 : Value) (g : Nat → Nat → Nat) (y : Nat → Nat → Int32) (a z : Nat → Nat → Nat → Int32) (dr : Int64) (pg : Nat → Int32) (t : TW) (pl pp : Nat) (tf : Nat → Int32) (rt : TW) (cu : CU) (b2 b3 : Nat) (ch : Int32) (hp50 : g 0 7 ≤ 50) (hpl : pl ≤ 60) : Met l yX3_takes (ws_ yX3_takes cX3_takes 3 (some .boolean)) rmX3_takes (va_Pc [.ref σ.1, .int ch] (fun U => yK ω e0 v1 v2 U ∧ yH ω σ (g, y, a, z, dr, pg, t) (pl, pp, tf, rt, cu, (false, b2, b3)) U.heap)) (va_Qi (fun r (ρ : RD) => (r = nI 1 ∧ nx g pg pl = ch ∧ ρ = (pl + 1, pp, tf, rt, cu, (false, b2, b3))) ∨ (r = nI 0 ∧ ¬ nx g pg pl = ch ∧ ρ = (pl, pp, tf, rt, cu, (false, b2, b3)))) (fun ρ t' => yH ω σ (g, y, a, z, dr, pg, t) ρ t'.heap) ω.2.2.1) 0 0 ω.2.2.1 := by
  refine g_entWz (C := RX3) (Hp := yH ω σ (g, y, a, z, dr, pg, t)) rfl (by decide) (Nat.le_of_ble_eq_true rfl) ?_
  intro p e s m args below meth c QQ ls H locs hF hK hH hS hl hret
  have hl : lv_has ls 3 [(0, .ref σ.1), (1, .int ch)] := hl
  refine lv_aload_n hF.1 hF.2.1 dX3_takes_0 rfl (lv_at hl 0 rfl) ?_
  refine g_vPi (As := []) (rest := []) hF (kX3_next l ω σ e0 v1 v2 g y a z dr pg t pl pp tf rt cu b2 b3 hp50 (by omega)) (lw_V q348 q350 qs1 q98 q351) 0 hdX3_next rfl rfl ⟨Nat.le_of_ble_eq_true rfl, Nat.le_of_ble_eq_true rfl⟩ (y_preV hK hH hS) rfl hl.1 rfl (Nat.le_of_ble_eq_true rfl) dX3_takes_1 ⟨(by first | exact Nat.le_of_ble_eq_true rfl | (simp only [rmX3_takes]; omega)), (by first | exact Nat.le_of_ble_eq_true rfl | (simp only [rmX3_takes]; omega))⟩ (fun r e_r => ?_)
  subst e_r
  refine lv_iload_n hF.1 hF.2.1 dX3_takes_4 rfl (lv_at hl 1 rfl) ?_
  refine lv_icmp_ne (tgt := 12) hF.1 hF.2.1 dX3_takes_5 (by decide) (fun c1 => ?_) (fun c1 => ?_)
  · skip
    refine lv_iconst (v := nI 0) hF.1 hF.2.1 dX3_takes_12 (by decide) ?_
    refine lv_istore_n (lv' := [(2, .int (nI 0)), (0, .ref σ.1), (1, .int ch)]) hF.1 hF.2.1 dX3_takes_13 rfl hl (by decide) rfl (fun ls hl => ?_)
    refine lv_aload_n hF.1 hF.2.1 dX3_takes_14 rfl (lv_at hl 1 rfl) ?_
    refine lv_dup hF.1 hF.2.1 dX3_takes_15 rfl ?_
    refine yg_place hF hK.1 hH q321 dX3_takes_16 ?_
    refine lv_iload_n hF.1 hF.2.1 dX3_takes_19 rfl (lv_at hl 0 rfl) ?_
    refine lv_if_eq (tgt := 27) hF.1 hF.2.1 dX3_takes_20 (by decide) (fun _ => ?_) (fun h => absurd (by decide) h)
    refine lv_iconst (v := nI 0) hF.1 hF.2.1 dX3_takes_27 (by decide) ?_
    refine n_iadd hF.1 hF.2.1 dX3_takes_28 ?_
    refine yp_place hF hK.1 hH hS q321 dX3_takes_29 (fun H locs hH hS => ?_)
    refine lv_iload_n hF.1 hF.2.1 dX3_takes_32 rfl (lv_at hl 0 rfl) ?_
    exact hret _ _ _ (pl + 0, pp, tf, rt, cu, (false, b2, b3)) _ _ dX3_takes_33 (Or.inr ⟨rfl, c1, rfl⟩) (Or.inl nI_0) hH hS
  · skip
    refine lv_iconst (v := nI 1) hF.1 hF.2.1 dX3_takes_8 (by decide) ?_
    refine lv_goto (tgt := 13) hF.1 hF.2.1 dX3_takes_9 (by decide) ?_
    refine lv_istore_n (lv' := [(2, .int (nI 1)), (0, .ref σ.1), (1, .int ch)]) hF.1 hF.2.1 dX3_takes_13 rfl hl (by decide) rfl (fun ls hl => ?_)
    refine lv_aload_n hF.1 hF.2.1 dX3_takes_14 rfl (lv_at hl 1 rfl) ?_
    refine lv_dup hF.1 hF.2.1 dX3_takes_15 rfl ?_
    refine yg_place hF hK.1 hH q321 dX3_takes_16 ?_
    refine lv_iload_n hF.1 hF.2.1 dX3_takes_19 rfl (lv_at hl 0 rfl) ?_
    refine lv_if_eq (tgt := 27) hF.1 hF.2.1 dX3_takes_20 (by decide) (fun h => absurd h (by decide)) (fun _ => ?_)
    refine lv_iconst (v := nI 1) hF.1 hF.2.1 dX3_takes_23 (by decide) ?_
    refine lv_goto (tgt := 28) hF.1 hF.2.1 dX3_takes_24 (by decide) ?_
    refine n_iadd hF.1 hF.2.1 dX3_takes_28 ?_
    refine yp_place hF hK.1 hH hS q321 dX3_takes_29 (fun H locs hH hS => ?_)
    refine lv_iload_n hF.1 hF.2.1 dX3_takes_32 rfl (lv_at hl 0 rfl) ?_
    exact hret _ _ _ (pl + 1, pp, tf, rt, cu, (false, b2, b3)) _ _ dX3_takes_33 (Or.inl ⟨rfl, c1, rfl⟩) (Or.inr rfl) hH hS
def rmX3_digit : Room := { frames := 5, cells := 1, slots := 7, locals := 114 }
theorem hdX3_digit : yX3_digit.cls = RX3 ∧ yX3_digit.cls ≠ "java/lang/invoke/MethodHandle" ∧ yX3_digit.cls ≠ "java/lang/invoke/VarHandle" ∧ (parseMethodDescriptor yX3_digit.desc).map (fun d => d.parameters.length) = some 2 := by decide +kernel
theorem kX3_digit (l : Launch) (ω : OM) (σ : RA) (e0 : Nat) (v1 v2 : Value) (g : Nat → Nat → Nat) (y : Nat → Nat → Int32) (a z : Nat → Nat → Nat → Int32) (dr : Int64) (pg : Nat → Int32) (t : TW) (pl pp : Nat) (tf : Nat → Int32) (rt : TW) (cu : CU) (b2 b3 : Nat) (lo hi : Nat) (hp50 : g 0 7 ≤ 50) (hpl : pl ≤ 60) (hlo : lo < 2 ^ 30) (hhi : hi ≤ 9) : MetT l yX3_digit (ws_ yX3_digit cX3_digit 3 (some .int)) rmX3_digit (va_Pc [.ref σ.1, .int (nI lo), .int (nI hi)] (fun U => yK ω e0 v1 v2 U ∧ yH ω σ (g, y, a, z, dr, pg, t) (pl, pp, tf, rt, cu, (false, b2, b3)) U.heap)) (va_QT (fun oc (ρ : RD) => (∃ d, (pl < g 0 7 ∧ lo ≤ d ∧ d ≤ hi ∧ pg pl = nI (48 + d)) ∧ oc = .returned (some (.int (nI d))) ∧ ρ = (pl + 1, pp, tf, rt, cu, (false, b2, b3))) ∨ (¬ isDg g pg pl lo hi ∧ thr pl oc ρ)) (fun ρ t' => yH ω σ (g, y, a, z, dr, pg, t) ρ t'.heap) ω.2.2.1) 1 7 ω.2.2.1 := by
  refine g_entT (C := RX3) (Hp := yH ω σ (g, y, a, z, dr, pg, t)) rfl (by decide) (Nat.le_of_ble_eq_true rfl) ?_
  intro p e s m args below meth c QQ ls H locs hF hK hH hS hl hE
  have hl : lv_has ls 3 [(0, .ref σ.1), (1, .int (nI lo)), (2, .int (nI hi))] := hl
  refine lv_aload_n hF.1 hF.2.1 dX3_digit_0 rfl (lv_at hl 0 rfl) ?_
  refine lv_aload_n hF.1 hF.2.1 dX3_digit_1 rfl (lv_at hl 0 rfl) ?_
  refine g_vPi (As := []) (rest := [.ref σ.1]) hF (kX3_next l ω σ e0 v1 v2 g y a z dr pg t pl pp tf rt cu b2 b3 hp50 (by omega)) (lw_V q348 q350 qs1 q98 q351) 0 hdX3_next rfl rfl ⟨Nat.le_of_ble_eq_true rfl, Nat.le_of_ble_eq_true rfl⟩ (y_preV hK hH hS) rfl hl.1 rfl (Nat.le_of_ble_eq_true rfl) dX3_digit_2 ⟨(by first | exact Nat.le_of_ble_eq_true rfl | (simp only [rmX3_digit]; omega)), (by first | exact Nat.le_of_ble_eq_true rfl | (simp only [rmX3_digit]; omega))⟩ (fun r e_r => ?_)
  subst e_r
  refine lv_bipush (v := nI 48) hF.1 hF.2.1 dX3_digit_5 (by decide) ?_
  refine lv_isub hF.1 hF.2.1 dX3_digit_7 ?_
  refine lv_iload_n hF.1 hF.2.1 dX3_digit_8 rfl (lv_at hl 1 rfl) ?_
  refine lv_iload_n hF.1 hF.2.1 dX3_digit_9 rfl (lv_at hl 2 rfl) ?_
  refine g_sNPi (As := [.int ((nx g pg pl) - (nI 48)), .int (nI lo), .int (nI hi)]) (rest := [.ref σ.1]) hF (kX0_in l ((nx g pg pl) - (nI 48)) (nI lo) (nI hi)) (lw_meth q303) (xn_q352 hK.1.2) q92 q302 3 hdX0_in.2 rfl rfl ⟨Nat.le_of_ble_eq_true rfl, Nat.le_of_ble_eq_true rfl⟩ g_pre0 rfl hl.1 rfl (Nat.le_of_ble_eq_true rfl) dX3_digit_10 ⟨(by first | exact Nat.le_of_ble_eq_true rfl | (simp only [rmX3_digit]; omega)), (by first | exact Nat.le_of_ble_eq_true rfl | (simp only [rmX3_digit]; omega))⟩ (fun r e_r => ?_)
  subst e_r
  refine g_vT (As := [.int (fX0_in ((nx g pg pl) - (nI 48)) (nI lo) (nI hi))]) (rest := []) hF (kX3_want l ω σ e0 v1 v2 (g, y, a, z, dr, pg, t) pl pp tf rt cu b2 b3 (fX0_in ((nx g pg pl) - (nI 48)) (nI lo) (nI hi))) (lw_V q353 q355 qs2 q98 q356) 1 hdX3_want rfl rfl ⟨Nat.le_of_ble_eq_true rfl, Nat.le_of_ble_eq_true rfl⟩ (y_preV hK hH hS) rfl hl.1 rfl (Nat.le_of_ble_eq_true rfl) dX3_digit_13 ⟨(by first | exact Nat.le_of_ble_eq_true rfl | (simp only [rmX3_digit]; omega)), (by first | exact Nat.le_of_ble_eq_true rfl | (simp only [rmX3_digit]; omega))⟩ hS (fun o ρ' H locs hq hH hS => ?_)
  rcases hq with ⟨w1, rfl, rfl⟩ | ⟨w1, hthr⟩
  · skip
    show W p l e rmX3_digit s m args below meth c H locs 1 7 QQ (F0 m 16 ls [])
    obtain ⟨hlt, d, hd1, hd2, hd3⟩ := (in_dg hlo hhi).mp w1
    refine lv_aload_n hF.1 hF.2.1 dX3_digit_16 rfl (lv_at hl 0 rfl) ?_
    refine lv_dup hF.1 hF.2.1 dX3_digit_17 rfl ?_
    refine yg_place hF hK.1 hH q321 dX3_digit_18 ?_
    refine lv_iconst (v := nI 1) hF.1 hF.2.1 dX3_digit_21 (by decide) ?_
    refine n_iadd hF.1 hF.2.1 dX3_digit_22 ?_
    refine yp_place hF hK.1 hH hS q321 dX3_digit_23 (fun H locs hH hS => ?_)
    refine lv_aload_n hF.1 hF.2.1 dX3_digit_26 rfl (lv_at hl 0 rfl) ?_
    refine yg_this hF hK.1 hH q328 dX3_digit_27 ?_
    refine xgN_q224 hF hK.1 hH.x dX3_digit_30 ?_
    refine lv_aload_n hF.1 hF.2.1 dX3_digit_33 rfl (lv_at hl 0 rfl) ?_
    refine yg_place hF hK.1 hH q321 dX3_digit_34 ?_
    refine lv_iconst (v := nI 1) hF.1 hF.2.1 dX3_digit_37 (by decide) ?_
    refine n_isub hF.1 hF.2.1 dX3_digit_38 (by omega) ?_
    refine x_bld hF hK.1 hH.x (i := (pl + 1) - 1) (by omega) dX3_digit_39 ?_
    refine lv_bipush (v := nI 48) hF.1 hF.2.1 dX3_digit_40 (by decide) ?_
    refine lv_isub hF.1 hF.2.1 dX3_digit_42 ?_
    exact hE.1 _ _ _ (pl + 1, pp, tf, rt, cu, (false, b2, b3)) _ _ rfl dX3_digit_43 (Or.inl ⟨d, ⟨hlt, hd1, hd2, hd3⟩, by rw [show pl + 1 - 1 = pl by omega, hd3, nI_sub (by omega) (by omega), Nat.add_sub_cancel_left], rfl⟩) hH hS
  · skip
    obtain ⟨qq, rfl, hso⟩ := hthr
    refine WT.widen (k := 1) (n := 7) (by first | exact Nat.le_of_ble_eq_true rfl | omega) (by first | exact Nat.le_of_ble_eq_true rfl | omega) ?_
    exact hE.2.2.2.2 _ _ qq _ ρ' _ _ (Or.inr ⟨fun q => absurd w1 ((in_dg hlo hhi).mpr q), qq, rfl, hso⟩) hH hS
