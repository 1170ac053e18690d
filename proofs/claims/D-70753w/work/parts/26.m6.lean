/-! MODEL: a page is read -/
set_option maxRecDepth 100000
def fX2_faultOf_b7 (y : Nat → Int32) (a : Nat → Nat → Int32) (i7 : Nat) (S : (Nat × Int32) × Bool) : (Nat × Int32) × Bool := if S.2 = true then S else if ((fX2_isGood (va_up y 2 S.1.2) a i7).1) = 0 then ((i7, ((fX2_isGood (va_up y 2 S.1.2) a i7).2)), true) else ((i7 + 1, ((fX2_isGood (va_up y 2 S.1.2) a i7).2)), false)
theorem fX2_faultOf_b7_s (y : Nat → Int32) (a : Nat → Nat → Int32) : ∀ (i : Nat) (S : (Nat × Int32) × Bool), S.2 = true → fX2_faultOf_b7 y a i S = S := fun _ _ h => if_pos h
def fInv (n : Nat) (w : Int32) : Prop := (w = (-1) ∧ n ≤ 3) ∨ ∃ e, 1 ≤ e ∧ e ≤ 3 ∧ e < n ∧ w = nI e
theorem fInv.low {n : Nat} {w : Int32} (h : fInv n w) : w = (-1) ∨ ∃ e, e < n ∧ w = nI e := by
  rcases h with h | ⟨e, _, _, h3, h4⟩
  · exact Or.inl h.1
  · exact Or.inr ⟨e, h3, h4⟩
theorem fInv.at {n : Nat} {w : Int32} (h : fInv n w) (hw : ¬ w = (-1)) : 1 ≤ toN w ∧ toN w ≤ 3 ∧ toN w < n ∧ w = nI (toN w) := by
  rcases h with h | ⟨e, h1, h2, h3, h4⟩
  · exact absurd h.1 hw
  · rw [h4, toN_nI (by omega)]
    exact ⟨h1, h2, h3, rfl⟩
theorem fInv_step {y : Nat → Int32} {a : Nat → Nat → Int32} {i : Nat} {w : Int32} (h : fInv i w) : ((fX2_isGood (va_up y 2 w) a i).1 = 0 ∧ (fX2_isGood (va_up y 2 w) a i).2 = w) ∨ (¬ (fX2_isGood (va_up y 2 w) a i).1 = 0 ∧ fInv (i + 1) (fX2_isGood (va_up y 2 w) a i).2) := by
  have e2 : va_up y 2 w 2 = w := rfl
  unfold fX2_isGood
  rw [e2]
  by_cases h1 : w = (-1)
  · rw [if_pos h1]
    have h3 : i ≤ 3 := by
      rcases h with h | ⟨e, _, _, _, q⟩
      · exact h.2
      · rw [h1] at q
        have : (nI e).toInt = e := nI_toInt (by omega)
        rw [← q] at this
        have q2 : ((-1 : Int32)).toInt = -1 := rfl
        omega
    have low : (¬ 3 ≤ i → fInv (i + 1) w) := fun q => Or.inl ⟨h1, by omega⟩
    split
    · split
      · split
        · exact Or.inl ⟨nI_0, rfl⟩
        · split
          · exact Or.inl ⟨nI_0, rfl⟩
          · exact Or.inr ⟨nI_ne0 (by omega) (by omega), low (by assumption)⟩
      · rename_i q
        have hi : 1 ≤ i := by
          rcases Nat.eq_zero_or_pos i with z | z
          · subst z; exact absurd (by decide) q
          · exact z
        exact Or.inr ⟨nI_ne0 (by omega) (by omega), Or.inr ⟨i, hi, h3, by omega, rfl⟩⟩
    · split
      · exact Or.inl ⟨nI_0, rfl⟩
      · split
        · exact Or.inl ⟨nI_0, rfl⟩
        · exact Or.inr ⟨nI_ne0 (by omega) (by omega), low (by assumption)⟩
  · rw [if_neg h1]
    by_cases h2 : fX2_isStreetLetter a i (i - toN w - 1) = 0
    · exact Or.inl ⟨h2, rfl⟩
    · refine Or.inr ⟨h2, ?_⟩
      rcases h with h | ⟨e, a1, a2, a3, a4⟩
      · exact absurd h.1 h1
      · exact Or.inr ⟨e, a1, a2, by omega, a4⟩
theorem fX2_faultOf_inv (y : Nat → Int32) (a : Nat → Nat → Int32) : ∀ i, fInv (it (fX2_faultOf_b7 y a) i ((0, (-1)), false)).1.1 (it (fX2_faultOf_b7 y a) i ((0, (-1)), false)).1.2 ∧ (it (fX2_faultOf_b7 y a) i ((0, (-1)), false)).1.1 ≤ i ∧ ((it (fX2_faultOf_b7 y a) i ((0, (-1)), false)).2 = false → (it (fX2_faultOf_b7 y a) i ((0, (-1)), false)).1.1 = i) := by
  intro i
  induction i with
  | zero => exact ⟨Or.inl ⟨rfl, Nat.zero_le 3⟩, Nat.le_refl _, fun _ => rfl⟩
  | succ i ih =>
    rw [it_succ]
    generalize it (fX2_faultOf_b7 y a) i ((0, (-1)), false) = S at ih
    obtain ⟨⟨n, w⟩, b⟩ := S
    obtain ⟨h1, h2, h3⟩ := ih
    cases b with
    | true =>
      rw [fX2_faultOf_b7_s y a i ((n, w), true) rfl]
      exact ⟨h1, Nat.le_succ_of_le h2, fun q => absurd q Bool.noConfusion⟩
    | false =>
      have hn : n = i := h3 rfl
      subst hn
      have hs := fInv_step (y := y) (a := a) h1
      unfold fX2_faultOf_b7
      dsimp only
      rw [if_neg (show ¬ (false = true) from Bool.false_ne_true)]
      rcases hs with ⟨q1, q2⟩ | ⟨q1, q2⟩
      · rw [if_pos q1, q2]
        exact ⟨h1, by dsimp only; omega, fun q => absurd q Bool.noConfusion⟩
      · rw [if_neg q1]
        exact ⟨q2, Nat.le_refl _, fun _ => rfl⟩
def fX2_faultOf (g : Nat → Nat) (y : Nat → Int32) (a : Nat → Nat → Int32) : Nat × Int32 := (((it (fX2_faultOf_b7 y a) (g 1) ((0, (-1)), false)).1.1), ((it (fX2_faultOf_b7 y a) (g 1) ((0, (-1)), false)).1.2))
def rmX2_faultOf : Room := { frames := 4, cells := 0, slots := 0, locals := 94 }
theorem hdX2_faultOf : yX2_faultOf.cls = RX2 ∧ yX2_faultOf.cls ≠ "java/lang/invoke/MethodHandle" ∧ yX2_faultOf.cls ≠ "java/lang/invoke/VarHandle" ∧ (parseMethodDescriptor yX2_faultOf.desc).map (fun d => d.parameters.length) = some 0 := by decide +kernel
set_option maxHeartbeats 4000000 in
theorem kX2_faultOf (l : Launch) (ω : OM) (g : Nat → Nat) (y : Nat → Int32) (a z : Nat → Nat → Int32) (kt : Int32) (hs : Int64) (hp50 : g 1 ≤ 50) : Met l yX2_faultOf (ws_ yX2_faultOf cX2_faultOf 2 (some .int)) rmX2_faultOf (va_Pc [.ref (ω.2.1 0 99)] (fun U => mK ω U ∧ mH ω (g, y, a, z, kt, hs) U.heap)) (va_Qi (fun (r : Int32) (u : MS) => ∃ (rn : Nat) (o0 : Int32), r = nI rn ∧ (rn, o0) = (fX2_faultOf g y a) ∧ rn ≤ g 1 ∧ fInv rn o0 ∧ u = (g, va_up y 2 o0, a, z, kt, hs)) (fun u t => mH ω u t.heap) ω.2.2.1) 0 0 ω.2.2.1 := by
  refine g_entWi (C := RX2) rfl (by decide) (Nat.le_of_ble_eq_true rfl) ?_
  intro p e s m args below meth c QQ ls H locs hF hK hH hS hl hret
  have hl : lv_has ls 2 [(0, .ref (ω.2.1 0 99))] := hl
  refine lv_aload_n hF.1 hF.2.1 dX2_faultOf_0 rfl (lv_at hl 0 rfl) ?_
  refine lv_iconst (v := (-1)) hF.1 hF.2.1 dX2_faultOf_1 (by decide) ?_
  refine mp_2 hF hK hH hS q973 dX2_faultOf_2 (y' := va_up y 2 (-1)) rfl (by intro j hj; simp only [va_up, if_neg hj]) (fun H locs hH hS => ?_)
  refine lv_iconst (v := nI 0) hF.1 hF.2.1 dX2_faultOf_5 (by decide) ?_
  refine lv_istore_n (lv' := [(1, .int (nI 0)), (0, .ref (ω.2.1 0 99))]) hF.1 hF.2.1 dX2_faultOf_6 rfl hl (by decide) rfl (fun ls hl => ?_)
  have kx7_129 : ∀ (n7 : Nat) (w7_y2 : Int32) (H : Heap) (locs : List Loc) (ls : Array Slot), (n7, w7_y2) = (it (fX2_faultOf_b7 y a) (g 1) ((0, (-1)), false)).1 → n7 ≤ g 1 → mH ω (g, va_up y 2 w7_y2, a, z, kt, hs) H → va_S ω.2.2.1 s.heap H locs → lv_has ls 2 [(1, .int (nI n7))] → W p l e rmX2_faultOf s m args below meth c H locs 0 0 QQ (F0 m 29 ls []) := by
    intro n7 w7_y2 H locs ls hE7 hn7 hH hS hl
    have e_n7 : n7 = (it (fX2_faultOf_b7 y a) (g 1) ((0, (-1)), false)).1.1 := by rw [← hE7]
    have e_w7_y2 : w7_y2 = (it (fX2_faultOf_b7 y a) (g 1) ((0, (-1)), false)).1.2 := by rw [← hE7]
    have hI7 := fX2_faultOf_inv y a (g 1)
    rw [← e_n7, ← e_w7_y2] at hI7
    refine lv_iload_n hF.1 hF.2.1 dX2_faultOf_29 rfl (lv_at hl 0 rfl) ?_
    exact hret _ _ _ _ _ _ dX2_faultOf_30 ⟨_, _, rfl, by subst e_w7_y2; subst e_n7; rfl, hI7.2.1, hI7.1, rfl⟩ hH hS
  have lp7_128 : ∀ (d7 i7 : Nat) (w7_y2 : Int32) (H : Heap) (locs : List Loc) (ls : Array Slot), i7 + d7 = g 1 → ((i7, w7_y2), false) = it (fX2_faultOf_b7 y a) i7 ((0, (-1)), false) → mH ω (g, va_up y 2 w7_y2, a, z, kt, hs) H → va_S ω.2.2.1 s.heap H locs → lv_has ls 2 [(1, .int (nI i7)), (0, .ref (ω.2.1 0 99))] → W p l e rmX2_faultOf s m args below meth c H locs 0 0 QQ (F0 m 7 ls []) := by
    intro d7
    induction d7 with
    | zero =>
      intro i7 w7_y2 H locs ls hi7 hS7 hH hS hl
      have hj7 : g 1 = i7 := by omega
      subst hj7
      refine lv_iload_n hF.1 hF.2.1 dX2_faultOf_7 rfl (lv_at hl 0 rfl) ?_
      refine lv_aload_n hF.1 hF.2.1 dX2_faultOf_8 rfl (lv_at hl 1 rfl) ?_
      refine mg_1 hF hK hH q972 dX2_faultOf_9 (v := g 1) rfl ?_
      refine n_ge (tgt := 29) hF.1 hF.2.1 dX2_faultOf_12 (by decide) (by omega) (by omega) (fun c1 => ?_) (fun c1 => ?_)
      · skip
        exact kx7_129 _ _ _ _ _ (by rw [← hS7]) (by omega) hH hS (lv_sub hl [0] rfl)
      · exact absurd (by omega) c1
    | succ d7 ih =>
      intro i7 w7_y2 H locs ls hi7 hS7 hH hS hl
      have hI7 := fX2_faultOf_inv y a i7
      rw [← hS7] at hI7
      have hE := hI7.1.low
      refine lv_iload_n hF.1 hF.2.1 dX2_faultOf_7 rfl (lv_at hl 0 rfl) ?_
      refine lv_aload_n hF.1 hF.2.1 dX2_faultOf_8 rfl (lv_at hl 1 rfl) ?_
      refine mg_1 hF hK hH q972 dX2_faultOf_9 (v := g 1) rfl ?_
      refine n_ge (tgt := 29) hF.1 hF.2.1 dX2_faultOf_12 (by decide) (by omega) (by omega) (fun c2 => ?_) (fun c2 => ?_)
      · exact absurd c2 (by omega)
      · skip
        refine lv_aload_n hF.1 hF.2.1 dX2_faultOf_15 rfl (lv_at hl 1 rfl) ?_
        refine lv_iload_n hF.1 hF.2.1 dX2_faultOf_16 rfl (lv_at hl 0 rfl) ?_
        refine g_vWi (As := [.int (nI i7)]) (rest := []) hF (kX2_isGood l ω g (va_up y 2 w7_y2) a z kt hs i7 (by omega) hE) (lw_V q1076 q1078 qs48 q97 q1079) 1 hdX2_isGood rfl rfl ⟨Nat.le_of_ble_eq_true rfl, Nat.le_of_ble_eq_true rfl⟩ (m_preV hK hH) rfl hl.1 rfl (Nat.le_of_ble_eq_true rfl) dX2_faultOf_17 ⟨Nat.le_of_ble_eq_true rfl, Nat.le_of_ble_eq_true rfl⟩ hS (fun r3 ur3 H locs hqr3 hH hS => ?_)
        obtain ⟨r3o0, hr3, rfl⟩ := hqr3
        have e_r3 : r3 = (fX2_isGood (va_up y 2 w7_y2) a i7).1 := by rw [← hr3]
        have e_r3o0 : r3o0 = (fX2_isGood (va_up y 2 w7_y2) a i7).2 := by rw [← hr3]
        have hH : mH ω (g, va_up y 2 r3o0, a, z, kt, hs) H := m_ext (fun _ => rfl) (by intro k; by_cases h0 : k = 2; (subst h0; simp [va_up]); simp only [va_up, if_neg h0]) (fun _ => rfl) (fun _ => rfl) hH
        refine lv_if_eq (tgt := 29) hF.1 hF.2.1 dX2_faultOf_20 (by decide) (fun c4 => ?_) (fun c4 => ?_)
        · skip
          exact kx7_129 _ _ _ _ _ (by rw [it_stop (fX2_faultOf_b7_s y a) (i := i7 + 1) (a := (i7, r3o0)) (by subst e_r3o0; subst e_r3; rw [it_succ (fX2_faultOf_b7 y a) i7 _, ← hS7]; unfold fX2_faultOf_b7; dsimp only; first | (rw [if_neg (show ¬ (false = true) from Bool.false_ne_true), if_pos c4]; done) | (simp only [if_neg (show ¬ (false = true) from Bool.false_ne_true), if_pos c4])) (g 1) (by omega)]) (by omega) hH hS (lv_sub hl [0] rfl)
        · skip
          refine n_iinc (lv' := [(1, .int (nI (i7 + 1))), (0, .ref (ω.2.1 0 99))]) hF.1 hF.2.1 dX2_faultOf_23 hl (k := 0) rfl (by decide) rfl (fun ls hl => ?_)
          refine lv_goto (tgt := 7) hF.1 hF.2.1 dX2_faultOf_26 (by decide) ?_
          exact ih (i7 + 1) _ _ _ _ (by omega) (by subst e_r3o0; subst e_r3; rw [it_succ (fX2_faultOf_b7 y a) i7 _, ← hS7]; unfold fX2_faultOf_b7; dsimp only; first | (rw [if_neg (show ¬ (false = true) from Bool.false_ne_true), if_neg c4]; done) | (simp only [if_neg (show ¬ (false = true) from Bool.false_ne_true), if_neg c4])) hH hS (lv_sub hl [0, 1] rfl)
  exact lp7_128 (g 1) 0 _ _ _ _ (by omega) rfl hH hS (lv_sub hl [0, 1] rfl)

def fX2_fault (g : Nat → Nat) (y : Nat → Int32) (a : Nat → Nat → Int32) : Int32 × Int32 := (nI ((fX2_faultOf g y a).1), ((fX2_faultOf g y a).2))
def rmX2_fault : Room := { frames := 5, cells := 0, slots := 0, locals := 115 }
theorem hdX2_fault : yX2_fault.cls = RX2 ∧ yX2_fault.cls ≠ "java/lang/invoke/MethodHandle" ∧ yX2_fault.cls ≠ "java/lang/invoke/VarHandle" ∧ (parseMethodDescriptor yX2_fault.desc).map (fun d => d.parameters.length) = some 0 := by decide +kernel
set_option maxHeartbeats 4000000 in
theorem kX2_fault (l : Launch) (ω : OM) (g : Nat → Nat) (y : Nat → Int32) (a z : Nat → Nat → Int32) (kt : Int32) (hs : Int64) (hp50 : g 1 ≤ 50) : Met l yX2_fault (ws_ yX2_fault cX2_fault 1 (some .int)) rmX2_fault (va_Pc [.ref (ω.2.1 0 99)] (fun U => mK ω U ∧ mH ω (g, y, a, z, kt, hs) U.heap)) (va_Qi (fun (r : Int32) (u : MS) => ∃ (o0 : Int32), (r, o0) = (fX2_fault g y a) ∧ u = (g, va_up y 2 o0, a, z, kt, hs)) (fun u t => mH ω u t.heap) ω.2.2.1) 0 0 ω.2.2.1 := by
  refine g_entWi (C := RX2) rfl (by decide) (Nat.le_of_ble_eq_true rfl) ?_
  intro p e s m args below meth c QQ ls H locs hF hK hH hS hl hret
  have hl : lv_has ls 1 [(0, .ref (ω.2.1 0 99))] := hl
  refine lv_aload_n hF.1 hF.2.1 dX2_fault_0 rfl (lv_at hl 0 rfl) ?_
  refine g_vWi (As := []) (rest := []) hF (kX2_faultOf l ω g y a z kt hs (by omega)) (lw_V q1072 q1074 qs47 q97 q1075) 0 hdX2_faultOf rfl rfl ⟨Nat.le_of_ble_eq_true rfl, Nat.le_of_ble_eq_true rfl⟩ (m_preV hK hH) rfl hl.1 rfl (Nat.le_of_ble_eq_true rfl) dX2_fault_1 ⟨Nat.le_of_ble_eq_true rfl, Nat.le_of_ble_eq_true rfl⟩ hS (fun r1 ur1 H locs hqr1 hH hS => ?_)
  obtain ⟨r1n, r1o0, rfl, hr1, hr1_0, hr1_1, rfl⟩ := hqr1
  have e_r1n : r1n = (fX2_faultOf g y a).1 := by rw [← hr1]
  have e_r1o0 : r1o0 = (fX2_faultOf g y a).2 := by rw [← hr1]
  exact hret _ _ _ _ _ _ dX2_fault_4 ⟨_, by subst e_r1o0; subst e_r1n; rfl, rfl⟩ hH hS

def fX2_town_b280 (i280 : Nat) (S : (Nat → Int32)) : (Nat → Int32) := upd S i280 (nI 0)
def fX2_town_b173 (a : Nat → Nat → Int32) (r1o0 : Int32) (i173 : Nat) (S : (Nat → Int32)) : (Nat → Int32) := upd (upd (upd (upd S (4 * i173) (fX2_kindBy (a 0 (((toN r1o0) + 1) + (5 * i173))))) ((4 * i173) + 1) ((a 0 ((((toN r1o0) + 1) + (5 * i173)) + 1)) - (nI 48))) ((4 * i173) + 2) ((a 0 ((((toN r1o0) + 1) + (5 * i173)) + 2)) - (nI 48))) ((4 * i173) + 3) ((a 0 ((((toN r1o0) + 1) + (5 * i173)) + 3)) - (nI 48))
def fX2_town_b152 (i152 : Nat) (S : (Nat → Int32)) : (Nat → Int32) := upd S i152 (nI 0)
def fX2_town_b75 (a : Nat → Nat → Int32) (i75 : Nat) (S : (Nat → Int32)) : (Nat → Int32) := upd (upd (upd (upd (upd S (5 * i75) ((a 0 i75) - (nI 48))) ((5 * i75) + 1) (nI 0)) ((5 * i75) + 2) (nI 0)) ((5 * i75) + 3) (-1)) ((5 * i75) + 4) (-1)
def fX2_town (g : Nat → Nat) (y : Nat → Int32) (a : Nat → Nat → Int32) : Int32 × (Nat → Int32) × (Nat → Int32) × (Nat → Int32) × (Nat → Int32) × Nat × Nat × Nat × Nat × Nat × Nat × Int32 := if ((fX2_faultOf g y a).1) < (g 1) then ((-103), a 10, a 7, a 8, a 9, g 1, g 15, g 3, g 4, g 5, g 6, ((fX2_faultOf g y a).2)) else if ((fX2_faultOf g y a).2) = (-1) then ((-103), a 10, a 7, a 8, a 9, g 1, g 15, g 3, g 4, g 5, g 6, ((fX2_faultOf g y a).2)) else if ((g 1) - (toN ((fX2_faultOf g y a).2))) < 10 then ((-103), a 10, a 7, a 8, a 9, g 1, g 15, g 3, g 4, g 5, g 6, ((fX2_faultOf g y a).2)) else if (((g 1) - (toN ((fX2_faultOf g y a).2))) % 5) = 0 then (nI (((g 1) - (toN ((fX2_faultOf g y a).2))) / 5), (it fX2_town_b280 6 (a 10)), (it (fX2_town_b173 a ((fX2_faultOf g y a).2)) (((g 1) - (toN ((fX2_faultOf g y a).2))) / 5) (a 7)), (it (fX2_town_b75 a) (toN ((fX2_faultOf g y a).2)) (a 8)), (it fX2_town_b152 27 (a 9)), 0, 0, toN ((fX2_faultOf g y a).2), ((g 1) - (toN ((fX2_faultOf g y a).2))) / 5, 0, (g 6) + 1, ((fX2_faultOf g y a).2)) else ((-103), a 10, a 7, a 8, a 9, g 1, g 15, g 3, g 4, g 5, g 6, ((fX2_faultOf g y a).2))
def rmX2_town : Room := { frames := 5, cells := 0, slots := 0, locals := 115 }
theorem hdX2_town : yX2_town.cls = RX2 ∧ yX2_town.cls ≠ "java/lang/invoke/MethodHandle" ∧ yX2_town.cls ≠ "java/lang/invoke/VarHandle" ∧ (parseMethodDescriptor yX2_town.desc).map (fun d => d.parameters.length) = some 0 := by decide +kernel
set_option maxHeartbeats 4000000 in
theorem kX2_town (l : Launch) (ω : OM) (g : Nat → Nat) (y : Nat → Int32) (a z : Nat → Nat → Int32) (kt : Int32) (hs : Int64) (hp50 : g 1 ≤ 50) : Met l yX2_town (ws_ yX2_town cX2_town 3 (some .int)) rmX2_town (va_Pc [.ref (ω.2.1 0 99)] (fun U => mK ω U ∧ mH ω (g, y, a, z, kt, hs) U.heap)) (va_Qi (fun (r : Int32) (u : MS) => ∃ (o0 : Nat → Int32) (o1 : Nat → Int32) (o2 : Nat → Int32) (o3 : Nat → Int32) (o4 : Nat) (o5 : Nat) (o6 : Nat) (o7 : Nat) (o8 : Nat) (o9 : Nat) (o10 : Int32), (r, o0, o1, o2, o3, o4, o5, o6, o7, o8, o9, o10) = (fX2_town g y a) ∧ u = (va_up (va_up (va_up (va_up (va_up (va_up g 1 o4) 3 o6) 4 o7) 5 o8) 6 o9) 15 o5, va_up y 2 o10, va_up (va_up (va_up (va_up a 7 o1) 8 o2) 9 o3) 10 o0, z, kt, hs)) (fun u t => mH ω u t.heap) ω.2.2.1) 0 0 ω.2.2.1 := by
  refine g_entWi (C := RX2) rfl (by decide) (Nat.le_of_ble_eq_true rfl) ?_
  intro p e s m args below meth c QQ ls H locs hF hK hH hS hl hret
  have hl : lv_has ls 3 [(0, .ref (ω.2.1 0 99))] := hl
  refine lv_aload_n hF.1 hF.2.1 dX2_town_0 rfl (lv_at hl 0 rfl) ?_
  refine g_vWi (As := []) (rest := []) hF (kX2_faultOf l ω g y a z kt hs (by omega)) (lw_V q1072 q1074 qs47 q97 q1075) 0 hdX2_faultOf rfl rfl ⟨Nat.le_of_ble_eq_true rfl, Nat.le_of_ble_eq_true rfl⟩ (m_preV hK hH) rfl hl.1 rfl (Nat.le_of_ble_eq_true rfl) dX2_town_1 ⟨Nat.le_of_ble_eq_true rfl, Nat.le_of_ble_eq_true rfl⟩ hS (fun r1 ur1 H locs hqr1 hH hS => ?_)
  obtain ⟨r1n, r1o0, rfl, hr1, hr1_0, hr1_1, rfl⟩ := hqr1
  have e_r1n : r1n = (fX2_faultOf g y a).1 := by rw [← hr1]
  have e_r1o0 : r1o0 = (fX2_faultOf g y a).2 := by rw [← hr1]
  refine lv_aload_n hF.1 hF.2.1 dX2_town_4 rfl (lv_at hl 0 rfl) ?_
  refine mg_1 hF hK hH q972 dX2_town_5 (v := g 1) rfl ?_
  refine n_lt (tgt := 47) hF.1 hF.2.1 dX2_town_8 (by decide) (by omega) (by omega) (fun c2 => ?_) (fun c2 => ?_)
  · skip
    refine lv_bipush (v := (-103)) hF.1 hF.2.1 dX2_town_47 (by decide) ?_
    have hH : mH ω (va_up (va_up (va_up (va_up (va_up (va_up g 1 (g 1)) 3 (g 3)) 4 (g 4)) 5 (g 5)) 6 (g 6)) 15 (g 15), va_up y 2 r1o0, va_up (va_up (va_up (va_up a 7 (a 7)) 8 (a 8)) 9 (a 9)) 10 (a 10), z, kt, hs) H := m_ext (by intro k; by_cases h0 : k = 1; (subst h0; simp [va_up]); by_cases h1 : k = 15; (subst h1; simp [va_up]); by_cases h2 : k = 3; (subst h2; simp [va_up]); by_cases h3 : k = 4; (subst h3; simp [va_up]); by_cases h4 : k = 5; (subst h4; simp [va_up]); by_cases h5 : k = 6; (subst h5; simp [va_up]); simp only [va_up, if_neg h0, if_neg h1, if_neg h2, if_neg h3, if_neg h4, if_neg h5]) (fun _ => rfl) (by intro k; by_cases h0 : k = 10; (subst h0; simp [va_up]); by_cases h1 : k = 7; (subst h1; simp [va_up]); by_cases h2 : k = 8; (subst h2; simp [va_up]); by_cases h3 : k = 9; (subst h3; simp [va_up]); simp only [va_up, if_neg h0, if_neg h1, if_neg h2, if_neg h3]) (fun _ => rfl) hH
    exact hret _ _ _ _ _ _ dX2_town_49 ⟨_, _, _, _, _, _, _, _, _, _, _, by subst e_r1o0; subst e_r1n; unfold fX2_town; first | (rw [if_pos c2]; done) | (simp only [if_pos c2]), rfl⟩ hH hS
  · skip
    refine lv_aload_n hF.1 hF.2.1 dX2_town_11 rfl (lv_at hl 0 rfl) ?_
    refine mg_2 hF hK hH q973 dX2_town_12 (v := r1o0) rfl ?_
    refine lv_iconst (v := (-1)) hF.1 hF.2.1 dX2_town_15 (by decide) ?_
    refine lv_icmp_eq (tgt := 47) hF.1 hF.2.1 dX2_town_16 (by decide) (fun c3 => ?_) (fun c3 => ?_)
    · skip
      refine lv_bipush (v := (-103)) hF.1 hF.2.1 dX2_town_47 (by decide) ?_
      have hH : mH ω (va_up (va_up (va_up (va_up (va_up (va_up g 1 (g 1)) 3 (g 3)) 4 (g 4)) 5 (g 5)) 6 (g 6)) 15 (g 15), va_up y 2 r1o0, va_up (va_up (va_up (va_up a 7 (a 7)) 8 (a 8)) 9 (a 9)) 10 (a 10), z, kt, hs) H := m_ext (by intro k; by_cases h0 : k = 1; (subst h0; simp [va_up]); by_cases h1 : k = 15; (subst h1; simp [va_up]); by_cases h2 : k = 3; (subst h2; simp [va_up]); by_cases h3 : k = 4; (subst h3; simp [va_up]); by_cases h4 : k = 5; (subst h4; simp [va_up]); by_cases h5 : k = 6; (subst h5; simp [va_up]); simp only [va_up, if_neg h0, if_neg h1, if_neg h2, if_neg h3, if_neg h4, if_neg h5]) (fun _ => rfl) (by intro k; by_cases h0 : k = 10; (subst h0; simp [va_up]); by_cases h1 : k = 7; (subst h1; simp [va_up]); by_cases h2 : k = 8; (subst h2; simp [va_up]); by_cases h3 : k = 9; (subst h3; simp [va_up]); simp only [va_up, if_neg h0, if_neg h1, if_neg h2, if_neg h3]) (fun _ => rfl) hH
      exact hret _ _ _ _ _ _ dX2_town_49 ⟨_, _, _, _, _, _, _, _, _, _, _, by subst e_r1o0; subst e_r1n; unfold fX2_town; first | (rw [if_neg c2, if_pos c3]; done) | (simp only [if_neg c2, if_pos c3]), rfl⟩ hH hS
    · skip
      have hq := hr1_1.at c3
      have b4 : r1o0 = nI (toN r1o0) := hq.2.2.2
      refine lv_aload_n hF.1 hF.2.1 dX2_town_19 rfl (lv_at hl 0 rfl) ?_
      refine mg_1 hF hK hH q972 dX2_town_20 (v := g 1) rfl ?_
      refine lv_aload_n hF.1 hF.2.1 dX2_town_23 rfl (lv_at hl 0 rfl) ?_
      refine mg_2 hF hK hH q973 dX2_town_24 (v := r1o0) rfl ?_
      refine n_top b4 ?_
      refine n_isub hF.1 hF.2.1 dX2_town_27 (by omega) ?_
      refine lv_bipush (v := nI 10) hF.1 hF.2.1 dX2_town_28 (by decide) ?_
      refine n_lt (tgt := 47) hF.1 hF.2.1 dX2_town_30 (by decide) (by omega) (by omega) (fun c5 => ?_) (fun c5 => ?_)
      · skip
        refine lv_bipush (v := (-103)) hF.1 hF.2.1 dX2_town_47 (by decide) ?_
        have hH : mH ω (va_up (va_up (va_up (va_up (va_up (va_up g 1 (g 1)) 3 (g 3)) 4 (g 4)) 5 (g 5)) 6 (g 6)) 15 (g 15), va_up y 2 r1o0, va_up (va_up (va_up (va_up a 7 (a 7)) 8 (a 8)) 9 (a 9)) 10 (a 10), z, kt, hs) H := m_ext (by intro k; by_cases h0 : k = 1; (subst h0; simp [va_up]); by_cases h1 : k = 15; (subst h1; simp [va_up]); by_cases h2 : k = 3; (subst h2; simp [va_up]); by_cases h3 : k = 4; (subst h3; simp [va_up]); by_cases h4 : k = 5; (subst h4; simp [va_up]); by_cases h5 : k = 6; (subst h5; simp [va_up]); simp only [va_up, if_neg h0, if_neg h1, if_neg h2, if_neg h3, if_neg h4, if_neg h5]) (fun _ => rfl) (by intro k; by_cases h0 : k = 10; (subst h0; simp [va_up]); by_cases h1 : k = 7; (subst h1; simp [va_up]); by_cases h2 : k = 8; (subst h2; simp [va_up]); by_cases h3 : k = 9; (subst h3; simp [va_up]); simp only [va_up, if_neg h0, if_neg h1, if_neg h2, if_neg h3]) (fun _ => rfl) hH
        exact hret _ _ _ _ _ _ dX2_town_49 ⟨_, _, _, _, _, _, _, _, _, _, _, by subst e_r1o0; subst e_r1n; unfold fX2_town; first | (rw [if_neg c2, if_neg c3, if_pos c5]; done) | (simp only [if_neg c2, if_neg c3, if_pos c5]), rfl⟩ hH hS
      · skip
        refine lv_aload_n hF.1 hF.2.1 dX2_town_33 rfl (lv_at hl 0 rfl) ?_
        refine mg_1 hF hK hH q972 dX2_town_34 (v := g 1) rfl ?_
        refine lv_aload_n hF.1 hF.2.1 dX2_town_37 rfl (lv_at hl 0 rfl) ?_
        refine mg_2 hF hK hH q973 dX2_town_38 (v := r1o0) rfl ?_
        refine n_top b4 ?_
        refine n_isub hF.1 hF.2.1 dX2_town_41 (by omega) ?_
        refine lv_iconst (v := nI 5) hF.1 hF.2.1 dX2_town_42 (by decide) ?_
        refine n_irem hF.1 hF.2.1 dX2_town_43 (by omega) (by omega) (by omega) ?_
        refine n_ifeq (tgt := 50) hF.1 hF.2.1 dX2_town_44 (by decide) (by omega) (fun c6 => ?_) (fun c6 => ?_)
        · skip
          refine lv_aload_n hF.1 hF.2.1 dX2_town_50 rfl (lv_at hl 0 rfl) ?_
          refine lv_aload_n hF.1 hF.2.1 dX2_town_51 rfl (lv_at hl 0 rfl) ?_
          refine mg_2 hF hK hH q973 dX2_town_52 (v := r1o0) rfl ?_
          refine n_top b4 ?_
          refine mp_3 hF hK hH hS q974 dX2_town_55 (g' := va_up g 3 (toN r1o0)) rfl (by intro j hj; simp only [va_up, if_neg hj]) (fun H locs hH hS => ?_)
          refine lv_aload_n hF.1 hF.2.1 dX2_town_58 rfl (lv_at hl 0 rfl) ?_
          refine lv_aload_n hF.1 hF.2.1 dX2_town_59 rfl (lv_at hl 0 rfl) ?_
          refine mg_1 hF hK hH q972 dX2_town_60 (v := g 1) rfl ?_
          refine lv_aload_n hF.1 hF.2.1 dX2_town_63 rfl (lv_at hl 0 rfl) ?_
          refine mg_2 hF hK hH q973 dX2_town_64 (v := r1o0) rfl ?_
          refine n_top b4 ?_
          refine n_isub hF.1 hF.2.1 dX2_town_67 (by omega) ?_
          refine lv_iconst (v := nI 5) hF.1 hF.2.1 dX2_town_68 (by decide) ?_
          refine n_idiv hF.1 hF.2.1 dX2_town_69 (by omega) (by omega) (by omega) ?_
          refine mp_4 hF hK hH hS q975 dX2_town_70 (g' := va_up (va_up g 3 (toN r1o0)) 4 (((g 1) - (toN r1o0)) / 5)) rfl (by intro j hj; simp only [va_up, if_neg hj]) (fun H locs hH hS => ?_)
          refine lv_iconst (v := nI 0) hF.1 hF.2.1 dX2_town_73 (by decide) ?_
          refine lv_istore_n (lv' := [(1, .int (nI 0)), (0, .ref (ω.2.1 0 99))]) hF.1 hF.2.1 dX2_town_74 rfl hl (by decide) rfl (fun ls hl => ?_)
          have lp75_131 : ∀ (d75 i75 : Nat) (w75_a8 : Nat → Int32) (H : Heap) (locs : List Loc) (ls : Array Slot), i75 + d75 = toN r1o0 → w75_a8 = it (fX2_town_b75 a) i75 (a 8) → mH ω (va_up (va_up g 3 (toN r1o0)) 4 (((g 1) - (toN r1o0)) / 5), va_up y 2 r1o0, va_up a 8 w75_a8, z, kt, hs) H → va_S ω.2.2.1 s.heap H locs → lv_has ls 3 [(1, .int (nI i75)), (0, .ref (ω.2.1 0 99))] → W p l e rmX2_town s m args below meth c H locs 0 0 QQ (F0 m 75 ls []) := by
            intro d75
            induction d75 with
            | zero =>
              intro i75 w75_a8 H locs ls hi75 hS75 hH hS hl
              have hj75 : toN r1o0 = i75 := by omega
              subst hj75
              have e_w75_a8 := hS75
              refine lv_iload_n hF.1 hF.2.1 dX2_town_75 rfl (lv_at hl 0 rfl) ?_
              refine lv_aload_n hF.1 hF.2.1 dX2_town_76 rfl (lv_at hl 1 rfl) ?_
              refine mg_3 hF hK hH q974 dX2_town_77 (v := toN r1o0) rfl ?_
              refine n_ge (tgt := 150) hF.1 hF.2.1 dX2_town_80 (by decide) (by omega) (by omega) (fun c7 => ?_) (fun c7 => ?_)
              · skip
                refine lv_iconst (v := nI 0) hF.1 hF.2.1 dX2_town_150 (by decide) ?_
                refine lv_istore_n (lv' := [(1, .int (nI 0)), (0, .ref (ω.2.1 0 99))]) hF.1 hF.2.1 dX2_town_151 rfl hl (by decide) rfl (fun ls hl => ?_)
                have lp152_133 : ∀ (d152 i152 : Nat) (w152_a9 : Nat → Int32) (H : Heap) (locs : List Loc) (ls : Array Slot), i152 + d152 = 27 → w152_a9 = it fX2_town_b152 i152 (a 9) → mH ω (va_up (va_up g 3 (toN r1o0)) 4 (((g 1) - (toN r1o0)) / 5), va_up y 2 r1o0, va_up (va_up a 8 w75_a8) 9 w152_a9, z, kt, hs) H → va_S ω.2.2.1 s.heap H locs → lv_has ls 3 [(1, .int (nI i152)), (0, .ref (ω.2.1 0 99))] → W p l e rmX2_town s m args below meth c H locs 0 0 QQ (F0 m 152 ls []) := by
                  intro d152
                  induction d152 with
                  | zero =>
                    intro i152 w152_a9 H locs ls hi152 hS152 hH hS hl
                    have hj152 : 27 = i152 := by omega
                    subst hj152
                    have e_w152_a9 := hS152
                    refine lv_iload_n hF.1 hF.2.1 dX2_town_152 rfl (lv_at hl 0 rfl) ?_
                    refine lv_bipush (v := nI 27) hF.1 hF.2.1 dX2_town_153 (by decide) ?_
                    refine n_ge (tgt := 171) hF.1 hF.2.1 dX2_town_155 (by decide) (by omega) (by omega) (fun c8 => ?_) (fun c8 => ?_)
                    · skip
                      refine lv_iconst (v := nI 0) hF.1 hF.2.1 dX2_town_171 (by decide) ?_
                      refine lv_istore_n (lv' := [(1, .int (nI 0)), (0, .ref (ω.2.1 0 99))]) hF.1 hF.2.1 dX2_town_172 rfl hl (by decide) rfl (fun ls hl => ?_)
                      have lp173_135 : ∀ (d173 i173 : Nat) (w173_a7 : Nat → Int32) (H : Heap) (locs : List Loc) (ls : Array Slot), i173 + d173 = ((g 1) - (toN r1o0)) / 5 → w173_a7 = it (fX2_town_b173 a r1o0) i173 (a 7) → mH ω (va_up (va_up g 3 (toN r1o0)) 4 (((g 1) - (toN r1o0)) / 5), va_up y 2 r1o0, va_up (va_up (va_up a 7 w173_a7) 8 w75_a8) 9 w152_a9, z, kt, hs) H → va_S ω.2.2.1 s.heap H locs → lv_has ls 3 [(1, .int (nI i173)), (0, .ref (ω.2.1 0 99))] → W p l e rmX2_town s m args below meth c H locs 0 0 QQ (F0 m 173 ls []) := by
                        intro d173
                        induction d173 with
                        | zero =>
                          intro i173 w173_a7 H locs ls hi173 hS173 hH hS hl
                          have hj173 : ((g 1) - (toN r1o0)) / 5 = i173 := by omega
                          subst hj173
                          have e_w173_a7 := hS173
                          refine lv_iload_n hF.1 hF.2.1 dX2_town_173 rfl (lv_at hl 0 rfl) ?_
                          refine lv_aload_n hF.1 hF.2.1 dX2_town_174 rfl (lv_at hl 1 rfl) ?_
                          refine mg_4 hF hK hH q975 dX2_town_175 (v := ((g 1) - (toN r1o0)) / 5) rfl ?_
                          refine n_ge (tgt := 278) hF.1 hF.2.1 dX2_town_178 (by decide) (by omega) (by omega) (fun c9 => ?_) (fun c9 => ?_)
                          · skip
                            refine lv_iconst (v := nI 0) hF.1 hF.2.1 dX2_town_278 (by decide) ?_
                            refine lv_istore_n (lv' := [(1, .int (nI 0)), (0, .ref (ω.2.1 0 99))]) hF.1 hF.2.1 dX2_town_279 rfl hl (by decide) rfl (fun ls hl => ?_)
                            have lp280_137 : ∀ (d280 i280 : Nat) (w280_a10 : Nat → Int32) (H : Heap) (locs : List Loc) (ls : Array Slot), i280 + d280 = 6 → w280_a10 = it fX2_town_b280 i280 (a 10) → mH ω (va_up (va_up g 3 (toN r1o0)) 4 (((g 1) - (toN r1o0)) / 5), va_up y 2 r1o0, va_up (va_up (va_up (va_up a 7 w173_a7) 8 w75_a8) 9 w152_a9) 10 w280_a10, z, kt, hs) H → va_S ω.2.2.1 s.heap H locs → lv_has ls 3 [(1, .int (nI i280)), (0, .ref (ω.2.1 0 99))] → W p l e rmX2_town s m args below meth c H locs 0 0 QQ (F0 m 280 ls []) := by
                              intro d280
                              induction d280 with
                              | zero =>
                                intro i280 w280_a10 H locs ls hi280 hS280 hH hS hl
                                have hj280 : 6 = i280 := by omega
                                subst hj280
                                have e_w280_a10 := hS280
                                refine lv_iload_n hF.1 hF.2.1 dX2_town_280 rfl (lv_at hl 0 rfl) ?_
                                refine lv_bipush (v := nI 6) hF.1 hF.2.1 dX2_town_281 (by decide) ?_
                                refine n_ge (tgt := 299) hF.1 hF.2.1 dX2_town_283 (by decide) (by omega) (by omega) (fun c10 => ?_) (fun c10 => ?_)
                                · skip
                                  refine lv_aload_n hF.1 hF.2.1 dX2_town_299 rfl (lv_at hl 1 rfl) ?_
                                  refine lv_iconst (v := nI 0) hF.1 hF.2.1 dX2_town_300 (by decide) ?_
                                  refine mp_5 hF hK hH hS q976 dX2_town_301 (g' := va_up (va_up (va_up g 3 (toN r1o0)) 4 (((g 1) - (toN r1o0)) / 5)) 5 0) rfl (by intro j hj; simp only [va_up, if_neg hj]) (fun H locs hH hS => ?_)
                                  refine lv_aload_n hF.1 hF.2.1 dX2_town_304 rfl (lv_at hl 1 rfl) ?_
                                  refine lv_iconst (v := nI 0) hF.1 hF.2.1 dX2_town_305 (by decide) ?_
                                  refine mp_15 hF hK hH hS q986 dX2_town_306 (g' := va_up (va_up (va_up (va_up g 3 (toN r1o0)) 4 (((g 1) - (toN r1o0)) / 5)) 5 0) 15 0) rfl (by intro j hj; simp only [va_up, if_neg hj]) (fun H locs hH hS => ?_)
                                  refine lv_aload_n hF.1 hF.2.1 dX2_town_309 rfl (lv_at hl 1 rfl) ?_
                                  refine lv_dup hF.1 hF.2.1 dX2_town_310 rfl ?_
                                  refine mg_6 hF hK hH q977 dX2_town_311 (v := g 6) rfl ?_
                                  refine lv_iconst (v := nI 1) hF.1 hF.2.1 dX2_town_314 (by decide) ?_
                                  refine n_iadd hF.1 hF.2.1 dX2_town_315 ?_
                                  refine mp_6 hF hK hH hS q977 dX2_town_316 (g' := va_up (va_up (va_up (va_up (va_up g 3 (toN r1o0)) 4 (((g 1) - (toN r1o0)) / 5)) 5 0) 6 ((g 6) + 1)) 15 0) rfl (by intro j hj; simp only [va_up, if_neg hj]) (fun H locs hH hS => ?_)
                                  refine lv_aload_n hF.1 hF.2.1 dX2_town_319 rfl (lv_at hl 1 rfl) ?_
                                  refine lv_iconst (v := nI 0) hF.1 hF.2.1 dX2_town_320 (by decide) ?_
                                  refine mp_1 hF hK hH hS q972 dX2_town_321 (g' := va_up (va_up (va_up (va_up (va_up (va_up g 1 0) 3 (toN r1o0)) 4 (((g 1) - (toN r1o0)) / 5)) 5 0) 6 ((g 6) + 1)) 15 0) rfl (by intro j hj; simp only [va_up, if_neg hj]) (fun H locs hH hS => ?_)
                                  refine lv_aload_n hF.1 hF.2.1 dX2_town_324 rfl (lv_at hl 1 rfl) ?_
                                  refine mg_4 hF hK hH q975 dX2_town_325 (v := ((g 1) - (toN r1o0)) / 5) rfl ?_
                                  exact hret _ _ _ _ _ _ dX2_town_328 ⟨_, _, _, _, _, _, _, _, _, _, _, by subst e_w280_a10; subst e_w173_a7; subst e_w152_a9; subst e_w75_a8; subst e_r1o0; subst e_r1n; unfold fX2_town; first | (rw [if_neg c2, if_neg c3, if_neg c5, if_pos c6]; done) | (simp only [if_neg c2, if_neg c3, if_neg c5, if_pos c6]), rfl⟩ hH hS
                                · exact absurd (by omega) c10
                              | succ d280 ih =>
                                intro i280 w280_a10 H locs ls hi280 hS280 hH hS hl
                                refine lv_iload_n hF.1 hF.2.1 dX2_town_280 rfl (lv_at hl 0 rfl) ?_
                                refine lv_bipush (v := nI 6) hF.1 hF.2.1 dX2_town_281 (by decide) ?_
                                refine n_ge (tgt := 299) hF.1 hF.2.1 dX2_town_283 (by decide) (by omega) (by omega) (fun c11 => ?_) (fun c11 => ?_)
                                · exact absurd c11 (by omega)
                                · skip
                                  refine lv_aload_n hF.1 hF.2.1 dX2_town_286 rfl (lv_at hl 1 rfl) ?_
                                  refine mg_10 hF hK hH q981 dX2_town_287 ?_
                                  refine lv_iload_n hF.1 hF.2.1 dX2_town_290 rfl (lv_at hl 0 rfl) ?_
                                  refine lv_iconst (v := nI 0) hF.1 hF.2.1 dX2_town_291 (by decide) ?_
                                  refine m_ast (a' := va_up (va_up (va_up (va_up a 7 w173_a7) 8 w75_a8) 9 w152_a9) 10 (upd w280_a10 i280 (nI 0))) hF hK hH hS 10 (n := 6) rfl rfl (by decide) rfl (f := w280_a10) rfl (i := i280) (by omega) (by decide) dX2_town_292 rfl (by intro j hj; simp only [va_up, if_neg hj]) (fun H locs hH hS => ?_)
                                  refine n_iinc (lv' := [(1, .int (nI (i280 + 1))), (0, .ref (ω.2.1 0 99))]) hF.1 hF.2.1 dX2_town_293 hl (k := 0) rfl (by decide) rfl (fun ls hl => ?_)
                                  refine lv_goto (tgt := 280) hF.1 hF.2.1 dX2_town_296 (by decide) ?_
                                  exact ih (i280 + 1) _ _ _ _ (by omega) (by rw [it_succ fX2_town_b280 i280 _, ← hS280]; try rfl) hH hS (lv_sub hl [0, 1] rfl)
                            have hH : mH ω (va_up (va_up g 3 (toN r1o0)) 4 (((g 1) - (toN r1o0)) / 5), va_up y 2 r1o0, va_up (va_up (va_up (va_up a 7 w173_a7) 8 w75_a8) 9 w152_a9) 10 (a 10), z, kt, hs) H := m_ext (fun _ => rfl) (fun _ => rfl) (by intro k; by_cases h0 : k = 10; (subst h0; simp [va_up]); simp only [va_up, if_neg h0]) (fun _ => rfl) hH
                            exact lp280_137 6 0 _ _ _ _ (by omega) rfl hH hS (lv_sub hl [0, 1] rfl)
                          · exact absurd (by omega) c9
                        | succ d173 ih =>
                          intro i173 w173_a7 H locs ls hi173 hS173 hH hS hl
                          refine lv_iload_n hF.1 hF.2.1 dX2_town_173 rfl (lv_at hl 0 rfl) ?_
                          refine lv_aload_n hF.1 hF.2.1 dX2_town_174 rfl (lv_at hl 1 rfl) ?_
                          refine mg_4 hF hK hH q975 dX2_town_175 (v := ((g 1) - (toN r1o0)) / 5) rfl ?_
                          refine n_ge (tgt := 278) hF.1 hF.2.1 dX2_town_178 (by decide) (by omega) (by omega) (fun c12 => ?_) (fun c12 => ?_)
                          · exact absurd c12 (by omega)
                          · skip
                            refine lv_aload_n hF.1 hF.2.1 dX2_town_181 rfl (lv_at hl 1 rfl) ?_
                            refine mg_2 hF hK hH q973 dX2_town_182 (v := r1o0) rfl ?_
                            refine n_top b4 ?_
                            refine lv_iconst (v := nI 1) hF.1 hF.2.1 dX2_town_185 (by decide) ?_
                            refine n_iadd hF.1 hF.2.1 dX2_town_186 ?_
                            refine lv_iconst (v := nI 5) hF.1 hF.2.1 dX2_town_187 (by decide) ?_
                            refine lv_iload_n hF.1 hF.2.1 dX2_town_188 rfl (lv_at hl 0 rfl) ?_
                            refine n_imul hF.1 hF.2.1 dX2_town_189 ?_
                            refine n_iadd hF.1 hF.2.1 dX2_town_190 ?_
                            refine lv_istore_n (lv' := [(2, .int (nI (((toN r1o0) + 1) + (5 * i173)))), (1, .int (nI i173)), (0, .ref (ω.2.1 0 99))]) hF.1 hF.2.1 dX2_town_191 rfl hl (by decide) rfl (fun ls hl => ?_)
                            refine lv_aload_n hF.1 hF.2.1 dX2_town_192 rfl (lv_at hl 2 rfl) ?_
                            refine mg_7 hF hK hH q978 dX2_town_193 ?_
                            refine lv_iconst (v := nI 4) hF.1 hF.2.1 dX2_town_196 (by decide) ?_
                            refine lv_iload_n hF.1 hF.2.1 dX2_town_197 rfl (lv_at hl 1 rfl) ?_
                            refine n_imul hF.1 hF.2.1 dX2_town_198 ?_
                            refine lv_aload_n hF.1 hF.2.1 dX2_town_199 rfl (lv_at hl 2 rfl) ?_
                            refine mg_0 hF hK hH q971 dX2_town_200 ?_
                            refine lv_iload_n hF.1 hF.2.1 dX2_town_203 rfl (lv_at hl 0 rfl) ?_
                            refine m_ald hF hK hH 0 (n := 50) rfl rfl (by decide) rfl (f := a 0) rfl (i := ((toN r1o0) + 1) + (5 * i173)) (by omega) (by decide) dX2_town_204 ?_
                            refine g_sPi (As := [.int (a 0 (((toN r1o0) + 1) + (5 * i173)))]) (rest := [.int (nI (4 * i173)), .ref (ω.2.1 0 7)]) hF (kX2_kindBy l (a 0 (((toN r1o0) + 1) + (5 * i173)))) (lw_S q1084 q1085 q97 q1086) 1 hdX2_kindBy.2 rfl rfl ⟨Nat.le_of_ble_eq_true rfl, Nat.le_of_ble_eq_true rfl⟩ g_pre0 rfl hl.1 rfl (Nat.le_of_ble_eq_true rfl) dX2_town_205 ⟨Nat.zero_le _, Nat.zero_le _⟩ (fun r13 e_r13 => ?_)
                            refine m_ast (a' := va_up (va_up (va_up a 7 (upd w173_a7 (4 * i173) r13)) 8 w75_a8) 9 w152_a9) hF hK hH hS 7 (n := 36) rfl rfl (by decide) rfl (f := w173_a7) rfl (i := 4 * i173) (by omega) (by decide) dX2_town_208 rfl (by intro j hj; simp only [va_up, if_neg hj]) (fun H locs hH hS => ?_)
                            refine lv_aload_n hF.1 hF.2.1 dX2_town_209 rfl (lv_at hl 2 rfl) ?_
                            refine mg_7 hF hK hH q978 dX2_town_210 ?_
                            refine lv_iconst (v := nI 4) hF.1 hF.2.1 dX2_town_213 (by decide) ?_
                            refine lv_iload_n hF.1 hF.2.1 dX2_town_214 rfl (lv_at hl 1 rfl) ?_
                            refine n_imul hF.1 hF.2.1 dX2_town_215 ?_
                            refine lv_iconst (v := nI 1) hF.1 hF.2.1 dX2_town_216 (by decide) ?_
                            refine n_iadd hF.1 hF.2.1 dX2_town_217 ?_
                            refine lv_aload_n hF.1 hF.2.1 dX2_town_218 rfl (lv_at hl 2 rfl) ?_
                            refine mg_0 hF hK hH q971 dX2_town_219 ?_
                            refine lv_iload_n hF.1 hF.2.1 dX2_town_222 rfl (lv_at hl 0 rfl) ?_
                            refine lv_iconst (v := nI 1) hF.1 hF.2.1 dX2_town_223 (by decide) ?_
                            refine n_iadd hF.1 hF.2.1 dX2_town_224 ?_
                            refine m_ald hF hK hH 0 (n := 50) rfl rfl (by decide) rfl (f := a 0) rfl (i := (((toN r1o0) + 1) + (5 * i173)) + 1) (by omega) (by decide) dX2_town_225 ?_
                            refine lv_bipush (v := nI 48) hF.1 hF.2.1 dX2_town_226 (by decide) ?_
                            refine lv_isub hF.1 hF.2.1 dX2_town_228 ?_
                            refine m_ast (a' := va_up (va_up (va_up a 7 (upd (upd w173_a7 (4 * i173) r13) ((4 * i173) + 1) ((a 0 ((((toN r1o0) + 1) + (5 * i173)) + 1)) - (nI 48)))) 8 w75_a8) 9 w152_a9) hF hK hH hS 7 (n := 36) rfl rfl (by decide) rfl (f := upd w173_a7 (4 * i173) r13) rfl (i := (4 * i173) + 1) (by omega) (by decide) dX2_town_229 rfl (by intro j hj; simp only [va_up, if_neg hj]) (fun H locs hH hS => ?_)
                            refine lv_aload_n hF.1 hF.2.1 dX2_town_230 rfl (lv_at hl 2 rfl) ?_
                            refine mg_7 hF hK hH q978 dX2_town_231 ?_
                            refine lv_iconst (v := nI 4) hF.1 hF.2.1 dX2_town_234 (by decide) ?_
                            refine lv_iload_n hF.1 hF.2.1 dX2_town_235 rfl (lv_at hl 1 rfl) ?_
                            refine n_imul hF.1 hF.2.1 dX2_town_236 ?_
                            refine lv_iconst (v := nI 2) hF.1 hF.2.1 dX2_town_237 (by decide) ?_
                            refine n_iadd hF.1 hF.2.1 dX2_town_238 ?_
                            refine lv_aload_n hF.1 hF.2.1 dX2_town_239 rfl (lv_at hl 2 rfl) ?_
                            refine mg_0 hF hK hH q971 dX2_town_240 ?_
                            refine lv_iload_n hF.1 hF.2.1 dX2_town_243 rfl (lv_at hl 0 rfl) ?_
                            refine lv_iconst (v := nI 2) hF.1 hF.2.1 dX2_town_244 (by decide) ?_
                            refine n_iadd hF.1 hF.2.1 dX2_town_245 ?_
                            refine m_ald hF hK hH 0 (n := 50) rfl rfl (by decide) rfl (f := a 0) rfl (i := (((toN r1o0) + 1) + (5 * i173)) + 2) (by omega) (by decide) dX2_town_246 ?_
                            refine lv_bipush (v := nI 48) hF.1 hF.2.1 dX2_town_247 (by decide) ?_
                            refine lv_isub hF.1 hF.2.1 dX2_town_249 ?_
                            refine m_ast (a' := va_up (va_up (va_up a 7 (upd (upd (upd w173_a7 (4 * i173) r13) ((4 * i173) + 1) ((a 0 ((((toN r1o0) + 1) + (5 * i173)) + 1)) - (nI 48))) ((4 * i173) + 2) ((a 0 ((((toN r1o0) + 1) + (5 * i173)) + 2)) - (nI 48)))) 8 w75_a8) 9 w152_a9) hF hK hH hS 7 (n := 36) rfl rfl (by decide) rfl (f := upd (upd w173_a7 (4 * i173) r13) ((4 * i173) + 1) ((a 0 ((((toN r1o0) + 1) + (5 * i173)) + 1)) - (nI 48))) rfl (i := (4 * i173) + 2) (by omega) (by decide) dX2_town_250 rfl (by intro j hj; simp only [va_up, if_neg hj]) (fun H locs hH hS => ?_)
                            refine lv_aload_n hF.1 hF.2.1 dX2_town_251 rfl (lv_at hl 2 rfl) ?_
                            refine mg_7 hF hK hH q978 dX2_town_252 ?_
                            refine lv_iconst (v := nI 4) hF.1 hF.2.1 dX2_town_255 (by decide) ?_
                            refine lv_iload_n hF.1 hF.2.1 dX2_town_256 rfl (lv_at hl 1 rfl) ?_
                            refine n_imul hF.1 hF.2.1 dX2_town_257 ?_
                            refine lv_iconst (v := nI 3) hF.1 hF.2.1 dX2_town_258 (by decide) ?_
                            refine n_iadd hF.1 hF.2.1 dX2_town_259 ?_
                            refine lv_aload_n hF.1 hF.2.1 dX2_town_260 rfl (lv_at hl 2 rfl) ?_
                            refine mg_0 hF hK hH q971 dX2_town_261 ?_
                            refine lv_iload_n hF.1 hF.2.1 dX2_town_264 rfl (lv_at hl 0 rfl) ?_
                            refine lv_iconst (v := nI 3) hF.1 hF.2.1 dX2_town_265 (by decide) ?_
                            refine n_iadd hF.1 hF.2.1 dX2_town_266 ?_
                            refine m_ald hF hK hH 0 (n := 50) rfl rfl (by decide) rfl (f := a 0) rfl (i := (((toN r1o0) + 1) + (5 * i173)) + 3) (by omega) (by decide) dX2_town_267 ?_
                            refine lv_bipush (v := nI 48) hF.1 hF.2.1 dX2_town_268 (by decide) ?_
                            refine lv_isub hF.1 hF.2.1 dX2_town_270 ?_
                            refine m_ast (a' := va_up (va_up (va_up a 7 (upd (upd (upd (upd w173_a7 (4 * i173) r13) ((4 * i173) + 1) ((a 0 ((((toN r1o0) + 1) + (5 * i173)) + 1)) - (nI 48))) ((4 * i173) + 2) ((a 0 ((((toN r1o0) + 1) + (5 * i173)) + 2)) - (nI 48))) ((4 * i173) + 3) ((a 0 ((((toN r1o0) + 1) + (5 * i173)) + 3)) - (nI 48)))) 8 w75_a8) 9 w152_a9) hF hK hH hS 7 (n := 36) rfl rfl (by decide) rfl (f := upd (upd (upd w173_a7 (4 * i173) r13) ((4 * i173) + 1) ((a 0 ((((toN r1o0) + 1) + (5 * i173)) + 1)) - (nI 48))) ((4 * i173) + 2) ((a 0 ((((toN r1o0) + 1) + (5 * i173)) + 2)) - (nI 48))) rfl (i := (4 * i173) + 3) (by omega) (by decide) dX2_town_271 rfl (by intro j hj; simp only [va_up, if_neg hj]) (fun H locs hH hS => ?_)
                            refine n_iinc (lv' := [(1, .int (nI (i173 + 1))), (2, .int (nI (((toN r1o0) + 1) + (5 * i173)))), (0, .ref (ω.2.1 0 99))]) hF.1 hF.2.1 dX2_town_272 hl (k := 1) rfl (by decide) rfl (fun ls hl => ?_)
                            refine lv_goto (tgt := 173) hF.1 hF.2.1 dX2_town_275 (by decide) ?_
                            exact ih (i173 + 1) _ _ _ _ (by omega) (by subst e_r13; rw [it_succ (fX2_town_b173 a r1o0) i173 _, ← hS173]; try rfl) hH hS (lv_sub hl [0, 2] rfl)
                      have hH : mH ω (va_up (va_up g 3 (toN r1o0)) 4 (((g 1) - (toN r1o0)) / 5), va_up y 2 r1o0, va_up (va_up (va_up a 7 (a 7)) 8 w75_a8) 9 w152_a9, z, kt, hs) H := m_ext (fun _ => rfl) (fun _ => rfl) (by intro k; by_cases h0 : k = 7; (subst h0; simp [va_up]); simp only [va_up, if_neg h0]) (fun _ => rfl) hH
                      exact lp173_135 (((g 1) - (toN r1o0)) / 5) 0 _ _ _ _ (by omega) rfl hH hS (lv_sub hl [0, 1] rfl)
                    · exact absurd (by omega) c8
                  | succ d152 ih =>
                    intro i152 w152_a9 H locs ls hi152 hS152 hH hS hl
                    refine lv_iload_n hF.1 hF.2.1 dX2_town_152 rfl (lv_at hl 0 rfl) ?_
                    refine lv_bipush (v := nI 27) hF.1 hF.2.1 dX2_town_153 (by decide) ?_
                    refine n_ge (tgt := 171) hF.1 hF.2.1 dX2_town_155 (by decide) (by omega) (by omega) (fun c14 => ?_) (fun c14 => ?_)
                    · exact absurd c14 (by omega)
                    · skip
                      refine lv_aload_n hF.1 hF.2.1 dX2_town_158 rfl (lv_at hl 1 rfl) ?_
                      refine mg_9 hF hK hH q980 dX2_town_159 ?_
                      refine lv_iload_n hF.1 hF.2.1 dX2_town_162 rfl (lv_at hl 0 rfl) ?_
                      refine lv_iconst (v := nI 0) hF.1 hF.2.1 dX2_town_163 (by decide) ?_
                      refine m_ast (a' := va_up (va_up a 8 w75_a8) 9 (upd w152_a9 i152 (nI 0))) hF hK hH hS 9 (n := 27) rfl rfl (by decide) rfl (f := w152_a9) rfl (i := i152) (by omega) (by decide) dX2_town_164 rfl (by intro j hj; simp only [va_up, if_neg hj]) (fun H locs hH hS => ?_)
                      refine n_iinc (lv' := [(1, .int (nI (i152 + 1))), (0, .ref (ω.2.1 0 99))]) hF.1 hF.2.1 dX2_town_165 hl (k := 0) rfl (by decide) rfl (fun ls hl => ?_)
                      refine lv_goto (tgt := 152) hF.1 hF.2.1 dX2_town_168 (by decide) ?_
                      exact ih (i152 + 1) _ _ _ _ (by omega) (by rw [it_succ fX2_town_b152 i152 _, ← hS152]; try rfl) hH hS (lv_sub hl [0, 1] rfl)
                have hH : mH ω (va_up (va_up g 3 (toN r1o0)) 4 (((g 1) - (toN r1o0)) / 5), va_up y 2 r1o0, va_up (va_up a 8 w75_a8) 9 (a 9), z, kt, hs) H := m_ext (fun _ => rfl) (fun _ => rfl) (by intro k; by_cases h0 : k = 9; (subst h0; simp [va_up]); simp only [va_up, if_neg h0]) (fun _ => rfl) hH
                exact lp152_133 27 0 _ _ _ _ (by omega) rfl hH hS (lv_sub hl [0, 1] rfl)
              · exact absurd (by omega) c7
            | succ d75 ih =>
              intro i75 w75_a8 H locs ls hi75 hS75 hH hS hl
              refine lv_iload_n hF.1 hF.2.1 dX2_town_75 rfl (lv_at hl 0 rfl) ?_
              refine lv_aload_n hF.1 hF.2.1 dX2_town_76 rfl (lv_at hl 1 rfl) ?_
              refine mg_3 hF hK hH q974 dX2_town_77 (v := toN r1o0) rfl ?_
              refine n_ge (tgt := 150) hF.1 hF.2.1 dX2_town_80 (by decide) (by omega) (by omega) (fun c15 => ?_) (fun c15 => ?_)
              · exact absurd c15 (by omega)
              · skip
                refine lv_aload_n hF.1 hF.2.1 dX2_town_83 rfl (lv_at hl 1 rfl) ?_
                refine mg_8 hF hK hH q979 dX2_town_84 ?_
                refine lv_iconst (v := nI 5) hF.1 hF.2.1 dX2_town_87 (by decide) ?_
                refine lv_iload_n hF.1 hF.2.1 dX2_town_88 rfl (lv_at hl 0 rfl) ?_
                refine n_imul hF.1 hF.2.1 dX2_town_89 ?_
                refine lv_aload_n hF.1 hF.2.1 dX2_town_90 rfl (lv_at hl 1 rfl) ?_
                refine mg_0 hF hK hH q971 dX2_town_91 ?_
                refine lv_iload_n hF.1 hF.2.1 dX2_town_94 rfl (lv_at hl 0 rfl) ?_
                refine m_ald hF hK hH 0 (n := 50) rfl rfl (by decide) rfl (f := a 0) rfl (i := i75) (by omega) (by decide) dX2_town_95 ?_
                refine lv_bipush (v := nI 48) hF.1 hF.2.1 dX2_town_96 (by decide) ?_
                refine lv_isub hF.1 hF.2.1 dX2_town_98 ?_
                refine m_ast (a' := va_up a 8 (upd w75_a8 (5 * i75) ((a 0 i75) - (nI 48)))) hF hK hH hS 8 (n := 15) rfl rfl (by decide) rfl (f := w75_a8) rfl (i := 5 * i75) (by omega) (by decide) dX2_town_99 rfl (by intro j hj; simp only [va_up, if_neg hj]) (fun H locs hH hS => ?_)
                refine lv_aload_n hF.1 hF.2.1 dX2_town_100 rfl (lv_at hl 1 rfl) ?_
                refine mg_8 hF hK hH q979 dX2_town_101 ?_
                refine lv_iconst (v := nI 5) hF.1 hF.2.1 dX2_town_104 (by decide) ?_
                refine lv_iload_n hF.1 hF.2.1 dX2_town_105 rfl (lv_at hl 0 rfl) ?_
                refine n_imul hF.1 hF.2.1 dX2_town_106 ?_
                refine lv_iconst (v := nI 1) hF.1 hF.2.1 dX2_town_107 (by decide) ?_
                refine n_iadd hF.1 hF.2.1 dX2_town_108 ?_
                refine lv_iconst (v := nI 0) hF.1 hF.2.1 dX2_town_109 (by decide) ?_
                refine m_ast (a' := va_up a 8 (upd (upd w75_a8 (5 * i75) ((a 0 i75) - (nI 48))) ((5 * i75) + 1) (nI 0))) hF hK hH hS 8 (n := 15) rfl rfl (by decide) rfl (f := upd w75_a8 (5 * i75) ((a 0 i75) - (nI 48))) rfl (i := (5 * i75) + 1) (by omega) (by decide) dX2_town_110 rfl (by intro j hj; simp only [va_up, if_neg hj]) (fun H locs hH hS => ?_)
                refine lv_aload_n hF.1 hF.2.1 dX2_town_111 rfl (lv_at hl 1 rfl) ?_
                refine mg_8 hF hK hH q979 dX2_town_112 ?_
                refine lv_iconst (v := nI 5) hF.1 hF.2.1 dX2_town_115 (by decide) ?_
                refine lv_iload_n hF.1 hF.2.1 dX2_town_116 rfl (lv_at hl 0 rfl) ?_
                refine n_imul hF.1 hF.2.1 dX2_town_117 ?_
                refine lv_iconst (v := nI 2) hF.1 hF.2.1 dX2_town_118 (by decide) ?_
                refine n_iadd hF.1 hF.2.1 dX2_town_119 ?_
                refine lv_iconst (v := nI 0) hF.1 hF.2.1 dX2_town_120 (by decide) ?_
                refine m_ast (a' := va_up a 8 (upd (upd (upd w75_a8 (5 * i75) ((a 0 i75) - (nI 48))) ((5 * i75) + 1) (nI 0)) ((5 * i75) + 2) (nI 0))) hF hK hH hS 8 (n := 15) rfl rfl (by decide) rfl (f := upd (upd w75_a8 (5 * i75) ((a 0 i75) - (nI 48))) ((5 * i75) + 1) (nI 0)) rfl (i := (5 * i75) + 2) (by omega) (by decide) dX2_town_121 rfl (by intro j hj; simp only [va_up, if_neg hj]) (fun H locs hH hS => ?_)
                refine lv_aload_n hF.1 hF.2.1 dX2_town_122 rfl (lv_at hl 1 rfl) ?_
                refine mg_8 hF hK hH q979 dX2_town_123 ?_
                refine lv_iconst (v := nI 5) hF.1 hF.2.1 dX2_town_126 (by decide) ?_
                refine lv_iload_n hF.1 hF.2.1 dX2_town_127 rfl (lv_at hl 0 rfl) ?_
                refine n_imul hF.1 hF.2.1 dX2_town_128 ?_
                refine lv_iconst (v := nI 3) hF.1 hF.2.1 dX2_town_129 (by decide) ?_
                refine n_iadd hF.1 hF.2.1 dX2_town_130 ?_
                refine lv_iconst (v := (-1)) hF.1 hF.2.1 dX2_town_131 (by decide) ?_
                refine m_ast (a' := va_up a 8 (upd (upd (upd (upd w75_a8 (5 * i75) ((a 0 i75) - (nI 48))) ((5 * i75) + 1) (nI 0)) ((5 * i75) + 2) (nI 0)) ((5 * i75) + 3) (-1))) hF hK hH hS 8 (n := 15) rfl rfl (by decide) rfl (f := upd (upd (upd w75_a8 (5 * i75) ((a 0 i75) - (nI 48))) ((5 * i75) + 1) (nI 0)) ((5 * i75) + 2) (nI 0)) rfl (i := (5 * i75) + 3) (by omega) (by decide) dX2_town_132 rfl (by intro j hj; simp only [va_up, if_neg hj]) (fun H locs hH hS => ?_)
                refine lv_aload_n hF.1 hF.2.1 dX2_town_133 rfl (lv_at hl 1 rfl) ?_
                refine mg_8 hF hK hH q979 dX2_town_134 ?_
                refine lv_iconst (v := nI 5) hF.1 hF.2.1 dX2_town_137 (by decide) ?_
                refine lv_iload_n hF.1 hF.2.1 dX2_town_138 rfl (lv_at hl 0 rfl) ?_
                refine n_imul hF.1 hF.2.1 dX2_town_139 ?_
                refine lv_iconst (v := nI 4) hF.1 hF.2.1 dX2_town_140 (by decide) ?_
                refine n_iadd hF.1 hF.2.1 dX2_town_141 ?_
                refine lv_iconst (v := (-1)) hF.1 hF.2.1 dX2_town_142 (by decide) ?_
                refine m_ast (a' := va_up a 8 (upd (upd (upd (upd (upd w75_a8 (5 * i75) ((a 0 i75) - (nI 48))) ((5 * i75) + 1) (nI 0)) ((5 * i75) + 2) (nI 0)) ((5 * i75) + 3) (-1)) ((5 * i75) + 4) (-1))) hF hK hH hS 8 (n := 15) rfl rfl (by decide) rfl (f := upd (upd (upd (upd w75_a8 (5 * i75) ((a 0 i75) - (nI 48))) ((5 * i75) + 1) (nI 0)) ((5 * i75) + 2) (nI 0)) ((5 * i75) + 3) (-1)) rfl (i := (5 * i75) + 4) (by omega) (by decide) dX2_town_143 rfl (by intro j hj; simp only [va_up, if_neg hj]) (fun H locs hH hS => ?_)
                refine n_iinc (lv' := [(1, .int (nI (i75 + 1))), (0, .ref (ω.2.1 0 99))]) hF.1 hF.2.1 dX2_town_144 hl (k := 0) rfl (by decide) rfl (fun ls hl => ?_)
                refine lv_goto (tgt := 75) hF.1 hF.2.1 dX2_town_147 (by decide) ?_
                exact ih (i75 + 1) _ _ _ _ (by omega) (by rw [it_succ (fX2_town_b75 a) i75 _, ← hS75]; try rfl) hH hS (lv_sub hl [0, 1] rfl)
          have hH : mH ω (va_up (va_up g 3 (toN r1o0)) 4 (((g 1) - (toN r1o0)) / 5), va_up y 2 r1o0, va_up a 8 (a 8), z, kt, hs) H := m_ext (fun _ => rfl) (fun _ => rfl) (by intro k; by_cases h0 : k = 8; (subst h0; simp [va_up]); simp only [va_up, if_neg h0]) (fun _ => rfl) hH
          exact lp75_131 (toN r1o0) 0 _ _ _ _ (by omega) rfl hH hS (lv_sub hl [0, 1] rfl)
        · skip
          refine lv_bipush (v := (-103)) hF.1 hF.2.1 dX2_town_47 (by decide) ?_
          have hH : mH ω (va_up (va_up (va_up (va_up (va_up (va_up g 1 (g 1)) 3 (g 3)) 4 (g 4)) 5 (g 5)) 6 (g 6)) 15 (g 15), va_up y 2 r1o0, va_up (va_up (va_up (va_up a 7 (a 7)) 8 (a 8)) 9 (a 9)) 10 (a 10), z, kt, hs) H := m_ext (by intro k; by_cases h0 : k = 1; (subst h0; simp [va_up]); by_cases h1 : k = 15; (subst h1; simp [va_up]); by_cases h2 : k = 3; (subst h2; simp [va_up]); by_cases h3 : k = 4; (subst h3; simp [va_up]); by_cases h4 : k = 5; (subst h4; simp [va_up]); by_cases h5 : k = 6; (subst h5; simp [va_up]); simp only [va_up, if_neg h0, if_neg h1, if_neg h2, if_neg h3, if_neg h4, if_neg h5]) (fun _ => rfl) (by intro k; by_cases h0 : k = 10; (subst h0; simp [va_up]); by_cases h1 : k = 7; (subst h1; simp [va_up]); by_cases h2 : k = 8; (subst h2; simp [va_up]); by_cases h3 : k = 9; (subst h3; simp [va_up]); simp only [va_up, if_neg h0, if_neg h1, if_neg h2, if_neg h3]) (fun _ => rfl) hH
          exact hret _ _ _ _ _ _ dX2_town_49 ⟨_, _, _, _, _, _, _, _, _, _, _, by subst e_r1o0; subst e_r1n; unfold fX2_town; first | (rw [if_neg c2, if_neg c3, if_neg c5, if_neg c6]; done) | (simp only [if_neg c2, if_neg c3, if_neg c5, if_neg c6]), rfl⟩ hH hS

