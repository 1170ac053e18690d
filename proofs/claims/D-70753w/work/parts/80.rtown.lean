/-! THE READER: a town is read -/
set_option maxRecDepth 100000
def digs (g : Nat → Nat → Nat) (pg : Nat → Int32) (np : Nat) : Prop := 1 ≤ np ∧ np ≤ 3 ∧ (∀ i, i < np → isDg g pg i 0 9) ∧ (np < 3 → ¬ isDg g pg np 0 9)
/-- np digits, a semicolon, j streets -/
def pre (g : Nat → Nat → Nat) (pg : Nat → Int32) (np j : Nat) (rt : TW) : Prop := digs g pg np ∧ nx g pg np = nI 59 ∧ tn rt = j ∧ (∀ i, i < j → sOK g pg (np + 5 * i + 1) (tk rt i) (ta rt i) (tb rt i) (tl rt i)) ∧ (∀ i, 1 ≤ i → i < j → nx g pg (np + 5 * i) = nI 44)
def prex (g : Nat → Nat → Nat) (pg : Nat → Int32) (np j : Nat) : Prop := digs g pg np ∧ nx g pg np = nI 59 ∧ (∀ i, i < j → ∃ k a b l, sOK g pg (np + 5 * i + 1) k a b l) ∧ (∀ i, 1 ≤ i → i < j → nx g pg (np + 5 * i) = nI 44)
def tBad (g : Nat → Nat → Nat) (pg : Nat → Int32) (n : Nat) : Prop := (n = 0 ∧ ¬ isDg g pg 0 0 9) ∨ (digs g pg n ∧ ¬ nx g pg n = nI 59) ∨ (∃ np j, prex g pg np j ∧ j ≤ 8 ∧ (1 ≤ j → nx g pg (np + 5 * j) = nI 44) ∧ sBad g pg (np + 5 * j + 1) n) ∨ (∃ np, prex g pg np 1 ∧ n = np + 5 ∧ ¬ nx g pg n = nI 44) ∨ (∃ np j, prex g pg np j ∧ 2 ≤ j ∧ j ≤ 9 ∧ (j = 9 ∨ ¬ nx g pg n = nI 44) ∧ n = np + 5 * j ∧ ¬ n = g 0 7)
theorem pre.np {g : Nat → Nat → Nat} {pg : Nat → Int32} {np j : Nat} {rt : TW} (h : pre g pg np j rt) : 1 ≤ np ∧ np ≤ 3 := ⟨h.1.1, h.1.2.1⟩
theorem pre.n {g : Nat → Nat → Nat} {pg : Nat → Int32} {np j : Nat} {rt : TW} (h : pre g pg np j rt) : tn rt = j := h.2.2.1
theorem pre.x {g : Nat → Nat → Nat} {pg : Nat → Int32} {np j : Nat} {rt : TW} (h : pre g pg np j rt) : prex g pg np j := ⟨h.1, h.2.1, fun i hi => ⟨_, _, _, _, h.2.2.2.1 i hi⟩, h.2.2.2.2⟩
theorem pre.push {g : Nat → Nat → Nat} {pg : Nat → Int32} {np j : Nat} {rt : TW} {k a b l q ed : Nat} (h : pre g pg np j rt) (hc : 1 ≤ j → nx g pg (np + 5 * j) = nI 44) (hs : sOK g pg (np + 5 * j + 1) k a b l) : pre g pg np (j + 1) (tpush rt k a b l q ed) := by
  obtain ⟨h1, h2, h3, h4, h5⟩ := h
  subst h3
  refine ⟨h1, h2, rfl, fun i hi => ?_, fun i h1 hi => ?_⟩
  · show sOK g pg (np + 5 * i + 1) (va_up (tk rt) (tn rt) k i) (va_up (ta rt) (tn rt) a i) (va_up (tb rt) (tn rt) b i) (va_up (tl rt) (tn rt) l i)
    unfold va_up
    by_cases z : i = tn rt
    · subst z; simp only [if_true]; exact hs
    · simp only [z, if_false]; exact h4 i (by omega)
  · by_cases z : i = tn rt
    · subst z; exact hc h1
    · exact h5 i h1 (by omega)
theorem pre_0 {g : Nat → Nat → Nat} {pg : Nat → Int32} {np : Nat} {rt : TW} (h : digs g pg np) (hs : nx g pg np = nI 59) (hn : tn rt = 0) : pre g pg np 0 rt := ⟨h, hs, hn, fun i hi => absurd hi (by omega), fun i _ hi => absurd hi (by omega)⟩
theorem tBad_1 {g : Nat → Nat → Nat} {pg : Nat → Int32} (h : ¬ isDg g pg 0 0 9) : tBad g pg 0 := Or.inl ⟨rfl, h⟩
theorem tBad_2 {g : Nat → Nat → Nat} {pg : Nat → Int32} {np : Nat} (h : digs g pg np) (hs : ¬ nx g pg np = nI 59) : tBad g pg np := Or.inr (Or.inl ⟨h, hs⟩)
theorem tBad_3 {g : Nat → Nat → Nat} {pg : Nat → Int32} {np j n : Nat} {rt : TW} (h : pre g pg np j rt) (hj : j ≤ 8) (hc : 1 ≤ j → nx g pg (np + 5 * j) = nI 44) (hb : sBad g pg (np + 5 * j + 1) n) : tBad g pg n := Or.inr (Or.inr (Or.inl ⟨np, j, h.x, hj, hc, hb⟩))
theorem tBad_4 {g : Nat → Nat → Nat} {pg : Nat → Int32} {np j : Nat} {rt : TW} (h : pre g pg np j rt) (hj : j = 1) (hc : ¬ nx g pg (np + 5 * j) = nI 44) : tBad g pg (np + 5 * j) := by
  subst hj
  exact Or.inr (Or.inr (Or.inr (Or.inl ⟨np, h.x, rfl, hc⟩)))
theorem tBad_5 {g : Nat → Nat → Nat} {pg : Nat → Int32} {np j : Nat} {rt : TW} (h : pre g pg np j rt) (h2 : 2 ≤ j) (h9 : j ≤ 9) (hc : j = 9 ∨ ¬ nx g pg (np + 5 * j) = nI 44) (hn : ¬ np + 5 * j = g 0 7) : tBad g pg (np + 5 * j) := Or.inr (Or.inr (Or.inr (Or.inr ⟨np, j, h.x, h2, h9, hc, rfl, hn⟩)))
theorem in_dg0 {g : Nat → Nat → Nat} {pg : Nat → Int32} {pl : Nat} : ¬ fX0_in (nx g pg pl) (nI 48) (nI 57) = 0 ↔ isDg g pg pl 0 9 := by
  unfold nx isDg
  by_cases h : g 0 7 ≤ pl
  · rw [if_pos h]
    exact ⟨fun q => absurd (by decide) q, fun q => absurd q.1 (by omega)⟩
  · rw [if_neg h]
    constructor
    · intro q
      obtain ⟨j, hj, e⟩ := in32_lift2' (by omega) (by omega) q
      rw [e] at q
      have h1 : 48 ≤ j := (nI_leI (by omega) (by omega)).mp (in32_of q).1
      exact ⟨by omega, j - 48, Nat.zero_le _, by omega, by rw [e, show 48 + (j - 48) = j by omega]⟩
    · rintro ⟨_, d, h1, h2, h3⟩
      rw [h3]
      exact in32_intro ((nI_leI (by omega) (by omega)).mpr (by omega)) ((nI_leI (by omega) (by omega)).mpr (by omega))
theorem dgt_is {g : Nat → Nat → Nat} {pg : Nat → Int32} {p lo hi d : Nat} (h : dgt g pg p lo hi d) : isDg g pg p lo hi := ⟨h.1, d, h.2.1, h.2.2.1, h.2.2.2⟩
theorem dgt_v {g : Nat → Nat → Nat} {pg : Nat → Int32} {p lo hi d : Nat} (h : dgt g pg p lo hi d) (h9 : hi ≤ 9) : nI d = pg p - nI 48 := by
  obtain ⟨h1, h2, h3, h4⟩ := h
  rw [h4, nI_sub (by omega) (by omega), Nat.add_sub_cancel_left]
theorem digs_1 {g : Nat → Nat → Nat} {pg : Nat → Int32} {d1 : Nat} (h1 : dgt g pg 0 0 9 d1) (hn : 1 < 3 → ¬ isDg g pg 1 0 9) : digs g pg 1 := ⟨by omega, by omega, fun i hi => by rw [show i = 0 by omega]; exact dgt_is h1, hn⟩
theorem digs_2 {g : Nat → Nat → Nat} {pg : Nat → Int32} {d1 d2 : Nat} (h1 : dgt g pg 0 0 9 d1) (h2 : dgt g pg 1 0 9 d2) (hn : 2 < 3 → ¬ isDg g pg 2 0 9) : digs g pg 2 := ⟨by omega, by omega, fun i hi => by
  rcases (show i = 0 ∨ i = 1 by omega) with z | z <;> subst z
  · exact dgt_is h1
  · exact dgt_is h2, hn⟩
theorem digs_3 {g : Nat → Nat → Nat} {pg : Nat → Int32} {d1 d2 d3 : Nat} (h1 : dgt g pg 0 0 9 d1) (h2 : dgt g pg 1 0 9 d2) (h3 : dgt g pg 2 0 9 d3) : digs g pg 3 := ⟨by omega, by omega, fun i hi => by
  rcases (show i = 0 ∨ i = 1 ∨ i = 2 by omega) with z | z | z <;> subst z
  · exact dgt_is h1
  · exact dgt_is h2
  · exact dgt_is h3, fun z => absurd z (by omega)⟩
theorem tfs_1 {g : Nat → Nat → Nat} {pg tf : Nat → Int32} {d1 : Nat} (h1 : dgt g pg 0 0 9 d1) : ∀ i, i < 1 → upd tf 0 (nI d1) i = pg i - nI 48 := by
  intro i hi
  rw [show i = 0 by omega]
  exact dgt_v h1 (by omega)
theorem tfs_2 {g : Nat → Nat → Nat} {pg tf : Nat → Int32} {d1 d2 : Nat} (h1 : dgt g pg 0 0 9 d1) (h2 : dgt g pg 1 0 9 d2) : ∀ i, i < 2 → upd (upd tf 0 (nI d1)) 1 (nI d2) i = pg i - nI 48 := by
  intro i hi
  rcases (show i = 0 ∨ i = 1 by omega) with z | z <;> subst z
  · exact dgt_v h1 (by omega)
  · exact dgt_v h2 (by omega)
theorem tfs_3 {g : Nat → Nat → Nat} {pg tf : Nat → Int32} {d1 d2 d3 : Nat} (h1 : dgt g pg 0 0 9 d1) (h2 : dgt g pg 1 0 9 d2) (h3 : dgt g pg 2 0 9 d3) : ∀ i, i < 3 → upd (upd (upd tf 0 (nI d1)) 1 (nI d2)) 2 (nI d3) i = pg i - nI 48 := by
  intro i hi
  rcases (show i = 0 ∨ i = 1 ∨ i = 2 by omega) with z | z | z <;> subst z
  · exact dgt_v h1 (by omega)
  · exact dgt_v h2 (by omega)
  · exact dgt_v h3 (by omega)
/-! (gen/y3.py) -/
def rmX3_town : Room := { frames := 7, cells := 77, slots := 530, locals := 162 }
theorem hdX3_town : yX3_town.cls = RX3 ∧ yX3_town.cls ≠ "java/lang/invoke/MethodHandle" ∧ yX3_town.cls ≠ "java/lang/invoke/VarHandle" ∧ (parseMethodDescriptor yX3_town.desc).map (fun d => d.parameters.length) = some 0 := by decide +kernel
theorem kX3_town (l : Launch) (ω : OM) (σ : RA) (e0 : Nat) (v1 v2 : Value) (g : Nat → Nat → Nat) (y : Nat → Nat → Int32) (a z : Nat → Nat → Nat → Int32) (dr : Int64) (pg : Nat → Int32) (t : TW) (tf : Nat → Int32) (rt : TW) (b2 b3 : Nat) (hp50 : g 0 7 ≤ 50) (hn0 : tn rt = 0) (hte : town rt = false → ted rt = e0) : MetT l yX3_town (ws_ yX3_town cX3_town 1 (some (.object "HurtStreets$Reader"))) rmX3_town (va_Pc [.ref σ.1] (fun U => yK ω e0 v1 v2 U ∧ yH ω σ (g, y, a, z, dr, pg, t) (0, 0, tf, rt, (false, 0, 0, 0, 0, 0), (false, b2, b3)) U.heap)) (va_QT (fun oc (ρ : RD) => (∃ np j rt' tf', pre g pg np j rt' ∧ 2 ≤ j ∧ g 0 7 = np + 5 * j ∧ (∀ i, i < np → tf' i = pg i - nI 48) ∧ oc = .returned (some (.ref σ.1)) ∧ ρ = (np + 5 * j, np, tf', rt', (false, 0, 0, 0, 0, 0), (false, b2, b3))) ∨ (∃ n, tBad g pg n ∧ thr n oc ρ)) (fun ρ t' => yH ω σ (g, y, a, z, dr, pg, t) ρ t'.heap) ω.2.2.1) 77 530 ω.2.2.1 := by
  refine g_entT (C := RX3) (Hp := yH ω σ (g, y, a, z, dr, pg, t)) rfl (by decide) (Nat.le_of_ble_eq_true rfl) ?_
  intro p e s m args below meth c QQ ls H locs hF hK hH hS hl hE
  have hl : lv_has ls 1 [(0, .ref σ.1)] := hl
  have loop : ∀ (np : Nat) (tf : Nat → Int32), (∀ i, i < np → tf i = pg i - nI 48) → ∀ (d j : Nat) (rt : TW) (ls : Array Slot) (H : Heap) (locs : List Loc), j + d = 9 → 1 ≤ j → pre g pg np j rt → (town rt = false → ted rt = e0) → lv_has ls 1 [(0, .ref σ.1)] → yH ω σ (g, y, a, z, dr, pg, t) (np + 5 * j, np, tf, rt, (false, 0, 0, 0, 0, 0), (false, b2, b3)) H → va_S ω.2.2.1 s.heap H locs → W p l e rmX3_town s m args below meth c H locs (4 + 8 * j) (28 + 55 * j) QQ (F0 m 62 ls []) := by
    intro np tf htf d
    induction d with
    | zero =>
      intro j rt ls H locs hd h1 hI hte hl hH hS
      have hnp := hI.np
      have hnj := hI.n
      have ih : ∀ (j : Nat) (rt : TW) (ls : Array Slot) (H : Heap) (locs : List Loc), False → 1 ≤ j → pre g pg np j rt → (town rt = false → ted rt = e0) → lv_has ls 1 [(0, .ref σ.1)] → yH ω σ (g, y, a, z, dr, pg, t) (np + 5 * j, np, tf, rt, (false, 0, 0, 0, 0, 0), (false, b2, b3)) H → va_S ω.2.2.1 s.heap H locs → W p l e rmX3_town s m args below meth c H locs (4 + 8 * j) (28 + 55 * j) QQ (F0 m 62 ls []) := fun _ _ _ _ _ h => h.elim
      refine lv_aload_n hF.1 hF.2.1 dX3_town_62 rfl (lv_at hl 0 rfl) ?_
      refine yg_streets hF hK.1 hH q326 dX3_town_63 ?_
      refine g_vPi (As := []) (rest := []) hF (kL_size l ω σ.2.2 (ted rt) (tn rt) (tmod rt)) (lw_V q553 q554 q555 q95 q556) 0 hdJ2_size rfl rfl ⟨Nat.le_of_ble_eq_true rfl, Nat.le_of_ble_eq_true rfl⟩ (l_preV hK.1.1 (y_l0 hH) rfl) rfl hl.1 rfl (Nat.le_of_ble_eq_true rfl) dX3_town_66 ⟨(by first | exact Nat.le_of_ble_eq_true rfl | (simp only [rmX3_town]; omega)), (by first | exact Nat.le_of_ble_eq_true rfl | (simp only [rmX3_town]; omega))⟩ (fun r e_r => ?_)
      subst e_r
      refine lv_iconst (v := nI 2) hF.1 hF.2.1 dX3_town_69 (by decide) ?_
      refine n_lt (tgt := 94) hF.1 hF.2.1 dX3_town_70 (by decide) (by omega) (by omega) (fun c1 => ?_) (fun c1 => ?_)
      · skip
        refine lv_aload_n hF.1 hF.2.1 dX3_town_94 rfl (lv_at hl 0 rfl) ?_
        refine lv_aload_n hF.1 hF.2.1 dX3_town_95 rfl (lv_at hl 0 rfl) ?_
        refine lv_bipush (v := nI 44) hF.1 hF.2.1 dX3_town_96 (by decide) ?_
        refine g_vWi (As := [.int (nI 44)]) (rest := [.ref σ.1]) hF (kX3_takes l ω σ e0 v1 v2 g y a z dr pg t (np + 5 * j) np tf rt ((false, 0, 0, 0, 0, 0)) b2 b3 (nI 44) hp50 (by omega)) (lw_V q420 q422 qs4 q98 q423) 1 hdX3_takes rfl rfl ⟨Nat.le_of_ble_eq_true rfl, Nat.le_of_ble_eq_true rfl⟩ (y_preV hK hH hS) rfl hl.1 rfl (Nat.le_of_ble_eq_true rfl) dX3_town_98 ⟨(by first | exact Nat.le_of_ble_eq_true rfl | (simp only [rmX3_town]; omega)), (by first | exact Nat.le_of_ble_eq_true rfl | (simp only [rmX3_town]; omega))⟩ hS (fun r ρ' H locs hq hH hS => ?_)
        rcases hq with ⟨rfl, t2, rfl⟩ | ⟨rfl, t2, rfl⟩
        · skip
          refine g_vT (As := [.int (nI 1)]) (rest := []) hF (kX3_want l ω σ e0 v1 v2 (g, y, a, z, dr, pg, t) ((np + 5 * j) + 1) np tf rt ((false, 0, 0, 0, 0, 0)) b2 b3 (nI 1)) (lw_V q353 q355 qs2 q98 q356) 1 hdX3_want rfl rfl ⟨Nat.le_of_ble_eq_true rfl, Nat.le_of_ble_eq_true rfl⟩ (y_preV hK hH hS) rfl hl.1 rfl (Nat.le_of_ble_eq_true rfl) dX3_town_101 ⟨(by first | exact Nat.le_of_ble_eq_true rfl | (simp only [rmX3_town]; omega)), (by first | exact Nat.le_of_ble_eq_true rfl | (simp only [rmX3_town]; omega))⟩ hS (fun o ρ' H locs hq hH hS => ?_)
          rcases hq with ⟨w3, rfl, rfl⟩ | ⟨w3, hthr⟩
          · skip
            show W p l e rmX3_town s m args below meth c H locs (4 + 8 * j + 1) (28 + 55 * j + 7) QQ (F0 m 104 ls [])
            refine lv_aload_n hF.1 hF.2.1 dX3_town_104 rfl (lv_at hl 0 rfl) ?_
            refine g_vT (As := []) (rest := []) hF (kX3_street l ω σ e0 v1 v2 g y a z dr pg t ((np + 5 * j) + 1) np tf rt b2 b3 hp50 (by omega) (by omega) hte) (lw_V q424 q426 qs5 q98 q427) 0 hdX3_street rfl rfl ⟨Nat.le_of_ble_eq_true rfl, Nat.le_of_ble_eq_true rfl⟩ (y_preV hK hH hS) rfl hl.1 rfl (Nat.le_of_ble_eq_true rfl) dX3_town_105 ⟨(by first | exact Nat.le_of_ble_eq_true rfl | (simp only [rmX3_town]; omega)), (by first | exact Nat.le_of_ble_eq_true rfl | (simp only [rmX3_town]; omega))⟩ hS (fun o ρ' H locs hq hH hS => ?_)
            rcases hq with ⟨k, c1, c2, c3, cq, ed, s4, rfl, rfl⟩ | ⟨n, s4, hthr⟩
            · skip
              show W p l e rmX3_town s m args below meth c H locs (4 + 8 * j + 1 + 7) (28 + 55 * j + 7 + 48) QQ (F0 m 108 ls [])
              refine lv_goto (tgt := 62) hF.1 hF.2.1 dX3_town_108 (by decide) ?_
              refine W.widen (k := 4 + 8 * (j + 1)) (n := 28 + 55 * (j + 1)) (by omega) (by omega) ?_
              exact ih (j + 1) _ _ _ _ (by omega) (by omega) (hI.push (fun _ => t2) s4) (fun z => absurd z (by show ¬ true = false; decide)) hl (by rw [show np + 5 * (j + 1) = np + 5 * j + 1 + 1 + 1 + 1 + 1 by omega]; exact hH) hS
            · skip
              obtain ⟨qq, rfl, hso⟩ := hthr
              refine WT.widen (k := 77) (n := 530) (by first | exact Nat.le_of_ble_eq_true rfl | omega) (by first | exact Nat.le_of_ble_eq_true rfl | omega) ?_
              exact hE.2.2.2.2 _ _ qq _ ρ' _ _ (Or.inr ⟨n, tBad_3 hI (by omega) (fun _ => t2) s4, qq, rfl, hso⟩) hH hS
          · exact absurd w3 (by decide)
        · skip
          refine g_vT (As := [.int (nI 0)]) (rest := []) hF (kX3_want l ω σ e0 v1 v2 (g, y, a, z, dr, pg, t) (np + 5 * j) np tf rt ((false, 0, 0, 0, 0, 0)) b2 b3 (nI 0)) (lw_V q353 q355 qs2 q98 q356) 1 hdX3_want rfl rfl ⟨Nat.le_of_ble_eq_true rfl, Nat.le_of_ble_eq_true rfl⟩ (y_preV hK hH hS) rfl hl.1 rfl (Nat.le_of_ble_eq_true rfl) dX3_town_101 ⟨(by first | exact Nat.le_of_ble_eq_true rfl | (simp only [rmX3_town]; omega)), (by first | exact Nat.le_of_ble_eq_true rfl | (simp only [rmX3_town]; omega))⟩ hS (fun o ρ' H locs hq hH hS => ?_)
          rcases hq with ⟨w5, rfl, rfl⟩ | ⟨w5, hthr⟩
          · exact absurd nI_0 w5
          · skip
            obtain ⟨qq, rfl, hso⟩ := hthr
            refine WT.widen (k := 77) (n := 530) (by first | exact Nat.le_of_ble_eq_true rfl | omega) (by first | exact Nat.le_of_ble_eq_true rfl | omega) ?_
            exact hE.2.2.2.2 _ _ qq _ ρ' _ _ (Or.inr ⟨np + 5 * j, tBad_4 hI (by omega) t2, qq, rfl, hso⟩) hH hS
      · skip
        refine lv_aload_n hF.1 hF.2.1 dX3_town_73 rfl (lv_at hl 0 rfl) ?_
        refine yg_streets hF hK.1 hH q326 dX3_town_74 ?_
        refine g_vPi (As := []) (rest := []) hF (kL_size l ω σ.2.2 (ted rt) (tn rt) (tmod rt)) (lw_V q553 q554 q555 q95 q556) 0 hdJ2_size rfl rfl ⟨Nat.le_of_ble_eq_true rfl, Nat.le_of_ble_eq_true rfl⟩ (l_preV hK.1.1 (y_l0 hH) rfl) rfl hl.1 rfl (Nat.le_of_ble_eq_true rfl) dX3_town_77 ⟨(by first | exact Nat.le_of_ble_eq_true rfl | (simp only [rmX3_town]; omega)), (by first | exact Nat.le_of_ble_eq_true rfl | (simp only [rmX3_town]; omega))⟩ (fun r e_r => ?_)
        subst e_r
        refine lv_bipush (v := nI 9) hF.1 hF.2.1 dX3_town_80 (by decide) ?_
        refine n_ge (tgt := 111) hF.1 hF.2.1 dX3_town_82 (by decide) (by omega) (by omega) (fun c6 => ?_) (fun c6 => ?_)
        · skip
          refine lv_aload_n hF.1 hF.2.1 dX3_town_111 rfl (lv_at hl 0 rfl) ?_
          refine lv_aload_n hF.1 hF.2.1 dX3_town_112 rfl (lv_at hl 0 rfl) ?_
          refine yg_place hF hK.1 hH q321 dX3_town_113 ?_
          refine lv_aload_n hF.1 hF.2.1 dX3_town_116 rfl (lv_at hl 0 rfl) ?_
          refine yg_this hF hK.1 hH q328 dX3_town_117 ?_
          refine xgN_q226 hF hK.1 hH.x dX3_town_120 (v := g 0 7) rfl ?_
          refine n_ne (tgt := 130) hF.1 hF.2.1 dX3_town_123 (by decide) (by omega) (by omega) (fun c7 => ?_) (fun c7 => ?_)
          · skip
            refine lv_iconst (v := nI 0) hF.1 hF.2.1 dX3_town_130 (by decide) ?_
            refine g_vT (As := [.int (nI 0)]) (rest := []) hF (kX3_want l ω σ e0 v1 v2 (g, y, a, z, dr, pg, t) (np + 5 * j) np tf rt ((false, 0, 0, 0, 0, 0)) b2 b3 (nI 0)) (lw_V q353 q355 qs2 q98 q356) 1 hdX3_want rfl rfl ⟨Nat.le_of_ble_eq_true rfl, Nat.le_of_ble_eq_true rfl⟩ (y_preV hK hH hS) rfl hl.1 rfl (Nat.le_of_ble_eq_true rfl) dX3_town_131 ⟨(by first | exact Nat.le_of_ble_eq_true rfl | (simp only [rmX3_town]; omega)), (by first | exact Nat.le_of_ble_eq_true rfl | (simp only [rmX3_town]; omega))⟩ hS (fun o ρ' H locs hq hH hS => ?_)
            rcases hq with ⟨w8, rfl, rfl⟩ | ⟨w8, hthr⟩
            · exact absurd nI_0 w8
            · skip
              obtain ⟨qq, rfl, hso⟩ := hthr
              refine WT.widen (k := 77) (n := 530) (by first | exact Nat.le_of_ble_eq_true rfl | omega) (by first | exact Nat.le_of_ble_eq_true rfl | omega) ?_
              exact hE.2.2.2.2 _ _ qq _ ρ' _ _ (Or.inr ⟨np + 5 * j, tBad_5 hI (by omega) (by omega) (Or.inl (by omega)) c7, qq, rfl, hso⟩) hH hS
          · skip
            refine lv_iconst (v := nI 1) hF.1 hF.2.1 dX3_town_126 (by decide) ?_
            refine lv_goto (tgt := 131) hF.1 hF.2.1 dX3_town_127 (by decide) ?_
            refine g_vT (As := [.int (nI 1)]) (rest := []) hF (kX3_want l ω σ e0 v1 v2 (g, y, a, z, dr, pg, t) (np + 5 * j) np tf rt ((false, 0, 0, 0, 0, 0)) b2 b3 (nI 1)) (lw_V q353 q355 qs2 q98 q356) 1 hdX3_want rfl rfl ⟨Nat.le_of_ble_eq_true rfl, Nat.le_of_ble_eq_true rfl⟩ (y_preV hK hH hS) rfl hl.1 rfl (Nat.le_of_ble_eq_true rfl) dX3_town_131 ⟨(by first | exact Nat.le_of_ble_eq_true rfl | (simp only [rmX3_town]; omega)), (by first | exact Nat.le_of_ble_eq_true rfl | (simp only [rmX3_town]; omega))⟩ hS (fun o ρ' H locs hq hH hS => ?_)
            rcases hq with ⟨w9, rfl, rfl⟩ | ⟨w9, hthr⟩
            · skip
              show W p l e rmX3_town s m args below meth c H locs (4 + 8 * j + 1) (28 + 55 * j + 7) QQ (F0 m 134 ls [])
              refine lv_aload_n hF.1 hF.2.1 dX3_town_134 rfl (lv_at hl 0 rfl) ?_
              refine W.widen (k := 77) (n := 530) (by omega) (by omega) ?_
              exact hE.2.2.1 _ _ σ.1 _ (np + 5 * j, np, tf, rt, (false, 0, 0, 0, 0, 0), (false, b2, b3)) _ _ rfl dX3_town_135 (Or.inl ⟨np, j, rt, tf, hI, by omega, by omega, htf, rfl, rfl⟩) hH hS
            · exact absurd w9 (by decide)
        · skip
          refine lv_aload_n hF.1 hF.2.1 dX3_town_85 rfl (lv_at hl 0 rfl) ?_
          refine g_vPi (As := []) (rest := []) hF (kX3_next l ω σ e0 v1 v2 g y a z dr pg t (np + 5 * j) np tf rt ((false, 0, 0, 0, 0, 0)) b2 b3 hp50 (by omega)) (lw_V q348 q350 qs1 q98 q351) 0 hdX3_next rfl rfl ⟨Nat.le_of_ble_eq_true rfl, Nat.le_of_ble_eq_true rfl⟩ (y_preV hK hH hS) rfl hl.1 rfl (Nat.le_of_ble_eq_true rfl) dX3_town_86 ⟨(by first | exact Nat.le_of_ble_eq_true rfl | (simp only [rmX3_town]; omega)), (by first | exact Nat.le_of_ble_eq_true rfl | (simp only [rmX3_town]; omega))⟩ (fun r e_r => ?_)
          subst e_r
          refine lv_bipush (v := nI 44) hF.1 hF.2.1 dX3_town_89 (by decide) ?_
          refine lv_icmp_ne (tgt := 111) hF.1 hF.2.1 dX3_town_91 (by decide) (fun c10 => ?_) (fun c10 => ?_)
          · skip
            refine lv_aload_n hF.1 hF.2.1 dX3_town_111 rfl (lv_at hl 0 rfl) ?_
            refine lv_aload_n hF.1 hF.2.1 dX3_town_112 rfl (lv_at hl 0 rfl) ?_
            refine yg_place hF hK.1 hH q321 dX3_town_113 ?_
            refine lv_aload_n hF.1 hF.2.1 dX3_town_116 rfl (lv_at hl 0 rfl) ?_
            refine yg_this hF hK.1 hH q328 dX3_town_117 ?_
            refine xgN_q226 hF hK.1 hH.x dX3_town_120 (v := g 0 7) rfl ?_
            refine n_ne (tgt := 130) hF.1 hF.2.1 dX3_town_123 (by decide) (by omega) (by omega) (fun c11 => ?_) (fun c11 => ?_)
            · skip
              refine lv_iconst (v := nI 0) hF.1 hF.2.1 dX3_town_130 (by decide) ?_
              refine g_vT (As := [.int (nI 0)]) (rest := []) hF (kX3_want l ω σ e0 v1 v2 (g, y, a, z, dr, pg, t) (np + 5 * j) np tf rt ((false, 0, 0, 0, 0, 0)) b2 b3 (nI 0)) (lw_V q353 q355 qs2 q98 q356) 1 hdX3_want rfl rfl ⟨Nat.le_of_ble_eq_true rfl, Nat.le_of_ble_eq_true rfl⟩ (y_preV hK hH hS) rfl hl.1 rfl (Nat.le_of_ble_eq_true rfl) dX3_town_131 ⟨(by first | exact Nat.le_of_ble_eq_true rfl | (simp only [rmX3_town]; omega)), (by first | exact Nat.le_of_ble_eq_true rfl | (simp only [rmX3_town]; omega))⟩ hS (fun o ρ' H locs hq hH hS => ?_)
              rcases hq with ⟨w12, rfl, rfl⟩ | ⟨w12, hthr⟩
              · exact absurd nI_0 w12
              · skip
                obtain ⟨qq, rfl, hso⟩ := hthr
                refine WT.widen (k := 77) (n := 530) (by first | exact Nat.le_of_ble_eq_true rfl | omega) (by first | exact Nat.le_of_ble_eq_true rfl | omega) ?_
                exact hE.2.2.2.2 _ _ qq _ ρ' _ _ (Or.inr ⟨np + 5 * j, tBad_5 hI (by omega) (by omega) (Or.inr c10) c11, qq, rfl, hso⟩) hH hS
            · skip
              refine lv_iconst (v := nI 1) hF.1 hF.2.1 dX3_town_126 (by decide) ?_
              refine lv_goto (tgt := 131) hF.1 hF.2.1 dX3_town_127 (by decide) ?_
              refine g_vT (As := [.int (nI 1)]) (rest := []) hF (kX3_want l ω σ e0 v1 v2 (g, y, a, z, dr, pg, t) (np + 5 * j) np tf rt ((false, 0, 0, 0, 0, 0)) b2 b3 (nI 1)) (lw_V q353 q355 qs2 q98 q356) 1 hdX3_want rfl rfl ⟨Nat.le_of_ble_eq_true rfl, Nat.le_of_ble_eq_true rfl⟩ (y_preV hK hH hS) rfl hl.1 rfl (Nat.le_of_ble_eq_true rfl) dX3_town_131 ⟨(by first | exact Nat.le_of_ble_eq_true rfl | (simp only [rmX3_town]; omega)), (by first | exact Nat.le_of_ble_eq_true rfl | (simp only [rmX3_town]; omega))⟩ hS (fun o ρ' H locs hq hH hS => ?_)
              rcases hq with ⟨w13, rfl, rfl⟩ | ⟨w13, hthr⟩
              · skip
                show W p l e rmX3_town s m args below meth c H locs (4 + 8 * j + 1) (28 + 55 * j + 7) QQ (F0 m 134 ls [])
                refine lv_aload_n hF.1 hF.2.1 dX3_town_134 rfl (lv_at hl 0 rfl) ?_
                refine W.widen (k := 77) (n := 530) (by omega) (by omega) ?_
                exact hE.2.2.1 _ _ σ.1 _ (np + 5 * j, np, tf, rt, (false, 0, 0, 0, 0, 0), (false, b2, b3)) _ _ rfl dX3_town_135 (Or.inl ⟨np, j, rt, tf, hI, by omega, by omega, htf, rfl, rfl⟩) hH hS
              · exact absurd w13 (by decide)
          · skip
            refine lv_aload_n hF.1 hF.2.1 dX3_town_94 rfl (lv_at hl 0 rfl) ?_
            refine lv_aload_n hF.1 hF.2.1 dX3_town_95 rfl (lv_at hl 0 rfl) ?_
            refine lv_bipush (v := nI 44) hF.1 hF.2.1 dX3_town_96 (by decide) ?_
            refine g_vWi (As := [.int (nI 44)]) (rest := [.ref σ.1]) hF (kX3_takes l ω σ e0 v1 v2 g y a z dr pg t (np + 5 * j) np tf rt ((false, 0, 0, 0, 0, 0)) b2 b3 (nI 44) hp50 (by omega)) (lw_V q420 q422 qs4 q98 q423) 1 hdX3_takes rfl rfl ⟨Nat.le_of_ble_eq_true rfl, Nat.le_of_ble_eq_true rfl⟩ (y_preV hK hH hS) rfl hl.1 rfl (Nat.le_of_ble_eq_true rfl) dX3_town_98 ⟨(by first | exact Nat.le_of_ble_eq_true rfl | (simp only [rmX3_town]; omega)), (by first | exact Nat.le_of_ble_eq_true rfl | (simp only [rmX3_town]; omega))⟩ hS (fun r ρ' H locs hq hH hS => ?_)
            rcases hq with ⟨rfl, t14, rfl⟩ | ⟨rfl, t14, rfl⟩
            · skip
              refine g_vT (As := [.int (nI 1)]) (rest := []) hF (kX3_want l ω σ e0 v1 v2 (g, y, a, z, dr, pg, t) ((np + 5 * j) + 1) np tf rt ((false, 0, 0, 0, 0, 0)) b2 b3 (nI 1)) (lw_V q353 q355 qs2 q98 q356) 1 hdX3_want rfl rfl ⟨Nat.le_of_ble_eq_true rfl, Nat.le_of_ble_eq_true rfl⟩ (y_preV hK hH hS) rfl hl.1 rfl (Nat.le_of_ble_eq_true rfl) dX3_town_101 ⟨(by first | exact Nat.le_of_ble_eq_true rfl | (simp only [rmX3_town]; omega)), (by first | exact Nat.le_of_ble_eq_true rfl | (simp only [rmX3_town]; omega))⟩ hS (fun o ρ' H locs hq hH hS => ?_)
              rcases hq with ⟨w15, rfl, rfl⟩ | ⟨w15, hthr⟩
              · skip
                show W p l e rmX3_town s m args below meth c H locs (4 + 8 * j + 1) (28 + 55 * j + 7) QQ (F0 m 104 ls [])
                refine lv_aload_n hF.1 hF.2.1 dX3_town_104 rfl (lv_at hl 0 rfl) ?_
                refine g_vT (As := []) (rest := []) hF (kX3_street l ω σ e0 v1 v2 g y a z dr pg t ((np + 5 * j) + 1) np tf rt b2 b3 hp50 (by omega) (by omega) hte) (lw_V q424 q426 qs5 q98 q427) 0 hdX3_street rfl rfl ⟨Nat.le_of_ble_eq_true rfl, Nat.le_of_ble_eq_true rfl⟩ (y_preV hK hH hS) rfl hl.1 rfl (Nat.le_of_ble_eq_true rfl) dX3_town_105 ⟨(by first | exact Nat.le_of_ble_eq_true rfl | (simp only [rmX3_town]; omega)), (by first | exact Nat.le_of_ble_eq_true rfl | (simp only [rmX3_town]; omega))⟩ hS (fun o ρ' H locs hq hH hS => ?_)
                rcases hq with ⟨k, c1, c2, c3, cq, ed, s16, rfl, rfl⟩ | ⟨n, s16, hthr⟩
                · skip
                  show W p l e rmX3_town s m args below meth c H locs (4 + 8 * j + 1 + 7) (28 + 55 * j + 7 + 48) QQ (F0 m 108 ls [])
                  refine lv_goto (tgt := 62) hF.1 hF.2.1 dX3_town_108 (by decide) ?_
                  refine W.widen (k := 4 + 8 * (j + 1)) (n := 28 + 55 * (j + 1)) (by omega) (by omega) ?_
                  exact ih (j + 1) _ _ _ _ (by omega) (by omega) (hI.push (fun _ => t14) s16) (fun z => absurd z (by show ¬ true = false; decide)) hl (by rw [show np + 5 * (j + 1) = np + 5 * j + 1 + 1 + 1 + 1 + 1 by omega]; exact hH) hS
                · skip
                  obtain ⟨qq, rfl, hso⟩ := hthr
                  refine WT.widen (k := 77) (n := 530) (by first | exact Nat.le_of_ble_eq_true rfl | omega) (by first | exact Nat.le_of_ble_eq_true rfl | omega) ?_
                  exact hE.2.2.2.2 _ _ qq _ ρ' _ _ (Or.inr ⟨n, tBad_3 hI (by omega) (fun _ => t14) s16, qq, rfl, hso⟩) hH hS
              · exact absurd w15 (by decide)
            · skip
              refine g_vT (As := [.int (nI 0)]) (rest := []) hF (kX3_want l ω σ e0 v1 v2 (g, y, a, z, dr, pg, t) (np + 5 * j) np tf rt ((false, 0, 0, 0, 0, 0)) b2 b3 (nI 0)) (lw_V q353 q355 qs2 q98 q356) 1 hdX3_want rfl rfl ⟨Nat.le_of_ble_eq_true rfl, Nat.le_of_ble_eq_true rfl⟩ (y_preV hK hH hS) rfl hl.1 rfl (Nat.le_of_ble_eq_true rfl) dX3_town_101 ⟨(by first | exact Nat.le_of_ble_eq_true rfl | (simp only [rmX3_town]; omega)), (by first | exact Nat.le_of_ble_eq_true rfl | (simp only [rmX3_town]; omega))⟩ hS (fun o ρ' H locs hq hH hS => ?_)
              rcases hq with ⟨w17, rfl, rfl⟩ | ⟨w17, hthr⟩
              · exact absurd nI_0 w17
              · skip
                obtain ⟨qq, rfl, hso⟩ := hthr
                refine WT.widen (k := 77) (n := 530) (by first | exact Nat.le_of_ble_eq_true rfl | omega) (by first | exact Nat.le_of_ble_eq_true rfl | omega) ?_
                exact hE.2.2.2.2 _ _ qq _ ρ' _ _ (absurd c10 t14) hH hS
    | succ d ih =>
      intro j rt ls H locs hd h1 hI hte hl hH hS
      have hnp := hI.np
      have hnj := hI.n
      refine lv_aload_n hF.1 hF.2.1 dX3_town_62 rfl (lv_at hl 0 rfl) ?_
      refine yg_streets hF hK.1 hH q326 dX3_town_63 ?_
      refine g_vPi (As := []) (rest := []) hF (kL_size l ω σ.2.2 (ted rt) (tn rt) (tmod rt)) (lw_V q553 q554 q555 q95 q556) 0 hdJ2_size rfl rfl ⟨Nat.le_of_ble_eq_true rfl, Nat.le_of_ble_eq_true rfl⟩ (l_preV hK.1.1 (y_l0 hH) rfl) rfl hl.1 rfl (Nat.le_of_ble_eq_true rfl) dX3_town_66 ⟨(by first | exact Nat.le_of_ble_eq_true rfl | (simp only [rmX3_town]; omega)), (by first | exact Nat.le_of_ble_eq_true rfl | (simp only [rmX3_town]; omega))⟩ (fun r e_r => ?_)
      subst e_r
      refine lv_iconst (v := nI 2) hF.1 hF.2.1 dX3_town_69 (by decide) ?_
      refine n_lt (tgt := 94) hF.1 hF.2.1 dX3_town_70 (by decide) (by omega) (by omega) (fun c1 => ?_) (fun c1 => ?_)
      · skip
        refine lv_aload_n hF.1 hF.2.1 dX3_town_94 rfl (lv_at hl 0 rfl) ?_
        refine lv_aload_n hF.1 hF.2.1 dX3_town_95 rfl (lv_at hl 0 rfl) ?_
        refine lv_bipush (v := nI 44) hF.1 hF.2.1 dX3_town_96 (by decide) ?_
        refine g_vWi (As := [.int (nI 44)]) (rest := [.ref σ.1]) hF (kX3_takes l ω σ e0 v1 v2 g y a z dr pg t (np + 5 * j) np tf rt ((false, 0, 0, 0, 0, 0)) b2 b3 (nI 44) hp50 (by omega)) (lw_V q420 q422 qs4 q98 q423) 1 hdX3_takes rfl rfl ⟨Nat.le_of_ble_eq_true rfl, Nat.le_of_ble_eq_true rfl⟩ (y_preV hK hH hS) rfl hl.1 rfl (Nat.le_of_ble_eq_true rfl) dX3_town_98 ⟨(by first | exact Nat.le_of_ble_eq_true rfl | (simp only [rmX3_town]; omega)), (by first | exact Nat.le_of_ble_eq_true rfl | (simp only [rmX3_town]; omega))⟩ hS (fun r ρ' H locs hq hH hS => ?_)
        rcases hq with ⟨rfl, t2, rfl⟩ | ⟨rfl, t2, rfl⟩
        · skip
          refine g_vT (As := [.int (nI 1)]) (rest := []) hF (kX3_want l ω σ e0 v1 v2 (g, y, a, z, dr, pg, t) ((np + 5 * j) + 1) np tf rt ((false, 0, 0, 0, 0, 0)) b2 b3 (nI 1)) (lw_V q353 q355 qs2 q98 q356) 1 hdX3_want rfl rfl ⟨Nat.le_of_ble_eq_true rfl, Nat.le_of_ble_eq_true rfl⟩ (y_preV hK hH hS) rfl hl.1 rfl (Nat.le_of_ble_eq_true rfl) dX3_town_101 ⟨(by first | exact Nat.le_of_ble_eq_true rfl | (simp only [rmX3_town]; omega)), (by first | exact Nat.le_of_ble_eq_true rfl | (simp only [rmX3_town]; omega))⟩ hS (fun o ρ' H locs hq hH hS => ?_)
          rcases hq with ⟨w3, rfl, rfl⟩ | ⟨w3, hthr⟩
          · skip
            show W p l e rmX3_town s m args below meth c H locs (4 + 8 * j + 1) (28 + 55 * j + 7) QQ (F0 m 104 ls [])
            refine lv_aload_n hF.1 hF.2.1 dX3_town_104 rfl (lv_at hl 0 rfl) ?_
            refine g_vT (As := []) (rest := []) hF (kX3_street l ω σ e0 v1 v2 g y a z dr pg t ((np + 5 * j) + 1) np tf rt b2 b3 hp50 (by omega) (by omega) hte) (lw_V q424 q426 qs5 q98 q427) 0 hdX3_street rfl rfl ⟨Nat.le_of_ble_eq_true rfl, Nat.le_of_ble_eq_true rfl⟩ (y_preV hK hH hS) rfl hl.1 rfl (Nat.le_of_ble_eq_true rfl) dX3_town_105 ⟨(by first | exact Nat.le_of_ble_eq_true rfl | (simp only [rmX3_town]; omega)), (by first | exact Nat.le_of_ble_eq_true rfl | (simp only [rmX3_town]; omega))⟩ hS (fun o ρ' H locs hq hH hS => ?_)
            rcases hq with ⟨k, c1, c2, c3, cq, ed, s4, rfl, rfl⟩ | ⟨n, s4, hthr⟩
            · skip
              show W p l e rmX3_town s m args below meth c H locs (4 + 8 * j + 1 + 7) (28 + 55 * j + 7 + 48) QQ (F0 m 108 ls [])
              refine lv_goto (tgt := 62) hF.1 hF.2.1 dX3_town_108 (by decide) ?_
              refine W.widen (k := 4 + 8 * (j + 1)) (n := 28 + 55 * (j + 1)) (by omega) (by omega) ?_
              exact ih (j + 1) _ _ _ _ (by omega) (by omega) (hI.push (fun _ => t2) s4) (fun z => absurd z (by show ¬ true = false; decide)) hl (by rw [show np + 5 * (j + 1) = np + 5 * j + 1 + 1 + 1 + 1 + 1 by omega]; exact hH) hS
            · skip
              obtain ⟨qq, rfl, hso⟩ := hthr
              refine WT.widen (k := 77) (n := 530) (by first | exact Nat.le_of_ble_eq_true rfl | omega) (by first | exact Nat.le_of_ble_eq_true rfl | omega) ?_
              exact hE.2.2.2.2 _ _ qq _ ρ' _ _ (Or.inr ⟨n, tBad_3 hI (by omega) (fun _ => t2) s4, qq, rfl, hso⟩) hH hS
          · exact absurd w3 (by decide)
        · skip
          refine g_vT (As := [.int (nI 0)]) (rest := []) hF (kX3_want l ω σ e0 v1 v2 (g, y, a, z, dr, pg, t) (np + 5 * j) np tf rt ((false, 0, 0, 0, 0, 0)) b2 b3 (nI 0)) (lw_V q353 q355 qs2 q98 q356) 1 hdX3_want rfl rfl ⟨Nat.le_of_ble_eq_true rfl, Nat.le_of_ble_eq_true rfl⟩ (y_preV hK hH hS) rfl hl.1 rfl (Nat.le_of_ble_eq_true rfl) dX3_town_101 ⟨(by first | exact Nat.le_of_ble_eq_true rfl | (simp only [rmX3_town]; omega)), (by first | exact Nat.le_of_ble_eq_true rfl | (simp only [rmX3_town]; omega))⟩ hS (fun o ρ' H locs hq hH hS => ?_)
          rcases hq with ⟨w5, rfl, rfl⟩ | ⟨w5, hthr⟩
          · exact absurd nI_0 w5
          · skip
            obtain ⟨qq, rfl, hso⟩ := hthr
            refine WT.widen (k := 77) (n := 530) (by first | exact Nat.le_of_ble_eq_true rfl | omega) (by first | exact Nat.le_of_ble_eq_true rfl | omega) ?_
            exact hE.2.2.2.2 _ _ qq _ ρ' _ _ (Or.inr ⟨np + 5 * j, tBad_4 hI (by omega) t2, qq, rfl, hso⟩) hH hS
      · skip
        refine lv_aload_n hF.1 hF.2.1 dX3_town_73 rfl (lv_at hl 0 rfl) ?_
        refine yg_streets hF hK.1 hH q326 dX3_town_74 ?_
        refine g_vPi (As := []) (rest := []) hF (kL_size l ω σ.2.2 (ted rt) (tn rt) (tmod rt)) (lw_V q553 q554 q555 q95 q556) 0 hdJ2_size rfl rfl ⟨Nat.le_of_ble_eq_true rfl, Nat.le_of_ble_eq_true rfl⟩ (l_preV hK.1.1 (y_l0 hH) rfl) rfl hl.1 rfl (Nat.le_of_ble_eq_true rfl) dX3_town_77 ⟨(by first | exact Nat.le_of_ble_eq_true rfl | (simp only [rmX3_town]; omega)), (by first | exact Nat.le_of_ble_eq_true rfl | (simp only [rmX3_town]; omega))⟩ (fun r e_r => ?_)
        subst e_r
        refine lv_bipush (v := nI 9) hF.1 hF.2.1 dX3_town_80 (by decide) ?_
        refine n_ge (tgt := 111) hF.1 hF.2.1 dX3_town_82 (by decide) (by omega) (by omega) (fun c6 => ?_) (fun c6 => ?_)
        · skip
          refine lv_aload_n hF.1 hF.2.1 dX3_town_111 rfl (lv_at hl 0 rfl) ?_
          refine lv_aload_n hF.1 hF.2.1 dX3_town_112 rfl (lv_at hl 0 rfl) ?_
          refine yg_place hF hK.1 hH q321 dX3_town_113 ?_
          refine lv_aload_n hF.1 hF.2.1 dX3_town_116 rfl (lv_at hl 0 rfl) ?_
          refine yg_this hF hK.1 hH q328 dX3_town_117 ?_
          refine xgN_q226 hF hK.1 hH.x dX3_town_120 (v := g 0 7) rfl ?_
          refine n_ne (tgt := 130) hF.1 hF.2.1 dX3_town_123 (by decide) (by omega) (by omega) (fun c7 => ?_) (fun c7 => ?_)
          · skip
            refine lv_iconst (v := nI 0) hF.1 hF.2.1 dX3_town_130 (by decide) ?_
            refine g_vT (As := [.int (nI 0)]) (rest := []) hF (kX3_want l ω σ e0 v1 v2 (g, y, a, z, dr, pg, t) (np + 5 * j) np tf rt ((false, 0, 0, 0, 0, 0)) b2 b3 (nI 0)) (lw_V q353 q355 qs2 q98 q356) 1 hdX3_want rfl rfl ⟨Nat.le_of_ble_eq_true rfl, Nat.le_of_ble_eq_true rfl⟩ (y_preV hK hH hS) rfl hl.1 rfl (Nat.le_of_ble_eq_true rfl) dX3_town_131 ⟨(by first | exact Nat.le_of_ble_eq_true rfl | (simp only [rmX3_town]; omega)), (by first | exact Nat.le_of_ble_eq_true rfl | (simp only [rmX3_town]; omega))⟩ hS (fun o ρ' H locs hq hH hS => ?_)
            rcases hq with ⟨w8, rfl, rfl⟩ | ⟨w8, hthr⟩
            · exact absurd nI_0 w8
            · skip
              obtain ⟨qq, rfl, hso⟩ := hthr
              refine WT.widen (k := 77) (n := 530) (by first | exact Nat.le_of_ble_eq_true rfl | omega) (by first | exact Nat.le_of_ble_eq_true rfl | omega) ?_
              exact hE.2.2.2.2 _ _ qq _ ρ' _ _ (Or.inr ⟨np + 5 * j, tBad_5 hI (by omega) (by omega) (Or.inl (by omega)) c7, qq, rfl, hso⟩) hH hS
          · skip
            refine lv_iconst (v := nI 1) hF.1 hF.2.1 dX3_town_126 (by decide) ?_
            refine lv_goto (tgt := 131) hF.1 hF.2.1 dX3_town_127 (by decide) ?_
            refine g_vT (As := [.int (nI 1)]) (rest := []) hF (kX3_want l ω σ e0 v1 v2 (g, y, a, z, dr, pg, t) (np + 5 * j) np tf rt ((false, 0, 0, 0, 0, 0)) b2 b3 (nI 1)) (lw_V q353 q355 qs2 q98 q356) 1 hdX3_want rfl rfl ⟨Nat.le_of_ble_eq_true rfl, Nat.le_of_ble_eq_true rfl⟩ (y_preV hK hH hS) rfl hl.1 rfl (Nat.le_of_ble_eq_true rfl) dX3_town_131 ⟨(by first | exact Nat.le_of_ble_eq_true rfl | (simp only [rmX3_town]; omega)), (by first | exact Nat.le_of_ble_eq_true rfl | (simp only [rmX3_town]; omega))⟩ hS (fun o ρ' H locs hq hH hS => ?_)
            rcases hq with ⟨w9, rfl, rfl⟩ | ⟨w9, hthr⟩
            · skip
              show W p l e rmX3_town s m args below meth c H locs (4 + 8 * j + 1) (28 + 55 * j + 7) QQ (F0 m 134 ls [])
              refine lv_aload_n hF.1 hF.2.1 dX3_town_134 rfl (lv_at hl 0 rfl) ?_
              refine W.widen (k := 77) (n := 530) (by omega) (by omega) ?_
              exact hE.2.2.1 _ _ σ.1 _ (np + 5 * j, np, tf, rt, (false, 0, 0, 0, 0, 0), (false, b2, b3)) _ _ rfl dX3_town_135 (Or.inl ⟨np, j, rt, tf, hI, by omega, by omega, htf, rfl, rfl⟩) hH hS
            · exact absurd w9 (by decide)
        · skip
          refine lv_aload_n hF.1 hF.2.1 dX3_town_85 rfl (lv_at hl 0 rfl) ?_
          refine g_vPi (As := []) (rest := []) hF (kX3_next l ω σ e0 v1 v2 g y a z dr pg t (np + 5 * j) np tf rt ((false, 0, 0, 0, 0, 0)) b2 b3 hp50 (by omega)) (lw_V q348 q350 qs1 q98 q351) 0 hdX3_next rfl rfl ⟨Nat.le_of_ble_eq_true rfl, Nat.le_of_ble_eq_true rfl⟩ (y_preV hK hH hS) rfl hl.1 rfl (Nat.le_of_ble_eq_true rfl) dX3_town_86 ⟨(by first | exact Nat.le_of_ble_eq_true rfl | (simp only [rmX3_town]; omega)), (by first | exact Nat.le_of_ble_eq_true rfl | (simp only [rmX3_town]; omega))⟩ (fun r e_r => ?_)
          subst e_r
          refine lv_bipush (v := nI 44) hF.1 hF.2.1 dX3_town_89 (by decide) ?_
          refine lv_icmp_ne (tgt := 111) hF.1 hF.2.1 dX3_town_91 (by decide) (fun c10 => ?_) (fun c10 => ?_)
          · skip
            refine lv_aload_n hF.1 hF.2.1 dX3_town_111 rfl (lv_at hl 0 rfl) ?_
            refine lv_aload_n hF.1 hF.2.1 dX3_town_112 rfl (lv_at hl 0 rfl) ?_
            refine yg_place hF hK.1 hH q321 dX3_town_113 ?_
            refine lv_aload_n hF.1 hF.2.1 dX3_town_116 rfl (lv_at hl 0 rfl) ?_
            refine yg_this hF hK.1 hH q328 dX3_town_117 ?_
            refine xgN_q226 hF hK.1 hH.x dX3_town_120 (v := g 0 7) rfl ?_
            refine n_ne (tgt := 130) hF.1 hF.2.1 dX3_town_123 (by decide) (by omega) (by omega) (fun c11 => ?_) (fun c11 => ?_)
            · skip
              refine lv_iconst (v := nI 0) hF.1 hF.2.1 dX3_town_130 (by decide) ?_
              refine g_vT (As := [.int (nI 0)]) (rest := []) hF (kX3_want l ω σ e0 v1 v2 (g, y, a, z, dr, pg, t) (np + 5 * j) np tf rt ((false, 0, 0, 0, 0, 0)) b2 b3 (nI 0)) (lw_V q353 q355 qs2 q98 q356) 1 hdX3_want rfl rfl ⟨Nat.le_of_ble_eq_true rfl, Nat.le_of_ble_eq_true rfl⟩ (y_preV hK hH hS) rfl hl.1 rfl (Nat.le_of_ble_eq_true rfl) dX3_town_131 ⟨(by first | exact Nat.le_of_ble_eq_true rfl | (simp only [rmX3_town]; omega)), (by first | exact Nat.le_of_ble_eq_true rfl | (simp only [rmX3_town]; omega))⟩ hS (fun o ρ' H locs hq hH hS => ?_)
              rcases hq with ⟨w12, rfl, rfl⟩ | ⟨w12, hthr⟩
              · exact absurd nI_0 w12
              · skip
                obtain ⟨qq, rfl, hso⟩ := hthr
                refine WT.widen (k := 77) (n := 530) (by first | exact Nat.le_of_ble_eq_true rfl | omega) (by first | exact Nat.le_of_ble_eq_true rfl | omega) ?_
                exact hE.2.2.2.2 _ _ qq _ ρ' _ _ (Or.inr ⟨np + 5 * j, tBad_5 hI (by omega) (by omega) (Or.inr c10) c11, qq, rfl, hso⟩) hH hS
            · skip
              refine lv_iconst (v := nI 1) hF.1 hF.2.1 dX3_town_126 (by decide) ?_
              refine lv_goto (tgt := 131) hF.1 hF.2.1 dX3_town_127 (by decide) ?_
              refine g_vT (As := [.int (nI 1)]) (rest := []) hF (kX3_want l ω σ e0 v1 v2 (g, y, a, z, dr, pg, t) (np + 5 * j) np tf rt ((false, 0, 0, 0, 0, 0)) b2 b3 (nI 1)) (lw_V q353 q355 qs2 q98 q356) 1 hdX3_want rfl rfl ⟨Nat.le_of_ble_eq_true rfl, Nat.le_of_ble_eq_true rfl⟩ (y_preV hK hH hS) rfl hl.1 rfl (Nat.le_of_ble_eq_true rfl) dX3_town_131 ⟨(by first | exact Nat.le_of_ble_eq_true rfl | (simp only [rmX3_town]; omega)), (by first | exact Nat.le_of_ble_eq_true rfl | (simp only [rmX3_town]; omega))⟩ hS (fun o ρ' H locs hq hH hS => ?_)
              rcases hq with ⟨w13, rfl, rfl⟩ | ⟨w13, hthr⟩
              · skip
                show W p l e rmX3_town s m args below meth c H locs (4 + 8 * j + 1) (28 + 55 * j + 7) QQ (F0 m 134 ls [])
                refine lv_aload_n hF.1 hF.2.1 dX3_town_134 rfl (lv_at hl 0 rfl) ?_
                refine W.widen (k := 77) (n := 530) (by omega) (by omega) ?_
                exact hE.2.2.1 _ _ σ.1 _ (np + 5 * j, np, tf, rt, (false, 0, 0, 0, 0, 0), (false, b2, b3)) _ _ rfl dX3_town_135 (Or.inl ⟨np, j, rt, tf, hI, by omega, by omega, htf, rfl, rfl⟩) hH hS
              · exact absurd w13 (by decide)
          · skip
            refine lv_aload_n hF.1 hF.2.1 dX3_town_94 rfl (lv_at hl 0 rfl) ?_
            refine lv_aload_n hF.1 hF.2.1 dX3_town_95 rfl (lv_at hl 0 rfl) ?_
            refine lv_bipush (v := nI 44) hF.1 hF.2.1 dX3_town_96 (by decide) ?_
            refine g_vWi (As := [.int (nI 44)]) (rest := [.ref σ.1]) hF (kX3_takes l ω σ e0 v1 v2 g y a z dr pg t (np + 5 * j) np tf rt ((false, 0, 0, 0, 0, 0)) b2 b3 (nI 44) hp50 (by omega)) (lw_V q420 q422 qs4 q98 q423) 1 hdX3_takes rfl rfl ⟨Nat.le_of_ble_eq_true rfl, Nat.le_of_ble_eq_true rfl⟩ (y_preV hK hH hS) rfl hl.1 rfl (Nat.le_of_ble_eq_true rfl) dX3_town_98 ⟨(by first | exact Nat.le_of_ble_eq_true rfl | (simp only [rmX3_town]; omega)), (by first | exact Nat.le_of_ble_eq_true rfl | (simp only [rmX3_town]; omega))⟩ hS (fun r ρ' H locs hq hH hS => ?_)
            rcases hq with ⟨rfl, t14, rfl⟩ | ⟨rfl, t14, rfl⟩
            · skip
              refine g_vT (As := [.int (nI 1)]) (rest := []) hF (kX3_want l ω σ e0 v1 v2 (g, y, a, z, dr, pg, t) ((np + 5 * j) + 1) np tf rt ((false, 0, 0, 0, 0, 0)) b2 b3 (nI 1)) (lw_V q353 q355 qs2 q98 q356) 1 hdX3_want rfl rfl ⟨Nat.le_of_ble_eq_true rfl, Nat.le_of_ble_eq_true rfl⟩ (y_preV hK hH hS) rfl hl.1 rfl (Nat.le_of_ble_eq_true rfl) dX3_town_101 ⟨(by first | exact Nat.le_of_ble_eq_true rfl | (simp only [rmX3_town]; omega)), (by first | exact Nat.le_of_ble_eq_true rfl | (simp only [rmX3_town]; omega))⟩ hS (fun o ρ' H locs hq hH hS => ?_)
              rcases hq with ⟨w15, rfl, rfl⟩ | ⟨w15, hthr⟩
              · skip
                show W p l e rmX3_town s m args below meth c H locs (4 + 8 * j + 1) (28 + 55 * j + 7) QQ (F0 m 104 ls [])
                refine lv_aload_n hF.1 hF.2.1 dX3_town_104 rfl (lv_at hl 0 rfl) ?_
                refine g_vT (As := []) (rest := []) hF (kX3_street l ω σ e0 v1 v2 g y a z dr pg t ((np + 5 * j) + 1) np tf rt b2 b3 hp50 (by omega) (by omega) hte) (lw_V q424 q426 qs5 q98 q427) 0 hdX3_street rfl rfl ⟨Nat.le_of_ble_eq_true rfl, Nat.le_of_ble_eq_true rfl⟩ (y_preV hK hH hS) rfl hl.1 rfl (Nat.le_of_ble_eq_true rfl) dX3_town_105 ⟨(by first | exact Nat.le_of_ble_eq_true rfl | (simp only [rmX3_town]; omega)), (by first | exact Nat.le_of_ble_eq_true rfl | (simp only [rmX3_town]; omega))⟩ hS (fun o ρ' H locs hq hH hS => ?_)
                rcases hq with ⟨k, c1, c2, c3, cq, ed, s16, rfl, rfl⟩ | ⟨n, s16, hthr⟩
                · skip
                  show W p l e rmX3_town s m args below meth c H locs (4 + 8 * j + 1 + 7) (28 + 55 * j + 7 + 48) QQ (F0 m 108 ls [])
                  refine lv_goto (tgt := 62) hF.1 hF.2.1 dX3_town_108 (by decide) ?_
                  refine W.widen (k := 4 + 8 * (j + 1)) (n := 28 + 55 * (j + 1)) (by omega) (by omega) ?_
                  exact ih (j + 1) _ _ _ _ (by omega) (by omega) (hI.push (fun _ => t14) s16) (fun z => absurd z (by show ¬ true = false; decide)) hl (by rw [show np + 5 * (j + 1) = np + 5 * j + 1 + 1 + 1 + 1 + 1 by omega]; exact hH) hS
                · skip
                  obtain ⟨qq, rfl, hso⟩ := hthr
                  refine WT.widen (k := 77) (n := 530) (by first | exact Nat.le_of_ble_eq_true rfl | omega) (by first | exact Nat.le_of_ble_eq_true rfl | omega) ?_
                  exact hE.2.2.2.2 _ _ qq _ ρ' _ _ (Or.inr ⟨n, tBad_3 hI (by omega) (fun _ => t14) s16, qq, rfl, hso⟩) hH hS
              · exact absurd w15 (by decide)
            · skip
              refine g_vT (As := [.int (nI 0)]) (rest := []) hF (kX3_want l ω σ e0 v1 v2 (g, y, a, z, dr, pg, t) (np + 5 * j) np tf rt ((false, 0, 0, 0, 0, 0)) b2 b3 (nI 0)) (lw_V q353 q355 qs2 q98 q356) 1 hdX3_want rfl rfl ⟨Nat.le_of_ble_eq_true rfl, Nat.le_of_ble_eq_true rfl⟩ (y_preV hK hH hS) rfl hl.1 rfl (Nat.le_of_ble_eq_true rfl) dX3_town_101 ⟨(by first | exact Nat.le_of_ble_eq_true rfl | (simp only [rmX3_town]; omega)), (by first | exact Nat.le_of_ble_eq_true rfl | (simp only [rmX3_town]; omega))⟩ hS (fun o ρ' H locs hq hH hS => ?_)
              rcases hq with ⟨w17, rfl, rfl⟩ | ⟨w17, hthr⟩
              · exact absurd nI_0 w17
              · skip
                obtain ⟨qq, rfl, hso⟩ := hthr
                refine WT.widen (k := 77) (n := 530) (by first | exact Nat.le_of_ble_eq_true rfl | omega) (by first | exact Nat.le_of_ble_eq_true rfl | omega) ?_
                exact hE.2.2.2.2 _ _ qq _ ρ' _ _ (absurd c10 t14) hH hS
  have mid : ∀ (np : Nat) (tf : Nat → Int32) (ls : Array Slot) (H : Heap) (locs : List Loc), digs g pg np → (∀ i, i < np → tf i = pg i - nI 48) → lv_has ls 1 [(0, .ref σ.1)] → yH ω σ (g, y, a, z, dr, pg, t) (np, np, tf, rt, (false, 0, 0, 0, 0, 0), (false, b2, b3)) H → va_S ω.2.2.1 s.heap H locs → W p l e rmX3_town s m args below meth c H locs 3 21 QQ (F0 m 48 ls []) := by
    intro np tf ls H locs hdg htf hl hH hS
    have hnp : 1 ≤ np ∧ np ≤ 3 := ⟨hdg.1, hdg.2.1⟩
    refine lv_aload_n hF.1 hF.2.1 dX3_town_48 rfl (lv_at hl 0 rfl) ?_
    refine lv_aload_n hF.1 hF.2.1 dX3_town_49 rfl (lv_at hl 0 rfl) ?_
    refine lv_bipush (v := nI 59) hF.1 hF.2.1 dX3_town_50 (by decide) ?_
    refine g_vWi (As := [.int (nI 59)]) (rest := [.ref σ.1]) hF (kX3_takes l ω σ e0 v1 v2 g y a z dr pg t np np tf rt ((false, 0, 0, 0, 0, 0)) b2 b3 (nI 59) hp50 (by omega)) (lw_V q420 q422 qs4 q98 q423) 1 hdX3_takes rfl rfl ⟨Nat.le_of_ble_eq_true rfl, Nat.le_of_ble_eq_true rfl⟩ (y_preV hK hH hS) rfl hl.1 rfl (Nat.le_of_ble_eq_true rfl) dX3_town_52 ⟨(by first | exact Nat.le_of_ble_eq_true rfl | (simp only [rmX3_town]; omega)), (by first | exact Nat.le_of_ble_eq_true rfl | (simp only [rmX3_town]; omega))⟩ hS (fun r ρ' H locs hq hH hS => ?_)
    rcases hq with ⟨rfl, t1, rfl⟩ | ⟨rfl, t1, rfl⟩
    · skip
      refine g_vT (As := [.int (nI 1)]) (rest := []) hF (kX3_want l ω σ e0 v1 v2 (g, y, a, z, dr, pg, t) (np + 1) np tf rt ((false, 0, 0, 0, 0, 0)) b2 b3 (nI 1)) (lw_V q353 q355 qs2 q98 q356) 1 hdX3_want rfl rfl ⟨Nat.le_of_ble_eq_true rfl, Nat.le_of_ble_eq_true rfl⟩ (y_preV hK hH hS) rfl hl.1 rfl (Nat.le_of_ble_eq_true rfl) dX3_town_55 ⟨(by first | exact Nat.le_of_ble_eq_true rfl | (simp only [rmX3_town]; omega)), (by first | exact Nat.le_of_ble_eq_true rfl | (simp only [rmX3_town]; omega))⟩ hS (fun o ρ' H locs hq hH hS => ?_)
      rcases hq with ⟨w2, rfl, rfl⟩ | ⟨w2, hthr⟩
      · skip
        show W p l e rmX3_town s m args below meth c H locs 4 28 QQ (F0 m 58 ls [])
        have hI0 := pre_0 (rt := rt) hdg t1 hn0
        refine lv_aload_n hF.1 hF.2.1 dX3_town_58 rfl (lv_at hl 0 rfl) ?_
        refine g_vT (As := []) (rest := []) hF (kX3_street l ω σ e0 v1 v2 g y a z dr pg t (np + 1) np tf rt b2 b3 hp50 (by omega) (by omega) hte) (lw_V q424 q426 qs5 q98 q427) 0 hdX3_street rfl rfl ⟨Nat.le_of_ble_eq_true rfl, Nat.le_of_ble_eq_true rfl⟩ (y_preV hK hH hS) rfl hl.1 rfl (Nat.le_of_ble_eq_true rfl) dX3_town_59 ⟨(by first | exact Nat.le_of_ble_eq_true rfl | (simp only [rmX3_town]; omega)), (by first | exact Nat.le_of_ble_eq_true rfl | (simp only [rmX3_town]; omega))⟩ hS (fun o ρ' H locs hq hH hS => ?_)
        rcases hq with ⟨k, c1, c2, c3, cq, ed, s3, rfl, rfl⟩ | ⟨n, s3, hthr⟩
        · skip
          show W p l e rmX3_town s m args below meth c H locs 11 76 QQ (F0 m 62 ls [])
          refine W.widen (k := 4 + 8 * 1) (n := 28 + 55 * 1) (by omega) (by omega) ?_
          exact loop np tf htf 8 1 _ _ _ _ (by omega) (by omega) (hI0.push (fun z => absurd z (by omega)) s3) (fun z => absurd z (by show ¬ true = false; decide)) hl (by rw [show np + 5 * 1 = np + 1 + 1 + 1 + 1 + 1 by omega]; exact hH) hS
        · skip
          obtain ⟨qq, rfl, hso⟩ := hthr
          refine WT.widen (k := 77) (n := 530) (by first | exact Nat.le_of_ble_eq_true rfl | omega) (by first | exact Nat.le_of_ble_eq_true rfl | omega) ?_
          exact hE.2.2.2.2 _ _ qq _ ρ' _ _ (Or.inr ⟨n, tBad_3 hI0 (by omega) (fun z => absurd z (by omega)) s3, qq, rfl, hso⟩) hH hS
      · exact absurd w2 (by decide)
    · skip
      refine g_vT (As := [.int (nI 0)]) (rest := []) hF (kX3_want l ω σ e0 v1 v2 (g, y, a, z, dr, pg, t) np np tf rt ((false, 0, 0, 0, 0, 0)) b2 b3 (nI 0)) (lw_V q353 q355 qs2 q98 q356) 1 hdX3_want rfl rfl ⟨Nat.le_of_ble_eq_true rfl, Nat.le_of_ble_eq_true rfl⟩ (y_preV hK hH hS) rfl hl.1 rfl (Nat.le_of_ble_eq_true rfl) dX3_town_55 ⟨(by first | exact Nat.le_of_ble_eq_true rfl | (simp only [rmX3_town]; omega)), (by first | exact Nat.le_of_ble_eq_true rfl | (simp only [rmX3_town]; omega))⟩ hS (fun o ρ' H locs hq hH hS => ?_)
      rcases hq with ⟨w4, rfl, rfl⟩ | ⟨w4, hthr⟩
      · exact absurd nI_0 w4
      · skip
        obtain ⟨qq, rfl, hso⟩ := hthr
        refine WT.widen (k := 77) (n := 530) (by first | exact Nat.le_of_ble_eq_true rfl | omega) (by first | exact Nat.le_of_ble_eq_true rfl | omega) ?_
        exact hE.2.2.2.2 _ _ qq _ ρ' _ _ (Or.inr ⟨np, tBad_2 hdg t1, qq, rfl, hso⟩) hH hS
  refine lv_aload_n hF.1 hF.2.1 dX3_town_0 rfl (lv_at hl 0 rfl) ?_
  refine yg_tender hF hK.1 hH q324 dX3_town_1 ?_
  refine lv_aload_n hF.1 hF.2.1 dX3_town_4 rfl (lv_at hl 0 rfl) ?_
  refine yg_people hF hK.1 hH q322 dX3_town_5 ?_
  refine lv_aload_n hF.1 hF.2.1 dX3_town_8 rfl (lv_at hl 0 rfl) ?_
  refine lv_iconst (v := nI 0) hF.1 hF.2.1 dX3_town_9 (by decide) ?_
  refine lv_bipush (v := nI 9) hF.1 hF.2.1 dX3_town_10 (by decide) ?_
  refine g_vT (As := [.int (nI 0), .int (nI 9)]) (rest := [.int (nI 0), .ref σ.2.1]) hF (kX3_digit l ω σ e0 v1 v2 g y a z dr pg t 0 0 tf rt ((false, 0, 0, 0, 0, 0)) b2 b3 0 9 hp50 (by omega) (by omega) (by omega)) (lw_V q344 q346 qs0 q98 q347) 2 hdX3_digit rfl rfl ⟨Nat.le_of_ble_eq_true rfl, Nat.le_of_ble_eq_true rfl⟩ (y_preV hK hH hS) rfl hl.1 rfl (Nat.le_of_ble_eq_true rfl) dX3_town_12 ⟨(by first | exact Nat.le_of_ble_eq_true rfl | (simp only [rmX3_town]; omega)), (by first | exact Nat.le_of_ble_eq_true rfl | (simp only [rmX3_town]; omega))⟩ hS (fun o ρ' H locs hq hH hS => ?_)
  rcases hq with ⟨n2, g1, rfl, rfl⟩ | ⟨g1, hthr⟩
  · skip
    show W p l e rmX3_town s m args below meth c H locs 1 7 QQ (F0 m 15 ls [.int (nI n2), .int (nI 0), .ref σ.2.1])
    refine y_tst hF hK.1 hH hS (i := 0) (by omega) dX3_town_15 (fun H locs hH hS => ?_)
    refine lv_aload_n hF.1 hF.2.1 dX3_town_16 rfl (lv_at hl 0 rfl) ?_
    refine lv_dup hF.1 hF.2.1 dX3_town_17 rfl ?_
    refine yg_people hF hK.1 hH q322 dX3_town_18 ?_
    refine lv_iconst (v := nI 1) hF.1 hF.2.1 dX3_town_21 (by decide) ?_
    refine n_iadd hF.1 hF.2.1 dX3_town_22 ?_
    refine yp_people hF hK.1 hH hS q322 dX3_town_23 (fun H locs hH hS => ?_)
    refine lv_aload_n hF.1 hF.2.1 dX3_town_26 rfl (lv_at hl 0 rfl) ?_
    refine yg_people hF hK.1 hH q322 dX3_town_27 ?_
    refine lv_iconst (v := nI 3) hF.1 hF.2.1 dX3_town_30 (by decide) ?_
    refine lv_icmp_ge (tgt := 48) hF.1 hF.2.1 dX3_town_31 (by decide) (fun h => absurd h (by decide)) (fun _ => ?_)
    refine lv_aload_n hF.1 hF.2.1 dX3_town_34 rfl (lv_at hl 0 rfl) ?_
    refine g_vPi (As := []) (rest := []) hF (kX3_next l ω σ e0 v1 v2 g y a z dr pg t (0 + 1) 1 ((upd tf 0 (nI n2))) rt ((false, 0, 0, 0, 0, 0)) b2 b3 hp50 (by omega)) (lw_V q348 q350 qs1 q98 q351) 0 hdX3_next rfl rfl ⟨Nat.le_of_ble_eq_true rfl, Nat.le_of_ble_eq_true rfl⟩ (y_preV hK hH hS) rfl hl.1 rfl (Nat.le_of_ble_eq_true rfl) dX3_town_35 ⟨(by first | exact Nat.le_of_ble_eq_true rfl | (simp only [rmX3_town]; omega)), (by first | exact Nat.le_of_ble_eq_true rfl | (simp only [rmX3_town]; omega))⟩ (fun r e_r => ?_)
    subst e_r
    refine lv_bipush (v := nI 48) hF.1 hF.2.1 dX3_town_38 (by decide) ?_
    refine lv_bipush (v := nI 57) hF.1 hF.2.1 dX3_town_40 (by decide) ?_
    refine g_sNPi (As := [.int (nx g pg (0 + 1)), .int (nI 48), .int (nI 57)]) (rest := []) hF (kX0_in l (nx g pg (0 + 1)) (nI 48) (nI 57)) (lw_meth q303) (xn_q352 hK.1.2) q92 q302 3 hdX0_in.2 rfl rfl ⟨Nat.le_of_ble_eq_true rfl, Nat.le_of_ble_eq_true rfl⟩ g_pre0 rfl hl.1 rfl (Nat.le_of_ble_eq_true rfl) dX3_town_42 ⟨(by first | exact Nat.le_of_ble_eq_true rfl | (simp only [rmX3_town]; omega)), (by first | exact Nat.le_of_ble_eq_true rfl | (simp only [rmX3_town]; omega))⟩ (fun r e_r => ?_)
    subst e_r
    refine lv_if_ne (tgt := 0) hF.1 hF.2.1 dX3_town_45 (by decide) (fun c4 => ?_) (fun c4 => ?_)
    · skip
      refine lv_aload_n hF.1 hF.2.1 dX3_town_0 rfl (lv_at hl 0 rfl) ?_
      refine yg_tender hF hK.1 hH q324 dX3_town_1 ?_
      refine lv_aload_n hF.1 hF.2.1 dX3_town_4 rfl (lv_at hl 0 rfl) ?_
      refine yg_people hF hK.1 hH q322 dX3_town_5 ?_
      refine lv_aload_n hF.1 hF.2.1 dX3_town_8 rfl (lv_at hl 0 rfl) ?_
      refine lv_iconst (v := nI 0) hF.1 hF.2.1 dX3_town_9 (by decide) ?_
      refine lv_bipush (v := nI 9) hF.1 hF.2.1 dX3_town_10 (by decide) ?_
      refine g_vT (As := [.int (nI 0), .int (nI 9)]) (rest := [.int (nI 1), .ref σ.2.1]) hF (kX3_digit l ω σ e0 v1 v2 g y a z dr pg t (0 + 1) 1 ((upd tf 0 (nI n2))) rt ((false, 0, 0, 0, 0, 0)) b2 b3 0 9 hp50 (by omega) (by omega) (by omega)) (lw_V q344 q346 qs0 q98 q347) 2 hdX3_digit rfl rfl ⟨Nat.le_of_ble_eq_true rfl, Nat.le_of_ble_eq_true rfl⟩ (y_preV hK hH hS) rfl hl.1 rfl (Nat.le_of_ble_eq_true rfl) dX3_town_12 ⟨(by first | exact Nat.le_of_ble_eq_true rfl | (simp only [rmX3_town]; omega)), (by first | exact Nat.le_of_ble_eq_true rfl | (simp only [rmX3_town]; omega))⟩ hS (fun o ρ' H locs hq hH hS => ?_)
      rcases hq with ⟨n6, g5, rfl, rfl⟩ | ⟨g5, hthr⟩
      · skip
        show W p l e rmX3_town s m args below meth c H locs 2 14 QQ (F0 m 15 ls [.int (nI n6), .int (nI 1), .ref σ.2.1])
        refine y_tst hF hK.1 hH hS (i := 1) (by omega) dX3_town_15 (fun H locs hH hS => ?_)
        refine lv_aload_n hF.1 hF.2.1 dX3_town_16 rfl (lv_at hl 0 rfl) ?_
        refine lv_dup hF.1 hF.2.1 dX3_town_17 rfl ?_
        refine yg_people hF hK.1 hH q322 dX3_town_18 ?_
        refine lv_iconst (v := nI 1) hF.1 hF.2.1 dX3_town_21 (by decide) ?_
        refine n_iadd hF.1 hF.2.1 dX3_town_22 ?_
        refine yp_people hF hK.1 hH hS q322 dX3_town_23 (fun H locs hH hS => ?_)
        refine lv_aload_n hF.1 hF.2.1 dX3_town_26 rfl (lv_at hl 0 rfl) ?_
        refine yg_people hF hK.1 hH q322 dX3_town_27 ?_
        refine lv_iconst (v := nI 3) hF.1 hF.2.1 dX3_town_30 (by decide) ?_
        refine lv_icmp_ge (tgt := 48) hF.1 hF.2.1 dX3_town_31 (by decide) (fun h => absurd h (by decide)) (fun _ => ?_)
        refine lv_aload_n hF.1 hF.2.1 dX3_town_34 rfl (lv_at hl 0 rfl) ?_
        refine g_vPi (As := []) (rest := []) hF (kX3_next l ω σ e0 v1 v2 g y a z dr pg t ((0 + 1) + 1) 2 ((upd ((upd tf 0 (nI n2))) 1 (nI n6))) rt ((false, 0, 0, 0, 0, 0)) b2 b3 hp50 (by omega)) (lw_V q348 q350 qs1 q98 q351) 0 hdX3_next rfl rfl ⟨Nat.le_of_ble_eq_true rfl, Nat.le_of_ble_eq_true rfl⟩ (y_preV hK hH hS) rfl hl.1 rfl (Nat.le_of_ble_eq_true rfl) dX3_town_35 ⟨(by first | exact Nat.le_of_ble_eq_true rfl | (simp only [rmX3_town]; omega)), (by first | exact Nat.le_of_ble_eq_true rfl | (simp only [rmX3_town]; omega))⟩ (fun r e_r => ?_)
        subst e_r
        refine lv_bipush (v := nI 48) hF.1 hF.2.1 dX3_town_38 (by decide) ?_
        refine lv_bipush (v := nI 57) hF.1 hF.2.1 dX3_town_40 (by decide) ?_
        refine g_sNPi (As := [.int (nx g pg ((0 + 1) + 1)), .int (nI 48), .int (nI 57)]) (rest := []) hF (kX0_in l (nx g pg ((0 + 1) + 1)) (nI 48) (nI 57)) (lw_meth q303) (xn_q352 hK.1.2) q92 q302 3 hdX0_in.2 rfl rfl ⟨Nat.le_of_ble_eq_true rfl, Nat.le_of_ble_eq_true rfl⟩ g_pre0 rfl hl.1 rfl (Nat.le_of_ble_eq_true rfl) dX3_town_42 ⟨(by first | exact Nat.le_of_ble_eq_true rfl | (simp only [rmX3_town]; omega)), (by first | exact Nat.le_of_ble_eq_true rfl | (simp only [rmX3_town]; omega))⟩ (fun r e_r => ?_)
        subst e_r
        refine lv_if_ne (tgt := 0) hF.1 hF.2.1 dX3_town_45 (by decide) (fun c8 => ?_) (fun c8 => ?_)
        · skip
          refine lv_aload_n hF.1 hF.2.1 dX3_town_0 rfl (lv_at hl 0 rfl) ?_
          refine yg_tender hF hK.1 hH q324 dX3_town_1 ?_
          refine lv_aload_n hF.1 hF.2.1 dX3_town_4 rfl (lv_at hl 0 rfl) ?_
          refine yg_people hF hK.1 hH q322 dX3_town_5 ?_
          refine lv_aload_n hF.1 hF.2.1 dX3_town_8 rfl (lv_at hl 0 rfl) ?_
          refine lv_iconst (v := nI 0) hF.1 hF.2.1 dX3_town_9 (by decide) ?_
          refine lv_bipush (v := nI 9) hF.1 hF.2.1 dX3_town_10 (by decide) ?_
          refine g_vT (As := [.int (nI 0), .int (nI 9)]) (rest := [.int (nI 2), .ref σ.2.1]) hF (kX3_digit l ω σ e0 v1 v2 g y a z dr pg t ((0 + 1) + 1) 2 ((upd ((upd tf 0 (nI n2))) 1 (nI n6))) rt ((false, 0, 0, 0, 0, 0)) b2 b3 0 9 hp50 (by omega) (by omega) (by omega)) (lw_V q344 q346 qs0 q98 q347) 2 hdX3_digit rfl rfl ⟨Nat.le_of_ble_eq_true rfl, Nat.le_of_ble_eq_true rfl⟩ (y_preV hK hH hS) rfl hl.1 rfl (Nat.le_of_ble_eq_true rfl) dX3_town_12 ⟨(by first | exact Nat.le_of_ble_eq_true rfl | (simp only [rmX3_town]; omega)), (by first | exact Nat.le_of_ble_eq_true rfl | (simp only [rmX3_town]; omega))⟩ hS (fun o ρ' H locs hq hH hS => ?_)
          rcases hq with ⟨n10, g9, rfl, rfl⟩ | ⟨g9, hthr⟩
          · skip
            show W p l e rmX3_town s m args below meth c H locs 3 21 QQ (F0 m 15 ls [.int (nI n10), .int (nI 2), .ref σ.2.1])
            refine y_tst hF hK.1 hH hS (i := 2) (by omega) dX3_town_15 (fun H locs hH hS => ?_)
            refine lv_aload_n hF.1 hF.2.1 dX3_town_16 rfl (lv_at hl 0 rfl) ?_
            refine lv_dup hF.1 hF.2.1 dX3_town_17 rfl ?_
            refine yg_people hF hK.1 hH q322 dX3_town_18 ?_
            refine lv_iconst (v := nI 1) hF.1 hF.2.1 dX3_town_21 (by decide) ?_
            refine n_iadd hF.1 hF.2.1 dX3_town_22 ?_
            refine yp_people hF hK.1 hH hS q322 dX3_town_23 (fun H locs hH hS => ?_)
            refine lv_aload_n hF.1 hF.2.1 dX3_town_26 rfl (lv_at hl 0 rfl) ?_
            refine yg_people hF hK.1 hH q322 dX3_town_27 ?_
            refine lv_iconst (v := nI 3) hF.1 hF.2.1 dX3_town_30 (by decide) ?_
            refine lv_icmp_ge (tgt := 48) hF.1 hF.2.1 dX3_town_31 (by decide) (fun _ => ?_) (fun h => absurd (by decide) h)
            refine W.widen (k := 3) (n := 21) (by omega) (by omega) ?_
            exact mid 3 _ _ _ _ (digs_3 g1 g5 g9 ) (tfs_3 g1 g5 g9) hl hH hS
          · skip
            obtain ⟨qq, rfl, hso⟩ := hthr
            refine WT.widen (k := 77) (n := 530) (by first | exact Nat.le_of_ble_eq_true rfl | omega) (by first | exact Nat.le_of_ble_eq_true rfl | omega) ?_
            exact hE.2.2.2.2 _ _ qq _ ρ' _ _ (absurd (in_dg0.mp c8) g9) hH hS
        · skip
          refine W.widen (k := 3) (n := 21) (by omega) (by omega) ?_
          exact mid 2 _ _ _ _ (digs_2 g1 g5 (fun _ => fun z => absurd c8 (in_dg0.mpr z))) (tfs_2 g1 g5) hl hH hS
      · skip
        obtain ⟨qq, rfl, hso⟩ := hthr
        refine WT.widen (k := 77) (n := 530) (by first | exact Nat.le_of_ble_eq_true rfl | omega) (by first | exact Nat.le_of_ble_eq_true rfl | omega) ?_
        exact hE.2.2.2.2 _ _ qq _ ρ' _ _ (absurd (in_dg0.mp c4) g5) hH hS
    · skip
      refine W.widen (k := 3) (n := 21) (by omega) (by omega) ?_
      exact mid 1 _ _ _ _ (digs_1 g1 (fun _ => fun z => absurd c4 (in_dg0.mpr z))) (tfs_1 g1) hl hH hS
  · skip
    obtain ⟨qq, rfl, hso⟩ := hthr
    refine WT.widen (k := 77) (n := 530) (by first | exact Nat.le_of_ble_eq_true rfl | omega) (by first | exact Nat.le_of_ble_eq_true rfl | omega) ?_
    exact hE.2.2.2.2 _ _ qq _ ρ' _ _ (Or.inr ⟨0, tBad_1 g1, qq, rfl, hso⟩) hH hS
