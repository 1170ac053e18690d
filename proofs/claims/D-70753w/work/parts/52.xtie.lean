/-! TIES: what the class's arrays of distances hold, in plain numbers -/
theorem j_max {x y : Nat} (hx : x < 2 ^ 31) (hy : y < 2 ^ 31) : jmax (nI x) (nI y) = nI (max x y) := by
  unfold jmax
  by_cases h : x ≤ y
  · simp only [Nat.max_eq_right h, nI_leI hx hy, nI_ltI hx hy, nI_leI hy hx, nI_ltI hy hx]
    first | rw [if_pos h] | (split <;> first | rfl | (congr 1; omega))
  · simp only [Nat.max_eq_left (Nat.le_of_not_le h), nI_leI hx hy, nI_ltI hx hy, nI_leI hy hx, nI_ltI hy hx]
    first | rw [if_neg h] | (split <;> first | rfl | (congr 1; omega))
theorem j_min {x y : Nat} (hx : x < 2 ^ 31) (hy : y < 2 ^ 31) : jmin (nI x) (nI y) = nI (min x y) := by
  unfold jmin
  by_cases h : x ≤ y
  · simp only [Nat.min_eq_left h, nI_leI hx hy, nI_ltI hx hy, nI_leI hy hx, nI_ltI hy hx]
    first | rw [if_pos h] | (split <;> first | rfl | (congr 1; omega))
  · simp only [Nat.min_eq_right (Nat.le_of_not_le h), nI_leI hx hy, nI_ltI hx hy, nI_leI hy hx, nI_ltI hy hx]
    first | rw [if_neg h] | (split <;> first | rfl | (congr 1; omega))
theorem x_kindhurts {k td dy of : Nat} (hk : k < 5) (htd : td ≤ 9) (hdy : dy ≤ 1000000) : fXS_hurts k (nI td) (nI dy) (nI of) = nI (hurtN k td dy of) := by
  rcases k with _ | _ | _ | _ | _ | k
  · rfl
  · show nI 0 + nI td = nI td
    rw [nI_add, Nat.zero_add]
  · show jmax (nI 0) (nI td - nI 2 * nI dy) = nI (td - 2 * dy)
    rw [nI_mul]
    by_cases h : 2 * dy ≤ td
    · rw [nI_sub h (by omega), j_max (by omega) (by omega), Nat.max_eq_right (by omega)]
    · have h2 := nI_subneg (a := td) (b := 2 * dy) (by omega) (by omega)
      rw [← nI_0] at h2
      rw [show td - 2 * dy = 0 by omega]
      unfold jmax
      first | rw [if_neg h2] | (rw [if_pos (Int32.lt_of_not_ge h2)]) | (split <;> first | rfl | (exfalso; exact h2 (by assumption)) | (exfalso; apply h2; exact Int32.le_of_lt (by assumption)))
  · show nI 0 + nI 9 - nI td = nI (9 - td)
    rw [nI_add, nI_sub (by omega) (by omega)]
  · show nI 0 + nI td + nI of = nI (td + of)
    rw [nI_add, nI_add, Nat.zero_add]
  · omega
section
variable {g : Nat → Nat → Nat} {a z : Nat → Nat → Nat → Int32} {t : TW} {j pn td to : Nat} {of : Nat → Nat} {set : Int32}
theorem x_cost (ok : tOK t) {s : Nat} (hs : s < tn t) (htd : td ≤ 9) (hta : a (j + 6) 0 pn = nI td) (hdy : g (j + 6) 9 ≤ 1000000) (hof : a (j + 6) 1 (9 * pn + s) = nI (of s)) : fX1_cost g a t j pn s = nI ((netT t (g (j + 6) 9) td of set).c s) := by
  unfold fX1_cost fX1_hurts
  rw [hta, hof, x_kindhurts (ok.2.2 s hs).1 htd hdy, nI_mul, nI_add]
  rfl
theorem x_isIn (i : Nat) : (fX0_isIn set (nI i) = 0) ↔ inB set i = false := by
  unfold fX0_isIn inB
  by_cases h : ((set >>> ((nI i) &&& 31)) &&& (nI 1)) = (nI 1)
  · rw [if_pos h, decide_eq_true h]
    exact ⟨fun q => absurd q (by decide), fun q => by cases q⟩
  · rw [if_neg h, decide_eq_false h]
    exact ⟨fun _ => rfl, fun _ => nI_0⟩
/-- one shortening -/
theorem x_shortens {S : Nat → Int32} {D : Nat → Nat} (h : holds8 S D) {x v : Nat} (hx : x < 8) (hb1 : D x < 2 ^ 31) (hb2 : v < 2 ^ 31) :
    holds8 (fX1_shortens (up2 z (j + 6) 10 S) j x (nI v)).2 (nu D x (min (D x) v)) ∧ ((fX1_shortens (up2 z (j + 6) 10 S) j x (nI v)).1 = 0 ↔ D x ≤ v) := by
  unfold fX1_shortens
  have e : up2 z (j + 6) 10 S (j + 6) 10 = S := by simp [up2]
  rw [e, h x hx]
  refine ⟨h.up (j_min hb1 hb2), ?_⟩
  dsimp only
  by_cases q : D x ≤ v
  · rw [if_pos ((nI_leI hb1 hb2).mpr q)]
    exact ⟨fun _ => q, fun _ => nI_0⟩
  · rw [if_neg (fun k => q ((nI_leI hb1 hb2).mp k))]
    exact ⟨fun k => absurd k (by decide), fun k => absurd k q⟩
theorem or_zero {x y : Int32} : x ||| y = 0 ↔ x = 0 ∧ y = 0 := by
  constructor
  · intro h
    have := congrArg Int32.toBitVec h
    rw [Int32.toBitVec_or] at this
    have h2 := BitVec.or_eq_zero_iff.mp this
    exact ⟨Int32.toBitVec_inj.mp h2.1, Int32.toBitVec_inj.mp h2.2⟩
  · rintro ⟨rfl, rfl⟩; decide
end
section
variable {g : Nat → Nat → Nat} {a z : Nat → Nat → Nat → Int32} {t : TW} {j pn td to : Nat} {of : Nat → Nat} {set : Int32}
theorem x_step (ok : tOK t) (htd : td ≤ 9) (hta : a (j + 6) 0 pn = nI td) (hdy : g (j + 6) 9 ≤ 1000000) (hof : ∀ s, s < tn t → a (j + 6) 1 (9 * pn + s) = nI (of s) ∧ of s ≤ 5000)
    {S : Int32 × (Nat → Int32)} {D : Nat → Nat} (hS : holds8 S.2 D) (hD : (netT t (g (j + 6) 9) td of set).Inv 268435456 to 5009009 D) {i : Nat} (hi : i < tn t) :
    holds8 (fX1_layTo_b49 g a z t j pn set i S).2 ((netT t (g (j + 6) 9) td of set).st i D) ∧ ((fX1_layTo_b49 g a z t j pn set i S).1 = 0 ↔ S.1 = 0 ∧ (netT t (g (j + 6) 9) td of set).st i D = D) := by
  have nok := netT_ok ok (g (j + 6) 9) htd (fun s hs => (hof s hs).2) set
  obtain ⟨h1, h2, h3, h4, h5⟩ := nok i hi
  have hA : ta t i < 8 := h1
  have hB : tb t i < 8 := h2
  have hAB : ta t i ≠ tb t i := h3
  unfold fX1_layTo_b49
  rw [x_cost (set := set) ok hi htd hta hdy (hof i hi).1]
  have hall : ∀ c : Nat, c ≤ 268435456 → ∀ E : Nat → Nat, E = rl (rl D (ta t i) (tb t i) c) (tb t i) (ta t i) c →
      holds8 (fX1_shortens (up2 z (j + 6) 10 (fX1_shortens (up2 z (j + 6) 10 S.2) j (ta t i) (nI c + S.2 (tb t i))).2) j (tb t i) (nI c + (fX1_shortens (up2 z (j + 6) 10 S.2) j (ta t i) (nI c + S.2 (tb t i))).2 (ta t i))).2 E ∧
      (S.1 ||| (fX1_shortens (up2 z (j + 6) 10 S.2) j (ta t i) (nI c + S.2 (tb t i))).1 ||| (fX1_shortens (up2 z (j + 6) 10 (fX1_shortens (up2 z (j + 6) 10 S.2) j (ta t i) (nI c + S.2 (tb t i))).2) j (tb t i) (nI c + (fX1_shortens (up2 z (j + 6) 10 S.2) j (ta t i) (nI c + S.2 (tb t i))).2 (ta t i))).1 = 0 ↔ S.1 = 0 ∧ E = D) := by
    rintro c hc E rfl
    have f1 := hD.far (ta t i)
    have f2 := hD.far (tb t i)
    rw [hS (tb t i) hB, nI_add, Nat.add_comm c]
    obtain ⟨s1, s2⟩ := x_shortens (z := z) (j := j) hS hA (v := D (tb t i) + c) (by omega) (by omega)
    generalize fX1_shortens (up2 z (j + 6) 10 S.2) j (ta t i) (nI (D (tb t i) + c)) = R at s1 s2 ⊢
    have e1 : nu D (ta t i) (min (D (ta t i)) (D (tb t i) + c)) = rl D (ta t i) (tb t i) c := rfl
    rw [e1] at s1
    have f3 := rl_le D (ta t i) (tb t i) c (ta t i)
    have f4 := rl_le D (ta t i) (tb t i) c (tb t i)
    rw [s1 (ta t i) hA, nI_add, Nat.add_comm c]
    obtain ⟨s3, s4⟩ := x_shortens (z := z) (j := j) s1 hB (v := rl D (ta t i) (tb t i) c (ta t i) + c) (by omega) (by omega)
    refine ⟨s3, ?_⟩
    rw [or_zero, or_zero, s2, s4]
    constructor
    · rintro ⟨⟨q1, q2⟩, q3⟩
      refine ⟨q1, ?_⟩
      rw [rl_id q3, rl_id q2]
    · rintro ⟨q1, q2⟩
      have q3 := congrFun q2 (ta t i)
      rw [rl_other _ _ _ hAB, rl_self] at q3
      have q4 := congrFun q2 (tb t i)
      rw [rl_self] at q4
      have q5 := rl_other D (tb t i) c hAB.symm
      exact ⟨⟨q1, by omega⟩, by omega⟩
  unfold Net.st
  by_cases hI : (netT t (g (j + 6) 9) td of set).I i = true
  · rw [if_pos hI, if_neg (fun q => Bool.noConfusion (((x_isIn (set := set) i).mp q).symm.trans (show inB set i = true from hI)))]
    exact hall _ (by omega) _ rfl
  · have hI' : inB set i = false := by cases hq : inB set i with
      | true => exact absurd hq hI
      | false => rfl
    rw [if_neg hI, if_pos ((x_isIn (set := set) i).mpr hI')]
    have f1 := hD.far (ta t i)
    have f2 := hD.far (tb t i)
    have q1 : rl D (ta t i) (tb t i) 268435456 = D := rl_id (by omega)
    exact hall 268435456 (Nat.le_refl _) D (by rw [q1, rl_id (by omega)])
end
section
variable {g : Nat → Nat → Nat} {a z : Nat → Nat → Nat → Int32} {t : TW} {j pn td to : Nat} {of : Nat → Nat} {set : Int32}
theorem x_round (ok : tOK t) (htd : td ≤ 9) (hta : a (j + 6) 0 pn = nI td) (hdy : g (j + 6) 9 ≤ 1000000) (hof : ∀ s, s < tn t → a (j + 6) 1 (9 * pn + s) = nI (of s) ∧ of s ≤ 5000)
    {S : Nat → Int32} {D : Nat → Nat} (hS : holds8 S D) (hD : (netT t (g (j + 6) 9) td of set).Inv 268435456 to 5009009 D) :
    ∀ k, k ≤ tn t → holds8 (it (fX1_layTo_b49 g a z t j pn set) k (nI 0, S)).2 (it (netT t (g (j + 6) 9) td of set).st k D) ∧ ((it (fX1_layTo_b49 g a z t j pn set) k (nI 0, S)).1 = 0 ↔ ∀ m, m < k → (netT t (g (j + 6) 9) td of set).st m (it (netT t (g (j + 6) 9) td of set).st m D) = it (netT t (g (j + 6) 9) td of set).st m D) := by
  have nok := netT_ok ok (g (j + 6) 9) htd (fun s hs => (hof s hs).2) set
  intro k
  induction k with
  | zero => intro _; exact ⟨hS, fun _ m hm => by omega, fun _ => nI_0⟩
  | succ k ih =>
    intro hk
    obtain ⟨i1, i2⟩ := ih (by omega)
    rw [it_succ, it_succ]
    obtain ⟨s1, s2⟩ := x_step (z := z) ok htd hta hdy hof i1 (hD.its nok k (by show k ≤ tn t; omega)) (i := k) (by omega)
    refine ⟨s1, s2.trans ?_⟩
    rw [i2]
    constructor
    · rintro ⟨q1, q2⟩ m hm
      by_cases hmk : m = k
      · subst hmk; exact q2
      · exact q1 m (by omega)
    · intro q
      exact ⟨fun m hm => q m (by omega), q k (by omega)⟩
theorem x_roundfix (ok : tOK t) (htd : td ≤ 9) (hta : a (j + 6) 0 pn = nI td) (hdy : g (j + 6) 9 ≤ 1000000) (hof : ∀ s, s < tn t → a (j + 6) 1 (9 * pn + s) = nI (of s) ∧ of s ≤ 5000)
    {S : Nat → Int32} {D : Nat → Nat} (hS : holds8 S D) (hD : (netT t (g (j + 6) 9) td of set).Inv 268435456 to 5009009 D) :
    holds8 (it (fX1_layTo_b49 g a z t j pn set) (tn t) (nI 0, S)).2 ((netT t (g (j + 6) 9) td of set).rd D) ∧ ((it (fX1_layTo_b49 g a z t j pn set) (tn t) (nI 0, S)).1 = 0 ↔ (netT t (g (j + 6) 9) td of set).fixd D) := by
  have nok := netT_ok ok (g (j + 6) 9) htd (fun s hs => (hof s hs).2) set
  obtain ⟨h1, h2⟩ := x_round (z := z) ok htd hta hdy hof hS hD (tn t) (Nat.le_refl _)
  refine ⟨h1, h2.trans ⟨fun q => ?_, fun q m hm => ?_⟩⟩
  · have key : ∀ m, m ≤ tn t → it (netT t (g (j + 6) 9) td of set).st m D = D := by
      intro m
      induction m with
      | zero => intro _; rfl
      | succ m ih => intro hm; rw [it_succ, q m (by omega)]; exact ih (by omega)
    exact Net.fixd_of _ _ nok fun x _ => congrFun (key (tn t) (Nat.le_refl _)) x
  · rw [q.its m (by show m ≤ tn t; omega)]
    exact q.st (by show m < tn t; omega)
/-- what layTo lays, and that its rounds end -/
theorem x_layTo (ok : tOK t) (ht : to < 8) (htd : td ≤ 9) (hta : a (j + 6) 0 pn = nI td) (hdy : g (j + 6) 9 ≤ 1000000) (hof : ∀ s, s < tn t → a (j + 6) 1 (9 * pn + s) = nI (of s) ∧ of s ≤ 5000) :
    (it (fX1_layTo_b38 g a z t j pn set) 9 ((nI 1, it (fX1_layTo_b3 to) 8 (z (j + 6) 10)), false)).2 = true ∧ holds8 (fX1_layTo g a z t j pn to set) ((netT t (g (j + 6) 9) td of set).ds 268435456 to) := by
  have nok := netT_ok ok (g (j + 6) 9) htd (fun s hs => (hof s hs).2) set
  have inv0 := Net.Inv.init (C := 5009009) (netT t (g (j + 6) 9) td of set) (F := 268435456) (by decide) ht
  have key : ∀ k, ∃ (fl : Int32) (S : Nat → Int32) (mk : Bool), it (fX1_layTo_b38 g a z t j pn set) k ((nI 1, it (fX1_layTo_b3 to) 8 (z (j + 6) 10)), false) = ((fl, S), mk) ∧
      (mk = true → ∃ m, holds8 S ((netT t (g (j + 6) 9) td of set).rds m (d0 268435456 to)) ∧ (netT t (g (j + 6) 9) td of set).fixd ((netT t (g (j + 6) 9) td of set).rds m (d0 268435456 to))) ∧
      (mk = false → holds8 S ((netT t (g (j + 6) 9) td of set).rds k (d0 268435456 to)) ∧ (fl = 0 → (netT t (g (j + 6) 9) td of set).fixd ((netT t (g (j + 6) 9) td of set).rds k (d0 268435456 to))) ∧ (¬ fl = 0 → k = 0 ∨ ¬ (netT t (g (j + 6) 9) td of set).fixd ((netT t (g (j + 6) 9) td of set).rds (k - 1) (d0 268435456 to)))) := by
    intro k
    induction k with
    | zero => exact ⟨_, _, _, rfl, fun q => (by cases q), fun _ => ⟨holds8_init fun _ _ => rfl, fun q => absurd q (by decide), fun _ => .inl rfl⟩⟩
    | succ k ih =>
      obtain ⟨fl, S, mk, e, i1, i2⟩ := ih
      rw [it_succ, e]
      unfold fX1_layTo_b38
      dsimp only
      cases mk with
      | true => rw [if_pos rfl]; exact ⟨_, _, _, rfl, i1, fun q => by cases q⟩
      | false =>
        rw [if_neg (by decide)]
        obtain ⟨j1, j2, j3⟩ := i2 rfl
        by_cases hfl : fl = 0
        · rw [if_pos hfl]
          exact ⟨_, _, _, rfl, fun _ => ⟨k, j1, j2 hfl⟩, fun q => by cases q⟩
        · rw [if_neg hfl]
          obtain ⟨r1, r2⟩ := x_roundfix (z := z) ok htd hta hdy hof j1 (inv0.rds nok k)
          refine ⟨_, _, _, rfl, fun q => (by cases q), fun _ => ⟨r1, fun q => ?_, fun q => .inr fun q2 => q (r2.mpr q2)⟩⟩
          have q2 := r2.mp q
          show (netT t (g (j + 6) 9) td of set).fixd ((netT t (g (j + 6) 9) td of set).rd ((netT t (g (j + 6) 9) td of set).rds k (d0 268435456 to)))
          rw [q2.rd]
          exact q2
  have h7 := (netT t (g (j + 6) 9) td of set).settled7 nok ht inv0
  have hend : ∃ (fl : Int32) (S : Nat → Int32), it (fX1_layTo_b38 g a z t j pn set) 9 ((nI 1, it (fX1_layTo_b3 to) 8 (z (j + 6) 10)), false) = ((fl, S), true) ∧ holds8 S ((netT t (g (j + 6) 9) td of set).ds 268435456 to) := by
    obtain ⟨fl, S, mk, e, i1, i2⟩ := key 8
    obtain ⟨fl9, S9, mk9, e9, i19, i29⟩ := key 9
    have hm : mk9 = true := by
      rw [it_succ, e] at e9
      unfold fX1_layTo_b38 at e9
      dsimp only at e9
      cases mk with
      | true => rw [if_pos rfl] at e9; injection e9 with _ q; exact q.symm
      | false =>
        rw [if_neg (by decide)] at e9
        by_cases hfl : fl = 0
        · rw [if_pos hfl] at e9; injection e9 with _ q; exact q.symm
        · rcases (i2 rfl).2.2 hfl with q | q
          · omega
          · exact absurd h7 q
    subst hm
    obtain ⟨m, q1, q2⟩ := i19 rfl
    rw [Net.ds_from _ nok (by decide) ht q2] at q1
    exact ⟨fl9, S9, e9, q1⟩
  obtain ⟨fl, S, e, hh⟩ := hend
  unfold fX1_layTo
  rw [e]
  exact ⟨rfl, hh⟩
end
section
variable {g : Nat → Nat → Nat} {a z : Nat → Nat → Nat → Int32} {t : TW} {j pn td to fr : Nat} {of : Nat → Nat} {set : Int32}
/-- a loop upwards that stops at the first hit -/
theorem it_up {P : Nat → Bool} {n : Nat} {b : Nat → Nat × Bool → Nat × Bool} (hb : ∀ i S, i < n → b i S = if S.2 = true then S else if P i = true then (i, true) else (i + 1, false)) :
    ∀ k, k ≤ n → it b k (0, false) = (if least P k < k then (least P k, true) else (k, false)) := by
  intro k
  induction k with
  | zero => intro _; rfl
  | succ k ih =>
    intro hk
    rw [it_succ, hb k _ (by omega), ih (by omega)]
    have hl := least_le P k
    by_cases h1 : least P k < k
    · have e : least P (k + 1) = least P k := if_pos h1
      rw [if_pos h1, if_pos rfl, e, if_pos (by omega)]
    · rw [if_neg h1, if_neg (fun q : (k, false).2 = true => Bool.noConfusion q)]
      by_cases h2 : P k = true
      · have e : least P (k + 1) = k := (if_neg h1).trans (if_pos h2)
        rw [if_pos h2, e, if_pos (by omega)]
      · have e : least P (k + 1) = k + 1 := (if_neg h1).trans (if_neg h2)
        rw [if_neg h2, e, if_neg (by omega)]
theorem x_stepFrom (ok : tOK t) (htd : td ≤ 9) (hta : a (j + 6) 0 pn = nI td) (hdy : g (j + 6) 9 ≤ 1000000) (hof : ∀ s, s < tn t → a (j + 6) 1 (9 * pn + s) = nI (of s) ∧ of s ≤ 5000)
    {D : Nat → Nat} (hz : holds8 (z (j + 6) 10) D) (hD : (netT t (g (j + 6) 9) td of set).Inv 268435456 to 5009009 D) {x : Nat} (hx : x < 8) :
    it (fX1_stepFrom_b3 g a z t j pn x set) (tn t) (0, false) = (if (netT t (g (j + 6) 9) td of set).fs D x < tn t then ((netT t (g (j + 6) 9) td of set).fs D x, true) else (tn t, false)) := by
  have nok := netT_ok ok (g (j + 6) 9) htd (fun s hs => (hof s hs).2) set
  refine it_up (P := (netT t (g (j + 6) 9) td of set).tight D x) (fun i S hi => ?_) (tn t) (Nat.le_refl _)
  obtain ⟨n1, n2, n3, n4, n5⟩ := nok i hi
  unfold fX1_stepFrom_b3
  by_cases hS : S.2 = true
  · rw [if_pos hS, if_pos hS]
  rw [if_neg hS, if_neg hS, x_cost (set := set) ok hi htd hta hdy (hof i hi).1]
  have ho : fX5_from t i x = (netT t (g (j + 6) 9) td of set).oth i x := rfl
  have ho8 : (netT t (g (j + 6) 9) td of set).oth i x < 8 := by unfold Net.oth; split <;> assumption
  have he : fX5_endsAt t i x = 0 ↔ (netT t (g (j + 6) 9) td of set).ends i x = false := by
    unfold fX5_endsAt Net.ends
    show _ ↔ (decide (ta t i = x) || decide (tb t i = x)) = false
    by_cases q1 : ta t i = x
    · rw [if_pos q1, decide_eq_true q1]
      exact ⟨fun q => absurd q (by decide), fun q => by cases q⟩
    · by_cases q2 : tb t i = x
      · rw [if_neg q1, if_pos q2, decide_eq_false q1, decide_eq_true q2]
        exact ⟨fun q => absurd q (by decide), fun q => by cases q⟩
      · rw [if_neg q1, if_neg q2, decide_eq_false q1, decide_eq_false q2]
        exact ⟨fun _ => rfl, fun _ => nI_0⟩
  have f1 := hD.far ((netT t (g (j + 6) 9) td of set).oth i x)
  have f2 := hD.far x
  rw [ho, hz _ ho8, hz x hx, nI_add, Nat.add_comm ((netT t (g (j + 6) 9) td of set).c i)]
  have hI : (netT t (g (j + 6) 9) td of set).I i = inB set i := rfl
  unfold Net.tight
  rw [hI]
  cases q1 : inB set i with
  | false => rw [if_pos ((x_isIn (set := set) i).mpr q1)]; simp
  | true =>
    rw [if_neg (fun q => Bool.noConfusion (((x_isIn (set := set) i).mp q).symm.trans q1))]
    cases q2 : (netT t (g (j + 6) 9) td of set).ends i x with
    | false => rw [if_pos (he.mpr q2)]; simp
    | true =>
      rw [if_neg (fun q => Bool.noConfusion ((he.mp q).symm.trans q2))]
      simp only [nI_eq (a := D ((netT t (g (j + 6) 9) td of set).oth i x) + (netT t (g (j + 6) 9) td of set).c i) (b := D x) (by omega) (by omega), Bool.true_and, decide_eq_true_eq]
end
section
variable {g : Nat → Nat → Nat} {y : Nat → Nat → Int32} {a z : Nat → Nat → Nat → Int32} {t : TW} {j pn td to fr : Nat} {of : Nat → Nat} {set : Int32}
/-- hurt of street i, length of street i -/
def huN (t : TW) (dy td : Nat) (of : Nat → Nat) (i : Nat) : Nat := hurtN (tk t i) td dy (of i)
theorem x_way_it (ok : tOK t) (hfr : fr < 8) (ht : to < 8) (htd : td ≤ 9) (hta : a (j + 6) 0 pn = nI td) (hdy : g (j + 6) 9 ≤ 1000000) (hof : ∀ s, s < tn t → a (j + 6) 1 (9 * pn + s) = nI (of s) ∧ of s ≤ 5000)
    {D : Nat → Nat} {ct : Nat → Int32} (hz : holds8 ct D) {N : Net} (hN : N = netT t (g (j + 6) 9) td of set) (hD : N.Inv 268435456 to 5009009 D) (hfx : N.fixd D) (hf : D fr < 268435456) :
    ∀ k, it (fX1_layWay_b39 g a z t j pn to set ct) k ((fr, nI 0, nI 0, nI 0, z (j + 6) 11), false) =
      if k ≤ N.wl D to fr then ((N.cs D fr k, nI k, nI (sumTo (fun i => huN t (g (j + 6) 9) td of (N.fs D (N.cs D fr i))) k), nI (sumTo (fun i => tl t (N.fs D (N.cs D fr i))) k), wrow N D fr (z (j + 6) 11) k), false)
      else ((to, nI (N.wl D to fr), nI (sumTo (fun i => huN t (g (j + 6) 9) td of (N.fs D (N.cs D fr i))) (N.wl D to fr)), nI (sumTo (fun i => tl t (N.fs D (N.cs D fr i))) (N.wl D to fr)), wrow N D fr (z (j + 6) 11) (N.wl D to fr)), true) := by
  have nok : N.ok 5009009 := by rw [hN]; exact netT_ok ok (g (j + 6) 9) htd (fun s hs => (hof s hs).2) set
  have hn : N.n = tn t := by rw [hN]; rfl
  obtain ⟨w1, w2, w3⟩ := Net.way nok ht hD hfx hfr hf
  intro k
  induction k with
  | zero => rw [if_pos (Nat.zero_le _)]; rfl
  | succ k ih =>
    rw [it_succ, ih]
    by_cases hk : k ≤ N.wl D to fr
    · rw [if_pos hk]
      obtain ⟨c1, c2, c3⟩ := w3 k hk
      by_cases hlt : k < N.wl D to fr
      · obtain ⟨d1, d2, d3, d4⟩ := c3 hlt
        rw [hn] at d2
        have hz' : holds8 ((up2 (up2 z (j + 6) 10 ct) (j + 6) 11 (wrow N D fr (z (j + 6) 11) k)) (j + 6) 10) D := by
          have : (up2 (up2 z (j + 6) 10 ct) (j + 6) 11 (wrow N D fr (z (j + 6) 11) k)) (j + 6) 10 = ct := by simp [up2]
          rw [this]; exact hz
        have e1 := x_stepFrom (set := set) (to := to) ok htd hta hdy hof hz' (by rw [← hN]; exact hD) c1
        rw [← hN, if_pos d2] at e1
        have e2 : fX1_stepFrom g a (up2 (up2 z (j + 6) 10 ct) (j + 6) 11 (wrow N D fr (z (j + 6) 11) k)) t j pn (N.cs D fr k) set = N.fs D (N.cs D fr k) := by unfold fX1_stepFrom; rw [e1]
        obtain ⟨o1, o2⟩ := Net.oth_of nok d3
        have e3 : fX5_from t (N.fs D (N.cs D fr k)) (N.cs D fr k) = N.cs D fr (k + 1) := by rw [← o2, hN]; rfl
        have e4 : fX1_hurts g a t j pn (N.fs D (N.cs D fr k)) = nI (huN t (g (j + 6) 9) td of (N.fs D (N.cs D fr k))) := by
          unfold fX1_hurts
          rw [hta, (hof _ d2).1, x_kindhurts (ok.2.2 _ d2).1 htd hdy]
          rfl
        rw [if_pos (show k + 1 ≤ N.wl D to fr from hlt)]
        unfold fX1_layWay_b39
        dsimp only
        rw [if_neg (by decide), if_neg d1, e2, e3, e4, nI_add, nI_add, nI_add]
        rfl
      · have hke : k = N.wl D to fr := by omega
        have hc : N.cs D fr k = to := by rw [hke]; exact w2
        rw [if_neg (by omega)]
        unfold fX1_layWay_b39
        dsimp only
        rw [if_neg (by decide), if_pos hc, ← hke, hc]
    · rw [if_neg hk, if_neg (by omega)]
      exact if_pos rfl
end
section
variable {g : Nat → Nat → Nat} {y : Nat → Nat → Int32} {a z : Nat → Nat → Nat → Int32} {t : TW} {j pn td to fr : Nat} {of : Nat → Nat} {set : Int32}
theorem x_wayOK (ok : tOK t) (hfr : fr < 8) (ht : to < 8) (htd : td ≤ 9) (hta : a (j + 6) 0 pn = nI td) (hdy : g (j + 6) 9 ≤ 1000000) (hof : ∀ s, s < tn t → a (j + 6) 1 (9 * pn + s) = nI (of s) ∧ of s ≤ 5000)
    {D : Nat → Nat} {ct : Nat → Int32} (hz : holds8 ct D) {N : Net} (hN : N = netT t (g (j + 6) 9) td of set) (hD : N.Inv 268435456 to 5009009 D) (hfx : N.fixd D) : xWayOK g y a z t j pn fr to set ct := by
  intro hlt
  have nok : N.ok 5009009 := by rw [hN]; exact netT_ok ok (g (j + 6) 9) htd (fun s hs => (hof s hs).2) set
  have hn : N.n = tn t := by rw [hN]; rfl
  have hf : D fr < 268435456 := by
    rw [hz fr hfr] at hlt
    have := hD.far fr
    exact (nI_ltI (by omega) (by decide)).mp hlt
  obtain ⟨w1, w2, w3⟩ := Net.way nok ht hD hfx hfr hf
  have key := x_way_it (z := z) (set := set) ok hfr ht htd hta hdy hof hz hN hD hfx hf
  refine ⟨?_, ?_⟩
  · rw [key 8, if_neg (by omega)]
  · intro i c y2 y3 y4 w hi e
    rw [key i] at e
    by_cases hk : i ≤ N.wl D to fr
    · rw [if_pos hk] at e
      simp only [Prod.mk.injEq] at e
      obtain ⟨⟨e1, e2, e3, e4, e5⟩, -⟩ := e
      subst e1
      obtain ⟨c1, c2, c3⟩ := w3 i hk
      refine ⟨c1, e2, fun hne => ?_⟩
      have hlt : i < N.wl D to fr := Nat.lt_of_le_of_ne hk fun q => hne (by rw [q]; exact w2)
      obtain ⟨d1, d2, d3, d4⟩ := c3 hlt
      rw [hn] at d2
      have hz' : holds8 ((up2 (up2 z (j + 6) 10 ct) (j + 6) 11 w) (j + 6) 10) D := by
        have : (up2 (up2 z (j + 6) 10 ct) (j + 6) 11 w) (j + 6) 10 = ct := by simp [up2]
        rw [this]; exact hz
      have q1 := x_stepFrom (set := set) (to := to) ok htd hta hdy hof hz' (by rw [← hN]; exact hD) c1
      rw [← hN, if_pos d2] at q1
      unfold fX1_stepFrom
      rw [q1]
      exact ⟨rfl, d2⟩
    · rw [if_neg hk] at e
      injection e with _ e1
      cases e1
end
